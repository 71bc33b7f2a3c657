/-! heaps only grow (own work) -/
def jmz (f : jOp) : Prop := ∀ (N M : Nat) (ls : List (Option jV)) (st : List jV) (h : jH), f (fun _ _ _ g => jsz g ≤ N ∧ jsl g ≤ M) (fun _ g => jsz g ≤ N ∧ jsl g ≤ M) ls st h → jsz h ≤ N ∧ jsl h ≤ M
def jEz (E : jE) : Prop := ∀ y av h r h1, E y av h r h1 → jsz h ≤ jsz h1 ∧ jsl h ≤ jsl h1
theorem jsw_z {x : Int32} {P : Prop} (d : Nat) : ∀ cs : List (Int32 × Nat), jsw x (fun _ => P) d cs → P
  | [], H => H
  | q :: r, H => by
    by_cases c : x = q.1
    · exact H.1 c
    · exact jsw_z d r (H.2 c)
theorem jth_z {N M : Nat} {ls : List (Option jV)} {a : Nat} {h : jH} : ∀ hs : List (Nat × List Nat), jth hs (fun _ _ _ g => jsz g ≤ N ∧ jsl g ≤ M) (fun _ g => jsz g ≤ N ∧ jsl g ≤ M) ls a h → jsz h ≤ N ∧ jsl h ≤ M
  | [], H => H
  | q :: r, H => by
    by_cases c : jkd h a ∈ q.2
    · exact H.1 c
    · exact jth_z r (H.2 c)
theorem okc_z (v : jV) (nx : Nat) : jmz (okc v nx) := by
  intro N M ls st h H
  unfold okc at H
  exact H
theorem oldI_z (i nx : Nat) : jmz (oldI i nx) := by
  intro N M ls st h H
  unfold oldI at H
  split at H
  · exact H
  · exact H.elim
theorem ostI_z (i nx : Nat) : jmz (ostI i nx) := by
  intro N M ls st h H
  unfold ostI at H
  split at H
  · obtain ⟨-, H⟩ := jgd_ex H
    exact H
  · exact H.elim
theorem oldL_z (i nx : Nat) : jmz (oldL i nx) := by
  intro N M ls st h H
  unfold oldL at H
  split at H
  · exact H
  · exact H.elim
theorem ostL_z (i nx : Nat) : jmz (ostL i nx) := by
  intro N M ls st h H
  unfold ostL at H
  split at H
  · obtain ⟨-, H⟩ := jgd_ex H
    exact H
  · exact H.elim
theorem oldD_z (i nx : Nat) : jmz (oldD i nx) := by
  intro N M ls st h H
  unfold oldD at H
  split at H
  · exact H
  · exact H.elim
theorem ostD_z (i nx : Nat) : jmz (ostD i nx) := by
  intro N M ls st h H
  unfold ostD at H
  split at H
  · obtain ⟨-, H⟩ := jgd_ex H
    exact H
  · exact H.elim
theorem oldF_z (i nx : Nat) : jmz (oldF i nx) := by
  intro N M ls st h H
  unfold oldF at H
  split at H
  · exact H
  · exact H.elim
theorem ostF_z (i nx : Nat) : jmz (ostF i nx) := by
  intro N M ls st h H
  unfold ostF at H
  split at H
  · obtain ⟨-, H⟩ := jgd_ex H
    exact H
  · exact H.elim
theorem oldP_z (i nx : Nat) : jmz (oldP i nx) := by
  intro N M ls st h H
  unfold oldP at H
  split at H
  · exact H
  · exact H.elim
theorem ostP_z (i nx : Nat) : jmz (ostP i nx) := by
  intro N M ls st h H
  unfold ostP at H
  split at H
  · obtain ⟨-, H⟩ := jgd_ex H
    exact H
  · exact H.elim
theorem oinc_z (i : Nat) (n : Int32) (nx : Nat) : jmz (oinc i n nx) := by
  intro N M ls st h H
  unfold oinc at H
  split at H
  · obtain ⟨-, H⟩ := jgd_ex H
    exact H
  · exact H.elim
theorem oi2_z (g : Int32 → Int32 → Int32) (nx : Nat) : jmz (oi2 g nx) := by
  intro N M ls st h H
  unfold oi2 at H
  split at H
  · exact H
  · exact H.elim
theorem oi2n_z (g : Int32 → Int32 → Int32) (nx : Nat) : jmz (oi2n g nx) := by
  intro N M ls st h H
  unfold oi2n at H
  split at H
  · exact H.2
  · exact H.elim
theorem oi1_z (g : Int32 → Int32) (nx : Nat) : jmz (oi1 g nx) := by
  intro N M ls st h H
  unfold oi1 at H
  split at H
  · exact H
  · exact H.elim
theorem ol2_z (g : Int64 → Int64 → Int64) (nx : Nat) : jmz (ol2 g nx) := by
  intro N M ls st h H
  unfold ol2 at H
  split at H
  · exact H
  · exact H.elim
theorem olsh_z (g : Int64 → Int32 → Int64) (nx : Nat) : jmz (olsh g nx) := by
  intro N M ls st h H
  unfold olsh at H
  split at H
  · exact H
  · exact H.elim
theorem olc_z (g : Int64 → Int64 → Int32) (nx : Nat) : jmz (olc g nx) := by
  intro N M ls st h H
  unfold olc at H
  split at H
  · exact H
  · exact H.elim
theorem oi2l_z (nx : Nat) : jmz (oi2l nx) := by
  intro N M ls st h H
  unfold oi2l at H
  split at H
  · exact H
  · exact H.elim
theorem ol2i_z (nx : Nat) : jmz (ol2i nx) := by
  intro N M ls st h H
  unfold ol2i at H
  split at H
  · exact H
  · exact H.elim
theorem oi2d_z (nx : Nat) : jmz (oi2d nx) := by
  intro N M ls st h H
  unfold oi2d at H
  split at H
  · exact H
  · exact H.elim
theorem oi2f_z (nx : Nat) : jmz (oi2f nx) := by
  intro N M ls st h H
  unfold oi2f at H
  split at H
  · exact H
  · exact H.elim
theorem oddiv_z (nx : Nat) : jmz (oddiv nx) := by
  intro N M ls st h H
  unfold oddiv at H
  split at H
  · exact H.2
  · exact H.elim
theorem ofdiv_z (nx : Nat) : jmz (ofdiv nx) := by
  intro N M ls st h H
  unfold ofdiv at H
  split at H
  · exact H.2
  · exact H.elim
theorem of2d_z (nx : Nat) : jmz (of2d nx) := by
  intro N M ls st h H
  unfold of2d at H
  split at H
  · exact H.2
  · exact H.elim
theorem odup_z (nx : Nat) : jmz (odup nx) := by
  intro N M ls st h H
  unfold odup at H
  split at H
  · rename_i v r
    cases hw : jwide v <;> rw [hw] at H
    · exact H
    · exact H.elim
  · exact H.elim
theorem opop_z (nx : Nat) : jmz (opop nx) := by
  intro N M ls st h H
  unfold opop at H
  split at H
  · rename_i v r
    cases hw : jwide v <;> rw [hw] at H
    · exact H
    · exact H.elim
  · exact H.elim
theorem odup2w_z (nx : Nat) : jmz (odup2w nx) := by
  intro N M ls st h H
  unfold odup2w at H
  split at H
  · rename_i v r
    cases hw : jwide v <;> rw [hw] at H
    · exact H.elim
    · exact H
  · exact H.elim
theorem odcmp_z (op : CmpOp) (nx : Nat) : jmz (odcmp op nx) := by
  intro N M ls st h H
  unfold odcmp at H
  split at H
  · exact H
  · exact H.elim
theorem ofcmp_z (op : CmpOp) (nx : Nat) : jmz (ofcmp op nx) := by
  intro N M ls st h H
  unfold ofcmp at H
  split at H
  · exact H
  · exact H.elim
theorem odupx1_z (nx : Nat) : jmz (odupx1 nx) := by
  intro N M ls st h H
  unfold odupx1 at H
  split at H
  · rename_i v w r
    cases hw : jwide v <;> rw [hw] at H
    · cases hz : jwide w <;> rw [hz] at H
      · exact H
      · exact H.elim
    · exact H.elim
  · exact H.elim
theorem odup2_z (nx : Nat) : jmz (odup2 nx) := by
  intro N M ls st h H
  unfold odup2 at H
  split at H
  · rename_i v w r
    cases hw : jwide v <;> rw [hw] at H
    · cases hz : jwide w <;> rw [hz] at H
      · exact H
      · exact H.elim
    · exact H.elim
  · exact H.elim
theorem ogo_z (t : Nat) : jmz (ogo t) := by
  intro N M ls st h H
  unfold ogo at H
  exact H
theorem oif1_z (c : Int32 → Prop) (t nx : Nat) : jmz (oif1 c t nx) := by
  intro N M ls st h H
  unfold oif1 at H
  split at H
  · exact Classical.byCases (fun c => H.1 c) (fun c => H.2 c)
  · exact H.elim
theorem oif2_z (c : Int32 → Int32 → Prop) (t nx : Nat) : jmz (oif2 c t nx) := by
  intro N M ls st h H
  unfold oif2 at H
  split at H
  · exact Classical.byCases (fun c => H.1 c) (fun c => H.2 c)
  · exact H.elim
theorem oacmp_z (c : Option Nat → Option Nat → Prop) (t nx : Nat) : jmz (oacmp c t nx) := by
  intro N M ls st h H
  unfold oacmp at H
  split at H
  · exact Classical.byCases (fun c => H.1 c) (fun c => H.2 c)
  · exact H.elim
theorem onull_z (t nx : Nat) : jmz (onull t nx) := by
  intro N M ls st h H
  unfold onull at H
  split at H
  · exact Classical.byCases (fun c => H.1 c) (fun c => H.2 c)
  · exact H.elim
theorem osw_z (cs : List (Int32 × Nat)) (d : Nat) : jmz (osw cs d) := by
  intro N M ls st h H
  unfold osw at H
  split at H
  · exact jsw_z d cs H
  · exact H.elim
theorem oretI_z : jmz (oretI) := by
  intro N M ls st h H
  unfold oretI at H
  split at H
  · exact H
  · exact H.elim
theorem oretL_z : jmz (oretL) := by
  intro N M ls st h H
  unfold oretL at H
  split at H
  · exact H
  · exact H.elim
theorem oretD_z : jmz (oretD) := by
  intro N M ls st h H
  unfold oretD at H
  split at H
  · exact H
  · exact H.elim
theorem oretF_z : jmz (oretF) := by
  intro N M ls st h H
  unfold oretF at H
  split at H
  · exact H
  · exact H.elim
theorem oretP_z : jmz (oretP) := by
  intro N M ls st h H
  unfold oretP at H
  split at H
  · exact H
  · exact H.elim
theorem oretZ_z : jmz (oretZ) := by
  intro N M ls st h H
  unfold oretZ at H
  split at H
  · exact H.2
  · exact H.elim
theorem oretT_z (ty : FieldType) : jmz (oretT ty) := by
  intro N M ls st h H
  unfold oretT at H
  split at H
  · exact H.2
  · exact H.elim
theorem oretV_z : jmz (oretV) := by
  intro N M ls st h H
  unfold oretV at H
  split at H
  · exact H
  · exact H.elim
theorem ogetI_z (c f nx : Nat) : jmz (ogetI c f nx) := by
  intro N M ls st h H
  unfold ogetI at H
  split at H
  · obtain ⟨a, e, H⟩ := onr_ex H
    exact H.2
  · exact H.elim
theorem ogetP_z (c f nx : Nat) : jmz (ogetP c f nx) := by
  intro N M ls st h H
  unfold ogetP at H
  split at H
  · obtain ⟨a, e, H⟩ := onr_ex H
    exact H.2
  · exact H.elim
theorem oputI_z (c f nx : Nat) : jmz (oputI c f nx) := by
  intro N M ls st h H
  unfold oputI at H
  split at H
  · obtain ⟨a, e, H⟩ := onr_ex H
    have q := jnm_iff.mp H.2
    exact q
  · exact H.elim
theorem oputP_z (c f nx : Nat) : jmz (oputP c f nx) := by
  intro N M ls st h H
  unfold oputP at H
  split at H
  · obtain ⟨a, e, H⟩ := onr_ex H
    have q := jnm_iff.mp H.2
    exact q
  · exact H.elim
theorem oputZ_z (c f nx : Nat) : jmz (oputZ c f nx) := by
  intro N M ls st h H
  unfold oputZ at H
  split at H
  · obtain ⟨a, e, H⟩ := onr_ex H
    have q := jnm_iff.mp H.2.2
    exact q
  · exact H.elim
theorem ogetIM_z (cs : List Nat) (f nx : Nat) : jmz (ogetIM cs f nx) := by
  intro N M ls st h H
  unfold ogetIM at H
  split at H
  · obtain ⟨a, e, H⟩ := onr_ex H
    exact H.2
  · exact H.elim
theorem ogetPM_z (cs : List Nat) (f nx : Nat) : jmz (ogetPM cs f nx) := by
  intro N M ls st h H
  unfold ogetPM at H
  split at H
  · obtain ⟨a, e, H⟩ := onr_ex H
    exact H.2
  · exact H.elim
theorem oputIM_z (cs : List Nat) (f nx : Nat) : jmz (oputIM cs f nx) := by
  intro N M ls st h H
  unfold oputIM at H
  split at H
  · obtain ⟨a, e, H⟩ := onr_ex H
    have q := jnm_iff.mp H.2
    exact q
  · exact H.elim
theorem oputPM_z (cs : List Nat) (f nx : Nat) : jmz (oputPM cs f nx) := by
  intro N M ls st h H
  unfold oputPM at H
  split at H
  · obtain ⟨a, e, H⟩ := onr_ex H
    have q := jnm_iff.mp H.2
    exact q
  · exact H.elim
theorem onew_z (c n nx : Nat) : jmz (onew c n nx) := by
  intro N M ls st h H
  unfold onew at H
  have q : jsz h + 1 ≤ N ∧ jsl h + n ≤ M := H _ rfl
  exact ⟨by omega, by omega⟩
theorem onewA_z (t nx : Nat) : jmz (onewA t nx) := by
  intro N M ls st h H
  unfold onewA at H
  split at H
  · obtain ⟨q1, q2⟩ := jnm_iff.mp H.2.2
    exact ⟨Nat.le_trans (Nat.le_add_right _ _) q1, Nat.le_trans (Nat.le_add_right _ _) q2⟩
  · exact H.elim
theorem oalen_z (t nx : Nat) : jmz (oalen t nx) := by
  intro N M ls st h H
  unfold oalen at H
  split at H
  · obtain ⟨a, e, H⟩ := onr_ex H
    exact H.2
  · exact H.elim
theorem oaldI_z (t nx : Nat) : jmz (oaldI t nx) := by
  intro N M ls st h H
  unfold oaldI at H
  split at H
  · obtain ⟨a, e, H⟩ := onr_ex H
    exact H.2.2
  · exact H.elim
theorem oaldL_z (t nx : Nat) : jmz (oaldL t nx) := by
  intro N M ls st h H
  unfold oaldL at H
  split at H
  · obtain ⟨a, e, H⟩ := onr_ex H
    exact H.2.2
  · exact H.elim
theorem oaldD_z (t nx : Nat) : jmz (oaldD t nx) := by
  intro N M ls st h H
  unfold oaldD at H
  split at H
  · obtain ⟨a, e, H⟩ := onr_ex H
    exact H.2.2
  · exact H.elim
theorem oaldP_z (t nx : Nat) : jmz (oaldP t nx) := by
  intro N M ls st h H
  unfold oaldP at H
  split at H
  · obtain ⟨a, e, H⟩ := onr_ex H
    exact H.2.2
  · exact H.elim
theorem oastL_z (t nx : Nat) : jmz (oastL t nx) := by
  intro N M ls st h H
  unfold oastL at H
  split at H
  · obtain ⟨a, e, H⟩ := onr_ex H
    have q := jnm_iff.mp H.2.2
    exact q
  · exact H.elim
theorem oastD_z (t nx : Nat) : jmz (oastD t nx) := by
  intro N M ls st h H
  unfold oastD at H
  split at H
  · obtain ⟨a, e, H⟩ := onr_ex H
    have q := jnm_iff.mp H.2.2
    exact q
  · exact H.elim
theorem oastI_z (t : Nat) (g : Int32 → Int32) (nx : Nat) : jmz (oastI t g nx) := by
  intro N M ls st h H
  unfold oastI at H
  split at H
  · obtain ⟨a, e, H⟩ := onr_ex H
    have q := jnm_iff.mp H.2.2
    exact q
  · exact H.elim
theorem oastP_z (t : Nat) (cs : List Nat) (nx : Nat) : jmz (oastP t cs nx) := by
  intro N M ls st h H
  unfold oastP at H
  split at H
  · obtain ⟨a, e, H⟩ := onr_ex H
    have q := jnm_iff.mp H.2.2.2
    exact q
  · exact H.elim
theorem ocast_z (cs : List Nat) (nx : Nat) : jmz (ocast cs nx) := by
  intro N M ls st h H
  unfold ocast at H
  split at H
  · exact H.2
  · exact H.elim
theorem oinst_z (cs : List Nat) (nx : Nat) : jmz (oinst cs nx) := by
  intro N M ls st h H
  unfold oinst at H
  split at H
  · obtain ⟨a, e, H⟩ := onr_ex H
    exact H.2
  · exact H.elim
theorem ocst_z (k nx : Nat) : jmz (ocst k nx) := by
  intro N M ls st h H
  unfold ocst at H
  exact H
theorem ogcl_z (cs : List (Nat × Nat)) (nx : Nat) : jmz (ogcl cs nx) := by
  intro N M ls st h H
  unfold ogcl at H
  split at H
  · obtain ⟨-, H⟩ := jgd_ex H
    obtain ⟨a, e, H⟩ := onr_ex H
    obtain ⟨k, e2, H⟩ := H
    exact H
  · exact H.elim
theorem ocpP_z (t : Nat) (cs : List Nat) (nx : Nat) : jmz (ocpP t cs nx) := by
  intro N M ls st h H
  unfold ocpP at H
  split at H
  · obtain ⟨-, H⟩ := jgd_ex H
    obtain ⟨a, e, H⟩ := onr_ex H
    obtain ⟨a, e, H⟩ := onr_ex H
    have q := jnm_iff.mp H.2.2.2.2.2.2.2.2
    exact q
  · exact H.elim
theorem ocpL_z (t nx : Nat) : jmz (ocpL t nx) := by
  intro N M ls st h H
  unfold ocpL at H
  split at H
  · obtain ⟨-, H⟩ := jgd_ex H
    obtain ⟨a, e, H⟩ := onr_ex H
    obtain ⟨a, e, H⟩ := onr_ex H
    have q := jnm_iff.mp H.2.2.2.2.2.2.2
    exact q
  · exact H.elim
theorem ocloL_z (t nx : Nat) : jmz (ocloL t nx) := by
  intro N M ls st h H
  unfold ocloL at H
  split at H
  · obtain ⟨-, H⟩ := jgd_ex H
    obtain ⟨a, e, H⟩ := onr_ex H
    obtain ⟨q1, q2⟩ := jnm_iff.mp H.2
    exact ⟨Nat.le_trans (Nat.le_add_right _ _) q1, Nat.le_trans (Nat.le_add_right _ _) q2⟩
  · exact H.elim
theorem ocallSI_z (E : jE) (y n nx : Nat) (hE : jEz E) : jmz (ocallSI E y n nx) := by
  intro N M ls st h H
  unfold ocallSI at H
  obtain ⟨-, H⟩ := jgd_ex H
  obtain ⟨x, h1, e3, H⟩ := H
  have q := hE _ _ _ _ _ e3
  exact ⟨Nat.le_trans q.1 H.1, Nat.le_trans q.2 H.2⟩
theorem ocallXSI_z (E : jE) (y n nx : Nat) (hs : List (Nat × List Nat)) (hE : jEz E) : jmz (ocallXSI E y n nx hs) := by
  intro N M ls st h H
  unfold ocallXSI at H
  obtain ⟨-, H⟩ := jgd_ex H
  rcases H with ⟨x, h1, e3, H⟩ | ⟨a, h1, e3, ex, H⟩
  · have q := hE _ _ _ _ _ e3
    exact ⟨Nat.le_trans q.1 H.1, Nat.le_trans q.2 H.2⟩
  · have q := hE _ _ _ _ _ e3
    have H := jth_z hs H
    exact ⟨Nat.le_trans q.1 H.1, Nat.le_trans q.2 H.2⟩
theorem ocallNI_z (E : jE) (y n nx : Nat) (hE : jEz E) : jmz (ocallNI E y n nx) := by
  intro N M ls st h H
  unfold ocallNI at H
  obtain ⟨-, H⟩ := jgd_ex H
  have H := H.2
  obtain ⟨x, h1, e3, H⟩ := H
  have q := hE _ _ _ _ _ e3
  exact ⟨Nat.le_trans q.1 H.1, Nat.le_trans q.2 H.2⟩
theorem ocallXNI_z (E : jE) (y n nx : Nat) (hs : List (Nat × List Nat)) (hE : jEz E) : jmz (ocallXNI E y n nx hs) := by
  intro N M ls st h H
  unfold ocallXNI at H
  obtain ⟨-, H⟩ := jgd_ex H
  have H := H.2
  rcases H with ⟨x, h1, e3, H⟩ | ⟨a, h1, e3, ex, H⟩
  · have q := hE _ _ _ _ _ e3
    exact ⟨Nat.le_trans q.1 H.1, Nat.le_trans q.2 H.2⟩
  · have q := hE _ _ _ _ _ e3
    have H := jth_z hs H
    exact ⟨Nat.le_trans q.1 H.1, Nat.le_trans q.2 H.2⟩
theorem ocallRI_z (E : jE) (k : Nat) (y n nx : Nat) (hE : jEz E) : jmz (ocallRI E k y n nx) := by
  intro N M ls st h H
  unfold ocallRI at H
  obtain ⟨-, H⟩ := jgd_ex H
  have H := H.2
  obtain ⟨x, h1, e3, H⟩ := H
  have q := hE _ _ _ _ _ e3
  exact ⟨Nat.le_trans q.1 H.1, Nat.le_trans q.2 H.2⟩
theorem ocallXRI_z (E : jE) (k : Nat) (y n nx : Nat) (hs : List (Nat × List Nat)) (hE : jEz E) : jmz (ocallXRI E k y n nx hs) := by
  intro N M ls st h H
  unfold ocallXRI at H
  obtain ⟨-, H⟩ := jgd_ex H
  have H := H.2
  rcases H with ⟨x, h1, e3, H⟩ | ⟨a, h1, e3, ex, H⟩
  · have q := hE _ _ _ _ _ e3
    exact ⟨Nat.le_trans q.1 H.1, Nat.le_trans q.2 H.2⟩
  · have q := hE _ _ _ _ _ e3
    have H := jth_z hs H
    exact ⟨Nat.le_trans q.1 H.1, Nat.le_trans q.2 H.2⟩
theorem ocallSL_z (E : jE) (y n nx : Nat) (hE : jEz E) : jmz (ocallSL E y n nx) := by
  intro N M ls st h H
  unfold ocallSL at H
  obtain ⟨-, H⟩ := jgd_ex H
  obtain ⟨x, h1, e3, H⟩ := H
  have q := hE _ _ _ _ _ e3
  exact ⟨Nat.le_trans q.1 H.1, Nat.le_trans q.2 H.2⟩
theorem ocallXSL_z (E : jE) (y n nx : Nat) (hs : List (Nat × List Nat)) (hE : jEz E) : jmz (ocallXSL E y n nx hs) := by
  intro N M ls st h H
  unfold ocallXSL at H
  obtain ⟨-, H⟩ := jgd_ex H
  rcases H with ⟨x, h1, e3, H⟩ | ⟨a, h1, e3, ex, H⟩
  · have q := hE _ _ _ _ _ e3
    exact ⟨Nat.le_trans q.1 H.1, Nat.le_trans q.2 H.2⟩
  · have q := hE _ _ _ _ _ e3
    have H := jth_z hs H
    exact ⟨Nat.le_trans q.1 H.1, Nat.le_trans q.2 H.2⟩
theorem ocallNL_z (E : jE) (y n nx : Nat) (hE : jEz E) : jmz (ocallNL E y n nx) := by
  intro N M ls st h H
  unfold ocallNL at H
  obtain ⟨-, H⟩ := jgd_ex H
  have H := H.2
  obtain ⟨x, h1, e3, H⟩ := H
  have q := hE _ _ _ _ _ e3
  exact ⟨Nat.le_trans q.1 H.1, Nat.le_trans q.2 H.2⟩
theorem ocallXNL_z (E : jE) (y n nx : Nat) (hs : List (Nat × List Nat)) (hE : jEz E) : jmz (ocallXNL E y n nx hs) := by
  intro N M ls st h H
  unfold ocallXNL at H
  obtain ⟨-, H⟩ := jgd_ex H
  have H := H.2
  rcases H with ⟨x, h1, e3, H⟩ | ⟨a, h1, e3, ex, H⟩
  · have q := hE _ _ _ _ _ e3
    exact ⟨Nat.le_trans q.1 H.1, Nat.le_trans q.2 H.2⟩
  · have q := hE _ _ _ _ _ e3
    have H := jth_z hs H
    exact ⟨Nat.le_trans q.1 H.1, Nat.le_trans q.2 H.2⟩
theorem ocallRL_z (E : jE) (k : Nat) (y n nx : Nat) (hE : jEz E) : jmz (ocallRL E k y n nx) := by
  intro N M ls st h H
  unfold ocallRL at H
  obtain ⟨-, H⟩ := jgd_ex H
  have H := H.2
  obtain ⟨x, h1, e3, H⟩ := H
  have q := hE _ _ _ _ _ e3
  exact ⟨Nat.le_trans q.1 H.1, Nat.le_trans q.2 H.2⟩
theorem ocallXRL_z (E : jE) (k : Nat) (y n nx : Nat) (hs : List (Nat × List Nat)) (hE : jEz E) : jmz (ocallXRL E k y n nx hs) := by
  intro N M ls st h H
  unfold ocallXRL at H
  obtain ⟨-, H⟩ := jgd_ex H
  have H := H.2
  rcases H with ⟨x, h1, e3, H⟩ | ⟨a, h1, e3, ex, H⟩
  · have q := hE _ _ _ _ _ e3
    exact ⟨Nat.le_trans q.1 H.1, Nat.le_trans q.2 H.2⟩
  · have q := hE _ _ _ _ _ e3
    have H := jth_z hs H
    exact ⟨Nat.le_trans q.1 H.1, Nat.le_trans q.2 H.2⟩
theorem ocallSP_z (E : jE) (y n nx : Nat) (hE : jEz E) : jmz (ocallSP E y n nx) := by
  intro N M ls st h H
  unfold ocallSP at H
  obtain ⟨-, H⟩ := jgd_ex H
  obtain ⟨x, h1, e3, H⟩ := H
  have q := hE _ _ _ _ _ e3
  exact ⟨Nat.le_trans q.1 H.1, Nat.le_trans q.2 H.2⟩
theorem ocallXSP_z (E : jE) (y n nx : Nat) (hs : List (Nat × List Nat)) (hE : jEz E) : jmz (ocallXSP E y n nx hs) := by
  intro N M ls st h H
  unfold ocallXSP at H
  obtain ⟨-, H⟩ := jgd_ex H
  rcases H with ⟨x, h1, e3, H⟩ | ⟨a, h1, e3, ex, H⟩
  · have q := hE _ _ _ _ _ e3
    exact ⟨Nat.le_trans q.1 H.1, Nat.le_trans q.2 H.2⟩
  · have q := hE _ _ _ _ _ e3
    have H := jth_z hs H
    exact ⟨Nat.le_trans q.1 H.1, Nat.le_trans q.2 H.2⟩
theorem ocallNP_z (E : jE) (y n nx : Nat) (hE : jEz E) : jmz (ocallNP E y n nx) := by
  intro N M ls st h H
  unfold ocallNP at H
  obtain ⟨-, H⟩ := jgd_ex H
  have H := H.2
  obtain ⟨x, h1, e3, H⟩ := H
  have q := hE _ _ _ _ _ e3
  exact ⟨Nat.le_trans q.1 H.1, Nat.le_trans q.2 H.2⟩
theorem ocallXNP_z (E : jE) (y n nx : Nat) (hs : List (Nat × List Nat)) (hE : jEz E) : jmz (ocallXNP E y n nx hs) := by
  intro N M ls st h H
  unfold ocallXNP at H
  obtain ⟨-, H⟩ := jgd_ex H
  have H := H.2
  rcases H with ⟨x, h1, e3, H⟩ | ⟨a, h1, e3, ex, H⟩
  · have q := hE _ _ _ _ _ e3
    exact ⟨Nat.le_trans q.1 H.1, Nat.le_trans q.2 H.2⟩
  · have q := hE _ _ _ _ _ e3
    have H := jth_z hs H
    exact ⟨Nat.le_trans q.1 H.1, Nat.le_trans q.2 H.2⟩
theorem ocallRP_z (E : jE) (k : Nat) (y n nx : Nat) (hE : jEz E) : jmz (ocallRP E k y n nx) := by
  intro N M ls st h H
  unfold ocallRP at H
  obtain ⟨-, H⟩ := jgd_ex H
  have H := H.2
  obtain ⟨x, h1, e3, H⟩ := H
  have q := hE _ _ _ _ _ e3
  exact ⟨Nat.le_trans q.1 H.1, Nat.le_trans q.2 H.2⟩
theorem ocallXRP_z (E : jE) (k : Nat) (y n nx : Nat) (hs : List (Nat × List Nat)) (hE : jEz E) : jmz (ocallXRP E k y n nx hs) := by
  intro N M ls st h H
  unfold ocallXRP at H
  obtain ⟨-, H⟩ := jgd_ex H
  have H := H.2
  rcases H with ⟨x, h1, e3, H⟩ | ⟨a, h1, e3, ex, H⟩
  · have q := hE _ _ _ _ _ e3
    exact ⟨Nat.le_trans q.1 H.1, Nat.le_trans q.2 H.2⟩
  · have q := hE _ _ _ _ _ e3
    have H := jth_z hs H
    exact ⟨Nat.le_trans q.1 H.1, Nat.le_trans q.2 H.2⟩
theorem ocallSD_z (E : jE) (y n nx : Nat) (hE : jEz E) : jmz (ocallSD E y n nx) := by
  intro N M ls st h H
  unfold ocallSD at H
  obtain ⟨-, H⟩ := jgd_ex H
  obtain ⟨x, h1, e3, H⟩ := H
  have q := hE _ _ _ _ _ e3
  exact ⟨Nat.le_trans q.1 H.1, Nat.le_trans q.2 H.2⟩
theorem ocallXSD_z (E : jE) (y n nx : Nat) (hs : List (Nat × List Nat)) (hE : jEz E) : jmz (ocallXSD E y n nx hs) := by
  intro N M ls st h H
  unfold ocallXSD at H
  obtain ⟨-, H⟩ := jgd_ex H
  rcases H with ⟨x, h1, e3, H⟩ | ⟨a, h1, e3, ex, H⟩
  · have q := hE _ _ _ _ _ e3
    exact ⟨Nat.le_trans q.1 H.1, Nat.le_trans q.2 H.2⟩
  · have q := hE _ _ _ _ _ e3
    have H := jth_z hs H
    exact ⟨Nat.le_trans q.1 H.1, Nat.le_trans q.2 H.2⟩
theorem ocallND_z (E : jE) (y n nx : Nat) (hE : jEz E) : jmz (ocallND E y n nx) := by
  intro N M ls st h H
  unfold ocallND at H
  obtain ⟨-, H⟩ := jgd_ex H
  have H := H.2
  obtain ⟨x, h1, e3, H⟩ := H
  have q := hE _ _ _ _ _ e3
  exact ⟨Nat.le_trans q.1 H.1, Nat.le_trans q.2 H.2⟩
theorem ocallXND_z (E : jE) (y n nx : Nat) (hs : List (Nat × List Nat)) (hE : jEz E) : jmz (ocallXND E y n nx hs) := by
  intro N M ls st h H
  unfold ocallXND at H
  obtain ⟨-, H⟩ := jgd_ex H
  have H := H.2
  rcases H with ⟨x, h1, e3, H⟩ | ⟨a, h1, e3, ex, H⟩
  · have q := hE _ _ _ _ _ e3
    exact ⟨Nat.le_trans q.1 H.1, Nat.le_trans q.2 H.2⟩
  · have q := hE _ _ _ _ _ e3
    have H := jth_z hs H
    exact ⟨Nat.le_trans q.1 H.1, Nat.le_trans q.2 H.2⟩
theorem ocallRD_z (E : jE) (k : Nat) (y n nx : Nat) (hE : jEz E) : jmz (ocallRD E k y n nx) := by
  intro N M ls st h H
  unfold ocallRD at H
  obtain ⟨-, H⟩ := jgd_ex H
  have H := H.2
  obtain ⟨x, h1, e3, H⟩ := H
  have q := hE _ _ _ _ _ e3
  exact ⟨Nat.le_trans q.1 H.1, Nat.le_trans q.2 H.2⟩
theorem ocallXRD_z (E : jE) (k : Nat) (y n nx : Nat) (hs : List (Nat × List Nat)) (hE : jEz E) : jmz (ocallXRD E k y n nx hs) := by
  intro N M ls st h H
  unfold ocallXRD at H
  obtain ⟨-, H⟩ := jgd_ex H
  have H := H.2
  rcases H with ⟨x, h1, e3, H⟩ | ⟨a, h1, e3, ex, H⟩
  · have q := hE _ _ _ _ _ e3
    exact ⟨Nat.le_trans q.1 H.1, Nat.le_trans q.2 H.2⟩
  · have q := hE _ _ _ _ _ e3
    have H := jth_z hs H
    exact ⟨Nat.le_trans q.1 H.1, Nat.le_trans q.2 H.2⟩
theorem ocallSF_z (E : jE) (y n nx : Nat) (hE : jEz E) : jmz (ocallSF E y n nx) := by
  intro N M ls st h H
  unfold ocallSF at H
  obtain ⟨-, H⟩ := jgd_ex H
  obtain ⟨x, h1, e3, H⟩ := H
  have q := hE _ _ _ _ _ e3
  exact ⟨Nat.le_trans q.1 H.1, Nat.le_trans q.2 H.2⟩
theorem ocallXSF_z (E : jE) (y n nx : Nat) (hs : List (Nat × List Nat)) (hE : jEz E) : jmz (ocallXSF E y n nx hs) := by
  intro N M ls st h H
  unfold ocallXSF at H
  obtain ⟨-, H⟩ := jgd_ex H
  rcases H with ⟨x, h1, e3, H⟩ | ⟨a, h1, e3, ex, H⟩
  · have q := hE _ _ _ _ _ e3
    exact ⟨Nat.le_trans q.1 H.1, Nat.le_trans q.2 H.2⟩
  · have q := hE _ _ _ _ _ e3
    have H := jth_z hs H
    exact ⟨Nat.le_trans q.1 H.1, Nat.le_trans q.2 H.2⟩
theorem ocallNF_z (E : jE) (y n nx : Nat) (hE : jEz E) : jmz (ocallNF E y n nx) := by
  intro N M ls st h H
  unfold ocallNF at H
  obtain ⟨-, H⟩ := jgd_ex H
  have H := H.2
  obtain ⟨x, h1, e3, H⟩ := H
  have q := hE _ _ _ _ _ e3
  exact ⟨Nat.le_trans q.1 H.1, Nat.le_trans q.2 H.2⟩
theorem ocallXNF_z (E : jE) (y n nx : Nat) (hs : List (Nat × List Nat)) (hE : jEz E) : jmz (ocallXNF E y n nx hs) := by
  intro N M ls st h H
  unfold ocallXNF at H
  obtain ⟨-, H⟩ := jgd_ex H
  have H := H.2
  rcases H with ⟨x, h1, e3, H⟩ | ⟨a, h1, e3, ex, H⟩
  · have q := hE _ _ _ _ _ e3
    exact ⟨Nat.le_trans q.1 H.1, Nat.le_trans q.2 H.2⟩
  · have q := hE _ _ _ _ _ e3
    have H := jth_z hs H
    exact ⟨Nat.le_trans q.1 H.1, Nat.le_trans q.2 H.2⟩
theorem ocallRF_z (E : jE) (k : Nat) (y n nx : Nat) (hE : jEz E) : jmz (ocallRF E k y n nx) := by
  intro N M ls st h H
  unfold ocallRF at H
  obtain ⟨-, H⟩ := jgd_ex H
  have H := H.2
  obtain ⟨x, h1, e3, H⟩ := H
  have q := hE _ _ _ _ _ e3
  exact ⟨Nat.le_trans q.1 H.1, Nat.le_trans q.2 H.2⟩
theorem ocallXRF_z (E : jE) (k : Nat) (y n nx : Nat) (hs : List (Nat × List Nat)) (hE : jEz E) : jmz (ocallXRF E k y n nx hs) := by
  intro N M ls st h H
  unfold ocallXRF at H
  obtain ⟨-, H⟩ := jgd_ex H
  have H := H.2
  rcases H with ⟨x, h1, e3, H⟩ | ⟨a, h1, e3, ex, H⟩
  · have q := hE _ _ _ _ _ e3
    exact ⟨Nat.le_trans q.1 H.1, Nat.le_trans q.2 H.2⟩
  · have q := hE _ _ _ _ _ e3
    have H := jth_z hs H
    exact ⟨Nat.le_trans q.1 H.1, Nat.le_trans q.2 H.2⟩
theorem ocallSV_z (E : jE) (y n nx : Nat) (hE : jEz E) : jmz (ocallSV E y n nx) := by
  intro N M ls st h H
  unfold ocallSV at H
  obtain ⟨-, H⟩ := jgd_ex H
  obtain ⟨h1, e3, H⟩ := H
  have q := hE _ _ _ _ _ e3
  exact ⟨Nat.le_trans q.1 H.1, Nat.le_trans q.2 H.2⟩
theorem ocallXSV_z (E : jE) (y n nx : Nat) (hs : List (Nat × List Nat)) (hE : jEz E) : jmz (ocallXSV E y n nx hs) := by
  intro N M ls st h H
  unfold ocallXSV at H
  obtain ⟨-, H⟩ := jgd_ex H
  rcases H with ⟨h1, e3, H⟩ | ⟨a, h1, e3, ex, H⟩
  · have q := hE _ _ _ _ _ e3
    exact ⟨Nat.le_trans q.1 H.1, Nat.le_trans q.2 H.2⟩
  · have q := hE _ _ _ _ _ e3
    have H := jth_z hs H
    exact ⟨Nat.le_trans q.1 H.1, Nat.le_trans q.2 H.2⟩
theorem ocallNV_z (E : jE) (y n nx : Nat) (hE : jEz E) : jmz (ocallNV E y n nx) := by
  intro N M ls st h H
  unfold ocallNV at H
  obtain ⟨-, H⟩ := jgd_ex H
  have H := H.2
  obtain ⟨h1, e3, H⟩ := H
  have q := hE _ _ _ _ _ e3
  exact ⟨Nat.le_trans q.1 H.1, Nat.le_trans q.2 H.2⟩
theorem ocallXNV_z (E : jE) (y n nx : Nat) (hs : List (Nat × List Nat)) (hE : jEz E) : jmz (ocallXNV E y n nx hs) := by
  intro N M ls st h H
  unfold ocallXNV at H
  obtain ⟨-, H⟩ := jgd_ex H
  have H := H.2
  rcases H with ⟨h1, e3, H⟩ | ⟨a, h1, e3, ex, H⟩
  · have q := hE _ _ _ _ _ e3
    exact ⟨Nat.le_trans q.1 H.1, Nat.le_trans q.2 H.2⟩
  · have q := hE _ _ _ _ _ e3
    have H := jth_z hs H
    exact ⟨Nat.le_trans q.1 H.1, Nat.le_trans q.2 H.2⟩
theorem ocallRV_z (E : jE) (k : Nat) (y n nx : Nat) (hE : jEz E) : jmz (ocallRV E k y n nx) := by
  intro N M ls st h H
  unfold ocallRV at H
  obtain ⟨-, H⟩ := jgd_ex H
  have H := H.2
  obtain ⟨h1, e3, H⟩ := H
  have q := hE _ _ _ _ _ e3
  exact ⟨Nat.le_trans q.1 H.1, Nat.le_trans q.2 H.2⟩
theorem ocallXRV_z (E : jE) (k : Nat) (y n nx : Nat) (hs : List (Nat × List Nat)) (hE : jEz E) : jmz (ocallXRV E k y n nx hs) := by
  intro N M ls st h H
  unfold ocallXRV at H
  obtain ⟨-, H⟩ := jgd_ex H
  have H := H.2
  rcases H with ⟨h1, e3, H⟩ | ⟨a, h1, e3, ex, H⟩
  · have q := hE _ _ _ _ _ e3
    exact ⟨Nat.le_trans q.1 H.1, Nat.le_trans q.2 H.2⟩
  · have q := hE _ _ _ _ _ e3
    have H := jth_z hs H
    exact ⟨Nat.le_trans q.1 H.1, Nat.le_trans q.2 H.2⟩
theorem ocallMI_z (E : jE) (cs : List (Nat × Nat)) (n nx : Nat) (hE : jEz E) : jmz (ocallMI E cs n nx) := by
  intro N M ls st h H
  unfold ocallMI at H
  obtain ⟨-, H⟩ := jgd_ex H
  unfold jrm at H
  split at H
  · obtain ⟨a, e, y, e2, x, h1, e3, H⟩ := onr_ex H
    have q := hE _ _ _ _ _ e3
    exact ⟨Nat.le_trans q.1 H.1, Nat.le_trans q.2 H.2⟩
  · exact H.elim
theorem oobj_z (nx : Nat) : jmz (oobj nx) := by
  intro N M ls st h H
  unfold oobj at H
  split at H
  · obtain ⟨-, H⟩ := jgd_ex H
    obtain ⟨a, e, H⟩ := onr_ex H
    exact H
  · exact H.elim
theorem othr0_z (c : Nat) (hs : List (Nat × List Nat)) : jmz (othr0 c hs) := by
  intro N M ls st h H
  unfold othr0 at H
  obtain ⟨-, H⟩ := jgd_ex H
  have q : jsz h + 1 ≤ N ∧ jsl h + 6 ≤ M := jth_z hs (H _ rfl)
  exact ⟨by omega, by omega⟩
theorem onewAA_z (nx : Nat) : jmz (onewAA nx) := by
  intro N M ls st h H
  unfold onewAA at H
  split at H
  · obtain ⟨q1, q2⟩ := jnm_iff.mp H.2.2.2.2
    exact ⟨Nat.le_trans (Nat.le_trans (Nat.le_add_right _ _) (Nat.le_add_right _ _)) q1, Nat.le_trans (Nat.le_trans (Nat.le_add_right _ _) (Nat.le_add_right _ _)) q2⟩
  · exact H.elim
theorem oclo_z (c n fz nx : Nat) : jmz (oclo c n fz nx) := by
  intro N M ls st h H
  unfold oclo at H
  split at H
  · obtain ⟨-, H⟩ := jgd_ex H
    obtain ⟨a, e, H⟩ := onr_ex H
    obtain ⟨q1, q2⟩ := jnm_iff.mp H.2.2
    exact ⟨Nat.le_trans (Nat.le_add_right _ _) q1, Nat.le_trans (Nat.le_add_right _ _) q2⟩
  · exact H.elim
theorem othrow_z (hs : List (Nat × List Nat)) : jmz (othrow hs) := by
  intro N M ls st h H
  unfold othrow at H
  split at H
  · obtain ⟨a, e, x, H⟩ := onr_ex H
    exact jth_z hs H
  · exact H.elim
def jzs (tb : jC) : Prop := ∀ q ∈ tb, jmz q.2
theorem jWX_z {tb : jC} (hz : jzs tb) {r : jA} {h1 : jH} {pc : Nat} {ls : List (Option jV)} {st : List jV} {h : jH} (H : jWX tb (fun r2 h2 => r2 = r ∧ h2 = h1) pc ls st h) (hg : jgood tb) : jsz h ≤ jsz h1 ∧ jsl h ≤ jsl h1 := by
  refine H (fun _ _ _ g => jsz g ≤ jsz h1 ∧ jsl g ≤ jsl h1) ⟨fun pc f ls st h hf H => ?_, fun _ _ _ _ _ _ H => H⟩
  exact hz _ (jlk_mem hf) _ _ _ _ _ ((hg _ (jlk_mem hf)).1 _ _ _ _ _ _ _ (fun _ _ _ _ k => k) (fun r h k => by rw [k.2]; exact ⟨Nat.le_refl _, Nat.le_refl _⟩) H)
theorem jEV_z {tbl : jT} (hz : ∀ (E : jE) y m, jEz E → tbl y = some m → jzs (m.1 E)) (hg : ∀ (E : jE) y m, tbl y = some m → jgood (m.1 E)) : ∀ d, jEz (jEV tbl d)
  | 0 => fun _ _ _ _ _ H => H.elim
  | d + 1 => fun y av h r h1 ⟨m, hm, _, H⟩ => jWX_z (hz _ _ _ (jEV_z hz hg d) hm) H (hg _ _ _ hm)
