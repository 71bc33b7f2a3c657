/-! the operations are monotone, and part over any choice of ends (own work) -/
def jmono (f : jOp) : Prop := ∀ (K K' : jK) (R R' : jR) (ls : List (Option jV)) (st : List jV) (h : jH), (∀ pc ls st h, K pc ls st h → K' pc ls st h) → (∀ r h, R r h → R' r h) → f K R ls st h → f K' R' ls st h
def jdist (f : jOp) : Prop := ∀ (ι : Type) (K : ι → jK) (R : ι → jR) (ls : List (Option jV)) (st : List jV) (h : jH), f (fun pc ls st h => ∃ x, K x pc ls st h) (fun r h => ∃ x, R x r h) ls st h → ∃ x, f (K x) (R x) ls st h
def jok (f : jOp) : Prop := jmono f ∧ jdist f
def jgood (tb : jC) : Prop := ∀ q ∈ tb, jok q.2
theorem jbr_d {ι : Type} {c : Prop} {A B : ι → Prop} (H : (c → ∃ x, A x) ∧ (¬ c → ∃ x, B x)) : ∃ x, (c → A x) ∧ (¬ c → B x) := by
  by_cases hc : c
  · obtain ⟨x, k⟩ := H.1 hc
    exact ⟨x, fun _ => k, fun n => absurd hc n⟩
  · obtain ⟨x, k⟩ := H.2 hc
    exact ⟨x, fun n => absurd n hc, fun _ => k⟩
theorem jlk_mem {α : Type} {l : List (Nat × α)} {k : Nat} {f : α} (h : jlk l k = some f) : (k, f) ∈ l := by
  induction l with
  | nil => cases h
  | cons q r ih =>
    unfold jlk at h
    cases hb : Nat.beq q.1 k with
    | true =>
      rw [hb] at h
      have e : q.1 = k := Nat.eq_of_beq_eq_true hb
      have e2 : q.2 = f := Option.some.inj h
      have : q = (k, f) := by rw [← e, ← e2]
      rw [this]
      exact List.mem_cons_self
    | false =>
      rw [hb] at h
      exact List.mem_cons_of_mem _ (ih h)
theorem jsub_rfl {l : List (Option jV)} : jsub l l := ⟨rfl, fun _ _ h => h⟩
theorem jsub_mask (m : List Bool) (l : List (Option jV)) : jsub (jmask m l) l := by
  induction m generalizing l with
  | nil => unfold jmask; exact jsub_rfl
  | cons b m ih =>
    cases l with
    | nil => cases b <;> exact jsub_rfl
    | cons x l =>
      obtain ⟨h1, h2⟩ := ih l
      cases b
      · refine ⟨congrArg (· + 1) h1, fun i v hi => ?_⟩
        cases i with
        | zero => cases hi
        | succ i => exact h2 i v hi
      · refine ⟨congrArg (· + 1) h1, fun i v hi => ?_⟩
        cases i with
        | zero => exact hi
        | succ i => exact h2 i v hi
theorem jWX_cl {tb : jC} (hg : jgood tb) (R : jR) : jcl tb R (jWX tb R) := by
  refine ⟨fun pc f ls st h hf H I hI => ?_, fun pc l1 l2 st h hs H I hI => hI.2 _ _ _ _ _ hs (H I hI)⟩
  exact hI.1 pc f ls st h hf ((hg _ (jlk_mem hf)).1 _ _ _ _ _ _ _ (fun _ _ _ _ k => k I hI) (fun _ _ k => k) H)
theorem jrun_WX {tb : jC} (hg : jgood tb) (R : jR) (cut : List (Nat × List Bool)) : ∀ (n pc : Nat) (ls : List (Option jV)) (st : List jV) (h : jH), jrun tb cut (jWX tb R) R n pc ls st h → jWX tb R pc ls st h := by
  intro n
  induction n with
  | zero => exact fun _ _ _ _ H => H
  | succ n ih =>
    intro pc ls st h H
    unfold jrun at H
    split at H
    · exact (jWX_cl hg R).2 _ _ _ _ _ (jsub_mask _ _) H
    · split at H
      · rename_i f hf
        exact (jWX_cl hg R).1 _ _ _ _ _ hf ((hg _ (jlk_mem hf)).1 _ _ _ _ _ _ _ ih (fun _ _ k => k) H)
      · exact H.elim
/-- a block: what its run asks gives the code's run from there -/
theorem jst {tb : jC} (hg : jgood tb) {R : jR} (cut : List (Nat × List Bool)) (n : Nat) {pc : Nat} {ls : List (Option jV)} {st : List jV} {h : jH} (H : jfirst tb cut (jWX tb R) R n pc ls st h) : jWX tb R pc ls st h := by
  unfold jfirst at H
  split at H
  · rename_i f hf
    exact (jWX_cl hg R).1 _ _ _ _ _ hf ((hg _ (jlk_mem hf)).1 _ _ _ _ _ _ _ (jrun_WX hg R cut n) (fun _ _ k => k) H)
  · exact H.elim
theorem jWX_one {tb : jC} (hg : jgood tb) {R : jR} {pc : Nat} {ls : List (Option jV)} {st : List jV} {h : jH} (H : jWX tb R pc ls st h) : ∃ r h1, R r h1 ∧ jWX tb (fun r2 h2 => r2 = r ∧ h2 = h1) pc ls st h := by
  have K := H (fun pc ls st h => ∃ x : {x : jA × jH // R x.1 x.2}, jWX tb (fun r2 h2 => r2 = x.1.1 ∧ h2 = x.1.2) pc ls st h) ?_
  · obtain ⟨⟨x, hx⟩, k⟩ := K
    exact ⟨x.1, x.2, hx, k⟩
  · refine ⟨fun pc f ls st h hf H => ?_, fun pc l1 l2 st h hs H => ?_⟩
    · have g := hg _ (jlk_mem hf)
      have H1 := g.1 _ (fun pc ls st h => ∃ x : {x : jA × jH // R x.1 x.2}, jWX tb (fun r2 h2 => r2 = x.1.1 ∧ h2 = x.1.2) pc ls st h) _ (fun r h => ∃ x : {x : jA × jH // R x.1 x.2}, r = x.1.1 ∧ h = x.1.2) _ _ _ (fun _ _ _ _ k => k) (fun r h k => ⟨⟨(r, h), k⟩, rfl, rfl⟩) H
      obtain ⟨x, hx⟩ := g.2 {x : jA × jH // R x.1 x.2} (fun x => jWX tb (fun r2 h2 => r2 = x.1.1 ∧ h2 = x.1.2)) (fun x r h => r = x.1.1 ∧ h = x.1.2) ls st h H1
      exact ⟨x, (jWX_cl hg _).1 _ _ _ _ _ hf hx⟩
    · obtain ⟨x, hx⟩ := H
      exact ⟨x, (jWX_cl hg _).2 _ _ _ _ _ hs hx⟩
theorem jWX_r {tb : jC} (hg : jgood tb) {R R' : jR} (hR : ∀ r h, R r h → R' r h) {pc : Nat} {ls : List (Option jV)} {st : List jV} {h : jH} (H : jWX tb R pc ls st h) : jWX tb R' pc ls st h := by
  intro I hI
  refine H I ⟨fun pc f ls st h hf H => ?_, hI.2⟩
  exact hI.1 _ _ _ _ _ hf ((hg _ (jlk_mem hf)).1 _ _ _ _ _ _ _ (fun _ _ _ _ k => k) hR H)
/-- a call's meaning out of the code's run -/
theorem jEV_of {tbl : jT} {d y : Nat} {m : (jE → jC) × Nat} (hm : tbl y = some m) (hg : jgood (m.1 (jEV tbl d))) {args : List jV} {h : jH} {R : jR} (hl : Nat.ble (jent args).length m.2 = true) (H : jWX (m.1 (jEV tbl d)) R 0 (jlocs args m.2) [] h) : ∃ r h1, jEV tbl (d + 1) y args h r h1 ∧ R r h1 := by
  obtain ⟨r, h1, hR, k⟩ := jWX_one hg H
  exact ⟨r, h1, ⟨m, hm, hl, k⟩, hR⟩
theorem okc_g (v : jV) (nx : Nat) : jok (okc v nx) := by
  refine ⟨?_, ?_⟩
  · intro K K2 R R2 ls st h hK hR H
    unfold okc at H ⊢
    exact hK _ _ _ _ H
  · intro ι K R ls st h H
    unfold okc at H ⊢
    exact H
theorem oldI_g (i nx : Nat) : jok (oldI i nx) := by
  refine ⟨?_, ?_⟩
  · intro K K2 R R2 ls st h hK hR H
    unfold oldI at H ⊢
    split at H
    · exact hK _ _ _ _ H
    · exact H.elim
  · intro ι K R ls st h H
    unfold oldI at H ⊢
    split at H
    · exact H
    · exact H.elim
theorem ostI_g (i nx : Nat) : jok (ostI i nx) := by
  refine ⟨?_, ?_⟩
  · intro K K2 R R2 ls st h hK hR H
    unfold ostI at H ⊢
    split at H
    · exact jgd_m (fun H => hK _ _ _ _ H) H
    · exact H.elim
  · intro ι K R ls st h H
    unfold ostI at H ⊢
    split at H
    · exact jgd_d H
    · exact H.elim
theorem oldL_g (i nx : Nat) : jok (oldL i nx) := by
  refine ⟨?_, ?_⟩
  · intro K K2 R R2 ls st h hK hR H
    unfold oldL at H ⊢
    split at H
    · exact hK _ _ _ _ H
    · exact H.elim
  · intro ι K R ls st h H
    unfold oldL at H ⊢
    split at H
    · exact H
    · exact H.elim
theorem ostL_g (i nx : Nat) : jok (ostL i nx) := by
  refine ⟨?_, ?_⟩
  · intro K K2 R R2 ls st h hK hR H
    unfold ostL at H ⊢
    split at H
    · exact jgd_m (fun H => hK _ _ _ _ H) H
    · exact H.elim
  · intro ι K R ls st h H
    unfold ostL at H ⊢
    split at H
    · exact jgd_d H
    · exact H.elim
theorem oldD_g (i nx : Nat) : jok (oldD i nx) := by
  refine ⟨?_, ?_⟩
  · intro K K2 R R2 ls st h hK hR H
    unfold oldD at H ⊢
    split at H
    · exact hK _ _ _ _ H
    · exact H.elim
  · intro ι K R ls st h H
    unfold oldD at H ⊢
    split at H
    · exact H
    · exact H.elim
theorem ostD_g (i nx : Nat) : jok (ostD i nx) := by
  refine ⟨?_, ?_⟩
  · intro K K2 R R2 ls st h hK hR H
    unfold ostD at H ⊢
    split at H
    · exact jgd_m (fun H => hK _ _ _ _ H) H
    · exact H.elim
  · intro ι K R ls st h H
    unfold ostD at H ⊢
    split at H
    · exact jgd_d H
    · exact H.elim
theorem oldF_g (i nx : Nat) : jok (oldF i nx) := by
  refine ⟨?_, ?_⟩
  · intro K K2 R R2 ls st h hK hR H
    unfold oldF at H ⊢
    split at H
    · exact hK _ _ _ _ H
    · exact H.elim
  · intro ι K R ls st h H
    unfold oldF at H ⊢
    split at H
    · exact H
    · exact H.elim
theorem ostF_g (i nx : Nat) : jok (ostF i nx) := by
  refine ⟨?_, ?_⟩
  · intro K K2 R R2 ls st h hK hR H
    unfold ostF at H ⊢
    split at H
    · exact jgd_m (fun H => hK _ _ _ _ H) H
    · exact H.elim
  · intro ι K R ls st h H
    unfold ostF at H ⊢
    split at H
    · exact jgd_d H
    · exact H.elim
theorem oldP_g (i nx : Nat) : jok (oldP i nx) := by
  refine ⟨?_, ?_⟩
  · intro K K2 R R2 ls st h hK hR H
    unfold oldP at H ⊢
    split at H
    · exact hK _ _ _ _ H
    · exact H.elim
  · intro ι K R ls st h H
    unfold oldP at H ⊢
    split at H
    · exact H
    · exact H.elim
theorem ostP_g (i nx : Nat) : jok (ostP i nx) := by
  refine ⟨?_, ?_⟩
  · intro K K2 R R2 ls st h hK hR H
    unfold ostP at H ⊢
    split at H
    · exact jgd_m (fun H => hK _ _ _ _ H) H
    · exact H.elim
  · intro ι K R ls st h H
    unfold ostP at H ⊢
    split at H
    · exact jgd_d H
    · exact H.elim
theorem oinc_g (i : Nat) (n : Int32) (nx : Nat) : jok (oinc i n nx) := by
  refine ⟨?_, ?_⟩
  · intro K K2 R R2 ls st h hK hR H
    unfold oinc at H ⊢
    split at H
    · exact jgd_m (fun H => hK _ _ _ _ H) H
    · exact H.elim
  · intro ι K R ls st h H
    unfold oinc at H ⊢
    split at H
    · exact jgd_d H
    · exact H.elim
theorem oi2_g (g : Int32 → Int32 → Int32) (nx : Nat) : jok (oi2 g nx) := by
  refine ⟨?_, ?_⟩
  · intro K K2 R R2 ls st h hK hR H
    unfold oi2 at H ⊢
    split at H
    · exact hK _ _ _ _ H
    · exact H.elim
  · intro ι K R ls st h H
    unfold oi2 at H ⊢
    split at H
    · exact H
    · exact H.elim
theorem oi2n_g (g : Int32 → Int32 → Int32) (nx : Nat) : jok (oi2n g nx) := by
  refine ⟨?_, ?_⟩
  · intro K K2 R R2 ls st h hK hR H
    unfold oi2n at H ⊢
    split at H
    · obtain ⟨c0, H⟩ := H
      exact ⟨c0, hK _ _ _ _ H⟩
    · exact H.elim
  · intro ι K R ls st h H
    unfold oi2n at H ⊢
    split at H
    · obtain ⟨c0, x, H⟩ := H
      exact ⟨x, c0, H⟩
    · exact H.elim
theorem oi1_g (g : Int32 → Int32) (nx : Nat) : jok (oi1 g nx) := by
  refine ⟨?_, ?_⟩
  · intro K K2 R R2 ls st h hK hR H
    unfold oi1 at H ⊢
    split at H
    · exact hK _ _ _ _ H
    · exact H.elim
  · intro ι K R ls st h H
    unfold oi1 at H ⊢
    split at H
    · exact H
    · exact H.elim
theorem ol2_g (g : Int64 → Int64 → Int64) (nx : Nat) : jok (ol2 g nx) := by
  refine ⟨?_, ?_⟩
  · intro K K2 R R2 ls st h hK hR H
    unfold ol2 at H ⊢
    split at H
    · exact hK _ _ _ _ H
    · exact H.elim
  · intro ι K R ls st h H
    unfold ol2 at H ⊢
    split at H
    · exact H
    · exact H.elim
theorem olsh_g (g : Int64 → Int32 → Int64) (nx : Nat) : jok (olsh g nx) := by
  refine ⟨?_, ?_⟩
  · intro K K2 R R2 ls st h hK hR H
    unfold olsh at H ⊢
    split at H
    · exact hK _ _ _ _ H
    · exact H.elim
  · intro ι K R ls st h H
    unfold olsh at H ⊢
    split at H
    · exact H
    · exact H.elim
theorem olc_g (g : Int64 → Int64 → Int32) (nx : Nat) : jok (olc g nx) := by
  refine ⟨?_, ?_⟩
  · intro K K2 R R2 ls st h hK hR H
    unfold olc at H ⊢
    split at H
    · exact hK _ _ _ _ H
    · exact H.elim
  · intro ι K R ls st h H
    unfold olc at H ⊢
    split at H
    · exact H
    · exact H.elim
theorem oi2l_g (nx : Nat) : jok (oi2l nx) := by
  refine ⟨?_, ?_⟩
  · intro K K2 R R2 ls st h hK hR H
    unfold oi2l at H ⊢
    split at H
    · exact hK _ _ _ _ H
    · exact H.elim
  · intro ι K R ls st h H
    unfold oi2l at H ⊢
    split at H
    · exact H
    · exact H.elim
theorem ol2i_g (nx : Nat) : jok (ol2i nx) := by
  refine ⟨?_, ?_⟩
  · intro K K2 R R2 ls st h hK hR H
    unfold ol2i at H ⊢
    split at H
    · exact hK _ _ _ _ H
    · exact H.elim
  · intro ι K R ls st h H
    unfold ol2i at H ⊢
    split at H
    · exact H
    · exact H.elim
theorem oi2d_g (nx : Nat) : jok (oi2d nx) := by
  refine ⟨?_, ?_⟩
  · intro K K2 R R2 ls st h hK hR H
    unfold oi2d at H ⊢
    split at H
    · exact hK _ _ _ _ H
    · exact H.elim
  · intro ι K R ls st h H
    unfold oi2d at H ⊢
    split at H
    · exact H
    · exact H.elim
theorem oi2f_g (nx : Nat) : jok (oi2f nx) := by
  refine ⟨?_, ?_⟩
  · intro K K2 R R2 ls st h hK hR H
    unfold oi2f at H ⊢
    split at H
    · exact hK _ _ _ _ H
    · exact H.elim
  · intro ι K R ls st h H
    unfold oi2f at H ⊢
    split at H
    · exact H
    · exact H.elim
theorem oddiv_g (nx : Nat) : jok (oddiv nx) := by
  refine ⟨?_, ?_⟩
  · intro K K2 R R2 ls st h hK hR H
    unfold oddiv at H ⊢
    split at H
    · obtain ⟨c0, H⟩ := H
      exact ⟨c0, hK _ _ _ _ H⟩
    · exact H.elim
  · intro ι K R ls st h H
    unfold oddiv at H ⊢
    split at H
    · obtain ⟨c0, x, H⟩ := H
      exact ⟨x, c0, H⟩
    · exact H.elim
theorem ofdiv_g (nx : Nat) : jok (ofdiv nx) := by
  refine ⟨?_, ?_⟩
  · intro K K2 R R2 ls st h hK hR H
    unfold ofdiv at H ⊢
    split at H
    · obtain ⟨c0, H⟩ := H
      exact ⟨c0, hK _ _ _ _ H⟩
    · exact H.elim
  · intro ι K R ls st h H
    unfold ofdiv at H ⊢
    split at H
    · obtain ⟨c0, x, H⟩ := H
      exact ⟨x, c0, H⟩
    · exact H.elim
theorem of2d_g (nx : Nat) : jok (of2d nx) := by
  refine ⟨?_, ?_⟩
  · intro K K2 R R2 ls st h hK hR H
    unfold of2d at H ⊢
    split at H
    · obtain ⟨c0, H⟩ := H
      exact ⟨c0, hK _ _ _ _ H⟩
    · exact H.elim
  · intro ι K R ls st h H
    unfold of2d at H ⊢
    split at H
    · obtain ⟨c0, x, H⟩ := H
      exact ⟨x, c0, H⟩
    · exact H.elim
theorem odup_g (nx : Nat) : jok (odup nx) := by
  refine ⟨?_, ?_⟩
  · intro K K2 R R2 ls st h hK hR H
    unfold odup at H ⊢
    split at H
    · rename_i v r
      cases hw : jwide v <;> rw [hw] at H
      · exact hK _ _ _ _ H
      · exact H.elim
    · exact H.elim
  · intro ι K R ls st h H
    unfold odup at H ⊢
    split at H
    · rename_i v r
      cases hw : jwide v <;> rw [hw] at H
      · exact H
      · exact H.elim
    · exact H.elim
theorem opop_g (nx : Nat) : jok (opop nx) := by
  refine ⟨?_, ?_⟩
  · intro K K2 R R2 ls st h hK hR H
    unfold opop at H ⊢
    split at H
    · rename_i v r
      cases hw : jwide v <;> rw [hw] at H
      · exact hK _ _ _ _ H
      · exact H.elim
    · exact H.elim
  · intro ι K R ls st h H
    unfold opop at H ⊢
    split at H
    · rename_i v r
      cases hw : jwide v <;> rw [hw] at H
      · exact H
      · exact H.elim
    · exact H.elim
theorem odup2w_g (nx : Nat) : jok (odup2w nx) := by
  refine ⟨?_, ?_⟩
  · intro K K2 R R2 ls st h hK hR H
    unfold odup2w at H ⊢
    split at H
    · rename_i v r
      cases hw : jwide v <;> rw [hw] at H
      · exact H.elim
      · exact hK _ _ _ _ H
    · exact H.elim
  · intro ι K R ls st h H
    unfold odup2w at H ⊢
    split at H
    · rename_i v r
      cases hw : jwide v <;> rw [hw] at H
      · exact H.elim
      · exact H
    · exact H.elim
theorem odcmp_g (op : CmpOp) (nx : Nat) : jok (odcmp op nx) := by
  refine ⟨?_, ?_⟩
  · intro K K2 R R2 ls st h hK hR H
    unfold odcmp at H ⊢
    split at H
    · exact hK _ _ _ _ H
    · exact H.elim
  · intro ι K R ls st h H
    unfold odcmp at H ⊢
    split at H
    · exact H
    · exact H.elim
theorem ofcmp_g (op : CmpOp) (nx : Nat) : jok (ofcmp op nx) := by
  refine ⟨?_, ?_⟩
  · intro K K2 R R2 ls st h hK hR H
    unfold ofcmp at H ⊢
    split at H
    · exact hK _ _ _ _ H
    · exact H.elim
  · intro ι K R ls st h H
    unfold ofcmp at H ⊢
    split at H
    · exact H
    · exact H.elim
theorem odupx1_g (nx : Nat) : jok (odupx1 nx) := by
  refine ⟨?_, ?_⟩
  · intro K K2 R R2 ls st h hK hR H
    unfold odupx1 at H ⊢
    split at H
    · rename_i v w r
      cases hw : jwide v <;> rw [hw] at H
      · cases hz : jwide w <;> rw [hz] at H
        · exact hK _ _ _ _ H
        · exact H.elim
      · exact H.elim
    · exact H.elim
  · intro ι K R ls st h H
    unfold odupx1 at H ⊢
    split at H
    · rename_i v w r
      cases hw : jwide v <;> rw [hw] at H
      · cases hz : jwide w <;> rw [hz] at H
        · exact H
        · exact H.elim
      · exact H.elim
    · exact H.elim
theorem odup2_g (nx : Nat) : jok (odup2 nx) := by
  refine ⟨?_, ?_⟩
  · intro K K2 R R2 ls st h hK hR H
    unfold odup2 at H ⊢
    split at H
    · rename_i v w r
      cases hw : jwide v <;> rw [hw] at H
      · cases hz : jwide w <;> rw [hz] at H
        · exact hK _ _ _ _ H
        · exact H.elim
      · exact H.elim
    · exact H.elim
  · intro ι K R ls st h H
    unfold odup2 at H ⊢
    split at H
    · rename_i v w r
      cases hw : jwide v <;> rw [hw] at H
      · cases hz : jwide w <;> rw [hz] at H
        · exact H
        · exact H.elim
      · exact H.elim
    · exact H.elim
theorem ogo_g (t : Nat) : jok (ogo t) := by
  refine ⟨?_, ?_⟩
  · intro K K2 R R2 ls st h hK hR H
    unfold ogo at H ⊢
    exact hK _ _ _ _ H
  · intro ι K R ls st h H
    unfold ogo at H ⊢
    exact H
theorem oif1_g (c : Int32 → Prop) (t nx : Nat) : jok (oif1 c t nx) := by
  refine ⟨?_, ?_⟩
  · intro K K2 R R2 ls st h hK hR H
    unfold oif1 at H ⊢
    split at H
    · exact ⟨fun c => hK _ _ _ _ (H.1 c), fun c => hK _ _ _ _ (H.2 c)⟩
    · exact H.elim
  · intro ι K R ls st h H
    unfold oif1 at H ⊢
    split at H
    · exact jbr_d H
    · exact H.elim
theorem oif2_g (c : Int32 → Int32 → Prop) (t nx : Nat) : jok (oif2 c t nx) := by
  refine ⟨?_, ?_⟩
  · intro K K2 R R2 ls st h hK hR H
    unfold oif2 at H ⊢
    split at H
    · exact ⟨fun c => hK _ _ _ _ (H.1 c), fun c => hK _ _ _ _ (H.2 c)⟩
    · exact H.elim
  · intro ι K R ls st h H
    unfold oif2 at H ⊢
    split at H
    · exact jbr_d H
    · exact H.elim
theorem oacmp_g (c : Option Nat → Option Nat → Prop) (t nx : Nat) : jok (oacmp c t nx) := by
  refine ⟨?_, ?_⟩
  · intro K K2 R R2 ls st h hK hR H
    unfold oacmp at H ⊢
    split at H
    · exact ⟨fun c => hK _ _ _ _ (H.1 c), fun c => hK _ _ _ _ (H.2 c)⟩
    · exact H.elim
  · intro ι K R ls st h H
    unfold oacmp at H ⊢
    split at H
    · exact jbr_d H
    · exact H.elim
theorem onull_g (t nx : Nat) : jok (onull t nx) := by
  refine ⟨?_, ?_⟩
  · intro K K2 R R2 ls st h hK hR H
    unfold onull at H ⊢
    split at H
    · exact ⟨fun c => hK _ _ _ _ (H.1 c), fun c => hK _ _ _ _ (H.2 c)⟩
    · exact H.elim
  · intro ι K R ls st h H
    unfold onull at H ⊢
    split at H
    · exact jbr_d H
    · exact H.elim
theorem jsw_m {x : Int32} {k k2 : Nat → Prop} (hk : ∀ t, k t → k2 t) (d : Nat) : ∀ cs : List (Int32 × Nat), jsw x k d cs → jsw x k2 d cs
  | [], H => hk _ H
  | _ :: r, H => ⟨fun c => hk _ (H.1 c), fun c => jsw_m hk d r (H.2 c)⟩
theorem jsw_d {ι : Type} {x : Int32} {k : ι → Nat → Prop} (d : Nat) : ∀ cs : List (Int32 × Nat), jsw x (fun t => ∃ i, k i t) d cs → ∃ i, jsw x (k i) d cs
  | [], H => H
  | q :: r, H => by
    by_cases c : x = q.1
    · obtain ⟨i, k⟩ := H.1 c
      exact ⟨i, fun _ => k, fun n => absurd c n⟩
    · obtain ⟨i, k⟩ := jsw_d d r (H.2 c)
      exact ⟨i, fun n => absurd n c, fun _ => k⟩
theorem jth_m {K K2 : jK} {R R2 : jR} (hK : ∀ pc ls st h, K pc ls st h → K2 pc ls st h) (hR : ∀ r h, R r h → R2 r h) {ls : List (Option jV)} {a : Nat} {h : jH} : ∀ hs : List (Nat × List Nat), jth hs K R ls a h → jth hs K2 R2 ls a h
  | [], H => hR _ _ H
  | _ :: r, H => ⟨fun c => hK _ _ _ _ (H.1 c), fun c => jth_m hK hR r (H.2 c)⟩
theorem jth_d {ι : Type} {K : ι → jK} {R : ι → jR} {ls : List (Option jV)} {a : Nat} {h : jH} : ∀ hs : List (Nat × List Nat), jth hs (fun pc ls st h => ∃ x, K x pc ls st h) (fun r h => ∃ x, R x r h) ls a h → ∃ x, jth hs (K x) (R x) ls a h
  | [], H => H
  | q :: r, H => by
    by_cases c : jkd h a ∈ q.2
    · obtain ⟨i, k⟩ := H.1 c
      exact ⟨i, fun _ => k, fun n => absurd c n⟩
    · obtain ⟨i, k⟩ := jth_d r (H.2 c)
      exact ⟨i, fun n => absurd n c, fun _ => k⟩
theorem osw_g (cs : List (Int32 × Nat)) (d : Nat) : jok (osw cs d) := by
  refine ⟨?_, ?_⟩
  · intro K K2 R R2 ls st h hK hR H
    unfold osw at H ⊢
    split at H
    · exact jsw_m (fun _ => hK _ _ _ _) d cs H
    · exact H.elim
  · intro ι K R ls st h H
    unfold osw at H ⊢
    split at H
    · exact jsw_d d cs H
    · exact H.elim
theorem oretI_g : jok (oretI) := by
  refine ⟨?_, ?_⟩
  · intro K K2 R R2 ls st h hK hR H
    unfold oretI at H ⊢
    split at H
    · exact hR _ _ H
    · exact H.elim
  · intro ι K R ls st h H
    unfold oretI at H ⊢
    split at H
    · exact H
    · exact H.elim
theorem oretL_g : jok (oretL) := by
  refine ⟨?_, ?_⟩
  · intro K K2 R R2 ls st h hK hR H
    unfold oretL at H ⊢
    split at H
    · exact hR _ _ H
    · exact H.elim
  · intro ι K R ls st h H
    unfold oretL at H ⊢
    split at H
    · exact H
    · exact H.elim
theorem oretD_g : jok (oretD) := by
  refine ⟨?_, ?_⟩
  · intro K K2 R R2 ls st h hK hR H
    unfold oretD at H ⊢
    split at H
    · exact hR _ _ H
    · exact H.elim
  · intro ι K R ls st h H
    unfold oretD at H ⊢
    split at H
    · exact H
    · exact H.elim
theorem oretF_g : jok (oretF) := by
  refine ⟨?_, ?_⟩
  · intro K K2 R R2 ls st h hK hR H
    unfold oretF at H ⊢
    split at H
    · exact hR _ _ H
    · exact H.elim
  · intro ι K R ls st h H
    unfold oretF at H ⊢
    split at H
    · exact H
    · exact H.elim
theorem oretP_g : jok (oretP) := by
  refine ⟨?_, ?_⟩
  · intro K K2 R R2 ls st h hK hR H
    unfold oretP at H ⊢
    split at H
    · exact hR _ _ H
    · exact H.elim
  · intro ι K R ls st h H
    unfold oretP at H ⊢
    split at H
    · exact H
    · exact H.elim
theorem oretZ_g : jok (oretZ) := by
  refine ⟨?_, ?_⟩
  · intro K K2 R R2 ls st h hK hR H
    unfold oretZ at H ⊢
    split at H
    · exact ⟨H.1, hR _ _ H.2⟩
    · exact H.elim
  · intro ι K R ls st h H
    unfold oretZ at H ⊢
    split at H
    · obtain ⟨c, x, H⟩ := H
      exact ⟨x, c, H⟩
    · exact H.elim
theorem oretT_g (ty : FieldType) : jok (oretT ty) := by
  refine ⟨?_, ?_⟩
  · intro K K2 R R2 ls st h hK hR H
    unfold oretT at H ⊢
    split at H
    · exact ⟨H.1, hR _ _ H.2⟩
    · exact H.elim
  · intro ι K R ls st h H
    unfold oretT at H ⊢
    split at H
    · obtain ⟨c, x, H⟩ := H
      exact ⟨x, c, H⟩
    · exact H.elim
theorem oretV_g : jok (oretV) := by
  refine ⟨?_, ?_⟩
  · intro K K2 R R2 ls st h hK hR H
    unfold oretV at H ⊢
    split at H
    · exact hR _ _ H
    · exact H.elim
  · intro ι K R ls st h H
    unfold oretV at H ⊢
    split at H
    · exact H
    · exact H.elim
theorem ogetI_g (c f nx : Nat) : jok (ogetI c f nx) := by
  refine ⟨?_, ?_⟩
  · intro K K2 R R2 ls st h hK hR H
    unfold ogetI at H ⊢
    split at H
    · exact onr_m (fun _ H => by
        obtain ⟨c0, H⟩ := H
        exact ⟨c0, hK _ _ _ _ H⟩) H
    · exact H.elim
  · intro ι K R ls st h H
    unfold ogetI at H ⊢
    split at H
    · exact onr_d (fun _ H => by
        obtain ⟨c0, x, H⟩ := H
        exact ⟨x, c0, H⟩) H
    · exact H.elim
theorem ogetP_g (c f nx : Nat) : jok (ogetP c f nx) := by
  refine ⟨?_, ?_⟩
  · intro K K2 R R2 ls st h hK hR H
    unfold ogetP at H ⊢
    split at H
    · exact onr_m (fun _ H => by
        obtain ⟨c0, H⟩ := H
        exact ⟨c0, hK _ _ _ _ H⟩) H
    · exact H.elim
  · intro ι K R ls st h H
    unfold ogetP at H ⊢
    split at H
    · exact onr_d (fun _ H => by
        obtain ⟨c0, x, H⟩ := H
        exact ⟨x, c0, H⟩) H
    · exact H.elim
theorem oputI_g (c f nx : Nat) : jok (oputI c f nx) := by
  refine ⟨?_, ?_⟩
  · intro K K2 R R2 ls st h hK hR H
    unfold oputI at H ⊢
    split at H
    · exact onr_m (fun _ H => by
        obtain ⟨c0, H⟩ := H
        exact ⟨c0, jnm_m (fun _ H => hK _ _ _ _ H) H⟩) H
    · exact H.elim
  · intro ι K R ls st h H
    unfold oputI at H ⊢
    split at H
    · exact onr_d (fun _ H => by
        obtain ⟨c0, H⟩ := H
        obtain ⟨x, H⟩ := jnm_d H
        exact ⟨x, c0, H⟩) H
    · exact H.elim
theorem oputP_g (c f nx : Nat) : jok (oputP c f nx) := by
  refine ⟨?_, ?_⟩
  · intro K K2 R R2 ls st h hK hR H
    unfold oputP at H ⊢
    split at H
    · exact onr_m (fun _ H => by
        obtain ⟨c0, H⟩ := H
        exact ⟨c0, jnm_m (fun _ H => hK _ _ _ _ H) H⟩) H
    · exact H.elim
  · intro ι K R ls st h H
    unfold oputP at H ⊢
    split at H
    · exact onr_d (fun _ H => by
        obtain ⟨c0, H⟩ := H
        obtain ⟨x, H⟩ := jnm_d H
        exact ⟨x, c0, H⟩) H
    · exact H.elim
theorem oputZ_g (c f nx : Nat) : jok (oputZ c f nx) := by
  refine ⟨?_, ?_⟩
  · intro K K2 R R2 ls st h hK hR H
    unfold oputZ at H ⊢
    split at H
    · exact onr_m (fun _ H => by
        obtain ⟨c0, c1, H⟩ := H
        exact ⟨c0, c1, jnm_m (fun _ H => hK _ _ _ _ H) H⟩) H
    · exact H.elim
  · intro ι K R ls st h H
    unfold oputZ at H ⊢
    split at H
    · exact onr_d (fun _ H => by
        obtain ⟨c0, c1, H⟩ := H
        obtain ⟨x, H⟩ := jnm_d H
        exact ⟨x, c0, c1, H⟩) H
    · exact H.elim
theorem ogetIM_g (cs : List Nat) (f nx : Nat) : jok (ogetIM cs f nx) := by
  refine ⟨?_, ?_⟩
  · intro K K2 R R2 ls st h hK hR H
    unfold ogetIM at H ⊢
    split at H
    · exact onr_m (fun _ H => by
        obtain ⟨c0, H⟩ := H
        exact ⟨c0, hK _ _ _ _ H⟩) H
    · exact H.elim
  · intro ι K R ls st h H
    unfold ogetIM at H ⊢
    split at H
    · exact onr_d (fun _ H => by
        obtain ⟨c0, x, H⟩ := H
        exact ⟨x, c0, H⟩) H
    · exact H.elim
theorem ogetPM_g (cs : List Nat) (f nx : Nat) : jok (ogetPM cs f nx) := by
  refine ⟨?_, ?_⟩
  · intro K K2 R R2 ls st h hK hR H
    unfold ogetPM at H ⊢
    split at H
    · exact onr_m (fun _ H => by
        obtain ⟨c0, H⟩ := H
        exact ⟨c0, hK _ _ _ _ H⟩) H
    · exact H.elim
  · intro ι K R ls st h H
    unfold ogetPM at H ⊢
    split at H
    · exact onr_d (fun _ H => by
        obtain ⟨c0, x, H⟩ := H
        exact ⟨x, c0, H⟩) H
    · exact H.elim
theorem oputIM_g (cs : List Nat) (f nx : Nat) : jok (oputIM cs f nx) := by
  refine ⟨?_, ?_⟩
  · intro K K2 R R2 ls st h hK hR H
    unfold oputIM at H ⊢
    split at H
    · exact onr_m (fun _ H => by
        obtain ⟨c0, H⟩ := H
        exact ⟨c0, jnm_m (fun _ H => hK _ _ _ _ H) H⟩) H
    · exact H.elim
  · intro ι K R ls st h H
    unfold oputIM at H ⊢
    split at H
    · exact onr_d (fun _ H => by
        obtain ⟨c0, H⟩ := H
        obtain ⟨x, H⟩ := jnm_d H
        exact ⟨x, c0, H⟩) H
    · exact H.elim
theorem oputPM_g (cs : List Nat) (f nx : Nat) : jok (oputPM cs f nx) := by
  refine ⟨?_, ?_⟩
  · intro K K2 R R2 ls st h hK hR H
    unfold oputPM at H ⊢
    split at H
    · exact onr_m (fun _ H => by
        obtain ⟨c0, H⟩ := H
        exact ⟨c0, jnm_m (fun _ H => hK _ _ _ _ H) H⟩) H
    · exact H.elim
  · intro ι K R ls st h H
    unfold oputPM at H ⊢
    split at H
    · exact onr_d (fun _ H => by
        obtain ⟨c0, H⟩ := H
        obtain ⟨x, H⟩ := jnm_d H
        exact ⟨x, c0, H⟩) H
    · exact H.elim
theorem onew_g (c n nx : Nat) : jok (onew c n nx) := by
  refine ⟨?_, ?_⟩
  · intro K K2 R R2 ls st h hK hR H
    unfold onew at H ⊢
    exact jnm_m (fun _ H => hK _ _ _ _ H) H
  · intro ι K R ls st h H
    unfold onew at H ⊢
    exact jnm_d H
theorem onewA_g (t nx : Nat) : jok (onewA t nx) := by
  refine ⟨?_, ?_⟩
  · intro K K2 R R2 ls st h hK hR H
    unfold onewA at H ⊢
    split at H
    · obtain ⟨c0, c1, H⟩ := H
      exact ⟨c0, c1, jnm_m (fun _ H => hK _ _ _ _ H) H⟩
    · exact H.elim
  · intro ι K R ls st h H
    unfold onewA at H ⊢
    split at H
    · obtain ⟨c0, c1, H⟩ := H
      obtain ⟨x, H⟩ := jnm_d H
      exact ⟨x, c0, c1, H⟩
    · exact H.elim
theorem oalen_g (t nx : Nat) : jok (oalen t nx) := by
  refine ⟨?_, ?_⟩
  · intro K K2 R R2 ls st h hK hR H
    unfold oalen at H ⊢
    split at H
    · exact onr_m (fun _ H => by
        obtain ⟨c0, H⟩ := H
        exact ⟨c0, hK _ _ _ _ H⟩) H
    · exact H.elim
  · intro ι K R ls st h H
    unfold oalen at H ⊢
    split at H
    · exact onr_d (fun _ H => by
        obtain ⟨c0, x, H⟩ := H
        exact ⟨x, c0, H⟩) H
    · exact H.elim
theorem oaldI_g (t nx : Nat) : jok (oaldI t nx) := by
  refine ⟨?_, ?_⟩
  · intro K K2 R R2 ls st h hK hR H
    unfold oaldI at H ⊢
    split at H
    · exact onr_m (fun _ H => by
        obtain ⟨c0, c1, H⟩ := H
        exact ⟨c0, c1, hK _ _ _ _ H⟩) H
    · exact H.elim
  · intro ι K R ls st h H
    unfold oaldI at H ⊢
    split at H
    · exact onr_d (fun _ H => by
        obtain ⟨c0, c1, x, H⟩ := H
        exact ⟨x, c0, c1, H⟩) H
    · exact H.elim
theorem oaldL_g (t nx : Nat) : jok (oaldL t nx) := by
  refine ⟨?_, ?_⟩
  · intro K K2 R R2 ls st h hK hR H
    unfold oaldL at H ⊢
    split at H
    · exact onr_m (fun _ H => by
        obtain ⟨c0, c1, H⟩ := H
        exact ⟨c0, c1, hK _ _ _ _ H⟩) H
    · exact H.elim
  · intro ι K R ls st h H
    unfold oaldL at H ⊢
    split at H
    · exact onr_d (fun _ H => by
        obtain ⟨c0, c1, x, H⟩ := H
        exact ⟨x, c0, c1, H⟩) H
    · exact H.elim
theorem oaldD_g (t nx : Nat) : jok (oaldD t nx) := by
  refine ⟨?_, ?_⟩
  · intro K K2 R R2 ls st h hK hR H
    unfold oaldD at H ⊢
    split at H
    · exact onr_m (fun _ H => by
        obtain ⟨c0, c1, H⟩ := H
        exact ⟨c0, c1, hK _ _ _ _ H⟩) H
    · exact H.elim
  · intro ι K R ls st h H
    unfold oaldD at H ⊢
    split at H
    · exact onr_d (fun _ H => by
        obtain ⟨c0, c1, x, H⟩ := H
        exact ⟨x, c0, c1, H⟩) H
    · exact H.elim
theorem oaldP_g (t nx : Nat) : jok (oaldP t nx) := by
  refine ⟨?_, ?_⟩
  · intro K K2 R R2 ls st h hK hR H
    unfold oaldP at H ⊢
    split at H
    · exact onr_m (fun _ H => by
        obtain ⟨c0, c1, H⟩ := H
        exact ⟨c0, c1, hK _ _ _ _ H⟩) H
    · exact H.elim
  · intro ι K R ls st h H
    unfold oaldP at H ⊢
    split at H
    · exact onr_d (fun _ H => by
        obtain ⟨c0, c1, x, H⟩ := H
        exact ⟨x, c0, c1, H⟩) H
    · exact H.elim
theorem oastL_g (t nx : Nat) : jok (oastL t nx) := by
  refine ⟨?_, ?_⟩
  · intro K K2 R R2 ls st h hK hR H
    unfold oastL at H ⊢
    split at H
    · exact onr_m (fun _ H => by
        obtain ⟨c0, c1, H⟩ := H
        exact ⟨c0, c1, jnm_m (fun _ H => hK _ _ _ _ H) H⟩) H
    · exact H.elim
  · intro ι K R ls st h H
    unfold oastL at H ⊢
    split at H
    · exact onr_d (fun _ H => by
        obtain ⟨c0, c1, H⟩ := H
        obtain ⟨x, H⟩ := jnm_d H
        exact ⟨x, c0, c1, H⟩) H
    · exact H.elim
theorem oastD_g (t nx : Nat) : jok (oastD t nx) := by
  refine ⟨?_, ?_⟩
  · intro K K2 R R2 ls st h hK hR H
    unfold oastD at H ⊢
    split at H
    · exact onr_m (fun _ H => by
        obtain ⟨c0, c1, H⟩ := H
        exact ⟨c0, c1, jnm_m (fun _ H => hK _ _ _ _ H) H⟩) H
    · exact H.elim
  · intro ι K R ls st h H
    unfold oastD at H ⊢
    split at H
    · exact onr_d (fun _ H => by
        obtain ⟨c0, c1, H⟩ := H
        obtain ⟨x, H⟩ := jnm_d H
        exact ⟨x, c0, c1, H⟩) H
    · exact H.elim
theorem oastI_g (t : Nat) (g : Int32 → Int32) (nx : Nat) : jok (oastI t g nx) := by
  refine ⟨?_, ?_⟩
  · intro K K2 R R2 ls st h hK hR H
    unfold oastI at H ⊢
    split at H
    · exact onr_m (fun _ H => by
        obtain ⟨c0, c1, H⟩ := H
        exact ⟨c0, c1, jnm_m (fun _ H => hK _ _ _ _ H) H⟩) H
    · exact H.elim
  · intro ι K R ls st h H
    unfold oastI at H ⊢
    split at H
    · exact onr_d (fun _ H => by
        obtain ⟨c0, c1, H⟩ := H
        obtain ⟨x, H⟩ := jnm_d H
        exact ⟨x, c0, c1, H⟩) H
    · exact H.elim
theorem oastP_g (t : Nat) (cs : List Nat) (nx : Nat) : jok (oastP t cs nx) := by
  refine ⟨?_, ?_⟩
  · intro K K2 R R2 ls st h hK hR H
    unfold oastP at H ⊢
    split at H
    · exact onr_m (fun _ H => by
        obtain ⟨c0, c1, c2, H⟩ := H
        exact ⟨c0, c1, c2, jnm_m (fun _ H => hK _ _ _ _ H) H⟩) H
    · exact H.elim
  · intro ι K R ls st h H
    unfold oastP at H ⊢
    split at H
    · exact onr_d (fun _ H => by
        obtain ⟨c0, c1, c2, H⟩ := H
        obtain ⟨x, H⟩ := jnm_d H
        exact ⟨x, c0, c1, c2, H⟩) H
    · exact H.elim
theorem ocast_g (cs : List Nat) (nx : Nat) : jok (ocast cs nx) := by
  refine ⟨?_, ?_⟩
  · intro K K2 R R2 ls st h hK hR H
    unfold ocast at H ⊢
    split at H
    · obtain ⟨c0, H⟩ := H
      exact ⟨c0, hK _ _ _ _ H⟩
    · exact H.elim
  · intro ι K R ls st h H
    unfold ocast at H ⊢
    split at H
    · obtain ⟨c0, x, H⟩ := H
      exact ⟨x, c0, H⟩
    · exact H.elim
theorem oinst_g (cs : List Nat) (nx : Nat) : jok (oinst cs nx) := by
  refine ⟨?_, ?_⟩
  · intro K K2 R R2 ls st h hK hR H
    unfold oinst at H ⊢
    split at H
    · exact onr_m (fun _ H => by
        obtain ⟨c0, H⟩ := H
        exact ⟨c0, hK _ _ _ _ H⟩) H
    · exact H.elim
  · intro ι K R ls st h H
    unfold oinst at H ⊢
    split at H
    · exact onr_d (fun _ H => by
        obtain ⟨c0, x, H⟩ := H
        exact ⟨x, c0, H⟩) H
    · exact H.elim
theorem ocst_g (k nx : Nat) : jok (ocst k nx) := by
  refine ⟨?_, ?_⟩
  · intro K K2 R R2 ls st h hK hR H
    unfold ocst at H ⊢
    exact hK _ _ _ _ H
  · intro ι K R ls st h H
    unfold ocst at H ⊢
    exact H
theorem ogcl_g (cs : List (Nat × Nat)) (nx : Nat) : jok (ogcl cs nx) := by
  refine ⟨?_, ?_⟩
  · intro K K2 R R2 ls st h hK hR H
    unfold ogcl at H ⊢
    split at H
    · exact jgd_m (fun H => onr_m (fun _ H => by
        obtain ⟨k, c, H⟩ := H
        exact ⟨k, c, hK _ _ _ _ H⟩) H) H
    · exact H.elim
  · intro ι K R ls st h H
    unfold ogcl at H ⊢
    split at H
    · exact jgd_d (jgd_m (fun H => onr_d (fun _ H => by
        obtain ⟨k, c, x, H⟩ := H
        exact ⟨x, k, c, H⟩) H) H)
    · exact H.elim
theorem ocpP_g (t : Nat) (cs : List Nat) (nx : Nat) : jok (ocpP t cs nx) := by
  refine ⟨?_, ?_⟩
  · intro K K2 R R2 ls st h hK hR H
    unfold ocpP at H ⊢
    split at H
    · exact jgd_m (fun H => onr_m (fun _ H => onr_m (fun _ H => by
        obtain ⟨c0, c1, c2, c3, c4, c5, c6, c7, H⟩ := H
        exact ⟨c0, c1, c2, c3, c4, c5, c6, c7, jnm_m (fun _ H => hK _ _ _ _ H) H⟩) H) H) H
    · exact H.elim
  · intro ι K R ls st h H
    unfold ocpP at H ⊢
    split at H
    · exact jgd_d (jgd_m (fun H => onr_d (fun _ H => onr_d (fun _ H => by
        obtain ⟨c0, c1, c2, c3, c4, c5, c6, c7, H⟩ := H
        obtain ⟨x, H⟩ := jnm_d H
        exact ⟨x, c0, c1, c2, c3, c4, c5, c6, c7, H⟩) H) H) H)
    · exact H.elim
theorem ocpL_g (t nx : Nat) : jok (ocpL t nx) := by
  refine ⟨?_, ?_⟩
  · intro K K2 R R2 ls st h hK hR H
    unfold ocpL at H ⊢
    split at H
    · exact jgd_m (fun H => onr_m (fun _ H => onr_m (fun _ H => by
        obtain ⟨c0, c1, c2, c3, c4, c5, c6, H⟩ := H
        exact ⟨c0, c1, c2, c3, c4, c5, c6, jnm_m (fun _ H => hK _ _ _ _ H) H⟩) H) H) H
    · exact H.elim
  · intro ι K R ls st h H
    unfold ocpL at H ⊢
    split at H
    · exact jgd_d (jgd_m (fun H => onr_d (fun _ H => onr_d (fun _ H => by
        obtain ⟨c0, c1, c2, c3, c4, c5, c6, H⟩ := H
        obtain ⟨x, H⟩ := jnm_d H
        exact ⟨x, c0, c1, c2, c3, c4, c5, c6, H⟩) H) H) H)
    · exact H.elim
theorem ocloL_g (t nx : Nat) : jok (ocloL t nx) := by
  refine ⟨?_, ?_⟩
  · intro K K2 R R2 ls st h hK hR H
    unfold ocloL at H ⊢
    split at H
    · exact jgd_m (fun H => onr_m (fun _ H => by
        obtain ⟨c0, H⟩ := H
        exact ⟨c0, jnm_m (fun _ H => hK _ _ _ _ H) H⟩) H) H
    · exact H.elim
  · intro ι K R ls st h H
    unfold ocloL at H ⊢
    split at H
    · exact jgd_d (jgd_m (fun H => onr_d (fun _ H => by
        obtain ⟨c0, H⟩ := H
        obtain ⟨x, H⟩ := jnm_d H
        exact ⟨x, c0, H⟩) H) H)
    · exact H.elim
theorem ocallSI_g (E : jE) (y n nx : Nat) : jok (ocallSI E y n nx) := by
  refine ⟨?_, ?_⟩
  · intro K K2 R R2 ls st h hK hR H
    unfold ocallSI at H ⊢
    refine jgd_m (fun H => ?_) H
    obtain ⟨x, h1, e, H⟩ := H
    exact ⟨x, h1, e, hK _ _ _ _ H⟩
  · intro ι K R ls st h H
    unfold ocallSI at H ⊢
    refine jgd_d (jgd_m (fun H => ?_) H)
    obtain ⟨x, h1, e, i, H⟩ := H
    exact ⟨i, x, h1, e, H⟩
theorem ocallXSI_g (E : jE) (y n nx : Nat) (hs : List (Nat × List Nat)) : jok (ocallXSI E y n nx hs) := by
  refine ⟨?_, ?_⟩
  · intro K K2 R R2 ls st h hK hR H
    unfold ocallXSI at H ⊢
    refine jgd_m (fun H => ?_) H
    rcases H with ⟨x, h1, e, H⟩ | ⟨a, h1, e, ex, H⟩
    · exact Or.inl ⟨x, h1, e, hK _ _ _ _ H⟩
    · exact Or.inr ⟨a, h1, e, ex, jth_m hK hR hs H⟩
  · intro ι K R ls st h H
    unfold ocallXSI at H ⊢
    refine jgd_d (jgd_m (fun H => ?_) H)
    rcases H with ⟨x, h1, e, i, H⟩ | ⟨a, h1, e, ex, H⟩
    · exact ⟨i, Or.inl ⟨x, h1, e, H⟩⟩
    · obtain ⟨i, H⟩ := jth_d hs H
      exact ⟨i, Or.inr ⟨a, h1, e, ex, H⟩⟩
theorem ocallNI_g (E : jE) (y n nx : Nat) : jok (ocallNI E y n nx) := by
  refine ⟨?_, ?_⟩
  · intro K K2 R R2 ls st h hK hR H
    unfold ocallNI at H ⊢
    refine jgd_m (fun H => ?_) H
    obtain ⟨c, x, h1, e, H⟩ := H
    exact ⟨c, x, h1, e, hK _ _ _ _ H⟩
  · intro ι K R ls st h H
    unfold ocallNI at H ⊢
    refine jgd_d (jgd_m (fun H => ?_) H)
    obtain ⟨c, x, h1, e, i, H⟩ := H
    exact ⟨i, c, x, h1, e, H⟩
theorem ocallXNI_g (E : jE) (y n nx : Nat) (hs : List (Nat × List Nat)) : jok (ocallXNI E y n nx hs) := by
  refine ⟨?_, ?_⟩
  · intro K K2 R R2 ls st h hK hR H
    unfold ocallXNI at H ⊢
    refine jgd_m (fun H => ?_) H
    rcases H with ⟨c, ⟨x, h1, e, H⟩ | ⟨a, h1, e, ex, H⟩⟩
    · exact ⟨c, Or.inl ⟨x, h1, e, hK _ _ _ _ H⟩⟩
    · exact ⟨c, Or.inr ⟨a, h1, e, ex, jth_m hK hR hs H⟩⟩
  · intro ι K R ls st h H
    unfold ocallXNI at H ⊢
    refine jgd_d (jgd_m (fun H => ?_) H)
    rcases H with ⟨c, ⟨x, h1, e, i, H⟩ | ⟨a, h1, e, ex, H⟩⟩
    · exact ⟨i, c, Or.inl ⟨x, h1, e, H⟩⟩
    · obtain ⟨i, H⟩ := jth_d hs H
      exact ⟨i, c, Or.inr ⟨a, h1, e, ex, H⟩⟩
theorem ocallRI_g (E : jE) (k : Nat) (y n nx : Nat) : jok (ocallRI E k y n nx) := by
  refine ⟨?_, ?_⟩
  · intro K K2 R R2 ls st h hK hR H
    unfold ocallRI at H ⊢
    refine jgd_m (fun H => ?_) H
    obtain ⟨c, x, h1, e, H⟩ := H
    exact ⟨c, x, h1, e, hK _ _ _ _ H⟩
  · intro ι K R ls st h H
    unfold ocallRI at H ⊢
    refine jgd_d (jgd_m (fun H => ?_) H)
    obtain ⟨c, x, h1, e, i, H⟩ := H
    exact ⟨i, c, x, h1, e, H⟩
theorem ocallXRI_g (E : jE) (k : Nat) (y n nx : Nat) (hs : List (Nat × List Nat)) : jok (ocallXRI E k y n nx hs) := by
  refine ⟨?_, ?_⟩
  · intro K K2 R R2 ls st h hK hR H
    unfold ocallXRI at H ⊢
    refine jgd_m (fun H => ?_) H
    rcases H with ⟨c, ⟨x, h1, e, H⟩ | ⟨a, h1, e, ex, H⟩⟩
    · exact ⟨c, Or.inl ⟨x, h1, e, hK _ _ _ _ H⟩⟩
    · exact ⟨c, Or.inr ⟨a, h1, e, ex, jth_m hK hR hs H⟩⟩
  · intro ι K R ls st h H
    unfold ocallXRI at H ⊢
    refine jgd_d (jgd_m (fun H => ?_) H)
    rcases H with ⟨c, ⟨x, h1, e, i, H⟩ | ⟨a, h1, e, ex, H⟩⟩
    · exact ⟨i, c, Or.inl ⟨x, h1, e, H⟩⟩
    · obtain ⟨i, H⟩ := jth_d hs H
      exact ⟨i, c, Or.inr ⟨a, h1, e, ex, H⟩⟩
theorem ocallSL_g (E : jE) (y n nx : Nat) : jok (ocallSL E y n nx) := by
  refine ⟨?_, ?_⟩
  · intro K K2 R R2 ls st h hK hR H
    unfold ocallSL at H ⊢
    refine jgd_m (fun H => ?_) H
    obtain ⟨x, h1, e, H⟩ := H
    exact ⟨x, h1, e, hK _ _ _ _ H⟩
  · intro ι K R ls st h H
    unfold ocallSL at H ⊢
    refine jgd_d (jgd_m (fun H => ?_) H)
    obtain ⟨x, h1, e, i, H⟩ := H
    exact ⟨i, x, h1, e, H⟩
theorem ocallXSL_g (E : jE) (y n nx : Nat) (hs : List (Nat × List Nat)) : jok (ocallXSL E y n nx hs) := by
  refine ⟨?_, ?_⟩
  · intro K K2 R R2 ls st h hK hR H
    unfold ocallXSL at H ⊢
    refine jgd_m (fun H => ?_) H
    rcases H with ⟨x, h1, e, H⟩ | ⟨a, h1, e, ex, H⟩
    · exact Or.inl ⟨x, h1, e, hK _ _ _ _ H⟩
    · exact Or.inr ⟨a, h1, e, ex, jth_m hK hR hs H⟩
  · intro ι K R ls st h H
    unfold ocallXSL at H ⊢
    refine jgd_d (jgd_m (fun H => ?_) H)
    rcases H with ⟨x, h1, e, i, H⟩ | ⟨a, h1, e, ex, H⟩
    · exact ⟨i, Or.inl ⟨x, h1, e, H⟩⟩
    · obtain ⟨i, H⟩ := jth_d hs H
      exact ⟨i, Or.inr ⟨a, h1, e, ex, H⟩⟩
theorem ocallNL_g (E : jE) (y n nx : Nat) : jok (ocallNL E y n nx) := by
  refine ⟨?_, ?_⟩
  · intro K K2 R R2 ls st h hK hR H
    unfold ocallNL at H ⊢
    refine jgd_m (fun H => ?_) H
    obtain ⟨c, x, h1, e, H⟩ := H
    exact ⟨c, x, h1, e, hK _ _ _ _ H⟩
  · intro ι K R ls st h H
    unfold ocallNL at H ⊢
    refine jgd_d (jgd_m (fun H => ?_) H)
    obtain ⟨c, x, h1, e, i, H⟩ := H
    exact ⟨i, c, x, h1, e, H⟩
theorem ocallXNL_g (E : jE) (y n nx : Nat) (hs : List (Nat × List Nat)) : jok (ocallXNL E y n nx hs) := by
  refine ⟨?_, ?_⟩
  · intro K K2 R R2 ls st h hK hR H
    unfold ocallXNL at H ⊢
    refine jgd_m (fun H => ?_) H
    rcases H with ⟨c, ⟨x, h1, e, H⟩ | ⟨a, h1, e, ex, H⟩⟩
    · exact ⟨c, Or.inl ⟨x, h1, e, hK _ _ _ _ H⟩⟩
    · exact ⟨c, Or.inr ⟨a, h1, e, ex, jth_m hK hR hs H⟩⟩
  · intro ι K R ls st h H
    unfold ocallXNL at H ⊢
    refine jgd_d (jgd_m (fun H => ?_) H)
    rcases H with ⟨c, ⟨x, h1, e, i, H⟩ | ⟨a, h1, e, ex, H⟩⟩
    · exact ⟨i, c, Or.inl ⟨x, h1, e, H⟩⟩
    · obtain ⟨i, H⟩ := jth_d hs H
      exact ⟨i, c, Or.inr ⟨a, h1, e, ex, H⟩⟩
theorem ocallRL_g (E : jE) (k : Nat) (y n nx : Nat) : jok (ocallRL E k y n nx) := by
  refine ⟨?_, ?_⟩
  · intro K K2 R R2 ls st h hK hR H
    unfold ocallRL at H ⊢
    refine jgd_m (fun H => ?_) H
    obtain ⟨c, x, h1, e, H⟩ := H
    exact ⟨c, x, h1, e, hK _ _ _ _ H⟩
  · intro ι K R ls st h H
    unfold ocallRL at H ⊢
    refine jgd_d (jgd_m (fun H => ?_) H)
    obtain ⟨c, x, h1, e, i, H⟩ := H
    exact ⟨i, c, x, h1, e, H⟩
theorem ocallXRL_g (E : jE) (k : Nat) (y n nx : Nat) (hs : List (Nat × List Nat)) : jok (ocallXRL E k y n nx hs) := by
  refine ⟨?_, ?_⟩
  · intro K K2 R R2 ls st h hK hR H
    unfold ocallXRL at H ⊢
    refine jgd_m (fun H => ?_) H
    rcases H with ⟨c, ⟨x, h1, e, H⟩ | ⟨a, h1, e, ex, H⟩⟩
    · exact ⟨c, Or.inl ⟨x, h1, e, hK _ _ _ _ H⟩⟩
    · exact ⟨c, Or.inr ⟨a, h1, e, ex, jth_m hK hR hs H⟩⟩
  · intro ι K R ls st h H
    unfold ocallXRL at H ⊢
    refine jgd_d (jgd_m (fun H => ?_) H)
    rcases H with ⟨c, ⟨x, h1, e, i, H⟩ | ⟨a, h1, e, ex, H⟩⟩
    · exact ⟨i, c, Or.inl ⟨x, h1, e, H⟩⟩
    · obtain ⟨i, H⟩ := jth_d hs H
      exact ⟨i, c, Or.inr ⟨a, h1, e, ex, H⟩⟩
theorem ocallSP_g (E : jE) (y n nx : Nat) : jok (ocallSP E y n nx) := by
  refine ⟨?_, ?_⟩
  · intro K K2 R R2 ls st h hK hR H
    unfold ocallSP at H ⊢
    refine jgd_m (fun H => ?_) H
    obtain ⟨x, h1, e, H⟩ := H
    exact ⟨x, h1, e, hK _ _ _ _ H⟩
  · intro ι K R ls st h H
    unfold ocallSP at H ⊢
    refine jgd_d (jgd_m (fun H => ?_) H)
    obtain ⟨x, h1, e, i, H⟩ := H
    exact ⟨i, x, h1, e, H⟩
theorem ocallXSP_g (E : jE) (y n nx : Nat) (hs : List (Nat × List Nat)) : jok (ocallXSP E y n nx hs) := by
  refine ⟨?_, ?_⟩
  · intro K K2 R R2 ls st h hK hR H
    unfold ocallXSP at H ⊢
    refine jgd_m (fun H => ?_) H
    rcases H with ⟨x, h1, e, H⟩ | ⟨a, h1, e, ex, H⟩
    · exact Or.inl ⟨x, h1, e, hK _ _ _ _ H⟩
    · exact Or.inr ⟨a, h1, e, ex, jth_m hK hR hs H⟩
  · intro ι K R ls st h H
    unfold ocallXSP at H ⊢
    refine jgd_d (jgd_m (fun H => ?_) H)
    rcases H with ⟨x, h1, e, i, H⟩ | ⟨a, h1, e, ex, H⟩
    · exact ⟨i, Or.inl ⟨x, h1, e, H⟩⟩
    · obtain ⟨i, H⟩ := jth_d hs H
      exact ⟨i, Or.inr ⟨a, h1, e, ex, H⟩⟩
theorem ocallNP_g (E : jE) (y n nx : Nat) : jok (ocallNP E y n nx) := by
  refine ⟨?_, ?_⟩
  · intro K K2 R R2 ls st h hK hR H
    unfold ocallNP at H ⊢
    refine jgd_m (fun H => ?_) H
    obtain ⟨c, x, h1, e, H⟩ := H
    exact ⟨c, x, h1, e, hK _ _ _ _ H⟩
  · intro ι K R ls st h H
    unfold ocallNP at H ⊢
    refine jgd_d (jgd_m (fun H => ?_) H)
    obtain ⟨c, x, h1, e, i, H⟩ := H
    exact ⟨i, c, x, h1, e, H⟩
theorem ocallXNP_g (E : jE) (y n nx : Nat) (hs : List (Nat × List Nat)) : jok (ocallXNP E y n nx hs) := by
  refine ⟨?_, ?_⟩
  · intro K K2 R R2 ls st h hK hR H
    unfold ocallXNP at H ⊢
    refine jgd_m (fun H => ?_) H
    rcases H with ⟨c, ⟨x, h1, e, H⟩ | ⟨a, h1, e, ex, H⟩⟩
    · exact ⟨c, Or.inl ⟨x, h1, e, hK _ _ _ _ H⟩⟩
    · exact ⟨c, Or.inr ⟨a, h1, e, ex, jth_m hK hR hs H⟩⟩
  · intro ι K R ls st h H
    unfold ocallXNP at H ⊢
    refine jgd_d (jgd_m (fun H => ?_) H)
    rcases H with ⟨c, ⟨x, h1, e, i, H⟩ | ⟨a, h1, e, ex, H⟩⟩
    · exact ⟨i, c, Or.inl ⟨x, h1, e, H⟩⟩
    · obtain ⟨i, H⟩ := jth_d hs H
      exact ⟨i, c, Or.inr ⟨a, h1, e, ex, H⟩⟩
theorem ocallRP_g (E : jE) (k : Nat) (y n nx : Nat) : jok (ocallRP E k y n nx) := by
  refine ⟨?_, ?_⟩
  · intro K K2 R R2 ls st h hK hR H
    unfold ocallRP at H ⊢
    refine jgd_m (fun H => ?_) H
    obtain ⟨c, x, h1, e, H⟩ := H
    exact ⟨c, x, h1, e, hK _ _ _ _ H⟩
  · intro ι K R ls st h H
    unfold ocallRP at H ⊢
    refine jgd_d (jgd_m (fun H => ?_) H)
    obtain ⟨c, x, h1, e, i, H⟩ := H
    exact ⟨i, c, x, h1, e, H⟩
theorem ocallXRP_g (E : jE) (k : Nat) (y n nx : Nat) (hs : List (Nat × List Nat)) : jok (ocallXRP E k y n nx hs) := by
  refine ⟨?_, ?_⟩
  · intro K K2 R R2 ls st h hK hR H
    unfold ocallXRP at H ⊢
    refine jgd_m (fun H => ?_) H
    rcases H with ⟨c, ⟨x, h1, e, H⟩ | ⟨a, h1, e, ex, H⟩⟩
    · exact ⟨c, Or.inl ⟨x, h1, e, hK _ _ _ _ H⟩⟩
    · exact ⟨c, Or.inr ⟨a, h1, e, ex, jth_m hK hR hs H⟩⟩
  · intro ι K R ls st h H
    unfold ocallXRP at H ⊢
    refine jgd_d (jgd_m (fun H => ?_) H)
    rcases H with ⟨c, ⟨x, h1, e, i, H⟩ | ⟨a, h1, e, ex, H⟩⟩
    · exact ⟨i, c, Or.inl ⟨x, h1, e, H⟩⟩
    · obtain ⟨i, H⟩ := jth_d hs H
      exact ⟨i, c, Or.inr ⟨a, h1, e, ex, H⟩⟩
theorem ocallSD_g (E : jE) (y n nx : Nat) : jok (ocallSD E y n nx) := by
  refine ⟨?_, ?_⟩
  · intro K K2 R R2 ls st h hK hR H
    unfold ocallSD at H ⊢
    refine jgd_m (fun H => ?_) H
    obtain ⟨x, h1, e, H⟩ := H
    exact ⟨x, h1, e, hK _ _ _ _ H⟩
  · intro ι K R ls st h H
    unfold ocallSD at H ⊢
    refine jgd_d (jgd_m (fun H => ?_) H)
    obtain ⟨x, h1, e, i, H⟩ := H
    exact ⟨i, x, h1, e, H⟩
theorem ocallXSD_g (E : jE) (y n nx : Nat) (hs : List (Nat × List Nat)) : jok (ocallXSD E y n nx hs) := by
  refine ⟨?_, ?_⟩
  · intro K K2 R R2 ls st h hK hR H
    unfold ocallXSD at H ⊢
    refine jgd_m (fun H => ?_) H
    rcases H with ⟨x, h1, e, H⟩ | ⟨a, h1, e, ex, H⟩
    · exact Or.inl ⟨x, h1, e, hK _ _ _ _ H⟩
    · exact Or.inr ⟨a, h1, e, ex, jth_m hK hR hs H⟩
  · intro ι K R ls st h H
    unfold ocallXSD at H ⊢
    refine jgd_d (jgd_m (fun H => ?_) H)
    rcases H with ⟨x, h1, e, i, H⟩ | ⟨a, h1, e, ex, H⟩
    · exact ⟨i, Or.inl ⟨x, h1, e, H⟩⟩
    · obtain ⟨i, H⟩ := jth_d hs H
      exact ⟨i, Or.inr ⟨a, h1, e, ex, H⟩⟩
theorem ocallND_g (E : jE) (y n nx : Nat) : jok (ocallND E y n nx) := by
  refine ⟨?_, ?_⟩
  · intro K K2 R R2 ls st h hK hR H
    unfold ocallND at H ⊢
    refine jgd_m (fun H => ?_) H
    obtain ⟨c, x, h1, e, H⟩ := H
    exact ⟨c, x, h1, e, hK _ _ _ _ H⟩
  · intro ι K R ls st h H
    unfold ocallND at H ⊢
    refine jgd_d (jgd_m (fun H => ?_) H)
    obtain ⟨c, x, h1, e, i, H⟩ := H
    exact ⟨i, c, x, h1, e, H⟩
theorem ocallXND_g (E : jE) (y n nx : Nat) (hs : List (Nat × List Nat)) : jok (ocallXND E y n nx hs) := by
  refine ⟨?_, ?_⟩
  · intro K K2 R R2 ls st h hK hR H
    unfold ocallXND at H ⊢
    refine jgd_m (fun H => ?_) H
    rcases H with ⟨c, ⟨x, h1, e, H⟩ | ⟨a, h1, e, ex, H⟩⟩
    · exact ⟨c, Or.inl ⟨x, h1, e, hK _ _ _ _ H⟩⟩
    · exact ⟨c, Or.inr ⟨a, h1, e, ex, jth_m hK hR hs H⟩⟩
  · intro ι K R ls st h H
    unfold ocallXND at H ⊢
    refine jgd_d (jgd_m (fun H => ?_) H)
    rcases H with ⟨c, ⟨x, h1, e, i, H⟩ | ⟨a, h1, e, ex, H⟩⟩
    · exact ⟨i, c, Or.inl ⟨x, h1, e, H⟩⟩
    · obtain ⟨i, H⟩ := jth_d hs H
      exact ⟨i, c, Or.inr ⟨a, h1, e, ex, H⟩⟩
theorem ocallRD_g (E : jE) (k : Nat) (y n nx : Nat) : jok (ocallRD E k y n nx) := by
  refine ⟨?_, ?_⟩
  · intro K K2 R R2 ls st h hK hR H
    unfold ocallRD at H ⊢
    refine jgd_m (fun H => ?_) H
    obtain ⟨c, x, h1, e, H⟩ := H
    exact ⟨c, x, h1, e, hK _ _ _ _ H⟩
  · intro ι K R ls st h H
    unfold ocallRD at H ⊢
    refine jgd_d (jgd_m (fun H => ?_) H)
    obtain ⟨c, x, h1, e, i, H⟩ := H
    exact ⟨i, c, x, h1, e, H⟩
theorem ocallXRD_g (E : jE) (k : Nat) (y n nx : Nat) (hs : List (Nat × List Nat)) : jok (ocallXRD E k y n nx hs) := by
  refine ⟨?_, ?_⟩
  · intro K K2 R R2 ls st h hK hR H
    unfold ocallXRD at H ⊢
    refine jgd_m (fun H => ?_) H
    rcases H with ⟨c, ⟨x, h1, e, H⟩ | ⟨a, h1, e, ex, H⟩⟩
    · exact ⟨c, Or.inl ⟨x, h1, e, hK _ _ _ _ H⟩⟩
    · exact ⟨c, Or.inr ⟨a, h1, e, ex, jth_m hK hR hs H⟩⟩
  · intro ι K R ls st h H
    unfold ocallXRD at H ⊢
    refine jgd_d (jgd_m (fun H => ?_) H)
    rcases H with ⟨c, ⟨x, h1, e, i, H⟩ | ⟨a, h1, e, ex, H⟩⟩
    · exact ⟨i, c, Or.inl ⟨x, h1, e, H⟩⟩
    · obtain ⟨i, H⟩ := jth_d hs H
      exact ⟨i, c, Or.inr ⟨a, h1, e, ex, H⟩⟩
theorem ocallSF_g (E : jE) (y n nx : Nat) : jok (ocallSF E y n nx) := by
  refine ⟨?_, ?_⟩
  · intro K K2 R R2 ls st h hK hR H
    unfold ocallSF at H ⊢
    refine jgd_m (fun H => ?_) H
    obtain ⟨x, h1, e, H⟩ := H
    exact ⟨x, h1, e, hK _ _ _ _ H⟩
  · intro ι K R ls st h H
    unfold ocallSF at H ⊢
    refine jgd_d (jgd_m (fun H => ?_) H)
    obtain ⟨x, h1, e, i, H⟩ := H
    exact ⟨i, x, h1, e, H⟩
theorem ocallXSF_g (E : jE) (y n nx : Nat) (hs : List (Nat × List Nat)) : jok (ocallXSF E y n nx hs) := by
  refine ⟨?_, ?_⟩
  · intro K K2 R R2 ls st h hK hR H
    unfold ocallXSF at H ⊢
    refine jgd_m (fun H => ?_) H
    rcases H with ⟨x, h1, e, H⟩ | ⟨a, h1, e, ex, H⟩
    · exact Or.inl ⟨x, h1, e, hK _ _ _ _ H⟩
    · exact Or.inr ⟨a, h1, e, ex, jth_m hK hR hs H⟩
  · intro ι K R ls st h H
    unfold ocallXSF at H ⊢
    refine jgd_d (jgd_m (fun H => ?_) H)
    rcases H with ⟨x, h1, e, i, H⟩ | ⟨a, h1, e, ex, H⟩
    · exact ⟨i, Or.inl ⟨x, h1, e, H⟩⟩
    · obtain ⟨i, H⟩ := jth_d hs H
      exact ⟨i, Or.inr ⟨a, h1, e, ex, H⟩⟩
theorem ocallNF_g (E : jE) (y n nx : Nat) : jok (ocallNF E y n nx) := by
  refine ⟨?_, ?_⟩
  · intro K K2 R R2 ls st h hK hR H
    unfold ocallNF at H ⊢
    refine jgd_m (fun H => ?_) H
    obtain ⟨c, x, h1, e, H⟩ := H
    exact ⟨c, x, h1, e, hK _ _ _ _ H⟩
  · intro ι K R ls st h H
    unfold ocallNF at H ⊢
    refine jgd_d (jgd_m (fun H => ?_) H)
    obtain ⟨c, x, h1, e, i, H⟩ := H
    exact ⟨i, c, x, h1, e, H⟩
theorem ocallXNF_g (E : jE) (y n nx : Nat) (hs : List (Nat × List Nat)) : jok (ocallXNF E y n nx hs) := by
  refine ⟨?_, ?_⟩
  · intro K K2 R R2 ls st h hK hR H
    unfold ocallXNF at H ⊢
    refine jgd_m (fun H => ?_) H
    rcases H with ⟨c, ⟨x, h1, e, H⟩ | ⟨a, h1, e, ex, H⟩⟩
    · exact ⟨c, Or.inl ⟨x, h1, e, hK _ _ _ _ H⟩⟩
    · exact ⟨c, Or.inr ⟨a, h1, e, ex, jth_m hK hR hs H⟩⟩
  · intro ι K R ls st h H
    unfold ocallXNF at H ⊢
    refine jgd_d (jgd_m (fun H => ?_) H)
    rcases H with ⟨c, ⟨x, h1, e, i, H⟩ | ⟨a, h1, e, ex, H⟩⟩
    · exact ⟨i, c, Or.inl ⟨x, h1, e, H⟩⟩
    · obtain ⟨i, H⟩ := jth_d hs H
      exact ⟨i, c, Or.inr ⟨a, h1, e, ex, H⟩⟩
theorem ocallRF_g (E : jE) (k : Nat) (y n nx : Nat) : jok (ocallRF E k y n nx) := by
  refine ⟨?_, ?_⟩
  · intro K K2 R R2 ls st h hK hR H
    unfold ocallRF at H ⊢
    refine jgd_m (fun H => ?_) H
    obtain ⟨c, x, h1, e, H⟩ := H
    exact ⟨c, x, h1, e, hK _ _ _ _ H⟩
  · intro ι K R ls st h H
    unfold ocallRF at H ⊢
    refine jgd_d (jgd_m (fun H => ?_) H)
    obtain ⟨c, x, h1, e, i, H⟩ := H
    exact ⟨i, c, x, h1, e, H⟩
theorem ocallXRF_g (E : jE) (k : Nat) (y n nx : Nat) (hs : List (Nat × List Nat)) : jok (ocallXRF E k y n nx hs) := by
  refine ⟨?_, ?_⟩
  · intro K K2 R R2 ls st h hK hR H
    unfold ocallXRF at H ⊢
    refine jgd_m (fun H => ?_) H
    rcases H with ⟨c, ⟨x, h1, e, H⟩ | ⟨a, h1, e, ex, H⟩⟩
    · exact ⟨c, Or.inl ⟨x, h1, e, hK _ _ _ _ H⟩⟩
    · exact ⟨c, Or.inr ⟨a, h1, e, ex, jth_m hK hR hs H⟩⟩
  · intro ι K R ls st h H
    unfold ocallXRF at H ⊢
    refine jgd_d (jgd_m (fun H => ?_) H)
    rcases H with ⟨c, ⟨x, h1, e, i, H⟩ | ⟨a, h1, e, ex, H⟩⟩
    · exact ⟨i, c, Or.inl ⟨x, h1, e, H⟩⟩
    · obtain ⟨i, H⟩ := jth_d hs H
      exact ⟨i, c, Or.inr ⟨a, h1, e, ex, H⟩⟩
theorem ocallSV_g (E : jE) (y n nx : Nat) : jok (ocallSV E y n nx) := by
  refine ⟨?_, ?_⟩
  · intro K K2 R R2 ls st h hK hR H
    unfold ocallSV at H ⊢
    refine jgd_m (fun H => ?_) H
    obtain ⟨h1, e, H⟩ := H
    exact ⟨h1, e, hK _ _ _ _ H⟩
  · intro ι K R ls st h H
    unfold ocallSV at H ⊢
    refine jgd_d (jgd_m (fun H => ?_) H)
    obtain ⟨h1, e, i, H⟩ := H
    exact ⟨i, h1, e, H⟩
theorem ocallXSV_g (E : jE) (y n nx : Nat) (hs : List (Nat × List Nat)) : jok (ocallXSV E y n nx hs) := by
  refine ⟨?_, ?_⟩
  · intro K K2 R R2 ls st h hK hR H
    unfold ocallXSV at H ⊢
    refine jgd_m (fun H => ?_) H
    rcases H with ⟨h1, e, H⟩ | ⟨a, h1, e, ex, H⟩
    · exact Or.inl ⟨h1, e, hK _ _ _ _ H⟩
    · exact Or.inr ⟨a, h1, e, ex, jth_m hK hR hs H⟩
  · intro ι K R ls st h H
    unfold ocallXSV at H ⊢
    refine jgd_d (jgd_m (fun H => ?_) H)
    rcases H with ⟨h1, e, i, H⟩ | ⟨a, h1, e, ex, H⟩
    · exact ⟨i, Or.inl ⟨h1, e, H⟩⟩
    · obtain ⟨i, H⟩ := jth_d hs H
      exact ⟨i, Or.inr ⟨a, h1, e, ex, H⟩⟩
theorem ocallNV_g (E : jE) (y n nx : Nat) : jok (ocallNV E y n nx) := by
  refine ⟨?_, ?_⟩
  · intro K K2 R R2 ls st h hK hR H
    unfold ocallNV at H ⊢
    refine jgd_m (fun H => ?_) H
    obtain ⟨c, h1, e, H⟩ := H
    exact ⟨c, h1, e, hK _ _ _ _ H⟩
  · intro ι K R ls st h H
    unfold ocallNV at H ⊢
    refine jgd_d (jgd_m (fun H => ?_) H)
    obtain ⟨c, h1, e, i, H⟩ := H
    exact ⟨i, c, h1, e, H⟩
theorem ocallXNV_g (E : jE) (y n nx : Nat) (hs : List (Nat × List Nat)) : jok (ocallXNV E y n nx hs) := by
  refine ⟨?_, ?_⟩
  · intro K K2 R R2 ls st h hK hR H
    unfold ocallXNV at H ⊢
    refine jgd_m (fun H => ?_) H
    rcases H with ⟨c, ⟨h1, e, H⟩ | ⟨a, h1, e, ex, H⟩⟩
    · exact ⟨c, Or.inl ⟨h1, e, hK _ _ _ _ H⟩⟩
    · exact ⟨c, Or.inr ⟨a, h1, e, ex, jth_m hK hR hs H⟩⟩
  · intro ι K R ls st h H
    unfold ocallXNV at H ⊢
    refine jgd_d (jgd_m (fun H => ?_) H)
    rcases H with ⟨c, ⟨h1, e, i, H⟩ | ⟨a, h1, e, ex, H⟩⟩
    · exact ⟨i, c, Or.inl ⟨h1, e, H⟩⟩
    · obtain ⟨i, H⟩ := jth_d hs H
      exact ⟨i, c, Or.inr ⟨a, h1, e, ex, H⟩⟩
theorem ocallRV_g (E : jE) (k : Nat) (y n nx : Nat) : jok (ocallRV E k y n nx) := by
  refine ⟨?_, ?_⟩
  · intro K K2 R R2 ls st h hK hR H
    unfold ocallRV at H ⊢
    refine jgd_m (fun H => ?_) H
    obtain ⟨c, h1, e, H⟩ := H
    exact ⟨c, h1, e, hK _ _ _ _ H⟩
  · intro ι K R ls st h H
    unfold ocallRV at H ⊢
    refine jgd_d (jgd_m (fun H => ?_) H)
    obtain ⟨c, h1, e, i, H⟩ := H
    exact ⟨i, c, h1, e, H⟩
theorem ocallXRV_g (E : jE) (k : Nat) (y n nx : Nat) (hs : List (Nat × List Nat)) : jok (ocallXRV E k y n nx hs) := by
  refine ⟨?_, ?_⟩
  · intro K K2 R R2 ls st h hK hR H
    unfold ocallXRV at H ⊢
    refine jgd_m (fun H => ?_) H
    rcases H with ⟨c, ⟨h1, e, H⟩ | ⟨a, h1, e, ex, H⟩⟩
    · exact ⟨c, Or.inl ⟨h1, e, hK _ _ _ _ H⟩⟩
    · exact ⟨c, Or.inr ⟨a, h1, e, ex, jth_m hK hR hs H⟩⟩
  · intro ι K R ls st h H
    unfold ocallXRV at H ⊢
    refine jgd_d (jgd_m (fun H => ?_) H)
    rcases H with ⟨c, ⟨h1, e, i, H⟩ | ⟨a, h1, e, ex, H⟩⟩
    · exact ⟨i, c, Or.inl ⟨h1, e, H⟩⟩
    · obtain ⟨i, H⟩ := jth_d hs H
      exact ⟨i, c, Or.inr ⟨a, h1, e, ex, H⟩⟩
theorem ocallMI_g (E : jE) (cs : List (Nat × Nat)) (n nx : Nat) : jok (ocallMI E cs n nx) := by
  refine ⟨?_, ?_⟩
  · intro K K2 R R2 ls st h hK hR H
    unfold ocallMI at H ⊢
    refine jgd_m (fun H => ?_) H
    unfold jrm at H ⊢
    split at H
    · exact onr_m (fun _ H => by
        obtain ⟨y, e2, x, h1, e3, H⟩ := H
        exact ⟨y, e2, x, h1, e3, hK _ _ _ _ H⟩) H
    · exact H.elim
  · intro ι K R ls st h H
    unfold ocallMI at H ⊢
    refine jgd_d (jgd_m (fun H => ?_) H)
    unfold jrm at H ⊢
    split at H
    · exact onr_d (fun _ H => by
        obtain ⟨y, e2, x, h1, e3, i, H⟩ := H
        exact ⟨i, y, e2, x, h1, e3, H⟩) H
    · exact H.elim
theorem oobj_g (nx : Nat) : jok (oobj nx) := by
  refine ⟨?_, ?_⟩
  · intro K K2 R R2 ls st h hK hR H
    unfold oobj at H ⊢
    split at H
    · exact jgd_m (onr_m fun _ H => hK _ _ _ _ H) H
    · exact H.elim
  · intro ι K R ls st h H
    unfold oobj at H ⊢
    split at H
    · exact jgd_d (jgd_m (onr_d fun _ H => H) H)
    · exact H.elim
theorem othr0_g (c : Nat) (hs : List (Nat × List Nat)) : jok (othr0 c hs) := by
  refine ⟨?_, ?_⟩
  · intro K K2 R R2 ls st h hK hR H
    unfold othr0 at H ⊢
    exact jgd_m (jnm_m fun _ H => jth_m hK hR hs H) H
  · intro ι K R ls st h H
    unfold othr0 at H ⊢
    exact jgd_d (jgd_m (fun H => jnm_d (jnm_m (fun _ H => jth_d hs H) H)) H)
theorem onewAA_g (nx : Nat) : jok (onewAA nx) := by
  refine ⟨?_, ?_⟩
  · intro K K2 R R2 ls st h hK hR H
    unfold onewAA at H ⊢
    split at H
    · obtain ⟨c0, c1, c2, c3, H⟩ := H
      exact ⟨c0, c1, c2, c3, jnm_m (fun _ H => hK _ _ _ _ H) H⟩
    · exact H.elim
  · intro ι K R ls st h H
    unfold onewAA at H ⊢
    split at H
    · obtain ⟨c0, c1, c2, c3, H⟩ := H
      obtain ⟨x, H⟩ := jnm_d H
      exact ⟨x, c0, c1, c2, c3, H⟩
    · exact H.elim
theorem oclo_g (c n fz nx : Nat) : jok (oclo c n fz nx) := by
  refine ⟨?_, ?_⟩
  · intro K K2 R R2 ls st h hK hR H
    unfold oclo at H ⊢
    split at H
    · exact jgd_m (fun H => onr_m (fun _ H => by
        obtain ⟨c0, c1, H⟩ := H
        exact ⟨c0, c1, jnm_m (fun _ H => hK _ _ _ _ H) H⟩) H) H
    · exact H.elim
  · intro ι K R ls st h H
    unfold oclo at H ⊢
    split at H
    · exact jgd_d (jgd_m (fun H => onr_d (fun _ H => by
        obtain ⟨c0, c1, H⟩ := H
        obtain ⟨x, H⟩ := jnm_d H
        exact ⟨x, c0, c1, H⟩) H) H)
    · exact H.elim
theorem othrow_g (hs : List (Nat × List Nat)) : jok (othrow hs) := by
  refine ⟨?_, ?_⟩
  · intro K K2 R R2 ls st h hK hR H
    unfold othrow at H ⊢
    split at H
    · exact onr_m (fun _ H => ⟨H.1, jth_m hK hR hs H.2⟩) H
    · exact H.elim
  · intro ι K R ls st h H
    unfold othrow at H ⊢
    split at H
    · exact onr_d (fun _ H => by
        obtain ⟨i, k⟩ := jth_d hs H.2
        exact ⟨i, H.1, k⟩) H
    · exact H.elim
