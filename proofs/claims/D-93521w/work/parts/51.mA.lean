/-! THE MODEL'S METHODS: statements, their places (own work) -/
set_option maxRecDepth 100000
section MA
variable {h : jH} {m d : Nat} {S : MS}
/-- a statement: kind, left, right, extra -/
abbrev St : Type := Nat × Nat × Nat × Nat
def mB (S : MS) (f : Nat) (b : List St) : Prop := S.2.1 5 f = nI b.length ∧ b.length ≤ 12 ∧ ∀ (k : Nat) (st : St), b[k]? = some st → S.2.1 1 (12 * f + k) = nI st.1 ∧ S.2.1 2 (12 * f + k) = nI st.2.1 ∧ S.2.1 3 (12 * f + k) = nI st.2.2.1 ∧ S.2.1 4 (12 * f + k) = nI st.2.2.2 ∧ st.1 < 7 ∧ st.2.1 < 20 ∧ st.2.2.1 < 20 ∧ st.2.2.2 < 4
def mBs (S : MS) (B : Nat → List St) : Prop := ∀ f, f < 4 → mB S f (B f)
def nst (B : Nat → List St) : Nat := (B 0).length + (B 1).length + (B 2).length + (B 3).length
theorem sz_le {B : Nat → List St} (hB : mBs S B) {f : Nat} (hf : f < 4) : (B f).length ≤ 12 := (hB f hf).2.1
theorem p_thrown (hm : mOk h m) : EV (d + 1) 6 [jP (some m)] (mhp h m S) (.inl (some (jI (S.1 16)))) (mhp h m S) :=
  jcI_r (w_X4_thrown (by simp only [onr_s, jnm_iff, mh_kd, mh_ln, mh_OP, mh_OI, mok_4 hm, true_and, and_true]))
theorem p_fails {x : Int32} (hm : mOk h m) : EV (d + 1) 85 [jP (some m), jI x] (mhp h m S) (.inl (some (jI 0))) (mhp h m (uI S 16 x)) :=
  jcI_r (w_X4_fails (by simp only [onr_s, jnm_iff, mh_kd, mh_ln, mh_OP, mh_OI, mok_4 hm, true_and, and_true, mh_wI]))
theorem p_refuses {x : Int32} (hm : mOk h m) : EV (d + 1) 119 [jP (some m), jI x] (mhp h m S) (.inl (some (jI 0))) (mhp h m (uI S 16 x)) :=
  jcI_r (w_X4_refuses (by simp only [onr_s, jnm_iff, mh_kd, mh_ln, mh_OP, mh_OI, mok_4 hm, true_and, and_true, mh_wI]; exact jbo_0))
/-- a test's answer -/
def zb (b : Bool) : Int32 := if b then 1 else 0
theorem zb_jbo (b : Bool) : jbo (zb b) := by
  cases b
  · exact Or.inl rfl
  · exact Or.inr rfl
theorem p_isBetween {x l u : Int32} {g : jH} : EV (d + 1) 84 [jI x, jI l, jI u] g (.inl (some (jI (zb (decide (l ≤ x ∧ x ≤ u)))))) g := by
  refine jcI_r (w_X4_isBetween ⟨fun q => ⟨jbo_0, ?_, rfl⟩, fun q => ⟨fun r => ⟨jbo_0, ?_, rfl⟩, fun r => ⟨jbo_1, ?_, rfl⟩⟩⟩)
  · rw [decide_eq_false (fun z => absurd q (Int32.not_lt.mpr z.1))]; rfl
  · rw [decide_eq_false (fun z => absurd r (Int32.not_lt.mpr z.2))]; rfl
  · rw [decide_eq_true ⟨Int32.not_lt.mp q, Int32.not_lt.mp r⟩]; rfl
theorem p_isFunction {x : Int32} {g : jH} : EV (d + 1) 87 [jI x] g (.inl (some (jI (zb (decide (0 ≤ x ∧ x < 4)))))) g := by
  refine jcI_r (w_X4_isFunction ⟨fun q => ⟨jbo_0, ?_, rfl⟩, fun q => ⟨fun r => ⟨jbo_0, ?_, rfl⟩, fun r => ⟨jbo_1, ?_, rfl⟩⟩⟩)
  · rw [decide_eq_false (fun z => absurd q (Int32.not_lt.mpr z.1))]; rfl
  · rw [decide_eq_false (fun z => absurd z.2 (Int32.not_lt.mpr r))]; rfl
  · rw [decide_eq_true ⟨Int32.not_lt.mp q, Int32.not_le.mp r⟩]; rfl
theorem p_isVariable {x : Int32} {g : jH} : EV (d + 1) 107 [jI x] g (.inl (some (jI (zb (decide (0 ≤ x ∧ x < 20)))))) g := by
  refine jcI_r (w_X4_isVariable ⟨fun q => ⟨jbo_0, ?_, rfl⟩, fun q => ⟨fun r => ⟨jbo_0, ?_, rfl⟩, fun r => ⟨jbo_1, ?_, rfl⟩⟩⟩)
  · rw [decide_eq_false (fun z => absurd q (Int32.not_lt.mpr z.1))]; rfl
  · rw [decide_eq_false (fun z => absurd z.2 (Int32.not_lt.mpr r))]; rfl
  · rw [decide_eq_true ⟨Int32.not_lt.mp q, Int32.not_le.mp r⟩]; rfl
theorem vp_lit {x : Int32} {n N : Nat} (e : x = nI n) (h : n < N) (hN : N < 2 ^ 31) : vp_in x N := by rw [e]; exact vp_in_nI h hN
theorem p_statements {B : Nat → List St} (hm : mOk h m) (hB : mBs S B) : EV (d + 1) 93 [jP (some m)] (mhp h m S) (.inl (some (jI (nI (nst B))))) (mhp h m S) := by
  refine jcI_r (w_X4_statements ?_)
  simp only [onr_s, jnm_iff, mh_kd, mh_ln, mh_OP, mh_OI, mok_4 hm, true_and, and_true, mp_5 hm, mk_5 hm, ml_5 hm, mr_5]
  refine ⟨vp_lit (n := 0) rfl (by decide) (by decide), vp_lit (n := 1) rfl (by decide) (by decide), vp_lit (n := 2) rfl (by decide) (by decide), vp_lit (n := 3) rfl (by decide) (by decide), ?_⟩
  show S.2.1 5 0 + S.2.1 5 1 + S.2.1 5 2 + S.2.1 5 3 = _
  rw [(hB 0 (by decide)).1, (hB 1 (by decide)).1, (hB 2 (by decide)).1, (hB 3 (by decide)).1, nI_add, nI_add, nI_add]
  rfl
/-- how many statements stand ahead of a function's -/
def pre (B : Nat → List St) : Nat → Nat
  | 0 => 0
  | f + 1 => pre B f + (B f).length
theorem pre_4 (B : Nat → List St) : pre B 4 = nst B := by
  unfold nst
  simp [pre]
theorem pre_le {B : Nat → List St} {f g : Nat} (h : f ≤ g) : pre B f ≤ pre B g := by
  induction g with
  | zero => rw [Nat.le_zero.mp h]; exact Nat.le_refl _
  | succ g ih =>
    rcases Nat.lt_or_ge f (g + 1) with q | q
    · exact Nat.le_trans (ih (by omega)) (Nat.le_add_right _ _)
    · rw [show f = g + 1 by omega]; exact Nat.le_refl _
theorem pre_bound {B : Nat → List St} (hB : mBs S B) {f : Nat} (hf : f ≤ 4) : pre B f ≤ 12 * f := by
  induction f with
  | zero => exact Nat.le_refl _
  | succ f ih =>
    have := sz_le hB (f := f) (by omega)
    have := ih (by omega)
    show pre B f + (B f).length ≤ _
    omega
/-- the place of a statement by its number -/
theorem p_placeOf {B : Nat → List St} (hm : mOk h m) (hB : mBs S B) {f k : Nat} (hf : f < 4) (hk : k < (B f).length) : EV (d + 1) 96 [jP (some m), jI (nI (pre B f + k))] (mhp h m S) (.inl (some (jI (nI (12 * f + k))))) (mhp h m S) := by
  refine jcI_r (w_X4_placeOf ?_)
  have key : ∀ n g : Nat, g + n = f → jWX (tb_X4_placeOf (EV d)) (jRI fun z e => z = nI (12 * f + k) ∧ e = mhp h m S) 4 [some (jP (some m)), none, some (jI (nI (pre B f + k - pre B g))), some (jI (nI g))] [] (mhp h m S) := by
    intro n
    induction n with
    | zero =>
      intro g hg
      have hg : g = f := by omega
      subst hg
      refine b_X4_placeOf_4 ?_
      have hb := sz_le hB hf
      simp only [onr_s, jnm_iff, mh_kd, mh_ln, mh_OP, mh_OI, mok_4 hm, true_and, and_true, mp_5 hm, mk_5 hm, ml_5 hm, mr_5]
      refine ⟨vp_in_nI (by omega) (by decide), fun q => ?_, fun q => ?_⟩
      · exact ⟨by show nI 12 * nI g + nI _ = _; rw [pk_mul, nI_add]; congr 1; omega, rfl⟩
      · exfalso
        apply q
        rw [cl_n (by omega), (hB _ hf).1, nI_ltI (by omega) (by omega)]
        omega
    | succ n ih =>
      intro g hg
      refine b_X4_placeOf_4 ?_
      have hb := sz_le hB (f := g) (by omega)
      have hpf := pre_bound hB (f := f) (by omega)
      have hfk := sz_le hB hf
      have hle : pre B (g + 1) ≤ pre B f := pre_le (by omega)
      have hsg : pre B (g + 1) = pre B g + (B g).length := rfl
      simp only [onr_s, jnm_iff, mh_kd, mh_ln, mh_OP, mh_OI, mok_4 hm, true_and, and_true, mp_5 hm, mk_5 hm, ml_5 hm, mr_5]
      rw [cl_n (show g < 2 ^ 31 by omega), (hB g (by omega)).1]
      refine ⟨vp_in_nI (by omega) (by decide), fun q => ?_, fun q => ⟨vp_in_nI (by omega) (by decide), ?_⟩⟩
      · exfalso
        rw [nI_ltI (by omega) (by omega)] at q
        omega
      · have h2 := ih (g + 1) (by omega)
        rw [pk_sub (by omega), nI_1, show pre B f + k - pre B g - (B g).length = pre B f + k - pre B (g + 1) by omega]
        exact h2
  have := key f 0 (by omega)
  exact this
theorem dn {n : Nat} {P : Nat → Prop} (hn : P n) (hs : ∀ k, k < n → P (k + 1) → P k) : ∀ k, k ≤ n → P k := by
  have h : ∀ i k, k + i = n → P k := by
    intro i
    induction i with
    | zero => intro k hk; rw [show k = n by omega]; exact hn
    | succ i ih => intro k hk; exact hs k (by omega) (ih (k + 1) (by omega))
  intro k hk
  exact h (n - k) k (by omega)
theorem n_2 : (2 : Int32) = nI 2 := rfl
theorem n_3 : (3 : Int32) = nI 3 := rfl
theorem n_4 : (4 : Int32) = nI 4 := rfl
theorem n_6 : (6 : Int32) = nI 6 := rfl
theorem n_12 : (12 : Int32) = nI 12 := rfl
theorem n_20 : (20 : Int32) = nI 20 := rfl
theorem n_64 : (64 : Int32) = nI 64 := rfl
theorem n_128 : (128 : Int32) = nI 128 := rfl
theorem p_numberOf {B : Nat → List St} (hm : mOk h m) (hB : mBs S B) {f k : Nat} (hf : f < 4) (hk : k < 12) : EV (d + 1) 238 [jP (some m), jI (nI (12 * f + k))] (mhp h m S) (.inl (some (jI (nI (pre B f + k))))) (mhp h m S) := by
  refine jcI_r (w_X4_numberOf ⟨by decide, ?_⟩)
  have hpf := pre_bound hB (f := f) (by omega)
  have hdiv : nI (12 * f + k) / nI 12 = nI f := by rw [pk_div (by omega) (by omega) (by omega)]; congr 1; omega
  have key := dn (n := f) (P := fun g => jWX (tb_X4_numberOf (EV d)) (jRI fun z e => z = nI (pre B f + k) ∧ e = mhp h m S) 7 [some (jP (some m)), some (jI (nI (12 * f + k))), some (jI (nI (k + pre B g))), some (jI (nI g))] [] (mhp h m S)) ?_ ?_
  · have h0 := key 0 (by omega)
    rw [n_12, pk_rem (by omega) (by omega) (by omega), show (12 * f + k) % 12 = k by omega]
    exact h0
  · refine b_X4_numberOf_7 ⟨by decide, fun q => ⟨by rw [Nat.add_comm], rfl⟩, fun q => absurd ?_ q⟩
    rw [n_12, hdiv]
    exact Int32.le_refl _
  · intro g hg ih
    refine b_X4_numberOf_7 ⟨by decide, fun q => ?_, fun q => ?_⟩
    · exfalso
      rw [n_12, hdiv, nI_leI (by omega) (by omega)] at q
      omega
    · have hb := sz_le hB (f := g) (by omega)
      simp only [onr_s, jnm_iff, mh_kd, mh_ln, mh_OP, mh_OI, mok_4 hm, true_and, and_true, mp_5 hm, mk_5 hm, ml_5 hm, mr_5]
      rw [cl_n (show g < 2 ^ 31 by omega), (hB g (by omega)).1]
      refine ⟨vp_in_nI (by omega) (by decide), ?_⟩
      rw [nI_add, nI_1, Nat.add_assoc]
      exact ih
/-- statements of a kind among the first k -/
def cntp (b : List St) (kd k : Nat) : Nat := (b.take k).countP (fun st => st.1 == kd)
theorem cntp_0 {b : List St} {kd : Nat} : cntp b kd 0 = 0 := by simp [cntp]
theorem cntp_s {b : List St} {kd k : Nat} {st : St} (h : b[k]? = some st) : cntp b kd (k + 1) = cntp b kd k + (if st.1 = kd then 1 else 0) := by
  unfold cntp
  rw [List.take_succ, h, List.countP_append]
  congr 1
  by_cases e : st.1 = kd
  · simp [e]
  · simp [e]
theorem cntp_le {b : List St} {kd k : Nat} : cntp b kd k ≤ k := by
  unfold cntp
  exact Nat.le_trans List.countP_le_length (by rw [List.length_take]; omega)
theorem cntp_len {b : List St} {kd : Nat} : cntp b kd b.length = b.countP (fun st => st.1 == kd) := by
  unfold cntp
  rw [List.take_length]
/-- statements of a kind in the functions ahead of g, but w's -/
def mny (B : Nat → List St) (kd : Nat) (w : Int32) : Nat → Nat
  | 0 => 0
  | g + 1 => mny B kd w g + (if nI g = w then 0 else cntp (B g) kd (B g).length)
theorem mny_le {B : Nat → List St} {kd : Nat} {w : Int32} {g : Nat} : mny B kd w g ≤ pre B g := by
  induction g with
  | zero => exact Nat.le_refl _
  | succ g ih =>
    show mny B kd w g + _ ≤ pre B g + (B g).length
    have := cntp_le (b := B g) (kd := kd) (k := (B g).length)
    split <;> omega
theorem getb {b : List St} {k : Nat} (h : k < b.length) : ∃ st, b[k]? = some st := ⟨_, List.getElem?_eq_getElem h⟩
theorem p_many {B : Nat → List St} (hm : mOk h m) (hB : mBs S B) {kd : Nat} (hkd : kd < 7) {w : Int32} : EV (d + 1) 89 [jP (some m), jI (nI kd), jI w] (mhp h m S) (.inl (some (jI (nI (mny B kd w 4))))) (mhp h m S) := by
  refine jcI_r (w_X4_many ?_)
  refine dn (n := 4) (P := fun f => jWX (tb_X4_many (EV d)) (jRI fun z e => z = nI (mny B kd w 4) ∧ e = mhp h m S) 5 [some (jP (some m)), some (jI (nI kd)), some (jI w), some (jI (nI (mny B kd w f))), some (jI (nI f)), none] [] (mhp h m S)) ?_ ?_ 0 (by omega)
  · exact b_X4_many_5 ⟨fun q => ⟨rfl, rfl⟩, fun q => absurd (Int32.le_refl _) q⟩
  · intro f hf ih
    have hb := sz_le hB hf
    have hmn := mny_le (B := B) (kd := kd) (w := w) (g := f)
    have hpb := pre_bound hB (f := f) (by omega)
    refine b_X4_many_5 ⟨fun q => ?_, fun q => ?_⟩
    · exfalso
      rw [n_4, nI_leI (by omega) (by omega)] at q
      omega
    · refine dn (n := (B f).length) (P := fun k => jWX (tb_X4_many (EV d)) (jRI fun z e => z = nI (mny B kd w 4) ∧ e = mhp h m S) 14 [some (jP (some m)), some (jI (nI kd)), some (jI w), some (jI (nI (mny B kd w f + (if nI f = w then 0 else cntp (B f) kd k)))), some (jI (nI f)), some (jI (nI k))] [] (mhp h m S)) ?_ ?_ 0 (by omega) |> fun z => by
          have e0 : (if nI f = w then 0 else cntp (B f) kd 0) = 0 := by rw [cntp_0]; split <;> rfl
          rw [e0] at z
          exact z
      · refine b_X4_many_14 ?_
        simp only [onr_s, jnm_iff, mh_kd, mh_ln, mh_OP, mh_OI, mok_4 hm, true_and, and_true, mp_5 hm, mk_5 hm, ml_5 hm, mr_5]
        rw [cl_n (show f < 2 ^ 31 by omega), (hB f hf).1]
        refine ⟨vp_in_nI (by omega) (by decide), fun q => ?_, fun q => absurd (Int32.le_refl _) q⟩
        rw [nI_1]
        exact ih
      · intro k hk ihk
        obtain ⟨st, hst⟩ := getb hk
        obtain ⟨g1, g2, g3, g4, g5, g6, g7, g8⟩ := (hB f hf).2.2 k st hst
        rw [cntp_s hst] at ihk
        refine b_X4_many_14 ?_
        simp only [onr_s, jnm_iff, mh_kd, mh_ln, mh_OP, mh_OI, mok_4 hm, true_and, and_true, mp_5 hm, mk_5 hm, ml_5 hm, mr_5, mp_1 hm, mk_1 hm, ml_1 hm, mr_1]
        rw [cl_n (show f < 2 ^ 31 by omega), (hB f hf).1]
        refine ⟨vp_in_nI (by omega) (by decide), fun q => ?_, fun q => ⟨fun r => ?_, fun r => ?_⟩⟩
        · exfalso
          rw [nI_leI (by omega) (by omega)] at q
          omega
        · rw [if_pos r] at ihk ⊢
          rw [nI_1]
          have e : nI (mny B kd w f + 0) + (0 : Int32) = nI (mny B kd w f + 0) := by rw [n_0, nI_add]
          rw [e]
          exact ihk
        · rw [if_neg r] at ihk ⊢
          have e12 : (12 : Int32) * nI f + nI k = nI (12 * f + k) := by rw [n_12, pk_mul, nI_add]
          rw [e12, cl_n (show 12 * f + k < 2 ^ 31 by omega), g1, nI_1]
          refine ⟨vp_in_nI (by omega) (by decide), fun s => ?_, fun s => ?_⟩
          · rw [nI_eq (by omega) (by omega)] at s
            rw [if_pos s] at ihk
            rw [nI_1, Nat.add_assoc]
            exact ihk
          · rw [nI_eq (by omega) (by omega)] at s
            rw [if_neg s, Nat.add_zero] at ihk
            have e : ∀ z, nI z + (0 : Int32) = nI z := fun z => by rw [n_0, nI_add, Nat.add_zero]
            rw [e, nI_1]
            exact ihk
/-- all statements, in the order of their numbers -/
def fl (B : Nat → List St) : List St := B 0 ++ (B 1 ++ (B 2 ++ B 3))
theorem fl_len (B : Nat → List St) : (fl B).length = nst B := by
  unfold fl nst
  simp only [List.length_append]
  omega
theorem fl_at {B : Nat → List St} {f k : Nat} (hf : f < 4) (hk : k < (B f).length) : (fl B)[pre B f + k]? = (B f)[k]? := by
  unfold fl
  have e1 : pre B 1 = (B 0).length := by simp [pre]
  have e2 : pre B 2 = (B 0).length + (B 1).length := by simp [pre]
  have e3 : pre B 3 = (B 0).length + (B 1).length + (B 2).length := by simp [pre]
  match f, hf with
  | 0, _ => rw [show pre B 0 = 0 from rfl, Nat.zero_add, List.getElem?_append_left hk]
  | 1, _ => rw [e1, List.getElem?_append_right (by omega), Nat.add_sub_cancel_left, List.getElem?_append_left hk]
  | 2, _ => rw [e2, List.getElem?_append_right (by omega), List.getElem?_append_right (by omega), List.getElem?_append_left (by omega)]; congr 1; omega
  | 3, _ => rw [e3, List.getElem?_append_right (by omega), List.getElem?_append_right (by omega), List.getElem?_append_right (by omega)]; congr 1; omega
theorem pre_split {B : Nat → List St} {s : Nat} (hs : s < nst B) : ∃ f k, f < 4 ∧ k < (B f).length ∧ s = pre B f + k := by
  have e1 : pre B 1 = (B 0).length := by simp [pre]
  have e2 : pre B 2 = (B 0).length + (B 1).length := by simp [pre]
  have e3 : pre B 3 = (B 0).length + (B 1).length + (B 2).length := by simp [pre]
  unfold nst at hs
  by_cases h0 : s < (B 0).length
  · exact ⟨0, s, by decide, h0, (Nat.zero_add s).symm⟩
  · by_cases h1 : s < (B 0).length + (B 1).length
    · exact ⟨1, s - (B 0).length, by decide, by omega, by omega⟩
    · by_cases h2 : s < (B 0).length + (B 1).length + (B 2).length
      · exact ⟨2, s - ((B 0).length + (B 1).length), by decide, by omega, by omega⟩
      · exact ⟨3, s - ((B 0).length + (B 1).length + (B 2).length), by decide, by omega, by omega⟩
theorem pre_lt {B : Nat → List St} {f k : Nat} (hf : f < 4) (hk : k < (B f).length) : pre B f + k < nst B := by
  have h1 : pre B (f + 1) ≤ pre B 4 := pre_le (by omega)
  rw [pre_4] at h1
  have h2 : pre B (f + 1) = pre B f + (B f).length := rfl
  omega
/-- the number of the site of an allocation: the allocations ahead of it -/
theorem p_siteOf {B : Nat → List St} (hm : mOk h m) (hB : mBs S B) {f k : Nat} (hf : f < 4) (hk : k < (B f).length) : EV (d + 2) 206 [jP (some m), jI (nI (12 * f + k))] (mhp h m S) (.inl (some (jI (nI (cntp (fl B) 4 (pre B f + k)))))) (mhp h m S) := by
  refine jcI_r (w_X4_siteOf ?_)
  have hb := sz_le hB hf
  have hpb := pre_bound hB (f := f) (by omega)
  have hlt := pre_lt hf hk
  have hnb := pre_bound hB (f := 4) (by omega)
  rw [pre_4] at hnb
  refine dn (n := pre B f + k) (P := fun s => jWX (tb_X4_siteOf (EV (d + 1))) (jRI fun z e => z = nI (cntp (fl B) 4 (pre B f + k)) ∧ e = mhp h m S) 4 [some (jP (some m)), some (jI (nI (12 * f + k))), some (jI (nI (cntp (fl B) 4 s))), some (jI (nI s))] [] (mhp h m S)) ?_ ?_ 0 (by omega) |> fun z => by
    rw [cntp_0] at z
    exact z
  · refine b_X4_siteOf_4 ⟨mok_4 hm, jcI_i (p_numberOf hm hB hf (by omega)) ⟨fun q => ⟨rfl, rfl⟩, fun q => absurd (Int32.le_refl _) q⟩⟩
  · intro s hs ih
    obtain ⟨f2, k2, hf2, hk2, rfl⟩ := pre_split (B := B) (s := s) (by omega)
    have hb2 := sz_le hB hf2
    obtain ⟨st, hst⟩ := getb hk2
    obtain ⟨g1, g2, g3, g4, g5, g6, g7, g8⟩ := (hB f2 hf2).2.2 k2 st hst
    have hfl := (fl_at hf2 hk2).trans hst
    rw [cntp_s hfl] at ih
    refine b_X4_siteOf_4 ⟨mok_4 hm, jcI_i (p_numberOf hm hB hf (by omega)) ⟨fun q => ?_, fun q => ⟨mok_4 hm, mok_4 hm, jcI_i (p_placeOf hm hB hf2 hk2) ?_⟩⟩⟩
    · exfalso
      rw [nI_leI (by omega) (by omega)] at q
      omega
    · simp only [onr_s, jnm_iff, mh_kd, mh_ln, mh_OP, mh_OI, mok_4 hm, true_and, and_true, mp_1 hm, mk_1 hm, ml_1 hm, mr_1]
      rw [cl_n (show 12 * f2 + k2 < 2 ^ 31 by omega), g1, n_4]
      refine ⟨vp_in_nI (by omega) (by decide), fun r => ?_, fun r => ?_⟩
      · rw [nI_eq (by omega) (by omega)] at r
        rw [if_pos r] at ih
        rw [nI_1, nI_1]
        exact ih
      · rw [nI_eq (by omega) (by omega)] at r
        rw [if_neg r, Nat.add_zero] at ih
        have e : ∀ z, nI z + (0 : Int32) = nI z := fun z => by rw [n_0, nI_add, Nat.add_zero]
        rw [e, nI_1]
        exact ih
/-- the sites -/
def nsi (B : Nat → List St) : Nat := cntp (fl B) 4 (nst B)
theorem mny_all {B : Nat → List St} {kd : Nat} : mny B kd (-1) 4 = cntp (fl B) kd (nst B) := by
  have hne : ∀ g, g < 4 → ¬ nI g = (-1 : Int32) := by decide
  have e : ∀ g, g < 4 → (if nI g = (-1 : Int32) then 0 else cntp (B g) kd (B g).length) = (B g).countP (fun st => st.1 == kd) := fun g hg => by rw [if_neg (hne g hg), cntp_len]
  have h4 : mny B kd (-1) 4 = 0 + (if nI 0 = (-1 : Int32) then 0 else cntp (B 0) kd (B 0).length) + (if nI 1 = (-1 : Int32) then 0 else cntp (B 1) kd (B 1).length) + (if nI 2 = (-1 : Int32) then 0 else cntp (B 2) kd (B 2).length) + (if nI 3 = (-1 : Int32) then 0 else cntp (B 3) kd (B 3).length) := rfl
  rw [h4, e 0 (by decide), e 1 (by decide), e 2 (by decide), e 3 (by decide), ← fl_len, cntp_len]
  unfold fl
  simp only [List.countP_append]
  omega
theorem p_sites {B : Nat → List St} (hm : mOk h m) (hB : mBs S B) : EV (d + 2) 98 [jP (some m)] (mhp h m S) (.inl (some (jI (nI (nsi B))))) (mhp h m S) := by
  refine jcI_r (w_X4_sites ⟨mok_4 hm, jcI_i (x := nI (nsi B)) ?_ ⟨rfl, rfl⟩⟩)
  have h1 := p_many (d := d) hm hB (kd := 4) (by decide) (w := -1)
  rw [mny_all] at h1
  exact h1
end MA
