/-! THE MODEL'S PARSER (own work) -/
set_option maxRecDepth 100000
section MP
variable {h : jH} {m d : Nat} {S : MS} {t : Nat → Nat} {len : Nat}
/-- the text as the model keeps it -/
def mT (S : MS) (t : Nat → Nat) (len : Nat) : Prop := S.1 24 = nI len ∧ len ≤ 80 ∧ (∀ k, k < len → S.2.1 6 k = nI (t k) ∧ 33 ≤ t k ∧ t k ≤ 126) ∧ tEnd t len
/-- the model's state, at place i of its text -/
abbrev aS (S : MS) (i : Nat) : MS := uI S 25 (nI i)
theorem aS_24 {i : Nat} : (aS S i).1 24 = S.1 24 := rfl
theorem aS_25 {i : Nat} : (aS S i).1 25 = nI i := rfl
theorem aS_aS {i : Nat} {v : Int32} : uI (uI S 25 v) 25 (nI i) = aS S i := by
  show ((fun g => if g = 25 then nI i else if g = 25 then v else S.1 g), _, _) = ((fun g => if g = 25 then nI i else S.1 g), _, _)
  congr 1
  funext g
  by_cases e : g = 25
  · rw [if_pos e, if_pos e]
  · rw [if_neg e, if_neg e, if_neg e]
def nx (t : Nat → Nat) (len i : Nat) : Int32 := if i < len then nI (t i) else -1
theorem tle {S : MS} (hT : mT S t len) (i : Nat) : t i ≤ 126 := by
  by_cases e : i < len
  · exact (hT.2.2.1 i e).2.2
  · rw [hT.2.2.2 i (by omega)]; omega
theorem nx_eq (hT : mT S t len) {i c : Nat} (h1 : 1 ≤ c) (h2 : c < 1000) : nx t len i = nI c ↔ t i = c := by
  unfold nx
  by_cases e : i < len
  · rw [if_pos e]
    have := tle hT i
    exact nI_eq (by omega) (by omega)
  · rw [if_neg e, hT.2.2.2 i (by omega)]
    refine ⟨fun q => ?_, fun q => by omega⟩
    exfalso
    have q2 : (-1 : Int32).toInt = (nI c).toInt := by rw [q]
    rw [nI_toInt (by omega)] at q2
    have : (-1 : Int32).toInt = -1 := by decide
    omega
theorem p_next {i : Nat} (hm : mOk h m) (hT : mT S t len) (hi : i ≤ len) : EV (d + 1) 234 [jP (some m)] (mhp h m (aS S i)) (.inl (some (jI (nx t len i)))) (mhp h m (aS S i)) := by
  have hl := hT.2.1
  refine jcI_r (w_X4_next ?_)
  simp only [onr_s, jnm_iff, mh_kd, mh_ln, mh_OP, mh_OI, mok_4 hm, true_and, and_true, mp_6 hm, mk_6 hm, ml_6 hm, mr_6]
  rw [aS_24, aS_25, hT.1, nI_leI (by omega) (by omega)]
  refine ⟨fun q => ?_, fun q => ⟨vp_in_nI (by omega) (by decide), ?_⟩⟩
  · unfold nx; rw [if_neg (by omega)]
  · unfold nx
    rw [if_pos (by omega), cl_n (by omega)]
    exact (hT.2.2.1 i (by omega)).1
theorem p_skips {i c : Nat} (hm : mOk h m) (hT : mT S t len) (hi : i ≤ len) (h1 : 1 ≤ c) (h2 : c < 1000) : EV (d + 2) 168 [jP (some m), jI (nI c)] (mhp h m (aS S i)) (.inl (some (jI (zb (decide (t i = c)))))) (mhp h m (aS S (if t i = c then i + 1 else i))) := by
  refine jcI_r (w_X4_skips ⟨mok_4 hm, jcI_i (p_next hm hT hi) ?_⟩)
  simp only [onr_s, jnm_iff, mh_kd, mh_ln, mh_OP, mh_OI, mok_4 hm, true_and, and_true, mh_wI, nx_eq hT h1 h2]
  rw [aS_25, nI_1, aS_aS]
  refine ⟨fun q => ⟨jbo_1, ?_, ?_⟩, fun q => ⟨jbo_0, ?_, ?_⟩⟩
  · rw [decide_eq_true q]; rfl
  · rw [if_pos q]
  · rw [decide_eq_false q]; rfl
  · rw [if_neg q]
/-- an int that is a name's number, or -1 -/
def oI (o : PR Nat) : Int32 := match o with
  | .inl _ => -1
  | .inr q => nI q.1
def oP (o : PR Nat) : Nat := match o with
  | .inl p => p
  | .inr q => q.2
theorem nx_btw (hT : mT S t len) {i a b : Nat} (h1 : 1 ≤ a) (h3 : a < 1000) (h2 : b < 1000) : (nI a ≤ nx t len i ∧ nx t len i ≤ nI b) ↔ (a ≤ t i ∧ t i ≤ b) := by
  unfold nx
  by_cases e : i < len
  · rw [if_pos e]
    have := tle hT i
    rw [nI_leI (by omega) (by omega), nI_leI (by omega) (by omega)]
  · rw [if_neg e, hT.2.2.2 i (by omega)]
    refine ⟨fun q => ?_, fun q => by omega⟩
    exfalso
    have q2 := Int32.le_iff_toInt_le.mp q.1
    rw [nI_toInt (by omega)] at q2
    have : (-1 : Int32).toInt = -1 := by decide
    omega
theorem p_name {f i : Nat} (hm : mOk h m) (hT : mT S t len) (hi : i ≤ len) (hf : f < 4) : EV (d + 2) 230 [jP (some m), jI (nI f)] (mhp h m (aS S i)) (.inl (some (jI (oI (pv t f i))))) (mhp h m (aS S (oP (pv t f i)))) := by
  refine jcI_r (w_X4_name ⟨mok_4 hm, jcI_i (p_next hm hT hi) (jcI_i p_isBetween ?_)⟩)
  have hx : ∀ v, v < 8 → pname (t i) = some v → jWX (tb_X4_name (EV (d + 1))) (jRI fun z e => z = oI (pv t f i) ∧ e = mhp h m (aS S (oP (pv t f i)))) 66 [some (jP (some m)), some (jI (nI f)), none, none] [jI (nI v)] (mhp h m (aS S i)) := by
    intro v hv hp
    have e : pv t f i = .inr (gvar f v, i + 1) := by unfold pv; rw [hp]
    rw [e]
    refine b_X4_name_66 ⟨fun q => ?_, fun q => absurd (nI_pos' (by omega)) q⟩
    simp only [onr_s, jnm_iff, mh_kd, mh_ln, mh_OP, mh_OI, mok_4 hm, true_and, and_true, mh_wI]
    rw [aS_25, nI_1, aS_aS]
    refine ⟨fun r => ⟨?_, rfl⟩, fun r => ⟨?_, rfl⟩⟩
    · rw [n_4, nI_leI (by omega) (by omega)] at r
      rw [n_4, pk_mul, nI_add]
      show _ = nI (gvar f v)
      unfold gvar
      rw [if_neg (by omega)]
    · rw [n_4, nI_leI (by omega) (by omega)] at r
      show _ = nI (gvar f v)
      unfold gvar
      rw [if_pos (by omega)]
  have hn : pname (t i) = none → jWX (tb_X4_name (EV (d + 1))) (jRI fun z e => z = oI (pv t f i) ∧ e = mhp h m (aS S (oP (pv t f i)))) 66 [some (jP (some m)), some (jI (nI f)), none, none] [jI (-1 : Int32)] (mhp h m (aS S i)) := by
    intro hp
    have e : pv t f i = .inl i := by unfold pv; rw [hp]
    rw [e]
    exact b_X4_name_66 ⟨fun q => absurd q (by decide), fun q => ⟨rfl, rfl⟩⟩
  have hb : (nI 97 ≤ nx t len i ∧ nx t len i ≤ nI 100) ↔ (97 ≤ t i ∧ t i ≤ 100) := nx_btw hT (by decide) (by decide) (by decide)
  have e112 : (nx t len i = (112 : Int32)) ↔ t i = 112 := nx_eq hT (c := 112) (by decide) (by decide)
  have e114 : (nx t len i = (114 : Int32)) ↔ t i = 114 := nx_eq hT (c := 114) (by decide) (by decide)
  have e120 : (nx t len i = (120 : Int32)) ↔ t i = 120 := nx_eq hT (c := 120) (by decide) (by decide)
  have e121 : (nx t len i = (121 : Int32)) ↔ t i = 121 := nx_eq hT (c := 121) (by decide) (by decide)
  rw [e112, e114, e120, e121]
  by_cases hr : 97 ≤ t i ∧ t i ≤ 100
  · have hd : decide ((97 : Int32) ≤ nx t len i ∧ nx t len i ≤ (100 : Int32)) = true := decide_eq_true (hb.mpr hr)
    rw [hd]
    refine ⟨fun q => absurd q (by decide), fun _ => ?_⟩
    have hp : pname (t i) = some (t i - 97) := by unfold pname; rw [if_pos hr]
    have hlt : i < len := tlt hT.2.2.2 (by omega)
    have e : nx t len i - (97 : Int32) = nI (t i - 97) := by
      unfold nx
      rw [if_pos hlt]
      exact pk_sub (a := t i) (b := 97) (by omega)
    rw [e]
    exact hx _ (by omega) hp
  · have hd : decide ((97 : Int32) ≤ nx t len i ∧ nx t len i ≤ (100 : Int32)) = false := decide_eq_false (fun q => hr (hb.mp q))
    rw [hd]
    refine ⟨fun _ => ⟨fun q => ?_, fun q1 => ⟨fun q => ?_, fun q2 => ⟨fun q => ?_, fun q3 => ⟨fun q => ?_, fun q4 => ?_⟩⟩⟩⟩, fun q => absurd rfl q⟩
    · exact hx 4 (by decide) (by unfold pname; rw [if_neg hr, if_pos q])
    · exact hx 5 (by decide) (by unfold pname; rw [if_neg hr, if_neg q1, if_pos q])
    · exact hx 6 (by decide) (by unfold pname; rw [if_neg hr, if_neg q1, if_neg q2, if_pos q])
    · exact hx 7 (by decide) (by unfold pname; rw [if_neg hr, if_neg q1, if_neg q2, if_neg q3, if_pos q])
    · exact hn (by unfold pname; rw [if_neg hr, if_neg q1, if_neg q2, if_neg q3, if_neg q4])
theorem p_digit {i most : Nat} (hm : mOk h m) (hT : mT S t len) (hi : i ≤ len) (hM : most < 10) : EV (d + 2) 233 [jP (some m), jI (nI most)] (mhp h m (aS S i)) (.inl (some (jI (oI (pdig t most i))))) (mhp h m (aS S (oP (pdig t most i)))) := by
  refine jcI_r (w_X4_digit ⟨mok_4 hm, jcI_i (p_next hm hT hi) (jcI_i p_isBetween ?_)⟩)
  have e48 : (48 : Int32) + nI most = nI (48 + most) := nI_add 48 most
  have hb : (nI 48 ≤ nx t len i ∧ nx t len i ≤ nI (48 + most)) ↔ (48 ≤ t i ∧ t i ≤ 48 + most) := nx_btw hT (by decide) (by decide) (by omega)
  rw [e48]
  by_cases hr : 48 ≤ t i ∧ t i ≤ 48 + most
  · have hd : decide ((48 : Int32) ≤ nx t len i ∧ nx t len i ≤ nI (48 + most)) = true := decide_eq_true (hb.mpr hr)
    have hlt : i < len := tlt hT.2.2.2 (by omega)
    have hl := hT.2.1
    have e : pdig t most i = .inr (t i - 48, i + 1) := by unfold pdig; rw [if_pos hr]
    rw [hd, e]
    refine ⟨fun q => absurd q (by decide), fun _ => ?_⟩
    simp only [onr_s, jnm_iff, mh_kd, mh_ln, mh_OP, mh_OI, mok_4 hm, true_and, and_true, mh_wI]
    rw [aS_25, nI_1, aS_aS]
    simp only [onr_s, jnm_iff, mh_kd, mh_ln, mh_OP, mh_OI, mok_4 hm, true_and, and_true, mp_6 hm, mk_6 hm, ml_6 hm, mr_6]
    rw [aS_25, nI_pred]
    refine ⟨vp_in_nI (by omega) (by decide), ?_, rfl⟩
    rw [cl_n (by omega)]
    show S.2.1 6 i - 48 = _
    rw [(hT.2.2.1 i hlt).1]
    exact pk_sub (a := t i) (b := 48) (by omega)
  · have hd : decide ((48 : Int32) ≤ nx t len i ∧ nx t len i ≤ nI (48 + most)) = false := decide_eq_false (fun q => hr (hb.mp q))
    have e : pdig t most i = .inl i := by unfold pdig; rw [if_neg hr]
    rw [hd, e]
    exact ⟨fun _ => ⟨rfl, rfl⟩, fun q => absurd rfl q⟩
/-- what is read is put into the scratch body -/
def putA (S : MS) (n : Nat) (st : St) : MS := if n < 12 then uA (uA (uA (uA S 1 (48 + n) (nI st.1)) 2 (48 + n) (nI st.2.1)) 3 (48 + n) (nI st.2.2.1)) 4 (48 + n) (nI st.2.2.2) else S
def putS (S : MS) (n : Nat) (st : St) : MS := uI (uI (uA (putA S n st) 5 4 (nI (n + 1))) 28 (S.1 28 + zb (decide (st.1 = 4)))) 29 (S.1 29 + zb (decide (st.1 = 6)))
theorem putA_1 {n : Nat} {st : St} : (putA S n st).1 = S.1 := by unfold putA; split <;> rfl
theorem putA_5 {n k : Nat} {st : St} : (putA S n st).2.1 5 k = S.2.1 5 k := by unfold putA; split <;> rfl
theorem p_puts {n : Nat} {st : St} (hm : mOk h m) (hn : S.2.1 5 4 = nI n) (hn2 : n < 100) (hw : wfS st) : EV (d + 1) 231 [jP (some m), jI (nI st.1), jI (nI st.2.1), jI (nI st.2.2.1), jI (nI st.2.2.2)] (mhp h m S) (.inl none) (mhp h m (putS S n st)) := by
  refine jcV_r (w_X4_puts ?_)
  have fin : ∀ S1 : MS, S1.2.1 5 4 = nI n → S1.1 = S.1 → S1 = putA S n st → jWX (tb_X4_puts (EV d)) (jRV fun e => e = mhp h m (putS S n st)) 55 [some (jP (some m)), some (jI (nI st.1)), none, none, none, none] [] (mhp h m S1) := by
    intro S1 h5 h1 hS1
    refine b_X4_puts_55 ?_
    simp only [onr_s, jnm_iff, mh_kd, mh_ln, mh_OP, mh_OI, mok_4 hm, true_and, and_true, mp_5 hm, mk_5 hm, ml_5 hm, mr_5, mw_5]
    refine ⟨vp_lit (n := 4) rfl (by decide) (by decide), vp_lit (n := 4) rfl (by decide) (by decide), ?_⟩
    have c4 : (4 : Int32).toNatClampNeg = 4 := rfl
    rw [c4, h5, nI_1, n_4, n_6, nI_eq (by have := hw.1; omega) (by decide), nI_eq (by have := hw.1; omega) (by decide)]
    simp only [onr_s, jnm_iff, mh_kd, mh_ln, mh_OP, mh_OI, mok_4 hm, true_and, and_true, mh_wI]
    refine ⟨fun q => ⟨fun r => absurd (q.symm.trans r) (by decide), fun r => ?_⟩, fun q => ⟨fun r => ?_, fun r => ?_⟩⟩
    all_goals
      unfold putS
      rw [← hS1]
      congr 2
      all_goals simp [uI_1, uA_1, h1, q, r, zb]
  simp only [onr_s, jnm_iff, mh_kd, mh_ln, mh_OP, mh_OI, mok_4 hm, true_and, and_true, mp_5 hm, mk_5 hm, ml_5 hm, mr_5, mp_1 hm, mk_1 hm, ml_1 hm, mr_1, mp_2 hm, mk_2 hm, ml_2 hm, mr_2, mp_3 hm, mk_3 hm, ml_3 hm, mr_3, mp_4 hm, mk_4 hm, ml_4 hm, mr_4, mw_1, mw_2, mw_3, mw_4]
  have c4 : (4 : Int32).toNatClampNeg = 4 := rfl
  refine ⟨vp_lit (n := 4) rfl (by decide) (by decide), ?_⟩
  rw [c4, hn, n_12, nI_leI (by omega) (by omega)]
  refine ⟨fun q => fin S hn rfl (by unfold putA; rw [if_neg (by omega)]), fun q => ?_⟩
  have e : (48 : Int32) + nI n = nI (48 + n) := nI_add 48 n
  rw [e, cl_n (by omega)]
  refine ⟨vp_lit (n := 4) rfl (by decide) (by decide), vp_in_nI (by omega) (by decide), vp_in_nI (by omega) (by decide), vp_in_nI (by omega) (by decide), vp_in_nI (by omega) (by decide), ?_⟩
  exact fin _ hn rfl (by unfold putA; rw [if_pos (by omega)])
theorem oI_neg {i f : Nat} {o : PR Nat} (ho : ∀ q, o = .inr q → q.1 < 100) : (oI o < 0 ↔ ∃ p, o = .inl p) := by
  cases o with
  | inl p => exact ⟨fun _ => ⟨p, rfl⟩, fun _ => show (-1 : Int32) < 0 by decide⟩
  | inr q => exact ⟨fun r => absurd r (nI_pos (by have := ho q rfl; omega)), fun ⟨p, e⟩ => by cases e⟩
/-- what a statement's parse leaves -/
def stS (S : MS) (n : Nat) (r : PR St) : MS := match r with
  | .inl p => aS S p
  | .inr (st, j) => putS (aS S j) n st
def okI (r : PR St) : Int32 := match r with
  | .inl _ => 0
  | .inr _ => 1
theorem zb_0 {b : Bool} : (zb b = 0) ↔ b = false := by cases b <;> decide
theorem pv_c {f i : Nat} (hT : mT S t len) (hi : i ≤ len) (hf : f < 4) : (∃ p, pv t f i = .inl p ∧ p = i) ∨ ∃ v j, pv t f i = .inr (v, j) ∧ j ≤ len ∧ v < 20 := by
  cases h : pv t f i with
  | inl p => exact Or.inl ⟨p, rfl, pv_l h⟩
  | inr q =>
    obtain ⟨v, j⟩ := q
    obtain ⟨h1, h2, h3⟩ := pv_r hT.2.2.2 hf h
    exact Or.inr ⟨v, j, rfl, h2, h3⟩
theorem pd_c {most i : Nat} (hT : mT S t len) (hi : i ≤ len) : (∃ p, pdig t most i = .inl p ∧ p = i) ∨ ∃ v j, pdig t most i = .inr (v, j) ∧ j ≤ len ∧ v ≤ most := by
  cases h : pdig t most i with
  | inl p => exact Or.inl ⟨p, rfl, pdig_l h⟩
  | inr q =>
    obtain ⟨v, j⟩ := q
    obtain ⟨h1, h2, h3⟩ := pdig_r hT.2.2.2 h
    exact Or.inr ⟨v, j, rfl, h2, h3⟩
theorem m1n : ¬ (0 : Int32) ≤ -1 := by decide
theorem m1l : (-1 : Int32) < 0 := by decide
theorem oI_r {v j : Nat} : oI (.inr (v, j)) = nI v := rfl
theorem oP_r {v j : Nat} : oP (.inr (v, j)) = j := rfl
theorem oI_l {p : Nat} : oI (.inl p) = -1 := rfl
theorem oP_l {p : Nat} : oP (.inl p) = p := rfl
theorem pstore_1 {f i p : Nat} (h : pv t f i = .inl p) : pstore t f i = .inl p := by simp [pstore, h]
theorem pstore_2 {f i v j : Nat} (h : pv t f i = .inr (v, j)) (h2 : ¬ t j = 61) : pstore t f i = .inl j := by simp [pstore, h, h2]
theorem pstore_3 {f i v j p : Nat} (h : pv t f i = .inr (v, j)) (h2 : t j = 61) (h3 : pv t f (j + 1) = .inl p) : pstore t f i = .inl p := by simp [pstore, h, h2, h3]
theorem pstore_4 {f i v j w k : Nat} (h : pv t f i = .inr (v, j)) (h2 : t j = 61) (h3 : pv t f (j + 1) = .inr (w, k)) : pstore t f i = .inr ((3, v, w, 0), k) := by simp [pstore, h, h2, h3]
theorem pcall_1 {f v i p : Nat} (h : pdig t 3 i = .inl p) : pcall t f v i = .inl p := by simp [pcall, h]
theorem pcall_2 {f v i x j : Nat} (h : pdig t 3 i = .inr (x, j)) (h2 : ¬ t j = 40) : pcall t f v i = .inl j := by simp [pcall, h, h2]
theorem pcall_3 {f v i x j p : Nat} (h : pdig t 3 i = .inr (x, j)) (h2 : t j = 40) (h3 : pv t f (j + 1) = .inl p) : pcall t f v i = .inl p := by simp [pcall, h, h2, h3]
theorem pcall_4 {f v i x j w k : Nat} (h : pdig t 3 i = .inr (x, j)) (h2 : t j = 40) (h3 : pv t f (j + 1) = .inr (w, k)) (h4 : ¬ t k = 41) : pcall t f v i = .inl k := by simp [pcall, h, h2, h3, h4]
theorem pcall_5 {f v i x j w k : Nat} (h : pdig t 3 i = .inr (x, j)) (h2 : t j = 40) (h3 : pv t f (j + 1) = .inr (w, k)) (h4 : t k = 41) : pcall t f v i = .inr ((6, v, w, x), k + 1) := by simp [pcall, h, h2, h3, h4]
theorem p_takesStore {f i n : Nat} (hm : mOk h m) (hT : mT S t len) (hi : i ≤ len) (hf : f < 4) (hn : S.2.1 5 4 = nI n) (hn2 : n < 100) : EV (d + 3) 229 [jP (some m), jI (nI f)] (mhp h m (aS S i)) (.inl (some (jI (okI (pstore t f i))))) (mhp h m (stS S n (pstore t f i))) := by
  refine jcI_r (w_X4_takesStore ⟨mok_4 hm, jcI_i (p_name hm hT hi hf) ?_⟩)
  rcases pv_c hT hi hf with ⟨p, e, rfl⟩ | ⟨v, j, e, hj, hv⟩
  · rw [e, pstore_1 e]
    exact ⟨fun _ => ⟨jbo_0, rfl, rfl⟩, fun q => absurd m1l q⟩
  · simp only [e, oI_r, oP_r]
    refine ⟨fun q => absurd q (nI_pos (by omega)), fun _ => ⟨mok_4 hm, jcI_i (p_skips (c := 61) hm hT hj (by decide) (by decide)) ?_⟩⟩
    rw [zb_0]
    by_cases hc : t j = 61
    · rw [decide_eq_true hc, if_pos hc]
      have hj2 := tlt hT.2.2.2 (i := j) (by omega)
      refine ⟨fun q => absurd q (by decide), fun _ => ⟨mok_4 hm, jcI_i (p_name hm hT hj2 hf) ?_⟩⟩
      rcases pv_c hT hj2 hf with ⟨p, e2, rfl⟩ | ⟨w, k, e2, hk, hw⟩
      · rw [e2, pstore_3 e hc e2]
        exact ⟨fun q => absurd q m1n, fun _ => ⟨jbo_0, rfl, rfl⟩⟩
      · simp only [e2, oI_r, oP_r, pstore_4 e hc e2]
        refine ⟨fun _ => ⟨mok_4 hm, jcV_i (p_puts (st := (3, v, w, 0)) hm hn hn2 ⟨(show 3 < 7 by decide), hv, hw, (show 0 < 4 by decide)⟩) ⟨jbo_1, rfl, rfl⟩⟩, fun q => absurd (nI_pos' (by omega)) q⟩
    · rw [decide_eq_false hc, if_neg hc, pstore_2 e hc]
      exact ⟨fun _ => ⟨jbo_0, rfl, rfl⟩, fun q => absurd rfl q⟩
theorem p_takesCall {f i n v : Nat} (hm : mOk h m) (hT : mT S t len) (hi : i ≤ len) (hf : f < 4) (hn : S.2.1 5 4 = nI n) (hn2 : n < 100) (hv : v < 20) : EV (d + 3) 232 [jP (some m), jI (nI f), jI (nI v)] (mhp h m (aS S i)) (.inl (some (jI (okI (pcall t f v i))))) (mhp h m (stS S n (pcall t f v i))) := by
  refine jcI_r (w_X4_takesCall ⟨mok_4 hm, jcI_i (p_digit (most := 3) hm hT hi (by decide)) ?_⟩)
  rcases pd_c (most := 3) hT hi with ⟨p, e, rfl⟩ | ⟨x, j, e, hj, hx⟩
  · rw [e, pcall_1 e]
    exact ⟨fun _ => ⟨jbo_0, rfl, rfl⟩, fun q => absurd m1l q⟩
  · simp only [e, oI_r, oP_r]
    refine ⟨fun q => absurd q (nI_pos (by omega)), fun _ => ⟨mok_4 hm, jcI_i (p_skips (c := 40) hm hT hj (by decide) (by decide)) ?_⟩⟩
    rw [zb_0]
    by_cases hc : t j = 40
    · rw [decide_eq_true hc, if_pos hc]
      have hj2 := tlt hT.2.2.2 (i := j) (by omega)
      refine ⟨fun q => absurd q (by decide), fun _ => ⟨mok_4 hm, jcI_i (p_name hm hT hj2 hf) ?_⟩⟩
      rcases pv_c hT hj2 hf with ⟨p, e2, rfl⟩ | ⟨w, k, e2, hk, hw⟩
      · rw [e2, pcall_3 e hc e2]
        exact ⟨fun _ => ⟨jbo_0, rfl, rfl⟩, fun q => absurd m1l q⟩
      · simp only [e2, oI_r, oP_r]
        refine ⟨fun q => absurd q (nI_pos (by omega)), fun _ => ⟨mok_4 hm, jcI_i (p_skips (c := 41) hm hT hk (by decide) (by decide)) ?_⟩⟩
        rw [zb_0]
        by_cases hc2 : t k = 41
        · rw [decide_eq_true hc2, if_pos hc2, pcall_5 e hc e2 hc2]
          exact ⟨fun q => absurd q (by decide), fun _ => ⟨mok_4 hm, jcV_i (p_puts (st := (6, v, w, x)) hm hn hn2 ⟨(show 6 < 7 by decide), hv, hw, show x < 4 by omega⟩) ⟨jbo_1, rfl, rfl⟩⟩⟩
        · rw [decide_eq_false hc2, if_neg hc2, pcall_4 e hc e2 hc2]
          exact ⟨fun _ => ⟨jbo_0, rfl, rfl⟩, fun q => absurd rfl q⟩
    · rw [decide_eq_false hc, if_neg hc, pcall_2 e hc]
      exact ⟨fun _ => ⟨jbo_0, rfl, rfl⟩, fun q => absurd rfl q⟩
theorem pone_1 {f k v i p : Nat} (h : pv t f i = .inl p) : pone t f k v i = .inl p := by simp [pone, h]
theorem pone_2 {f k v i w j : Nat} (h : pv t f i = .inr (w, j)) : pone t f k v i = .inr ((k, v, w, 0), j) := by simp [pone, h]
theorem pcopy_1 {f v i p : Nat} (h : pv t f i = .inl p) : pcopy t f v i = .inl p := by simp [pcopy, h]
theorem pcopy_2 {f v i w j : Nat} (h : pv t f i = .inr (w, j)) (h2 : ¬ t j = 43) : pcopy t f v i = .inr ((1, v, w, 0), j) := by simp [pcopy, h, h2]
theorem pcopy_3 {f v i w j p : Nat} (h : pv t f i = .inr (w, j)) (h2 : t j = 43) (h3 : pdig t 2 (j + 1) = .inl p) : pcopy t f v i = .inl p := by simp [pcopy, h, h2, h3]
theorem pcopy_4 {f v i w j n k : Nat} (h : pv t f i = .inr (w, j)) (h2 : t j = 43) (h3 : pdig t 2 (j + 1) = .inr (n, k)) : pcopy t f v i = .inr ((5, v, w, n), k) := by simp [pcopy, h, h2, h3]
/-- the tail of a statement that assigns a name's worth: kinds 0, 1, 2 -/
theorem p_ts118 {f i n v k : Nat} {R : jR} (hm : mOk h m) (hT : mT S t len) (hi : i ≤ len) (hf : f < 4) (hn : S.2.1 5 4 = nI n) (hn2 : n < 100) (hv : v < 20) (hk : k < 3) (r : PR St) (hr : r = if k = 1 then pcopy t f v i else pone t f k v i) (hR : R (.inl (some (jI (okI r)))) (mhp h m (stS S n r))) : jWX (tb_X4_takesStatement (EV (d + 3))) R 118 [some (jP (some m)), some (jI (nI f)), some (jI (nI v)), none, none, none] [jI (nI k)] (mhp h m (aS S i)) := by
  refine b_X4_takesStatement_118 ⟨mok_4 hm, jcI_i (p_name (d := d + 1) hm hT hi hf) ?_⟩
  rw [n_1, nI_eq (by omega) (by decide)]
  rcases pv_c hT hi hf with ⟨p, e, rfl⟩ | ⟨w, j, e, hj, hw⟩
  · rw [e]
    have er : r = .inl p := by
      rw [hr]
      split
      · exact pcopy_1 e
      · exact pone_1 e
    subst er
    exact ⟨fun q => absurd q m1n, fun _ => ⟨jbo_0, hR⟩⟩
  · simp only [e, oI_r, oP_r]
    refine ⟨fun _ => ⟨fun k1 => ⟨mok_4 hm, jcI_i (p_skips (d := d + 1) (c := 43) hm hT hj (by decide) (by decide)) ?_⟩, fun k1 => ⟨mok_4 hm, ?_⟩⟩, fun q => absurd (nI_pos' (by omega)) q⟩
    · subst k1
      rw [if_pos rfl] at hr
      rw [zb_0]
      by_cases hc : t j = 43
      · rw [decide_eq_true hc, if_pos hc]
        have hj2 := tlt hT.2.2.2 (i := j) (by omega)
        refine ⟨fun q => absurd q (by decide), fun _ => ⟨mok_4 hm, jcI_i (p_digit (d := d + 1) (most := 2) hm hT hj2 (by decide)) ?_⟩⟩
        rcases pd_c (most := 2) hT hj2 with ⟨p, e2, rfl⟩ | ⟨x, y, e2, hy, hx⟩
        · rw [e2]
          rw [pcopy_3 e hc e2] at hr
          subst hr
          exact ⟨fun q => absurd q m1n, fun _ => ⟨jbo_0, hR⟩⟩
        · simp only [e2, oI_r, oP_r]
          rw [pcopy_4 e hc e2] at hr
          subst hr
          exact ⟨fun _ => ⟨mok_4 hm, jcV_i (p_puts (d := d + 2) (st := (5, v, w, x)) hm hn hn2 ⟨(show 5 < 7 by decide), hv, hw, show x < 4 by omega⟩) ⟨jbo_1, hR⟩⟩, fun q => absurd (nI_pos' (by omega)) q⟩
      · rw [decide_eq_false hc, if_neg hc]
        rw [pcopy_2 e hc] at hr
        subst hr
        exact ⟨fun _ => ⟨mok_4 hm, jcV_i (p_puts (d := d + 2) (st := (1, v, w, 0)) hm hn hn2 ⟨(show 1 < 7 by decide), hv, hw, show 0 < 4 by decide⟩) ⟨jbo_1, hR⟩⟩, fun q => absurd rfl q⟩
    · rw [if_neg k1, pone_2 e] at hr
      subst hr
      exact jcV_i (p_puts (d := d + 2) (st := (k, v, w, 0)) hm hn hn2 ⟨show k < 7 by omega, hv, hw, show 0 < 4 by decide⟩) ⟨jbo_1, hR⟩
theorem okI_jbo (r : PR St) : jbo (okI r) := by
  cases r with
  | inl p => exact jbo_0
  | inr q => exact jbo_1
theorem p_takesStatement {f i n : Nat} (hm : mOk h m) (hT : mT S t len) (hi : i ≤ len) (hf : f < 4) (hn : S.2.1 5 4 = nI n) (hn2 : n < 100) : EV (d + 4) 167 [jP (some m), jI (nI f)] (mhp h m (aS S i)) (.inl (some (jI (okI (pst t f i))))) (mhp h m (stS S n (pst t f i))) := by
  refine jcI_r (w_X4_takesStatement ⟨mok_4 hm, jcI_i (p_skips (d := d + 1) (c := 42) hm hT hi (by decide) (by decide)) ?_⟩)
  rw [zb_0]
  by_cases h42 : t i = 42
  · have e : pst t f i = pstore t f (i + 1) := by simp [pst, h42]
    rw [decide_eq_true h42, if_pos h42, e]
    exact ⟨fun q => absurd q (by decide), fun _ => ⟨mok_4 hm, jcI_i (p_takesStore hm hT (tlt hT.2.2.2 (by omega)) hf hn hn2) ⟨okI_jbo _, rfl, rfl⟩⟩⟩
  · have e : pst t f i = passign t f i := by simp [pst, h42]
    rw [decide_eq_false h42, if_neg h42, e]
    refine ⟨fun _ => ⟨mok_4 hm, jcI_i (p_name (d := d + 1) hm hT hi hf) ?_⟩, fun q => absurd rfl q⟩
    rcases pv_c hT hi hf with ⟨p, e1, rfl⟩ | ⟨v, j, e1, hj, hv⟩
    · have e2 : passign t f p = .inl p := by simp [passign, e1]
      rw [e1, e2]
      exact ⟨fun _ => ⟨jbo_0, rfl, rfl⟩, fun q => absurd m1l q⟩
    · simp only [e1, oI_r, oP_r]
      refine ⟨fun q => absurd q (nI_pos (by omega)), fun _ => ⟨mok_4 hm, jcI_i (p_skips (d := d + 1) (c := 61) hm hT hj (by decide) (by decide)) ?_⟩⟩
      rw [zb_0]
      by_cases hc : t j = 61
      · have e2 : passign t f i = prhs t f v (j + 1) := by simp [passign, e1, hc]
        rw [decide_eq_true hc, if_pos hc, e2]
        have hj2 := tlt hT.2.2.2 (i := j) (by omega)
        refine ⟨fun q => absurd q (by decide), fun _ => ⟨mok_4 hm, jcI_i (p_skips (d := d + 1) (c := 110) hm hT hj2 (by decide) (by decide)) ?_⟩⟩
        rw [zb_0]
        by_cases h110 : t (j + 1) = 110
        · have e3 : prhs t f v (j + 1) = pnew t v (j + 2) := by simp [prhs, h110]
          have hj3 := tlt hT.2.2.2 (i := j + 1) (by omega)
          rw [decide_eq_true h110, if_pos h110, e3]
          refine ⟨fun q => absurd q (by decide), fun _ => ⟨mok_4 hm, jcI_i (p_skips (d := d + 1) (c := 101) hm hT hj3 (by decide) (by decide)) ?_⟩⟩
          rw [zb_0]
          by_cases h101 : t (j + 2) = 101
          · have hj4 := tlt hT.2.2.2 (i := j + 2) (by omega)
            rw [decide_eq_true h101, if_pos h101]
            refine ⟨fun q => absurd q (by decide), fun _ => ⟨mok_4 hm, jcI_i (p_skips (d := d + 1) (c := 119) hm hT hj4 (by decide) (by decide)) ?_⟩⟩
            rw [zb_0]
            by_cases h119 : t (j + 3) = 119
            · have e4 : pnew t v (j + 2) = .inr ((4, v, 0, 0), j + 4) := by simp [pnew, h101, h119]
              rw [decide_eq_true h119, if_pos h119, e4]
              exact ⟨fun q => absurd q (by decide), fun _ => ⟨mok_4 hm, jcV_i (p_puts (d := d + 2) (st := (4, v, 0, 0)) hm hn hn2 ⟨(show 4 < 7 by decide), hv, (show 0 < 20 by decide), (show 0 < 4 by decide)⟩) ⟨jbo_1, rfl, rfl⟩⟩⟩
            · have e4 : pnew t v (j + 2) = .inl (j + 3) := by simp [pnew, h101, h119]
              rw [decide_eq_false h119, if_neg h119, e4]
              exact ⟨fun _ => ⟨jbo_0, rfl, rfl⟩, fun q => absurd rfl q⟩
          · have e4 : pnew t v (j + 2) = .inl (j + 2) := by simp [pnew, h101]
            rw [decide_eq_false h101, if_neg h101, e4]
            exact ⟨fun _ => ⟨jbo_0, rfl, rfl⟩, fun q => absurd rfl q⟩
        · rw [decide_eq_false h110, if_neg h110]
          refine ⟨fun _ => ⟨mok_4 hm, jcI_i (p_skips (d := d + 1) (c := 102) hm hT hj2 (by decide) (by decide)) ?_⟩, fun q => absurd rfl q⟩
          rw [zb_0]
          by_cases h102 : t (j + 1) = 102
          · have e3 : prhs t f v (j + 1) = pcall t f v (j + 2) := by simp [prhs, h102]
            rw [decide_eq_true h102, if_pos h102, e3]
            exact ⟨fun q => absurd q (by decide), fun _ => ⟨mok_4 hm, jcI_i (p_takesCall hm hT (tlt hT.2.2.2 (by omega)) hf hn hn2 hv) ⟨okI_jbo _, rfl, rfl⟩⟩⟩
          · rw [decide_eq_false h102, if_neg h102]
            refine ⟨fun _ => ⟨mok_4 hm, jcI_i (p_skips (d := d + 1) (c := 38) hm hT hj2 (by decide) (by decide)) ?_⟩, fun q => absurd rfl q⟩
            rw [zb_0]
            by_cases h38 : t (j + 1) = 38
            · have e3 : prhs t f v (j + 1) = pone t f 0 v (j + 2) := by simp [prhs, h38]
              rw [decide_eq_true h38, if_pos h38]
              exact ⟨fun q => absurd q (by decide), fun _ => p_ts118 (k := 0) hm hT (tlt hT.2.2.2 (by omega)) hf hn hn2 hv (by decide) _ e3 ⟨rfl, rfl⟩⟩
            · rw [decide_eq_false h38, if_neg h38]
              refine ⟨fun _ => ⟨mok_4 hm, jcI_i (p_skips (d := d + 1) (c := 42) hm hT hj2 (by decide) (by decide)) ?_⟩, fun q => absurd rfl q⟩
              rw [zb_0]
              by_cases h42 : t (j + 1) = 42
              · have e3 : prhs t f v (j + 1) = pone t f 2 v (j + 2) := by simp [prhs, h42]
                rw [decide_eq_true h42, if_pos h42]
                exact ⟨fun q => absurd q (by decide), fun _ => p_ts118 (k := 2) hm hT (tlt hT.2.2.2 (by omega)) hf hn hn2 hv (by decide) _ e3 ⟨rfl, rfl⟩⟩
              · have e3 : prhs t f v (j + 1) = pcopy t f v (j + 1) := by simp [prhs, h110, h102, h38, h42]
                rw [decide_eq_false h42, if_neg h42]
                exact ⟨fun _ => p_ts118 (k := 1) hm hT hj2 hf hn hn2 hv (by decide) _ e3 ⟨rfl, rfl⟩, fun q => absurd rfl q⟩
      · have e2 : passign t f i = .inl j := by simp [passign, e1, hc]
        rw [decide_eq_false hc, if_neg hc, e2]
        exact ⟨fun _ => ⟨jbo_0, rfl, rfl⟩, fun q => absurd rfl q⟩
end MP
