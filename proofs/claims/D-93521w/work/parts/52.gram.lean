/-! THE GRAMMAR OF A BODY'S TEXT (own work, no program in sight) -/
section GRAM
def pname (c : Nat) : Option Nat := if 97 ≤ c ∧ c ≤ 100 then some (c - 97) else if c = 112 then some 4 else if c = 114 then some 5 else if c = 120 then some 6 else if c = 121 then some 7 else none
def gvar (f i : Nat) : Nat := if i < 4 then i else i + 4 * f
abbrev PR (α : Type) : Type := Nat ⊕ (α × Nat)
def pv (t : Nat → Nat) (f i : Nat) : PR Nat := match pname (t i) with
  | some v => .inr (gvar f v, i + 1)
  | none => .inl i
def pdig (t : Nat → Nat) (most i : Nat) : PR Nat := if 48 ≤ t i ∧ t i ≤ 48 + most then .inr (t i - 48, i + 1) else .inl i
def pstore (t : Nat → Nat) (f i : Nat) : PR St := match pv t f i with
  | .inl p => .inl p
  | .inr (v, i1) => if t i1 = 61 then (match pv t f (i1 + 1) with
    | .inl p => .inl p
    | .inr (w, i2) => .inr ((3, v, w, 0), i2)) else .inl i1
def pcall (t : Nat → Nat) (f v i : Nat) : PR St := match pdig t 3 i with
  | .inl p => .inl p
  | .inr (n, i1) => if t i1 = 40 then (match pv t f (i1 + 1) with
    | .inl p => .inl p
    | .inr (w, i2) => if t i2 = 41 then .inr ((6, v, w, n), i2 + 1) else .inl i2) else .inl i1
def pone (t : Nat → Nat) (f k v i : Nat) : PR St := match pv t f i with
  | .inl p => .inl p
  | .inr (w, i1) => .inr ((k, v, w, 0), i1)
def pcopy (t : Nat → Nat) (f v i : Nat) : PR St := match pv t f i with
  | .inl p => .inl p
  | .inr (w, i1) => if t i1 = 43 then (match pdig t 2 (i1 + 1) with
    | .inl p => .inl p
    | .inr (n, i2) => .inr ((5, v, w, n), i2)) else .inr ((1, v, w, 0), i1)
def pnew (t : Nat → Nat) (v i : Nat) : PR St := if t i = 101 then (if t (i + 1) = 119 then .inr ((4, v, 0, 0), i + 2) else .inl (i + 1)) else .inl i
def prhs (t : Nat → Nat) (f v i : Nat) : PR St := if t i = 110 then pnew t v (i + 1) else if t i = 102 then pcall t f v (i + 1) else if t i = 38 then pone t f 0 v (i + 1) else if t i = 42 then pone t f 2 v (i + 1) else pcopy t f v i
def passign (t : Nat → Nat) (f i : Nat) : PR St := match pv t f i with
  | .inl p => .inl p
  | .inr (v, i1) => if t i1 = 61 then prhs t f v (i1 + 1) else .inl i1
def pst (t : Nat → Nat) (f i : Nat) : PR St := if t i = 42 then pstore t f (i + 1) else passign t f i
/-- statements from i on, the list so far being b -/
def pbody (t : Nat → Nat) (f len : Nat) : Nat → Nat → List St → Nat ⊕ List St
  | 0, i, _ => .inl i
  | n + 1, i, b => match pst t f i with
    | .inl p => .inl p
    | .inr (st, j) => if t j = 59 then pbody t f len n (j + 1) (b ++ [st]) else if j = len then .inr (b ++ [st]) else .inl j
/-- a text's end -/
def tEnd (t : Nat → Nat) (len : Nat) : Prop := ∀ k, len ≤ k → t k = 0
theorem tlt {t : Nat → Nat} {len i : Nat} (hE : tEnd t len) (h : t i ≠ 0) : i < len := by
  apply Nat.lt_of_not_le
  intro q
  exact h (hE i q)
theorem pname_8 {c v : Nat} (h : pname c = some v) : v < 8 ∧ c ≠ 0 := by
  unfold pname at h
  split at h
  · cases h; omega
  · split at h
    · cases h; omega
    · split at h
      · cases h; omega
      · split at h
        · cases h; omega
        · split at h
          · cases h; omega
          · cases h
theorem gvar_20 {f v : Nat} (hf : f < 4) (hv : v < 8) : gvar f v < 20 := by
  unfold gvar
  split <;> omega
theorem pv_r {t : Nat → Nat} {f i len : Nat} (hE : tEnd t len) (hf : f < 4) {v j : Nat} (h : pv t f i = .inr (v, j)) : j = i + 1 ∧ j ≤ len ∧ v < 20 := by
  unfold pv at h
  cases hp : pname (t i) with
  | none => rw [hp] at h; cases h
  | some w =>
    rw [hp] at h
    cases h
    obtain ⟨h1, h2⟩ := pname_8 hp
    exact ⟨rfl, tlt hE h2, gvar_20 hf h1⟩
theorem pv_l {t : Nat → Nat} {f i p : Nat} (h : pv t f i = .inl p) : p = i := by
  unfold pv at h
  cases hp : pname (t i) with
  | none => rw [hp] at h; cases h; rfl
  | some w => rw [hp] at h; cases h
theorem pdig_r {t : Nat → Nat} {most i len : Nat} (hE : tEnd t len) {v j : Nat} (h : pdig t most i = .inr (v, j)) : j = i + 1 ∧ j ≤ len ∧ v ≤ most := by
  unfold pdig at h
  split at h
  · rename_i q
    cases h
    exact ⟨rfl, tlt hE (by omega), by omega⟩
  · cases h
theorem pdig_l {t : Nat → Nat} {most i p : Nat} (h : pdig t most i = .inl p) : p = i := by
  unfold pdig at h
  split at h
  · cases h
  · cases h; rfl
def wfS (st : St) : Prop := st.1 < 7 ∧ st.2.1 < 20 ∧ st.2.2.1 < 20 ∧ st.2.2.2 < 4
/-- where a parse may end -/
def pOk (i len : Nat) (r : PR St) : Prop := match r with
  | .inl p => i ≤ p ∧ p ≤ len
  | .inr (st, j) => i < j ∧ j ≤ len ∧ wfS st
theorem pOk_le {i i2 len : Nat} {r : PR St} (h : pOk i2 len r) (hi : i ≤ i2) : pOk i len r := by
  cases r with
  | inl p => exact ⟨Nat.le_trans hi h.1, h.2⟩
  | inr q => exact ⟨Nat.lt_of_le_of_lt hi h.1, h.2⟩
theorem pone_ok {t : Nat → Nat} {f k v i len : Nat} (hE : tEnd t len) (hf : f < 4) (hi : i ≤ len) (hv : v < 20) (hk : k < 7) : pOk i len (pone t f k v i) := by
  unfold pone
  cases h : pv t f i with
  | inl p => exact ⟨Nat.le_of_eq (pv_l h).symm, by rw [pv_l h]; exact hi⟩
  | inr q =>
    obtain ⟨w, j⟩ := q
    obtain ⟨h1, h2, h3⟩ := pv_r hE hf h
    exact ⟨by omega, h2, hk, hv, h3, (by decide : 0 < 4)⟩
theorem pcopy_ok {t : Nat → Nat} {f v i len : Nat} (hE : tEnd t len) (hf : f < 4) (hi : i ≤ len) (hv : v < 20) : pOk i len (pcopy t f v i) := by
  unfold pcopy
  cases h : pv t f i with
  | inl p => exact ⟨Nat.le_of_eq (pv_l h).symm, by rw [pv_l h]; exact hi⟩
  | inr q =>
    obtain ⟨w, j⟩ := q
    obtain ⟨h1, h2, h3⟩ := pv_r hE hf h
    show pOk i len (if t j = 43 then _ else _)
    split
    · rename_i q
      have hj := tlt hE (i := j) (by omega)
      cases h4 : pdig t 2 (j + 1) with
      | inl p => exact ⟨by rw [pdig_l h4]; omega, by rw [pdig_l h4]; exact hj⟩
      | inr q =>
        obtain ⟨n, j2⟩ := q
        obtain ⟨e1, e2, e3⟩ := pdig_r hE h4
        exact ⟨by omega, e2, (by decide : 5 < 7), hv, h3, show n < 4 by omega⟩
    · exact ⟨by omega, h2, (by decide : 1 < 7), hv, h3, (by decide : 0 < 4)⟩
theorem pcall_ok {t : Nat → Nat} {f v i len : Nat} (hE : tEnd t len) (hf : f < 4) (hi : i ≤ len) (hv : v < 20) : pOk i len (pcall t f v i) := by
  unfold pcall
  cases h : pdig t 3 i with
  | inl p => exact ⟨Nat.le_of_eq (pdig_l h).symm, by rw [pdig_l h]; exact hi⟩
  | inr q =>
    obtain ⟨n, j⟩ := q
    obtain ⟨h1, h2, h3⟩ := pdig_r hE h
    show pOk i len (if t j = 40 then _ else _)
    split
    · have hj := tlt hE (i := j) (by omega)
      cases h4 : pv t f (j + 1) with
      | inl p => exact ⟨by rw [pv_l h4]; omega, by rw [pv_l h4]; exact hj⟩
      | inr q =>
        obtain ⟨w, j2⟩ := q
        obtain ⟨e1, e2, e3⟩ := pv_r hE hf h4
        show pOk i len (if t j2 = 41 then _ else _)
        split
        · have hj2 := tlt hE (i := j2) (by omega)
          exact ⟨by omega, hj2, (by decide : 6 < 7), hv, e3, show n < 4 by omega⟩
        · exact ⟨by omega, e2⟩
    · exact ⟨by omega, h2⟩
theorem pnew_ok {t : Nat → Nat} {v i len : Nat} (hE : tEnd t len) (hi : i ≤ len) (hv : v < 20) : pOk i len (pnew t v i) := by
  unfold pnew
  split
  · have hj := tlt hE (i := i) (by omega)
    split
    · have hj2 := tlt hE (i := i + 1) (by omega)
      exact ⟨by omega, by omega, (by decide : 4 < 7), hv, (by decide : 0 < 20), (by decide : 0 < 4)⟩
    · exact ⟨by omega, by omega⟩
  · exact ⟨Nat.le_refl _, hi⟩
theorem prhs_ok {t : Nat → Nat} {f v i len : Nat} (hE : tEnd t len) (hf : f < 4) (hi : i ≤ len) (hv : v < 20) : pOk i len (prhs t f v i) := by
  unfold prhs
  split
  · exact pOk_le (pnew_ok hE (tlt hE (by omega)) hv) (Nat.le_succ i)
  · split
    · exact pOk_le (pcall_ok hE hf (tlt hE (by omega)) hv) (Nat.le_succ i)
    · split
      · exact pOk_le (pone_ok hE hf (tlt hE (by omega)) hv (by decide)) (Nat.le_succ i)
      · split
        · exact pOk_le (pone_ok hE hf (tlt hE (by omega)) hv (by decide)) (Nat.le_succ i)
        · exact pcopy_ok hE hf hi hv
theorem pst_ok {t : Nat → Nat} {f i len : Nat} (hE : tEnd t len) (hf : f < 4) (hi : i ≤ len) : pOk i len (pst t f i) := by
  unfold pst
  split
  · have hj := tlt hE (i := i) (by omega)
    unfold pstore
    cases h : pv t f (i + 1) with
    | inl p => exact ⟨by rw [pv_l h]; omega, by rw [pv_l h]; exact hj⟩
    | inr q =>
      obtain ⟨v, j⟩ := q
      obtain ⟨h1, h2, h3⟩ := pv_r hE hf h
      show pOk i len (if t j = 61 then _ else _)
      split
      · have hj2 := tlt hE (i := j) (by omega)
        cases h4 : pv t f (j + 1) with
        | inl p => exact ⟨by rw [pv_l h4]; omega, by rw [pv_l h4]; exact hj2⟩
        | inr q =>
          obtain ⟨w, j2⟩ := q
          obtain ⟨e1, e2, e3⟩ := pv_r hE hf h4
          exact ⟨by omega, e2, (by decide : 3 < 7), h3, e3, (by decide : 0 < 4)⟩
      · exact ⟨by omega, h2⟩
  · unfold passign
    cases h : pv t f i with
    | inl p => exact ⟨Nat.le_of_eq (pv_l h).symm, by rw [pv_l h]; exact hi⟩
    | inr q =>
      obtain ⟨v, j⟩ := q
      obtain ⟨h1, h2, h3⟩ := pv_r hE hf h
      show pOk i len (if t j = 61 then _ else _)
      split
      · have hj2 := tlt hE (i := j) (by omega)
        exact pOk_le (prhs_ok hE hf hj2 h3) (by omega)
      · exact ⟨by omega, h2⟩
end GRAM
