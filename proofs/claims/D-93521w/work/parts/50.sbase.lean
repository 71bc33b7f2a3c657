/-! SPECS: THE FLOOR: answers, the model's state (own work) -/
set_option maxRecDepth 100000
theorem onr_s {a : Nat} {P : Nat → Prop} : onr (some a) P = P a := rfl
theorem jcI_i {E : jE} {y : Nat} {a : List jV} {h g : jH} {x : Int32} {kn : Int32 → jH → Prop} (e : E y a h (.inl (some (jI x))) g) (k : kn x g) : jcI E y a h kn := ⟨x, g, e, k⟩
theorem jcI_r {E : jE} {y : Nat} {a : List jV} {h g : jH} {x : Int32} (H : jcI E y a h (fun z f => z = x ∧ f = g)) : E y a h (.inl (some (jI x))) g := by
  obtain ⟨z, f, e, rfl, rfl⟩ := H
  exact e
theorem jcI_m {E : jE} {y : Nat} {a : List jV} {h : jH} {k1 k2 : Int32 → jH → Prop} (H : jcI E y a h k1) (f : ∀ x g, k1 x g → k2 x g) : jcI E y a h k2 := by
  obtain ⟨x, g, e, k⟩ := H
  exact ⟨x, g, e, f x g k⟩
theorem jcL_i {E : jE} {y : Nat} {a : List jV} {h g : jH} {x : Int64} {kn : Int64 → jH → Prop} (e : E y a h (.inl (some (jL x))) g) (k : kn x g) : jcL E y a h kn := ⟨x, g, e, k⟩
theorem jcL_r {E : jE} {y : Nat} {a : List jV} {h g : jH} {x : Int64} (H : jcL E y a h (fun z f => z = x ∧ f = g)) : E y a h (.inl (some (jL x))) g := by
  obtain ⟨z, f, e, rfl, rfl⟩ := H
  exact e
theorem jcL_m {E : jE} {y : Nat} {a : List jV} {h : jH} {k1 k2 : Int64 → jH → Prop} (H : jcL E y a h k1) (f : ∀ x g, k1 x g → k2 x g) : jcL E y a h k2 := by
  obtain ⟨x, g, e, k⟩ := H
  exact ⟨x, g, e, f x g k⟩
theorem jcP_i {E : jE} {y : Nat} {a : List jV} {h g : jH} {x : Option Nat} {kn : Option Nat → jH → Prop} (e : E y a h (.inl (some (jP x))) g) (k : kn x g) : jcP E y a h kn := ⟨x, g, e, k⟩
theorem jcP_r {E : jE} {y : Nat} {a : List jV} {h g : jH} {x : Option Nat} (H : jcP E y a h (fun z f => z = x ∧ f = g)) : E y a h (.inl (some (jP x))) g := by
  obtain ⟨z, f, e, rfl, rfl⟩ := H
  exact e
theorem jcP_m {E : jE} {y : Nat} {a : List jV} {h : jH} {k1 k2 : Option Nat → jH → Prop} (H : jcP E y a h k1) (f : ∀ x g, k1 x g → k2 x g) : jcP E y a h k2 := by
  obtain ⟨x, g, e, k⟩ := H
  exact ⟨x, g, e, f x g k⟩
theorem jcD_i {E : jE} {y : Nat} {a : List jV} {h g : jH} {x : UInt64} {kn : UInt64 → jH → Prop} (e : E y a h (.inl (some (jD x))) g) (k : kn x g) : jcD E y a h kn := ⟨x, g, e, k⟩
theorem jcD_r {E : jE} {y : Nat} {a : List jV} {h g : jH} {x : UInt64} (H : jcD E y a h (fun z f => z = x ∧ f = g)) : E y a h (.inl (some (jD x))) g := by
  obtain ⟨z, f, e, rfl, rfl⟩ := H
  exact e
theorem jcD_m {E : jE} {y : Nat} {a : List jV} {h : jH} {k1 k2 : UInt64 → jH → Prop} (H : jcD E y a h k1) (f : ∀ x g, k1 x g → k2 x g) : jcD E y a h k2 := by
  obtain ⟨x, g, e, k⟩ := H
  exact ⟨x, g, e, f x g k⟩
theorem jcF_i {E : jE} {y : Nat} {a : List jV} {h g : jH} {x : UInt32} {kn : UInt32 → jH → Prop} (e : E y a h (.inl (some (jF x))) g) (k : kn x g) : jcF E y a h kn := ⟨x, g, e, k⟩
theorem jcF_r {E : jE} {y : Nat} {a : List jV} {h g : jH} {x : UInt32} (H : jcF E y a h (fun z f => z = x ∧ f = g)) : E y a h (.inl (some (jF x))) g := by
  obtain ⟨z, f, e, rfl, rfl⟩ := H
  exact e
theorem jcF_m {E : jE} {y : Nat} {a : List jV} {h : jH} {k1 k2 : UInt32 → jH → Prop} (H : jcF E y a h k1) (f : ∀ x g, k1 x g → k2 x g) : jcF E y a h k2 := by
  obtain ⟨x, g, e, k⟩ := H
  exact ⟨x, g, e, f x g k⟩
theorem jcV_i {E : jE} {y : Nat} {a : List jV} {h g : jH} {kn : jH → Prop} (e : E y a h (.inl none) g) (k : kn g) : jcV E y a h kn := ⟨g, e, k⟩
theorem jcV_r {E : jE} {y : Nat} {a : List jV} {h g : jH} (H : jcV E y a h (fun f => f = g)) : E y a h (.inl none) g := by
  obtain ⟨f, e, rfl⟩ := H
  exact e
theorem jcV_m {E : jE} {y : Nat} {a : List jV} {h : jH} {k1 k2 : jH → Prop} (H : jcV E y a h k1) (f : ∀ g, k1 g → k2 g) : jcV E y a h k2 := by
  obtain ⟨g, e, k⟩ := H
  exact ⟨g, e, f g k⟩
theorem jbo_0 : jbo 0 := Or.inl rfl
theorem jbo_1 : jbo 1 := Or.inr rfl
/-! the model's state: its int fields, its arrays of ints and of longs, by their places -/
abbrev MS : Type := (Nat → Int32) × (Nat → Nat → Int32) × (Nat → Nat → Int64)
def mhp (h : jH) (m : Nat) (S : MS) : jH := (jkd h, jln h, jsz h, jsl h, jcs h, fun f a => if a = m then S.1 f else jOI h f a, jOP h, fun t a k => if t = 101 ∧ m < a ∧ a ≤ m + 23 then S.2.1 (a - m) k else jAI h t a k, fun a k => if m < a ∧ a ≤ m + 23 then S.2.2 (a - m) k else jAL h a k, jAD h, jAP h)
def uI (S : MS) (f : Nat) (v : Int32) : MS := (fun g => if g = f then v else S.1 g, S.2.1, S.2.2)
def uA (S : MS) (i k : Nat) (v : Int32) : MS := (S.1, fun j q => if j = i ∧ q = k then v else S.2.1 j q, S.2.2)
def uL (S : MS) (i k : Nat) (v : Int64) : MS := (S.1, S.2.1, fun j q => if j = i ∧ q = k then v else S.2.2 j q)
section MH
variable {h : jH} {m : Nat} {S : MS}
theorem mh_kd : jkd (mhp h m S) = jkd h := rfl
theorem mh_ln : jln (mhp h m S) = jln h := rfl
theorem mh_sz : jsz (mhp h m S) = jsz h := rfl
theorem mh_sl : jsl (mhp h m S) = jsl h := rfl
theorem mh_cs : jcs (mhp h m S) = jcs h := rfl
theorem mh_OP : jOP (mhp h m S) = jOP h := rfl
theorem mh_AD : jAD (mhp h m S) = jAD h := rfl
theorem mh_AP : jAP (mhp h m S) = jAP h := rfl
theorem mh_OI {f : Nat} : jOI (mhp h m S) f m = S.1 f := if_pos rfl
theorem mh_OIn {f a : Nat} (n : a ≠ m) : jOI (mhp h m S) f a = jOI h f a := if_neg n
theorem mh_AI {i k : Nat} (h1 : 1 ≤ i) (h2 : i ≤ 23) : jAI (mhp h m S) 101 (m + i) k = S.2.1 i k := by
  refine (if_pos ⟨rfl, by omega, by omega⟩).trans ?_
  rw [Nat.add_sub_cancel_left]
theorem mh_AL {i k : Nat} (h1 : 1 ≤ i) (h2 : i ≤ 23) : jAL (mhp h m S) (m + i) k = S.2.2 i k := by
  refine (if_pos ⟨by omega, by omega⟩).trans ?_
  rw [Nat.add_sub_cancel_left]
theorem mh_wI {f : Nat} {v : Int32} : jwI (mhp h m S) f m v = mhp h m (uI S f v) := by
  have e : (fun g b => if g = f ∧ b = m then v else jOI (mhp h m S) g b) = jOI (mhp h m (uI S f v)) := by
    funext g b
    by_cases hb : b = m
    · subst hb
      rw [mh_OI, mh_OI]
      by_cases hg : g = f
      · rw [if_pos ⟨hg, rfl⟩]; exact (if_pos hg).symm
      · rw [if_neg fun q => hg q.1]; exact (if_neg hg).symm
    · rw [if_neg fun q => hb q.2, mh_OIn hb, mh_OIn hb]
  unfold jwI
  rw [e]
  rfl
theorem mh_wAI {i k : Nat} {v : Int32} (h1 : 1 ≤ i) (h2 : i ≤ 23) : jwAI (mhp h m S) 101 (m + i) k v = mhp h m (uA S i k v) := by
  have e : (fun u b j => if u = 101 ∧ b = m + i ∧ j = k then v else jAI (mhp h m S) u b j) = jAI (mhp h m (uA S i k v)) := by
    funext u b j
    show (if u = 101 ∧ b = m + i ∧ j = k then v else if u = 101 ∧ m < b ∧ b ≤ m + 23 then S.2.1 (b - m) j else jAI h u b j) = if u = 101 ∧ m < b ∧ b ≤ m + 23 then (if b - m = i ∧ j = k then v else S.2.1 (b - m) j) else jAI h u b j
    by_cases hc : u = 101 ∧ m < b ∧ b ≤ m + 23
    · rw [if_pos hc, if_pos hc]
      by_cases hd : b - m = i ∧ j = k
      · rw [if_pos hd, if_pos ⟨hc.1, by omega, hd.2⟩]
      · rw [if_neg hd, if_neg fun q => hd ⟨by omega, q.2.2⟩]
    · rw [if_neg hc, if_neg hc, if_neg fun q => hc ⟨q.1, by omega, by omega⟩]
  unfold jwAI
  rw [e]
  rfl
theorem mh_wAL {i k : Nat} {v : Int64} (h1 : 1 ≤ i) (h2 : i ≤ 23) : jwAL (mhp h m S) (m + i) k v = mhp h m (uL S i k v) := by
  have e : (fun b j => if b = m + i ∧ j = k then v else jAL (mhp h m S) b j) = jAL (mhp h m (uL S i k v)) := by
    funext b j
    show (if b = m + i ∧ j = k then v else if m < b ∧ b ≤ m + 23 then S.2.2 (b - m) j else jAL h b j) = if m < b ∧ b ≤ m + 23 then (if b - m = i ∧ j = k then v else S.2.2 (b - m) j) else jAL h b j
    by_cases hc : m < b ∧ b ≤ m + 23
    · rw [if_pos hc, if_pos hc]
      by_cases hd : b - m = i ∧ j = k
      · rw [if_pos hd, if_pos ⟨by omega, hd.2⟩]
      · rw [if_neg hd, if_neg fun q => hd ⟨by omega, q.2⟩]
    · rw [if_neg hc, if_neg hc, if_neg fun q => hc ⟨by omega, by omega⟩]
  unfold jwAL
  rw [e]
  rfl
def mget (h : jH) (m : Nat) : MS := (fun f => jOI h f m, fun i k => jAI h 101 (m + i) k, fun i k => jAL h (m + i) k)
theorem mh_self : mhp h m (mget h m) = h := by
  have e1 : jOI (mhp h m (mget h m)) = jOI h := by
    funext f a
    show (if a = m then jOI h f m else jOI h f a) = _
    by_cases e : a = m
    · rw [if_pos e, e]
    · rw [if_neg e]
  have e2 : jAI (mhp h m (mget h m)) = jAI h := by
    funext t a k
    show (if t = 101 ∧ m < a ∧ a ≤ m + 23 then jAI h 101 (m + (a - m)) k else jAI h t a k) = _
    by_cases e : t = 101 ∧ m < a ∧ a ≤ m + 23
    · rw [if_pos e, e.1, show m + (a - m) = a by omega]
    · rw [if_neg e]
  have e3 : jAL (mhp h m (mget h m)) = jAL h := by
    funext a k
    show (if m < a ∧ a ≤ m + 23 then jAL h (m + (a - m)) k else jAL h a k) = _
    by_cases e : m < a ∧ a ≤ m + 23
    · rw [if_pos e, show m + (a - m) = a by omega]
    · rw [if_neg e]
  show (jkd h, jln h, jsz h, jsl h, jcs h, jOI (mhp h m (mget h m)), jOP h, jAI (mhp h m (mget h m)), jAL (mhp h m (mget h m)), jAD h, jAP h) = h
  rw [e1, e2, e3]
  rfl
theorem mh_mh {S' : MS} : mhp (mhp h m S) m S' = mhp h m S' := by
  have e1 : jOI (mhp (mhp h m S) m S') = jOI (mhp h m S') := by
    funext f a
    by_cases e : a = m
    · subst e; rw [mh_OI, mh_OI]
    · rw [mh_OIn e, mh_OIn e, mh_OIn e]
  have e2 : jAI (mhp (mhp h m S) m S') = jAI (mhp h m S') := by
    funext t a k
    show (if t = 101 ∧ m < a ∧ a ≤ m + 23 then S'.2.1 (a - m) k else if t = 101 ∧ m < a ∧ a ≤ m + 23 then S.2.1 (a - m) k else jAI h t a k) = if t = 101 ∧ m < a ∧ a ≤ m + 23 then S'.2.1 (a - m) k else jAI h t a k
    by_cases e : t = 101 ∧ m < a ∧ a ≤ m + 23
    · rw [if_pos e, if_pos e]
    · rw [if_neg e, if_neg e, if_neg e]
  have e3 : jAL (mhp (mhp h m S) m S') = jAL (mhp h m S') := by
    funext a k
    show (if m < a ∧ a ≤ m + 23 then S'.2.2 (a - m) k else if m < a ∧ a ≤ m + 23 then S.2.2 (a - m) k else jAL h a k) = if m < a ∧ a ≤ m + 23 then S'.2.2 (a - m) k else jAL h a k
    by_cases e : m < a ∧ a ≤ m + 23
    · rw [if_pos e, if_pos e]
    · rw [if_neg e, if_neg e, if_neg e]
  show (jkd h, jln h, jsz h, jsl h, jcs h, jOI (mhp (mhp h m S) m S'), jOP h, jAI (mhp (mhp h m S) m S'), jAL (mhp (mhp h m S) m S'), jAD h, jAP h) = _
  rw [e1, e2, e3]
  rfl
theorem uI_1 {f g : Nat} {v : Int32} : (uI S f v).1 g = if g = f then v else S.1 g := rfl
theorem uI_2 {f : Nat} {v : Int32} : (uI S f v).2 = S.2 := rfl
theorem uA_1 {i k : Nat} {v : Int32} : (uA S i k v).1 = S.1 := rfl
theorem uA_2 {i k j q : Nat} {v : Int32} : (uA S i k v).2.1 j q = if j = i ∧ q = k then v else S.2.1 j q := rfl
theorem uA_3 {i k : Nat} {v : Int32} : (uA S i k v).2.2 = S.2.2 := rfl
theorem uL_1 {i k : Nat} {v : Int64} : (uL S i k v).1 = S.1 := rfl
theorem uL_2 {i k : Nat} {v : Int64} : (uL S i k v).2.1 = S.2.1 := rfl
theorem uL_3 {i k j q : Nat} {v : Int64} : (uL S i k v).2.2 j q = if j = i ∧ q = k then v else S.2.2 j q := rfl
def mArr : List (Nat × Nat × Nat × Nat) := [(17, 1, 101, 60), (18, 2, 101, 60), (19, 3, 101, 60), (20, 4, 101, 60), (21, 5, 101, 5), (23, 6, 101, 80), (30, 7, 101, 32), (31, 8, 101, 32), (33, 9, 105, 456), (34, 10, 105, 456), (37, 11, 101, 1936), (38, 12, 101, 1936), (40, 13, 101, 120), (41, 14, 101, 120), (42, 15, 101, 200), (43, 16, 101, 200), (46, 17, 101, 1412), (47, 18, 101, 1412), (48, 19, 101, 6), (49, 20, 101, 6), (50, 21, 101, 6), (51, 22, 105, 44), (57, 23, 101, 200)]
/-- the model stands at m, its arrays behind it -/
def mOk (h : jH) (m : Nat) : Prop := jkd h m = 4 ∧ m + 24 ≤ jsz h ∧ ∀ q ∈ mArr, jOP h q.1 m = some (m + q.2.1) ∧ jkd h (m + q.2.1) = q.2.2.1 ∧ jln h (m + q.2.1) = q.2.2.2
theorem mok_m (hm : mOk h m) : mOk (mhp h m S) m := hm
theorem mok_4 (hm : mOk h m) : jkd h m = 4 := hm.1
theorem mp_1 (hm : mOk h m) : jOP h 17 m = some (m + 1) := (hm.2.2 (17, 1, 101, 60) (List.mem_of_getElem? (i := 0) rfl)).1
theorem mk_1 (hm : mOk h m) : jkd h (m + 1) = 101 := (hm.2.2 (17, 1, 101, 60) (List.mem_of_getElem? (i := 0) rfl)).2.1
theorem ml_1 (hm : mOk h m) : jln h (m + 1) = 60 := (hm.2.2 (17, 1, 101, 60) (List.mem_of_getElem? (i := 0) rfl)).2.2
theorem mr_1 {k : Nat} : jAI (mhp h m S) 101 (m + 1) k = S.2.1 1 k := mh_AI (by decide) (by decide)
theorem mw_1 {k : Nat} {v : Int32} : jwAI (mhp h m S) 101 (m + 1) k v = mhp h m (uA S 1 k v) := mh_wAI (by decide) (by decide)
theorem mp_2 (hm : mOk h m) : jOP h 18 m = some (m + 2) := (hm.2.2 (18, 2, 101, 60) (List.mem_of_getElem? (i := 1) rfl)).1
theorem mk_2 (hm : mOk h m) : jkd h (m + 2) = 101 := (hm.2.2 (18, 2, 101, 60) (List.mem_of_getElem? (i := 1) rfl)).2.1
theorem ml_2 (hm : mOk h m) : jln h (m + 2) = 60 := (hm.2.2 (18, 2, 101, 60) (List.mem_of_getElem? (i := 1) rfl)).2.2
theorem mr_2 {k : Nat} : jAI (mhp h m S) 101 (m + 2) k = S.2.1 2 k := mh_AI (by decide) (by decide)
theorem mw_2 {k : Nat} {v : Int32} : jwAI (mhp h m S) 101 (m + 2) k v = mhp h m (uA S 2 k v) := mh_wAI (by decide) (by decide)
theorem mp_3 (hm : mOk h m) : jOP h 19 m = some (m + 3) := (hm.2.2 (19, 3, 101, 60) (List.mem_of_getElem? (i := 2) rfl)).1
theorem mk_3 (hm : mOk h m) : jkd h (m + 3) = 101 := (hm.2.2 (19, 3, 101, 60) (List.mem_of_getElem? (i := 2) rfl)).2.1
theorem ml_3 (hm : mOk h m) : jln h (m + 3) = 60 := (hm.2.2 (19, 3, 101, 60) (List.mem_of_getElem? (i := 2) rfl)).2.2
theorem mr_3 {k : Nat} : jAI (mhp h m S) 101 (m + 3) k = S.2.1 3 k := mh_AI (by decide) (by decide)
theorem mw_3 {k : Nat} {v : Int32} : jwAI (mhp h m S) 101 (m + 3) k v = mhp h m (uA S 3 k v) := mh_wAI (by decide) (by decide)
theorem mp_4 (hm : mOk h m) : jOP h 20 m = some (m + 4) := (hm.2.2 (20, 4, 101, 60) (List.mem_of_getElem? (i := 3) rfl)).1
theorem mk_4 (hm : mOk h m) : jkd h (m + 4) = 101 := (hm.2.2 (20, 4, 101, 60) (List.mem_of_getElem? (i := 3) rfl)).2.1
theorem ml_4 (hm : mOk h m) : jln h (m + 4) = 60 := (hm.2.2 (20, 4, 101, 60) (List.mem_of_getElem? (i := 3) rfl)).2.2
theorem mr_4 {k : Nat} : jAI (mhp h m S) 101 (m + 4) k = S.2.1 4 k := mh_AI (by decide) (by decide)
theorem mw_4 {k : Nat} {v : Int32} : jwAI (mhp h m S) 101 (m + 4) k v = mhp h m (uA S 4 k v) := mh_wAI (by decide) (by decide)
theorem mp_5 (hm : mOk h m) : jOP h 21 m = some (m + 5) := (hm.2.2 (21, 5, 101, 5) (List.mem_of_getElem? (i := 4) rfl)).1
theorem mk_5 (hm : mOk h m) : jkd h (m + 5) = 101 := (hm.2.2 (21, 5, 101, 5) (List.mem_of_getElem? (i := 4) rfl)).2.1
theorem ml_5 (hm : mOk h m) : jln h (m + 5) = 5 := (hm.2.2 (21, 5, 101, 5) (List.mem_of_getElem? (i := 4) rfl)).2.2
theorem mr_5 {k : Nat} : jAI (mhp h m S) 101 (m + 5) k = S.2.1 5 k := mh_AI (by decide) (by decide)
theorem mw_5 {k : Nat} {v : Int32} : jwAI (mhp h m S) 101 (m + 5) k v = mhp h m (uA S 5 k v) := mh_wAI (by decide) (by decide)
theorem mp_6 (hm : mOk h m) : jOP h 23 m = some (m + 6) := (hm.2.2 (23, 6, 101, 80) (List.mem_of_getElem? (i := 5) rfl)).1
theorem mk_6 (hm : mOk h m) : jkd h (m + 6) = 101 := (hm.2.2 (23, 6, 101, 80) (List.mem_of_getElem? (i := 5) rfl)).2.1
theorem ml_6 (hm : mOk h m) : jln h (m + 6) = 80 := (hm.2.2 (23, 6, 101, 80) (List.mem_of_getElem? (i := 5) rfl)).2.2
theorem mr_6 {k : Nat} : jAI (mhp h m S) 101 (m + 6) k = S.2.1 6 k := mh_AI (by decide) (by decide)
theorem mw_6 {k : Nat} {v : Int32} : jwAI (mhp h m S) 101 (m + 6) k v = mhp h m (uA S 6 k v) := mh_wAI (by decide) (by decide)
theorem mp_7 (hm : mOk h m) : jOP h 30 m = some (m + 7) := (hm.2.2 (30, 7, 101, 32) (List.mem_of_getElem? (i := 6) rfl)).1
theorem mk_7 (hm : mOk h m) : jkd h (m + 7) = 101 := (hm.2.2 (30, 7, 101, 32) (List.mem_of_getElem? (i := 6) rfl)).2.1
theorem ml_7 (hm : mOk h m) : jln h (m + 7) = 32 := (hm.2.2 (30, 7, 101, 32) (List.mem_of_getElem? (i := 6) rfl)).2.2
theorem mr_7 {k : Nat} : jAI (mhp h m S) 101 (m + 7) k = S.2.1 7 k := mh_AI (by decide) (by decide)
theorem mw_7 {k : Nat} {v : Int32} : jwAI (mhp h m S) 101 (m + 7) k v = mhp h m (uA S 7 k v) := mh_wAI (by decide) (by decide)
theorem mp_8 (hm : mOk h m) : jOP h 31 m = some (m + 8) := (hm.2.2 (31, 8, 101, 32) (List.mem_of_getElem? (i := 7) rfl)).1
theorem mk_8 (hm : mOk h m) : jkd h (m + 8) = 101 := (hm.2.2 (31, 8, 101, 32) (List.mem_of_getElem? (i := 7) rfl)).2.1
theorem ml_8 (hm : mOk h m) : jln h (m + 8) = 32 := (hm.2.2 (31, 8, 101, 32) (List.mem_of_getElem? (i := 7) rfl)).2.2
theorem mr_8 {k : Nat} : jAI (mhp h m S) 101 (m + 8) k = S.2.1 8 k := mh_AI (by decide) (by decide)
theorem mw_8 {k : Nat} {v : Int32} : jwAI (mhp h m S) 101 (m + 8) k v = mhp h m (uA S 8 k v) := mh_wAI (by decide) (by decide)
theorem mp_9 (hm : mOk h m) : jOP h 33 m = some (m + 9) := (hm.2.2 (33, 9, 105, 456) (List.mem_of_getElem? (i := 8) rfl)).1
theorem mk_9 (hm : mOk h m) : jkd h (m + 9) = 105 := (hm.2.2 (33, 9, 105, 456) (List.mem_of_getElem? (i := 8) rfl)).2.1
theorem ml_9 (hm : mOk h m) : jln h (m + 9) = 456 := (hm.2.2 (33, 9, 105, 456) (List.mem_of_getElem? (i := 8) rfl)).2.2
theorem mr_9 {k : Nat} : jAL (mhp h m S) (m + 9) k = S.2.2 9 k := mh_AL (by decide) (by decide)
theorem mw_9 {k : Nat} {v : Int64} : jwAL (mhp h m S) (m + 9) k v = mhp h m (uL S 9 k v) := mh_wAL (by decide) (by decide)
theorem mp_10 (hm : mOk h m) : jOP h 34 m = some (m + 10) := (hm.2.2 (34, 10, 105, 456) (List.mem_of_getElem? (i := 9) rfl)).1
theorem mk_10 (hm : mOk h m) : jkd h (m + 10) = 105 := (hm.2.2 (34, 10, 105, 456) (List.mem_of_getElem? (i := 9) rfl)).2.1
theorem ml_10 (hm : mOk h m) : jln h (m + 10) = 456 := (hm.2.2 (34, 10, 105, 456) (List.mem_of_getElem? (i := 9) rfl)).2.2
theorem mr_10 {k : Nat} : jAL (mhp h m S) (m + 10) k = S.2.2 10 k := mh_AL (by decide) (by decide)
theorem mw_10 {k : Nat} {v : Int64} : jwAL (mhp h m S) (m + 10) k v = mhp h m (uL S 10 k v) := mh_wAL (by decide) (by decide)
theorem mp_11 (hm : mOk h m) : jOP h 37 m = some (m + 11) := (hm.2.2 (37, 11, 101, 1936) (List.mem_of_getElem? (i := 10) rfl)).1
theorem mk_11 (hm : mOk h m) : jkd h (m + 11) = 101 := (hm.2.2 (37, 11, 101, 1936) (List.mem_of_getElem? (i := 10) rfl)).2.1
theorem ml_11 (hm : mOk h m) : jln h (m + 11) = 1936 := (hm.2.2 (37, 11, 101, 1936) (List.mem_of_getElem? (i := 10) rfl)).2.2
theorem mr_11 {k : Nat} : jAI (mhp h m S) 101 (m + 11) k = S.2.1 11 k := mh_AI (by decide) (by decide)
theorem mw_11 {k : Nat} {v : Int32} : jwAI (mhp h m S) 101 (m + 11) k v = mhp h m (uA S 11 k v) := mh_wAI (by decide) (by decide)
theorem mp_12 (hm : mOk h m) : jOP h 38 m = some (m + 12) := (hm.2.2 (38, 12, 101, 1936) (List.mem_of_getElem? (i := 11) rfl)).1
theorem mk_12 (hm : mOk h m) : jkd h (m + 12) = 101 := (hm.2.2 (38, 12, 101, 1936) (List.mem_of_getElem? (i := 11) rfl)).2.1
theorem ml_12 (hm : mOk h m) : jln h (m + 12) = 1936 := (hm.2.2 (38, 12, 101, 1936) (List.mem_of_getElem? (i := 11) rfl)).2.2
theorem mr_12 {k : Nat} : jAI (mhp h m S) 101 (m + 12) k = S.2.1 12 k := mh_AI (by decide) (by decide)
theorem mw_12 {k : Nat} {v : Int32} : jwAI (mhp h m S) 101 (m + 12) k v = mhp h m (uA S 12 k v) := mh_wAI (by decide) (by decide)
theorem mp_13 (hm : mOk h m) : jOP h 40 m = some (m + 13) := (hm.2.2 (40, 13, 101, 120) (List.mem_of_getElem? (i := 12) rfl)).1
theorem mk_13 (hm : mOk h m) : jkd h (m + 13) = 101 := (hm.2.2 (40, 13, 101, 120) (List.mem_of_getElem? (i := 12) rfl)).2.1
theorem ml_13 (hm : mOk h m) : jln h (m + 13) = 120 := (hm.2.2 (40, 13, 101, 120) (List.mem_of_getElem? (i := 12) rfl)).2.2
theorem mr_13 {k : Nat} : jAI (mhp h m S) 101 (m + 13) k = S.2.1 13 k := mh_AI (by decide) (by decide)
theorem mw_13 {k : Nat} {v : Int32} : jwAI (mhp h m S) 101 (m + 13) k v = mhp h m (uA S 13 k v) := mh_wAI (by decide) (by decide)
theorem mp_14 (hm : mOk h m) : jOP h 41 m = some (m + 14) := (hm.2.2 (41, 14, 101, 120) (List.mem_of_getElem? (i := 13) rfl)).1
theorem mk_14 (hm : mOk h m) : jkd h (m + 14) = 101 := (hm.2.2 (41, 14, 101, 120) (List.mem_of_getElem? (i := 13) rfl)).2.1
theorem ml_14 (hm : mOk h m) : jln h (m + 14) = 120 := (hm.2.2 (41, 14, 101, 120) (List.mem_of_getElem? (i := 13) rfl)).2.2
theorem mr_14 {k : Nat} : jAI (mhp h m S) 101 (m + 14) k = S.2.1 14 k := mh_AI (by decide) (by decide)
theorem mw_14 {k : Nat} {v : Int32} : jwAI (mhp h m S) 101 (m + 14) k v = mhp h m (uA S 14 k v) := mh_wAI (by decide) (by decide)
theorem mp_15 (hm : mOk h m) : jOP h 42 m = some (m + 15) := (hm.2.2 (42, 15, 101, 200) (List.mem_of_getElem? (i := 14) rfl)).1
theorem mk_15 (hm : mOk h m) : jkd h (m + 15) = 101 := (hm.2.2 (42, 15, 101, 200) (List.mem_of_getElem? (i := 14) rfl)).2.1
theorem ml_15 (hm : mOk h m) : jln h (m + 15) = 200 := (hm.2.2 (42, 15, 101, 200) (List.mem_of_getElem? (i := 14) rfl)).2.2
theorem mr_15 {k : Nat} : jAI (mhp h m S) 101 (m + 15) k = S.2.1 15 k := mh_AI (by decide) (by decide)
theorem mw_15 {k : Nat} {v : Int32} : jwAI (mhp h m S) 101 (m + 15) k v = mhp h m (uA S 15 k v) := mh_wAI (by decide) (by decide)
theorem mp_16 (hm : mOk h m) : jOP h 43 m = some (m + 16) := (hm.2.2 (43, 16, 101, 200) (List.mem_of_getElem? (i := 15) rfl)).1
theorem mk_16 (hm : mOk h m) : jkd h (m + 16) = 101 := (hm.2.2 (43, 16, 101, 200) (List.mem_of_getElem? (i := 15) rfl)).2.1
theorem ml_16 (hm : mOk h m) : jln h (m + 16) = 200 := (hm.2.2 (43, 16, 101, 200) (List.mem_of_getElem? (i := 15) rfl)).2.2
theorem mr_16 {k : Nat} : jAI (mhp h m S) 101 (m + 16) k = S.2.1 16 k := mh_AI (by decide) (by decide)
theorem mw_16 {k : Nat} {v : Int32} : jwAI (mhp h m S) 101 (m + 16) k v = mhp h m (uA S 16 k v) := mh_wAI (by decide) (by decide)
theorem mp_17 (hm : mOk h m) : jOP h 46 m = some (m + 17) := (hm.2.2 (46, 17, 101, 1412) (List.mem_of_getElem? (i := 16) rfl)).1
theorem mk_17 (hm : mOk h m) : jkd h (m + 17) = 101 := (hm.2.2 (46, 17, 101, 1412) (List.mem_of_getElem? (i := 16) rfl)).2.1
theorem ml_17 (hm : mOk h m) : jln h (m + 17) = 1412 := (hm.2.2 (46, 17, 101, 1412) (List.mem_of_getElem? (i := 16) rfl)).2.2
theorem mr_17 {k : Nat} : jAI (mhp h m S) 101 (m + 17) k = S.2.1 17 k := mh_AI (by decide) (by decide)
theorem mw_17 {k : Nat} {v : Int32} : jwAI (mhp h m S) 101 (m + 17) k v = mhp h m (uA S 17 k v) := mh_wAI (by decide) (by decide)
theorem mp_18 (hm : mOk h m) : jOP h 47 m = some (m + 18) := (hm.2.2 (47, 18, 101, 1412) (List.mem_of_getElem? (i := 17) rfl)).1
theorem mk_18 (hm : mOk h m) : jkd h (m + 18) = 101 := (hm.2.2 (47, 18, 101, 1412) (List.mem_of_getElem? (i := 17) rfl)).2.1
theorem ml_18 (hm : mOk h m) : jln h (m + 18) = 1412 := (hm.2.2 (47, 18, 101, 1412) (List.mem_of_getElem? (i := 17) rfl)).2.2
theorem mr_18 {k : Nat} : jAI (mhp h m S) 101 (m + 18) k = S.2.1 18 k := mh_AI (by decide) (by decide)
theorem mw_18 {k : Nat} {v : Int32} : jwAI (mhp h m S) 101 (m + 18) k v = mhp h m (uA S 18 k v) := mh_wAI (by decide) (by decide)
theorem mp_19 (hm : mOk h m) : jOP h 48 m = some (m + 19) := (hm.2.2 (48, 19, 101, 6) (List.mem_of_getElem? (i := 18) rfl)).1
theorem mk_19 (hm : mOk h m) : jkd h (m + 19) = 101 := (hm.2.2 (48, 19, 101, 6) (List.mem_of_getElem? (i := 18) rfl)).2.1
theorem ml_19 (hm : mOk h m) : jln h (m + 19) = 6 := (hm.2.2 (48, 19, 101, 6) (List.mem_of_getElem? (i := 18) rfl)).2.2
theorem mr_19 {k : Nat} : jAI (mhp h m S) 101 (m + 19) k = S.2.1 19 k := mh_AI (by decide) (by decide)
theorem mw_19 {k : Nat} {v : Int32} : jwAI (mhp h m S) 101 (m + 19) k v = mhp h m (uA S 19 k v) := mh_wAI (by decide) (by decide)
theorem mp_20 (hm : mOk h m) : jOP h 49 m = some (m + 20) := (hm.2.2 (49, 20, 101, 6) (List.mem_of_getElem? (i := 19) rfl)).1
theorem mk_20 (hm : mOk h m) : jkd h (m + 20) = 101 := (hm.2.2 (49, 20, 101, 6) (List.mem_of_getElem? (i := 19) rfl)).2.1
theorem ml_20 (hm : mOk h m) : jln h (m + 20) = 6 := (hm.2.2 (49, 20, 101, 6) (List.mem_of_getElem? (i := 19) rfl)).2.2
theorem mr_20 {k : Nat} : jAI (mhp h m S) 101 (m + 20) k = S.2.1 20 k := mh_AI (by decide) (by decide)
theorem mw_20 {k : Nat} {v : Int32} : jwAI (mhp h m S) 101 (m + 20) k v = mhp h m (uA S 20 k v) := mh_wAI (by decide) (by decide)
theorem mp_21 (hm : mOk h m) : jOP h 50 m = some (m + 21) := (hm.2.2 (50, 21, 101, 6) (List.mem_of_getElem? (i := 20) rfl)).1
theorem mk_21 (hm : mOk h m) : jkd h (m + 21) = 101 := (hm.2.2 (50, 21, 101, 6) (List.mem_of_getElem? (i := 20) rfl)).2.1
theorem ml_21 (hm : mOk h m) : jln h (m + 21) = 6 := (hm.2.2 (50, 21, 101, 6) (List.mem_of_getElem? (i := 20) rfl)).2.2
theorem mr_21 {k : Nat} : jAI (mhp h m S) 101 (m + 21) k = S.2.1 21 k := mh_AI (by decide) (by decide)
theorem mw_21 {k : Nat} {v : Int32} : jwAI (mhp h m S) 101 (m + 21) k v = mhp h m (uA S 21 k v) := mh_wAI (by decide) (by decide)
theorem mp_22 (hm : mOk h m) : jOP h 51 m = some (m + 22) := (hm.2.2 (51, 22, 105, 44) (List.mem_of_getElem? (i := 21) rfl)).1
theorem mk_22 (hm : mOk h m) : jkd h (m + 22) = 105 := (hm.2.2 (51, 22, 105, 44) (List.mem_of_getElem? (i := 21) rfl)).2.1
theorem ml_22 (hm : mOk h m) : jln h (m + 22) = 44 := (hm.2.2 (51, 22, 105, 44) (List.mem_of_getElem? (i := 21) rfl)).2.2
theorem mr_22 {k : Nat} : jAL (mhp h m S) (m + 22) k = S.2.2 22 k := mh_AL (by decide) (by decide)
theorem mw_22 {k : Nat} {v : Int64} : jwAL (mhp h m S) (m + 22) k v = mhp h m (uL S 22 k v) := mh_wAL (by decide) (by decide)
theorem mp_23 (hm : mOk h m) : jOP h 57 m = some (m + 23) := (hm.2.2 (57, 23, 101, 200) (List.mem_of_getElem? (i := 22) rfl)).1
theorem mk_23 (hm : mOk h m) : jkd h (m + 23) = 101 := (hm.2.2 (57, 23, 101, 200) (List.mem_of_getElem? (i := 22) rfl)).2.1
theorem ml_23 (hm : mOk h m) : jln h (m + 23) = 200 := (hm.2.2 (57, 23, 101, 200) (List.mem_of_getElem? (i := 22) rfl)).2.2
theorem mr_23 {k : Nat} : jAI (mhp h m S) 101 (m + 23) k = S.2.1 23 k := mh_AI (by decide) (by decide)
theorem mw_23 {k : Nat} {v : Int32} : jwAI (mhp h m S) 101 (m + 23) k v = mhp h m (uA S 23 k v) := mh_wAI (by decide) (by decide)
end MH
theorem n_1 : (1 : Int32) = nI 1 := rfl
theorem n_0 : (0 : Int32) = nI 0 := rfl
theorem cl_n {n : Nat} (h : n < 2 ^ 31) : (nI n).toNatClampNeg = n := nI_clamp h
