/-! THE SMALL MACHINE: a plain machine over typed maps, to which the given one is shown to answer (own work) -/
abbrev jV : Type := Int32 ⊕ (Int64 ⊕ (UInt64 ⊕ (UInt32 ⊕ Option Nat)))
abbrev jI (x : Int32) : jV := Sum.inl x
abbrev jL (x : Int64) : jV := Sum.inr (Sum.inl x)
abbrev jD (x : UInt64) : jV := Sum.inr (Sum.inr (Sum.inl x))
abbrev jF (x : UInt32) : jV := Sum.inr (Sum.inr (Sum.inr (Sum.inl x)))
abbrev jP (x : Option Nat) : jV := Sum.inr (Sum.inr (Sum.inr (Sum.inr x)))
/-- the heap: kinds, lengths, next address, slots so far, constants; int fields, reference fields, contents of arrays -/
abbrev jH : Type := (Nat → Nat) × (Nat → Nat) × Nat × Nat × (Nat → Option Nat) × (Nat → Nat → Int32) × (Nat → Nat → Option Nat) × (Nat → Nat → Nat → Int32) × (Nat → Nat → Int64) × (Nat → Nat → UInt64) × (Nat → Nat → Nat → Option Nat)
def jkd (h : jH) : Nat → Nat := h.1
def jln (h : jH) : Nat → Nat := h.2.1
def jsz (h : jH) : Nat := h.2.2.1
def jsl (h : jH) : Nat := h.2.2.2.1
def jcs (h : jH) : Nat → Option Nat := h.2.2.2.2.1
def jOI (h : jH) : Nat → Nat → Int32 := h.2.2.2.2.2.1
def jOP (h : jH) : Nat → Nat → Option Nat := h.2.2.2.2.2.2.1
def jAI (h : jH) : Nat → Nat → Nat → Int32 := h.2.2.2.2.2.2.2.1
def jAL (h : jH) : Nat → Nat → Int64 := h.2.2.2.2.2.2.2.2.1
def jAD (h : jH) : Nat → Nat → UInt64 := h.2.2.2.2.2.2.2.2.2.1
def jAP (h : jH) : Nat → Nat → Nat → Option Nat := h.2.2.2.2.2.2.2.2.2.2
def jwI (h : jH) (f a : Nat) (v : Int32) : jH := (jkd h, jln h, jsz h, jsl h, jcs h, fun g b => if g = f ∧ b = a then v else jOI h g b, jOP h, jAI h, jAL h, jAD h, jAP h)
def jwP (h : jH) (f a : Nat) (v : Option Nat) : jH := (jkd h, jln h, jsz h, jsl h, jcs h, jOI h, fun g b => if g = f ∧ b = a then v else jOP h g b, jAI h, jAL h, jAD h, jAP h)
def jwAI (h : jH) (t a k : Nat) (v : Int32) : jH := (jkd h, jln h, jsz h, jsl h, jcs h, jOI h, jOP h, fun u b j => if u = t ∧ b = a ∧ j = k then v else jAI h u b j, jAL h, jAD h, jAP h)
def jwAL (h : jH) (a k : Nat) (v : Int64) : jH := (jkd h, jln h, jsz h, jsl h, jcs h, jOI h, jOP h, jAI h, fun b j => if b = a ∧ j = k then v else jAL h b j, jAD h, jAP h)
def jwAD (h : jH) (a k : Nat) (v : UInt64) : jH := (jkd h, jln h, jsz h, jsl h, jcs h, jOI h, jOP h, jAI h, jAL h, fun b j => if b = a ∧ j = k then v else jAD h b j, jAP h)
def jwAP (h : jH) (t a k : Nat) (v : Option Nat) : jH := (jkd h, jln h, jsz h, jsl h, jcs h, jOI h, jOP h, jAI h, jAL h, jAD h, fun u b j => if u = t ∧ b = a ∧ j = k then v else jAP h u b j)
def jwXL (h : jH) (a : Nat) (v : Nat → Int64) : jH := (jkd h, jln h, jsz h, jsl h, jcs h, jOI h, jOP h, jAI h, fun b j => if b = a then v j else jAL h b j, jAD h, jAP h)
def jwXP (h : jH) (t a : Nat) (v : Nat → Option Nat) : jH := (jkd h, jln h, jsz h, jsl h, jcs h, jOI h, jOP h, jAI h, jAL h, jAD h, fun u b j => if u = t ∧ b = a then v j else jAP h u b j)
def jnew (h : jH) (c n : Nat) : jH := (fun b => if b = jsz h then c else jkd h b, jln h, jsz h + 1, jsl h + n, jcs h, fun g b => if b = jsz h then 0 else jOI h g b, fun g b => if b = jsz h then none else jOP h g b, jAI h, jAL h, jAD h, jAP h)
def jnewA (h : jH) (t n : Nat) : jH := (fun b => if b = jsz h then t else jkd h b, fun b => if b = jsz h then n else jln h b, jsz h + 1, jsl h + n, jcs h, jOI h, jOP h, fun u b j => if b = jsz h then 0 else jAI h u b j, fun b j => if b = jsz h then 0 else jAL h b j, fun b j => if b = jsz h then 0 else jAD h b j, fun u b j => if b = jsz h then none else jAP h u b j)
theorem jwI_kd (h : jH) (f a : Nat) (v : Int32) : jkd (jwI h f a v) = jkd h := rfl
theorem jwI_ln (h : jH) (f a : Nat) (v : Int32) : jln (jwI h f a v) = jln h := rfl
theorem jwI_sz (h : jH) (f a : Nat) (v : Int32) : jsz (jwI h f a v) = jsz h := rfl
theorem jwI_sl (h : jH) (f a : Nat) (v : Int32) : jsl (jwI h f a v) = jsl h := rfl
theorem jwI_cs (h : jH) (f a : Nat) (v : Int32) : jcs (jwI h f a v) = jcs h := rfl
theorem jwI_OI (h : jH) (f a : Nat) (v : Int32) (g b : Nat) : jOI (jwI h f a v) g b = if g = f ∧ b = a then v else jOI h g b := rfl
theorem jwI_OP (h : jH) (f a : Nat) (v : Int32) : jOP (jwI h f a v) = jOP h := rfl
theorem jwI_AI (h : jH) (f a : Nat) (v : Int32) : jAI (jwI h f a v) = jAI h := rfl
theorem jwI_AL (h : jH) (f a : Nat) (v : Int32) : jAL (jwI h f a v) = jAL h := rfl
theorem jwI_AD (h : jH) (f a : Nat) (v : Int32) : jAD (jwI h f a v) = jAD h := rfl
theorem jwI_AP (h : jH) (f a : Nat) (v : Int32) : jAP (jwI h f a v) = jAP h := rfl
theorem jwP_kd (h : jH) (f a : Nat) (v : Option Nat) : jkd (jwP h f a v) = jkd h := rfl
theorem jwP_ln (h : jH) (f a : Nat) (v : Option Nat) : jln (jwP h f a v) = jln h := rfl
theorem jwP_sz (h : jH) (f a : Nat) (v : Option Nat) : jsz (jwP h f a v) = jsz h := rfl
theorem jwP_sl (h : jH) (f a : Nat) (v : Option Nat) : jsl (jwP h f a v) = jsl h := rfl
theorem jwP_cs (h : jH) (f a : Nat) (v : Option Nat) : jcs (jwP h f a v) = jcs h := rfl
theorem jwP_OI (h : jH) (f a : Nat) (v : Option Nat) : jOI (jwP h f a v) = jOI h := rfl
theorem jwP_OP (h : jH) (f a : Nat) (v : Option Nat) (g b : Nat) : jOP (jwP h f a v) g b = if g = f ∧ b = a then v else jOP h g b := rfl
theorem jwP_AI (h : jH) (f a : Nat) (v : Option Nat) : jAI (jwP h f a v) = jAI h := rfl
theorem jwP_AL (h : jH) (f a : Nat) (v : Option Nat) : jAL (jwP h f a v) = jAL h := rfl
theorem jwP_AD (h : jH) (f a : Nat) (v : Option Nat) : jAD (jwP h f a v) = jAD h := rfl
theorem jwP_AP (h : jH) (f a : Nat) (v : Option Nat) : jAP (jwP h f a v) = jAP h := rfl
theorem jwAI_kd (h : jH) (t a k : Nat) (v : Int32) : jkd (jwAI h t a k v) = jkd h := rfl
theorem jwAI_ln (h : jH) (t a k : Nat) (v : Int32) : jln (jwAI h t a k v) = jln h := rfl
theorem jwAI_sz (h : jH) (t a k : Nat) (v : Int32) : jsz (jwAI h t a k v) = jsz h := rfl
theorem jwAI_sl (h : jH) (t a k : Nat) (v : Int32) : jsl (jwAI h t a k v) = jsl h := rfl
theorem jwAI_cs (h : jH) (t a k : Nat) (v : Int32) : jcs (jwAI h t a k v) = jcs h := rfl
theorem jwAI_OI (h : jH) (t a k : Nat) (v : Int32) : jOI (jwAI h t a k v) = jOI h := rfl
theorem jwAI_OP (h : jH) (t a k : Nat) (v : Int32) : jOP (jwAI h t a k v) = jOP h := rfl
theorem jwAI_AI (h : jH) (t a k : Nat) (v : Int32) (u b j : Nat) : jAI (jwAI h t a k v) u b j = if u = t ∧ b = a ∧ j = k then v else jAI h u b j := rfl
theorem jwAI_AL (h : jH) (t a k : Nat) (v : Int32) : jAL (jwAI h t a k v) = jAL h := rfl
theorem jwAI_AD (h : jH) (t a k : Nat) (v : Int32) : jAD (jwAI h t a k v) = jAD h := rfl
theorem jwAI_AP (h : jH) (t a k : Nat) (v : Int32) : jAP (jwAI h t a k v) = jAP h := rfl
theorem jwAL_kd (h : jH) (a k : Nat) (v : Int64) : jkd (jwAL h a k v) = jkd h := rfl
theorem jwAL_ln (h : jH) (a k : Nat) (v : Int64) : jln (jwAL h a k v) = jln h := rfl
theorem jwAL_sz (h : jH) (a k : Nat) (v : Int64) : jsz (jwAL h a k v) = jsz h := rfl
theorem jwAL_sl (h : jH) (a k : Nat) (v : Int64) : jsl (jwAL h a k v) = jsl h := rfl
theorem jwAL_cs (h : jH) (a k : Nat) (v : Int64) : jcs (jwAL h a k v) = jcs h := rfl
theorem jwAL_OI (h : jH) (a k : Nat) (v : Int64) : jOI (jwAL h a k v) = jOI h := rfl
theorem jwAL_OP (h : jH) (a k : Nat) (v : Int64) : jOP (jwAL h a k v) = jOP h := rfl
theorem jwAL_AI (h : jH) (a k : Nat) (v : Int64) : jAI (jwAL h a k v) = jAI h := rfl
theorem jwAL_AL (h : jH) (a k : Nat) (v : Int64) (b j : Nat) : jAL (jwAL h a k v) b j = if b = a ∧ j = k then v else jAL h b j := rfl
theorem jwAL_AD (h : jH) (a k : Nat) (v : Int64) : jAD (jwAL h a k v) = jAD h := rfl
theorem jwAL_AP (h : jH) (a k : Nat) (v : Int64) : jAP (jwAL h a k v) = jAP h := rfl
theorem jwAD_kd (h : jH) (a k : Nat) (v : UInt64) : jkd (jwAD h a k v) = jkd h := rfl
theorem jwAD_ln (h : jH) (a k : Nat) (v : UInt64) : jln (jwAD h a k v) = jln h := rfl
theorem jwAD_sz (h : jH) (a k : Nat) (v : UInt64) : jsz (jwAD h a k v) = jsz h := rfl
theorem jwAD_sl (h : jH) (a k : Nat) (v : UInt64) : jsl (jwAD h a k v) = jsl h := rfl
theorem jwAD_cs (h : jH) (a k : Nat) (v : UInt64) : jcs (jwAD h a k v) = jcs h := rfl
theorem jwAD_OI (h : jH) (a k : Nat) (v : UInt64) : jOI (jwAD h a k v) = jOI h := rfl
theorem jwAD_OP (h : jH) (a k : Nat) (v : UInt64) : jOP (jwAD h a k v) = jOP h := rfl
theorem jwAD_AI (h : jH) (a k : Nat) (v : UInt64) : jAI (jwAD h a k v) = jAI h := rfl
theorem jwAD_AL (h : jH) (a k : Nat) (v : UInt64) : jAL (jwAD h a k v) = jAL h := rfl
theorem jwAD_AD (h : jH) (a k : Nat) (v : UInt64) (b j : Nat) : jAD (jwAD h a k v) b j = if b = a ∧ j = k then v else jAD h b j := rfl
theorem jwAD_AP (h : jH) (a k : Nat) (v : UInt64) : jAP (jwAD h a k v) = jAP h := rfl
theorem jwAP_kd (h : jH) (t a k : Nat) (v : Option Nat) : jkd (jwAP h t a k v) = jkd h := rfl
theorem jwAP_ln (h : jH) (t a k : Nat) (v : Option Nat) : jln (jwAP h t a k v) = jln h := rfl
theorem jwAP_sz (h : jH) (t a k : Nat) (v : Option Nat) : jsz (jwAP h t a k v) = jsz h := rfl
theorem jwAP_sl (h : jH) (t a k : Nat) (v : Option Nat) : jsl (jwAP h t a k v) = jsl h := rfl
theorem jwAP_cs (h : jH) (t a k : Nat) (v : Option Nat) : jcs (jwAP h t a k v) = jcs h := rfl
theorem jwAP_OI (h : jH) (t a k : Nat) (v : Option Nat) : jOI (jwAP h t a k v) = jOI h := rfl
theorem jwAP_OP (h : jH) (t a k : Nat) (v : Option Nat) : jOP (jwAP h t a k v) = jOP h := rfl
theorem jwAP_AI (h : jH) (t a k : Nat) (v : Option Nat) : jAI (jwAP h t a k v) = jAI h := rfl
theorem jwAP_AL (h : jH) (t a k : Nat) (v : Option Nat) : jAL (jwAP h t a k v) = jAL h := rfl
theorem jwAP_AD (h : jH) (t a k : Nat) (v : Option Nat) : jAD (jwAP h t a k v) = jAD h := rfl
theorem jwAP_AP (h : jH) (t a k : Nat) (v : Option Nat) (u b j : Nat) : jAP (jwAP h t a k v) u b j = if u = t ∧ b = a ∧ j = k then v else jAP h u b j := rfl
theorem jwXL_kd (h : jH) (a : Nat) (v : Nat → Int64) : jkd (jwXL h a v) = jkd h := rfl
theorem jwXL_ln (h : jH) (a : Nat) (v : Nat → Int64) : jln (jwXL h a v) = jln h := rfl
theorem jwXL_sz (h : jH) (a : Nat) (v : Nat → Int64) : jsz (jwXL h a v) = jsz h := rfl
theorem jwXL_sl (h : jH) (a : Nat) (v : Nat → Int64) : jsl (jwXL h a v) = jsl h := rfl
theorem jwXL_cs (h : jH) (a : Nat) (v : Nat → Int64) : jcs (jwXL h a v) = jcs h := rfl
theorem jwXL_OI (h : jH) (a : Nat) (v : Nat → Int64) : jOI (jwXL h a v) = jOI h := rfl
theorem jwXL_OP (h : jH) (a : Nat) (v : Nat → Int64) : jOP (jwXL h a v) = jOP h := rfl
theorem jwXL_AI (h : jH) (a : Nat) (v : Nat → Int64) : jAI (jwXL h a v) = jAI h := rfl
theorem jwXL_AL (h : jH) (a : Nat) (v : Nat → Int64) (b j : Nat) : jAL (jwXL h a v) b j = if b = a then v j else jAL h b j := rfl
theorem jwXL_AD (h : jH) (a : Nat) (v : Nat → Int64) : jAD (jwXL h a v) = jAD h := rfl
theorem jwXL_AP (h : jH) (a : Nat) (v : Nat → Int64) : jAP (jwXL h a v) = jAP h := rfl
theorem jwXP_kd (h : jH) (t a : Nat) (v : Nat → Option Nat) : jkd (jwXP h t a v) = jkd h := rfl
theorem jwXP_ln (h : jH) (t a : Nat) (v : Nat → Option Nat) : jln (jwXP h t a v) = jln h := rfl
theorem jwXP_sz (h : jH) (t a : Nat) (v : Nat → Option Nat) : jsz (jwXP h t a v) = jsz h := rfl
theorem jwXP_sl (h : jH) (t a : Nat) (v : Nat → Option Nat) : jsl (jwXP h t a v) = jsl h := rfl
theorem jwXP_cs (h : jH) (t a : Nat) (v : Nat → Option Nat) : jcs (jwXP h t a v) = jcs h := rfl
theorem jwXP_OI (h : jH) (t a : Nat) (v : Nat → Option Nat) : jOI (jwXP h t a v) = jOI h := rfl
theorem jwXP_OP (h : jH) (t a : Nat) (v : Nat → Option Nat) : jOP (jwXP h t a v) = jOP h := rfl
theorem jwXP_AI (h : jH) (t a : Nat) (v : Nat → Option Nat) : jAI (jwXP h t a v) = jAI h := rfl
theorem jwXP_AL (h : jH) (t a : Nat) (v : Nat → Option Nat) : jAL (jwXP h t a v) = jAL h := rfl
theorem jwXP_AD (h : jH) (t a : Nat) (v : Nat → Option Nat) : jAD (jwXP h t a v) = jAD h := rfl
theorem jwXP_AP (h : jH) (t a : Nat) (v : Nat → Option Nat) (u b j : Nat) : jAP (jwXP h t a v) u b j = if u = t ∧ b = a then v j else jAP h u b j := rfl
theorem jnew_kd (h : jH) (c n : Nat) (b : Nat) : jkd (jnew h c n) b = if b = jsz h then c else jkd h b := rfl
theorem jnew_ln (h : jH) (c n : Nat) : jln (jnew h c n) = jln h := rfl
theorem jnew_sz (h : jH) (c n : Nat) : jsz (jnew h c n) = jsz h + 1 := rfl
theorem jnew_sl (h : jH) (c n : Nat) : jsl (jnew h c n) = jsl h + n := rfl
theorem jnew_cs (h : jH) (c n : Nat) : jcs (jnew h c n) = jcs h := rfl
theorem jnew_OI (h : jH) (c n : Nat) (g b : Nat) : jOI (jnew h c n) g b = if b = jsz h then 0 else jOI h g b := rfl
theorem jnew_OP (h : jH) (c n : Nat) (g b : Nat) : jOP (jnew h c n) g b = if b = jsz h then none else jOP h g b := rfl
theorem jnew_AI (h : jH) (c n : Nat) : jAI (jnew h c n) = jAI h := rfl
theorem jnew_AL (h : jH) (c n : Nat) : jAL (jnew h c n) = jAL h := rfl
theorem jnew_AD (h : jH) (c n : Nat) : jAD (jnew h c n) = jAD h := rfl
theorem jnew_AP (h : jH) (c n : Nat) : jAP (jnew h c n) = jAP h := rfl
theorem jnewA_kd (h : jH) (t n : Nat) (b : Nat) : jkd (jnewA h t n) b = if b = jsz h then t else jkd h b := rfl
theorem jnewA_ln (h : jH) (t n : Nat) (b : Nat) : jln (jnewA h t n) b = if b = jsz h then n else jln h b := rfl
theorem jnewA_sz (h : jH) (t n : Nat) : jsz (jnewA h t n) = jsz h + 1 := rfl
theorem jnewA_sl (h : jH) (t n : Nat) : jsl (jnewA h t n) = jsl h + n := rfl
theorem jnewA_cs (h : jH) (t n : Nat) : jcs (jnewA h t n) = jcs h := rfl
theorem jnewA_OI (h : jH) (t n : Nat) : jOI (jnewA h t n) = jOI h := rfl
theorem jnewA_OP (h : jH) (t n : Nat) : jOP (jnewA h t n) = jOP h := rfl
theorem jnewA_AI (h : jH) (t n : Nat) (u b j : Nat) : jAI (jnewA h t n) u b j = if b = jsz h then 0 else jAI h u b j := rfl
theorem jnewA_AL (h : jH) (t n : Nat) (b j : Nat) : jAL (jnewA h t n) b j = if b = jsz h then 0 else jAL h b j := rfl
theorem jnewA_AD (h : jH) (t n : Nat) (b j : Nat) : jAD (jnewA h t n) b j = if b = jsz h then 0 else jAD h b j := rfl
theorem jnewA_AP (h : jH) (t n : Nat) (u b j : Nat) : jAP (jnewA h t n) u b j = if b = jsz h then none else jAP h u b j := rfl
/-- continuations: at a place of the code with locals, stack, heap; at the end with an answer (or what is thrown) -/
abbrev jK : Type := Nat → List (Option jV) → List jV → jH → Prop
abbrev jA : Type := Option jV ⊕ Nat
abbrev jR : Type := jA → jH → Prop
abbrev jOp : Type := jK → jR → List (Option jV) → List jV → jH → Prop
abbrev jE : Type := Nat → List jV → jH → jA → jH → Prop
def jwide (v : jV) : Bool := match v with
  | .inr (.inl _) => true
  | .inr (.inr (.inl _)) => true
  | _ => false
def jclr (ls : List (Option jV)) (i : Nat) : List (Option jV) := match i with
  | 0 => ls
  | k + 1 => match ls[k]? with
    | some (some w) => bif jwide w then ls.set k none else ls
    | _ => ls
def jset (ls : List (Option jV)) (i : Nat) (v : jV) : List (Option jV) := bif jwide v then ((jclr ls i).set i (some v)).set (i + 1) none else (jclr ls i).set i (some v)
def jlk {α : Type} : List (Nat × α) → Nat → Option α
  | [], _ => none
  | q :: r, k => bif Nat.beq q.1 k then some q.2 else jlk r k
def onr (x : Option Nat) (P : Nat → Prop) : Prop := match x with
  | some a => P a
  | none => False
theorem onr_some {a : Nat} {P : Nat → Prop} : onr (some a) P ↔ P a := Iff.rfl
theorem onr_none {P : Nat → Prop} : onr none P ↔ False := Iff.rfl
theorem onr_i {x : Option Nat} {P : Nat → Prop} {a : Nat} (e : x = some a) (h : P a) : onr x P := by
  subst e
  exact h
theorem onr_ex {x : Option Nat} {P : Nat → Prop} (h : onr x P) : ∃ a, x = some a ∧ P a := by
  cases x with
  | none => exact h.elim
  | some a => exact ⟨a, rfl, h⟩
theorem onr_m {x : Option Nat} {P Q : Nat → Prop} (f : ∀ a, P a → Q a) (h : onr x P) : onr x Q := by
  cases x with
  | none => exact h
  | some a => exact f a h
theorem onr_d {ι : Type} {x : Option Nat} {P : Nat → Prop} {Q : ι → Nat → Prop} (f : ∀ a, P a → ∃ i, Q i a) (h : onr x P) : ∃ i, onr x (Q i) := by
  cases x with
  | none => exact h.elim
  | some a => exact f a h
/-- the words of a stack; what must hold of it -/
def jws : List jV → Nat
  | [] => 0
  | v :: r => (bif jwide v then 2 else 1) + jws r
def jgd (b : Bool) (P : Prop) : Prop := match b with
  | true => P
  | false => False
theorem jgd_m {b : Bool} {P Q : Prop} (f : P → Q) (h : jgd b P) : jgd b Q := by
  cases b
  · exact h
  · exact f h
theorem jgd_d {ι : Type} {b : Bool} {P : ι → Prop} (h : jgd b (∃ i, P i)) : ∃ i, jgd b (P i) := by
  cases b
  · exact h.elim
  · exact h
theorem jgd_ex {b : Bool} {P : Prop} (h : jgd b P) : b = true ∧ P := by
  cases b
  · exact h.elim
  · exact ⟨rfl, h⟩
/-- a heap gets a name -/
def jnm (e : jH) (P : jH → Prop) : Prop := ∀ g, g = e → P g
theorem jnm_i {e : jH} {P : jH → Prop} (h : P e) : jnm e P := fun g q => by
  subst q
  exact h
theorem jnm_iff {e : jH} {P : jH → Prop} : jnm e P ↔ P e := ⟨fun h => h e rfl, jnm_i⟩
theorem jnm_m {e : jH} {P Q : jH → Prop} (f : ∀ g, P g → Q g) (h : jnm e P) : jnm e Q := fun g q => f g (h g q)
theorem jnm_d {ι : Type} {e : jH} {Q : ι → jH → Prop} (h : jnm e (fun g => ∃ i, Q i g)) : ∃ i, jnm e (Q i) := by
  obtain ⟨i, k⟩ := h e rfl
  exact ⟨i, jnm_i k⟩
/-! operations -/
def okc (v : jV) (nx : Nat) : jOp := fun K _ ls st h => K nx ls (v :: st) h
def oldI (i : Nat) (nx : Nat) : jOp := fun K _ ls st h => match ls[i]? with
  | some (some (.inl v)) => K nx ls (.inl v :: st) h
  | _ => False
def ostI (i : Nat) (nx : Nat) : jOp := fun K _ ls st h => match st with
  | .inl v :: r => jgd (Nat.ble (i + 1) ls.length) (K nx (jset ls i (.inl v)) r h)
  | _ => False
def oldL (i : Nat) (nx : Nat) : jOp := fun K _ ls st h => match ls[i]? with
  | some (some (.inr (.inl v))) => K nx ls (.inr (.inl v) :: st) h
  | _ => False
def ostL (i : Nat) (nx : Nat) : jOp := fun K _ ls st h => match st with
  | .inr (.inl v) :: r => jgd (Nat.ble (i + 2) ls.length) (K nx (jset ls i (.inr (.inl v))) r h)
  | _ => False
def oldD (i : Nat) (nx : Nat) : jOp := fun K _ ls st h => match ls[i]? with
  | some (some (.inr (.inr (.inl v)))) => K nx ls (.inr (.inr (.inl v)) :: st) h
  | _ => False
def ostD (i : Nat) (nx : Nat) : jOp := fun K _ ls st h => match st with
  | .inr (.inr (.inl v)) :: r => jgd (Nat.ble (i + 2) ls.length) (K nx (jset ls i (.inr (.inr (.inl v)))) r h)
  | _ => False
def oldF (i : Nat) (nx : Nat) : jOp := fun K _ ls st h => match ls[i]? with
  | some (some (.inr (.inr (.inr (.inl v))))) => K nx ls (.inr (.inr (.inr (.inl v))) :: st) h
  | _ => False
def ostF (i : Nat) (nx : Nat) : jOp := fun K _ ls st h => match st with
  | .inr (.inr (.inr (.inl v))) :: r => jgd (Nat.ble (i + 1) ls.length) (K nx (jset ls i (.inr (.inr (.inr (.inl v))))) r h)
  | _ => False
def oldP (i : Nat) (nx : Nat) : jOp := fun K _ ls st h => match ls[i]? with
  | some (some (.inr (.inr (.inr (.inr v))))) => K nx ls (.inr (.inr (.inr (.inr v))) :: st) h
  | _ => False
def ostP (i : Nat) (nx : Nat) : jOp := fun K _ ls st h => match st with
  | .inr (.inr (.inr (.inr v))) :: r => jgd (Nat.ble (i + 1) ls.length) (K nx (jset ls i (.inr (.inr (.inr (.inr v))))) r h)
  | _ => False
def oinc (i : Nat) (n : Int32) (nx : Nat) : jOp := fun K _ ls st h => match ls[i]? with
  | some (some (.inl x)) => jgd (Nat.ble (i + 1) ls.length) (K nx (jset ls i (.inl (x + n))) st h)
  | _ => False
def oi2 (g : Int32 → Int32 → Int32) (nx : Nat) : jOp := fun K _ ls st h => match st with
  | .inl y :: .inl x :: r => K nx ls (.inl (g x y) :: r) h
  | _ => False
def oi2n (g : Int32 → Int32 → Int32) (nx : Nat) : jOp := fun K _ ls st h => match st with
  | .inl y :: .inl x :: r => ¬ y = 0 ∧ K nx ls (.inl (g x y) :: r) h
  | _ => False
def oi1 (g : Int32 → Int32) (nx : Nat) : jOp := fun K _ ls st h => match st with
  | .inl x :: r => K nx ls (.inl (g x) :: r) h
  | _ => False
def ol2 (g : Int64 → Int64 → Int64) (nx : Nat) : jOp := fun K _ ls st h => match st with
  | .inr (.inl y) :: .inr (.inl x) :: r => K nx ls (.inr (.inl (g x y)) :: r) h
  | _ => False
def olsh (g : Int64 → Int32 → Int64) (nx : Nat) : jOp := fun K _ ls st h => match st with
  | .inl y :: .inr (.inl x) :: r => K nx ls (.inr (.inl (g x y)) :: r) h
  | _ => False
def olc (g : Int64 → Int64 → Int32) (nx : Nat) : jOp := fun K _ ls st h => match st with
  | .inr (.inl y) :: .inr (.inl x) :: r => K nx ls (.inl (g x y) :: r) h
  | _ => False
def oi2l (nx : Nat) : jOp := fun K _ ls st h => match st with
  | .inl x :: r => K nx ls (.inr (.inl x.toInt64) :: r) h
  | _ => False
def ol2i (nx : Nat) : jOp := fun K _ ls st h => match st with
  | .inr (.inl x) :: r => K nx ls (.inl x.toInt32 :: r) h
  | _ => False
def oi2d (nx : Nat) : jOp := fun K _ ls st h => match st with
  | .inl x :: r => K nx ls (.inr (.inr (.inl (FP.i2d x))) :: r) h
  | _ => False
def oi2f (nx : Nat) : jOp := fun K _ ls st h => match st with
  | .inl x :: r => K nx ls (.inr (.inr (.inr (.inl (FP.i2f x)))) :: r) h
  | _ => False
def oddiv (nx : Nat) : jOp := fun K _ ls st h => match st with
  | .inr (.inr (.inl y)) :: .inr (.inr (.inl x)) :: r => vf_n64 (FP.ddiv x y) ∧ K nx ls (.inr (.inr (.inl (FP.ddiv x y))) :: r) h
  | _ => False
def ofdiv (nx : Nat) : jOp := fun K _ ls st h => match st with
  | .inr (.inr (.inr (.inl y))) :: .inr (.inr (.inr (.inl x))) :: r => vf_n32 (FP.fdiv x y) ∧ K nx ls (.inr (.inr (.inr (.inl (FP.fdiv x y)))) :: r) h
  | _ => False
def of2d (nx : Nat) : jOp := fun K _ ls st h => match st with
  | .inr (.inr (.inr (.inl x))) :: r => vf_n64 (FP.f2d x) ∧ K nx ls (.inr (.inr (.inl (FP.f2d x))) :: r) h
  | _ => False
def odcmp (op : CmpOp) (nx : Nat) : jOp := fun K _ ls st h => match st with
  | .inr (.inr (.inl y)) :: .inr (.inr (.inl x)) :: r => K nx ls (.inl (Op.cmpValue (FP.dcmp x y) op) :: r) h
  | _ => False
def ofcmp (op : CmpOp) (nx : Nat) : jOp := fun K _ ls st h => match st with
  | .inr (.inr (.inr (.inl y))) :: .inr (.inr (.inr (.inl x))) :: r => K nx ls (.inl (Op.cmpValue (FP.fcmp x y) op) :: r) h
  | _ => False
def odup (nx : Nat) : jOp := fun K _ ls st h => match st with
  | v :: r => bif jwide v then False else K nx ls (v :: v :: r) h
  | _ => False
def opop (nx : Nat) : jOp := fun K _ ls st h => match st with
  | v :: r => bif jwide v then False else K nx ls r h
  | _ => False
def odupx1 (nx : Nat) : jOp := fun K _ ls st h => match st with
  | v :: w :: r => bif jwide v then False else bif jwide w then False else K nx ls (v :: w :: v :: r) h
  | _ => False
def odup2 (nx : Nat) : jOp := fun K _ ls st h => match st with
  | v :: w :: r => bif jwide v then False else bif jwide w then False else K nx ls (v :: w :: v :: w :: r) h
  | _ => False
def odup2w (nx : Nat) : jOp := fun K _ ls st h => match st with
  | v :: r => bif jwide v then K nx ls (v :: v :: r) h else False
  | _ => False
def ogo (t : Nat) : jOp := fun K _ ls st h => K t ls st h
def oif1 (c : Int32 → Prop) (t nx : Nat) : jOp := fun K _ ls st h => match st with
  | .inl x :: r => (c x → K t ls r h) ∧ (¬ c x → K nx ls r h)
  | _ => False
def oif2 (c : Int32 → Int32 → Prop) (t nx : Nat) : jOp := fun K _ ls st h => match st with
  | .inl y :: .inl x :: r => (c x y → K t ls r h) ∧ (¬ c x y → K nx ls r h)
  | _ => False
def oacmp (c : Option Nat → Option Nat → Prop) (t nx : Nat) : jOp := fun K _ ls st h => match st with
  | .inr (.inr (.inr (.inr y))) :: .inr (.inr (.inr (.inr x))) :: r => (c x y → K t ls r h) ∧ (¬ c x y → K nx ls r h)
  | _ => False
def onull (t nx : Nat) : jOp := fun K _ ls st h => match st with
  | .inr (.inr (.inr (.inr x))) :: r => (x = none → K t ls r h) ∧ (¬ x = none → K nx ls r h)
  | _ => False
def jsw (x : Int32) (k : Nat → Prop) (d : Nat) : List (Int32 × Nat) → Prop
  | [] => k d
  | q :: r => (x = q.1 → k q.2) ∧ (¬ x = q.1 → jsw x k d r)
def osw (cs : List (Int32 × Nat)) (d : Nat) : jOp := fun K _ ls st h => match st with
  | .inl x :: r => jsw x (fun t => K t ls r h) d cs
  | _ => False
def oretI : jOp := fun _ R _ st h => match st with
  | [.inl v] => R (.inl (some (.inl v))) h
  | _ => False
def oretL : jOp := fun _ R _ st h => match st with
  | [.inr (.inl v)] => R (.inl (some (.inr (.inl v)))) h
  | _ => False
def oretD : jOp := fun _ R _ st h => match st with
  | [.inr (.inr (.inl v))] => R (.inl (some (.inr (.inr (.inl v))))) h
  | _ => False
def oretF : jOp := fun _ R _ st h => match st with
  | [.inr (.inr (.inr (.inl v)))] => R (.inl (some (.inr (.inr (.inr (.inl v)))))) h
  | _ => False
def oretP : jOp := fun _ R _ st h => match st with
  | [.inr (.inr (.inr (.inr v)))] => R (.inl (some (.inr (.inr (.inr (.inr v)))))) h
  | _ => False
def jbo (x : Int32) : Prop := x = 0 ∨ x = 1
def oretZ : jOp := fun _ R _ st h => match st with
  | [.inl x] => jbo x ∧ R (.inl (some (.inl x))) h
  | _ => False
def oretT (ty : FieldType) : jOp := fun _ R _ st h => match st with
  | [.inl x] => narrow ty (.int x) = .int x ∧ R (.inl (some (.inl x))) h
  | _ => False
def oretV : jOp := fun _ R _ st h => match st with
  | [] => R (.inl none) h
  | _ => False
/-! the heap's operations -/
def ogetI (c f nx : Nat) : jOp := fun K _ ls st h => match st with
  | .inr (.inr (.inr (.inr o))) :: r => onr o fun a => jkd h a = c ∧ K nx ls (.inl (jOI h f a) :: r) h
  | _ => False
def ogetP (c f nx : Nat) : jOp := fun K _ ls st h => match st with
  | .inr (.inr (.inr (.inr o))) :: r => onr o fun a => jkd h a = c ∧ K nx ls (.inr (.inr (.inr (.inr (jOP h f a)))) :: r) h
  | _ => False
def ogetIM (cs : List Nat) (f nx : Nat) : jOp := fun K _ ls st h => match st with
  | .inr (.inr (.inr (.inr o))) :: r => onr o fun a => jkd h a ∈ cs ∧ K nx ls (.inl (jOI h f a) :: r) h
  | _ => False
def ogetPM (cs : List Nat) (f nx : Nat) : jOp := fun K _ ls st h => match st with
  | .inr (.inr (.inr (.inr o))) :: r => onr o fun a => jkd h a ∈ cs ∧ K nx ls (.inr (.inr (.inr (.inr (jOP h f a)))) :: r) h
  | _ => False
def oputI (c f nx : Nat) : jOp := fun K _ ls st h => match st with
  | .inl v :: .inr (.inr (.inr (.inr o))) :: r => onr o fun a => jkd h a = c ∧ jnm (jwI h f a v) (fun g => K nx ls r g)
  | _ => False
def oputZ (c f nx : Nat) : jOp := fun K _ ls st h => match st with
  | .inl v :: .inr (.inr (.inr (.inr o))) :: r => onr o fun a => jkd h a = c ∧ jbo v ∧ jnm (jwI h f a v) (fun g => K nx ls r g)
  | _ => False
def oputP (c f nx : Nat) : jOp := fun K _ ls st h => match st with
  | .inr (.inr (.inr (.inr v))) :: .inr (.inr (.inr (.inr o))) :: r => onr o fun a => jkd h a = c ∧ jnm (jwP h f a v) (fun g => K nx ls r g)
  | _ => False
def oputIM (cs : List Nat) (f nx : Nat) : jOp := fun K _ ls st h => match st with
  | .inl v :: .inr (.inr (.inr (.inr o))) :: r => onr o fun a => jkd h a ∈ cs ∧ jnm (jwI h f a v) (fun g => K nx ls r g)
  | _ => False
def oputPM (cs : List Nat) (f nx : Nat) : jOp := fun K _ ls st h => match st with
  | .inr (.inr (.inr (.inr v))) :: .inr (.inr (.inr (.inr o))) :: r => onr o fun a => jkd h a ∈ cs ∧ jnm (jwP h f a v) (fun g => K nx ls r g)
  | _ => False
def onew (c n nx : Nat) : jOp := fun K _ ls st h => jnm (jnew h c n) (fun g => K nx ls (jP (some (jsz h)) :: st) g)
def onewA (t nx : Nat) : jOp := fun K _ ls st h => match st with
  | .inl x :: r => ¬ x < 0 ∧ x.toNatClampNeg ≤ 100000 ∧ jnm (jnewA h t x.toNatClampNeg) (fun g => K nx ls (jP (some (jsz h)) :: r) g)
  | _ => False
def oalen (t nx : Nat) : jOp := fun K _ ls st h => match st with
  | .inr (.inr (.inr (.inr o))) :: r => onr o fun a => jkd h a = t ∧ K nx ls (.inl (nI (jln h a)) :: r) h
  | _ => False
def oaldI (t nx : Nat) : jOp := fun K _ ls st h => match st with
  | .inl i :: .inr (.inr (.inr (.inr o))) :: r => onr o fun a => jkd h a = t ∧ vp_in i (jln h a) ∧ K nx ls (.inl (jAI h t a i.toNatClampNeg) :: r) h
  | _ => False
def oaldL (t nx : Nat) : jOp := fun K _ ls st h => match st with
  | .inl i :: .inr (.inr (.inr (.inr o))) :: r => onr o fun a => jkd h a = t ∧ vp_in i (jln h a) ∧ K nx ls (.inr (.inl (jAL h a i.toNatClampNeg)) :: r) h
  | _ => False
def oaldD (t nx : Nat) : jOp := fun K _ ls st h => match st with
  | .inl i :: .inr (.inr (.inr (.inr o))) :: r => onr o fun a => jkd h a = t ∧ vp_in i (jln h a) ∧ K nx ls (.inr (.inr (.inl (jAD h a i.toNatClampNeg))) :: r) h
  | _ => False
def oaldP (t nx : Nat) : jOp := fun K _ ls st h => match st with
  | .inl i :: .inr (.inr (.inr (.inr o))) :: r => onr o fun a => jkd h a = t ∧ vp_in i (jln h a) ∧ K nx ls (.inr (.inr (.inr (.inr (jAP h t a i.toNatClampNeg)))) :: r) h
  | _ => False
def oastI (t : Nat) (g : Int32 → Int32) (nx : Nat) : jOp := fun K _ ls st h => match st with
  | .inl v :: .inl i :: .inr (.inr (.inr (.inr o))) :: r => onr o fun a => jkd h a = t ∧ vp_in i (jln h a) ∧ jnm (jwAI h t a i.toNatClampNeg (g v)) (fun g => K nx ls r g)
  | _ => False
def oastL (t nx : Nat) : jOp := fun K _ ls st h => match st with
  | .inr (.inl v) :: .inl i :: .inr (.inr (.inr (.inr o))) :: r => onr o fun a => jkd h a = t ∧ vp_in i (jln h a) ∧ jnm (jwAL h a i.toNatClampNeg v) (fun g => K nx ls r g)
  | _ => False
def oastD (t nx : Nat) : jOp := fun K _ ls st h => match st with
  | .inr (.inr (.inl v)) :: .inl i :: .inr (.inr (.inr (.inr o))) :: r => onr o fun a => jkd h a = t ∧ vp_in i (jln h a) ∧ jnm (jwAD h a i.toNatClampNeg v) (fun g => K nx ls r g)
  | _ => False
/-- what is stored is null or of one of these kinds -/
def jofk (h : jH) (v : Option Nat) (cs : List Nat) : Prop := match v with
  | some b => jkd h b ∈ cs
  | none => True
def oastP (t : Nat) (cs : List Nat) (nx : Nat) : jOp := fun K _ ls st h => match st with
  | .inr (.inr (.inr (.inr v))) :: .inl i :: .inr (.inr (.inr (.inr o))) :: r => onr o fun a => jkd h a = t ∧ vp_in i (jln h a) ∧ jofk h v cs ∧ jnm (jwAP h t a i.toNatClampNeg v) (fun g => K nx ls r g)
  | _ => False
def ocast (cs : List Nat) (nx : Nat) : jOp := fun K _ ls st h => match st with
  | .inr (.inr (.inr (.inr v))) :: r => jofk h v cs ∧ K nx ls (.inr (.inr (.inr (.inr v))) :: r) h
  | _ => False
def oinst (cs : List Nat) (nx : Nat) : jOp := fun K _ ls st h => match st with
  | .inr (.inr (.inr (.inr v))) :: r => onr v fun a => jkd h a ∈ cs ∧ K nx ls (.inl 1 :: r) h
  | _ => False
/-- a constant reference: a static, a text, a class -/
def ocst (k nx : Nat) : jOp := fun K _ ls st h => K nx ls (jP (jcs h k) :: st) h
/-- an object's class: the constant of its kind -/
def ogcl (cs : List (Nat × Nat)) (nx : Nat) : jOp := fun K _ ls st h => match st with
  | .inr (.inr (.inr (.inr o))) :: r => jgd (Nat.ble (jws r) 8) (onr o fun a => ∃ k, jlk cs (jkd h a) = some k ∧ K nx ls (jP (jcs h k) :: r) h)
  | _ => False
def ocpP (t : Nat) (cs : List Nat) (nx : Nat) : jOp := fun K _ ls st h => match st with
  | .inl n :: .inl dp :: .inr (.inr (.inr (.inr d))) :: .inl sp :: .inr (.inr (.inr (.inr s))) :: r => jgd (Nat.ble (jws r) 8) (onr s fun a => onr d fun b => jkd h a = t ∧ jkd h b = t ∧ 0 ≤ sp ∧ 0 ≤ dp ∧ 0 ≤ n ∧ sp.toNatClampNeg + n.toNatClampNeg ≤ jln h a ∧ dp.toNatClampNeg + n.toNatClampNeg ≤ jln h b ∧ (∀ i, i < n.toNatClampNeg → ∀ y, jAP h t a (sp.toNatClampNeg + i) = some y → jkd h y ∈ cs) ∧ jnm (jwXP h t b (va_cpy (jAP h t a) (jAP h t b) sp.toNatClampNeg dp.toNatClampNeg n.toNatClampNeg)) (fun g => K nx ls r g))
  | _ => False
def ocpL (t nx : Nat) : jOp := fun K _ ls st h => match st with
  | .inl n :: .inl dp :: .inr (.inr (.inr (.inr d))) :: .inl sp :: .inr (.inr (.inr (.inr s))) :: r => jgd (Nat.ble (jws r) 8) (onr s fun a => onr d fun b => jkd h a = t ∧ jkd h b = t ∧ 0 ≤ sp ∧ 0 ≤ dp ∧ 0 ≤ n ∧ sp.toNatClampNeg + n.toNatClampNeg ≤ jln h a ∧ dp.toNatClampNeg + n.toNatClampNeg ≤ jln h b ∧ jnm (jwXL h b (va_cpy (jAL h a) (jAL h b) sp.toNatClampNeg dp.toNatClampNeg n.toNatClampNeg)) (fun g => K nx ls r g))
  | _ => False
def ocloL (t nx : Nat) : jOp := fun K _ ls st h => match st with
  | .inr (.inr (.inr (.inr o))) :: r => jgd (Nat.ble (jws r) 8) (onr o fun a => jkd h a = t ∧ jnm (jwXL (jnewA h t (jln h a)) (jsz h) (jAL h a)) (fun g => K nx ls (jP (some (jsz h)) :: r) g))
  | _ => False
/-- n words' values lie there, and what is below them is small -/
def jwd (n : Nat) (st : List jV) : Bool := match Nat.ble n st.length with
  | true => Nat.ble (jws (st.drop n)) 8
  | false => false
/-! calls: E y args h answer h' -/
def jcI (E : jE) (y : Nat) (args : List jV) (h : jH) (kn : Int32 → jH → Prop) : Prop := ∃ x h1, E y args h (.inl (some (.inl x))) h1 ∧ kn x h1
def jcL (E : jE) (y : Nat) (args : List jV) (h : jH) (kn : Int64 → jH → Prop) : Prop := ∃ x h1, E y args h (.inl (some (jL x))) h1 ∧ kn x h1
def jcP (E : jE) (y : Nat) (args : List jV) (h : jH) (kn : Option Nat → jH → Prop) : Prop := ∃ x h1, E y args h (.inl (some (jP x))) h1 ∧ kn x h1
def jcD (E : jE) (y : Nat) (args : List jV) (h : jH) (kn : UInt64 → jH → Prop) : Prop := ∃ x h1, E y args h (.inl (some (jD x))) h1 ∧ kn x h1
def jcF (E : jE) (y : Nat) (args : List jV) (h : jH) (kn : UInt32 → jH → Prop) : Prop := ∃ x h1, E y args h (.inl (some (jF x))) h1 ∧ kn x h1
def jcV (E : jE) (y : Nat) (args : List jV) (h : jH) (kn : jH → Prop) : Prop := ∃ h1, E y args h (.inl none) h1 ∧ kn h1
/-- the other end: thrown -/
def jexk (k : Nat) : Prop := k ∈ [6, 19, 29, 30, 31, 32, 33]
def jcX (E : jE) (y : Nat) (args : List jV) (h : jH) (kx : Nat → jH → Prop) : Prop := ∃ a h1, E y args h (.inr a) h1 ∧ jexk (jkd h1 a) ∧ kx a h1
/-- thrown here: the first handler that takes its kind, or out -/
def jth (hs : List (Nat × List Nat)) (K : jK) (R : jR) (ls : List (Option jV)) (a : Nat) (h : jH) : Prop := match hs with
  | [] => R (.inr a) h
  | q :: r => (jkd h a ∈ q.2 → K q.1 ls [jP (some a)] h) ∧ (¬ jkd h a ∈ q.2 → jth r K R ls a h)
/-- the receiver: none (static), some object, an object of a kind -/
def jrn (args : List jV) : Prop := match args with
  | .inr (.inr (.inr (.inr o))) :: _ => onr o fun _ => True
  | _ => False
def jrk (k : Nat) (h : jH) (args : List jV) : Prop := match args with
  | .inr (.inr (.inr (.inr o))) :: _ => onr o fun a => jkd h a = k
  | _ => False
def jrm (cs : List (Nat × Nat)) (h : jH) (args : List jV) (P : Nat → Prop) : Prop := match args with
  | .inr (.inr (.inr (.inr o))) :: _ => onr o fun a => ∃ y, jlk cs (jkd h a) = some y ∧ P y
  | _ => False
def ocallSI (E : jE) (y n nx : Nat) : jOp := fun K _ ls st h => jgd (jwd n st) (jcI E y (st.take n).reverse h (fun x h1 => K nx ls (.inl x :: st.drop n) h1))
def ocallXSI (E : jE) (y n nx : Nat) (hs : List (Nat × List Nat)) : jOp := fun K R ls st h => jgd (jwd n st) ((jcI E y (st.take n).reverse h (fun x h1 => K nx ls (.inl x :: st.drop n) h1) ∨ jcX E y (st.take n).reverse h (fun a h1 => jth hs K R ls a h1)))
def ocallNI (E : jE) (y n nx : Nat) : jOp := fun K _ ls st h => jgd (jwd n st) (jrn (st.take n).reverse ∧ jcI E y (st.take n).reverse h (fun x h1 => K nx ls (.inl x :: st.drop n) h1))
def ocallXNI (E : jE) (y n nx : Nat) (hs : List (Nat × List Nat)) : jOp := fun K R ls st h => jgd (jwd n st) (jrn (st.take n).reverse ∧ (jcI E y (st.take n).reverse h (fun x h1 => K nx ls (.inl x :: st.drop n) h1) ∨ jcX E y (st.take n).reverse h (fun a h1 => jth hs K R ls a h1)))
def ocallRI (E : jE) (k : Nat) (y n nx : Nat) : jOp := fun K _ ls st h => jgd (jwd n st) (jrk k h (st.take n).reverse ∧ jcI E y (st.take n).reverse h (fun x h1 => K nx ls (.inl x :: st.drop n) h1))
def ocallXRI (E : jE) (k : Nat) (y n nx : Nat) (hs : List (Nat × List Nat)) : jOp := fun K R ls st h => jgd (jwd n st) (jrk k h (st.take n).reverse ∧ (jcI E y (st.take n).reverse h (fun x h1 => K nx ls (.inl x :: st.drop n) h1) ∨ jcX E y (st.take n).reverse h (fun a h1 => jth hs K R ls a h1)))
def ocallSL (E : jE) (y n nx : Nat) : jOp := fun K _ ls st h => jgd (jwd n st) (jcL E y (st.take n).reverse h (fun x h1 => K nx ls (jL x :: st.drop n) h1))
def ocallXSL (E : jE) (y n nx : Nat) (hs : List (Nat × List Nat)) : jOp := fun K R ls st h => jgd (jwd n st) ((jcL E y (st.take n).reverse h (fun x h1 => K nx ls (jL x :: st.drop n) h1) ∨ jcX E y (st.take n).reverse h (fun a h1 => jth hs K R ls a h1)))
def ocallNL (E : jE) (y n nx : Nat) : jOp := fun K _ ls st h => jgd (jwd n st) (jrn (st.take n).reverse ∧ jcL E y (st.take n).reverse h (fun x h1 => K nx ls (jL x :: st.drop n) h1))
def ocallXNL (E : jE) (y n nx : Nat) (hs : List (Nat × List Nat)) : jOp := fun K R ls st h => jgd (jwd n st) (jrn (st.take n).reverse ∧ (jcL E y (st.take n).reverse h (fun x h1 => K nx ls (jL x :: st.drop n) h1) ∨ jcX E y (st.take n).reverse h (fun a h1 => jth hs K R ls a h1)))
def ocallRL (E : jE) (k : Nat) (y n nx : Nat) : jOp := fun K _ ls st h => jgd (jwd n st) (jrk k h (st.take n).reverse ∧ jcL E y (st.take n).reverse h (fun x h1 => K nx ls (jL x :: st.drop n) h1))
def ocallXRL (E : jE) (k : Nat) (y n nx : Nat) (hs : List (Nat × List Nat)) : jOp := fun K R ls st h => jgd (jwd n st) (jrk k h (st.take n).reverse ∧ (jcL E y (st.take n).reverse h (fun x h1 => K nx ls (jL x :: st.drop n) h1) ∨ jcX E y (st.take n).reverse h (fun a h1 => jth hs K R ls a h1)))
def ocallSP (E : jE) (y n nx : Nat) : jOp := fun K _ ls st h => jgd (jwd n st) (jcP E y (st.take n).reverse h (fun x h1 => K nx ls (jP x :: st.drop n) h1))
def ocallXSP (E : jE) (y n nx : Nat) (hs : List (Nat × List Nat)) : jOp := fun K R ls st h => jgd (jwd n st) ((jcP E y (st.take n).reverse h (fun x h1 => K nx ls (jP x :: st.drop n) h1) ∨ jcX E y (st.take n).reverse h (fun a h1 => jth hs K R ls a h1)))
def ocallNP (E : jE) (y n nx : Nat) : jOp := fun K _ ls st h => jgd (jwd n st) (jrn (st.take n).reverse ∧ jcP E y (st.take n).reverse h (fun x h1 => K nx ls (jP x :: st.drop n) h1))
def ocallXNP (E : jE) (y n nx : Nat) (hs : List (Nat × List Nat)) : jOp := fun K R ls st h => jgd (jwd n st) (jrn (st.take n).reverse ∧ (jcP E y (st.take n).reverse h (fun x h1 => K nx ls (jP x :: st.drop n) h1) ∨ jcX E y (st.take n).reverse h (fun a h1 => jth hs K R ls a h1)))
def ocallRP (E : jE) (k : Nat) (y n nx : Nat) : jOp := fun K _ ls st h => jgd (jwd n st) (jrk k h (st.take n).reverse ∧ jcP E y (st.take n).reverse h (fun x h1 => K nx ls (jP x :: st.drop n) h1))
def ocallXRP (E : jE) (k : Nat) (y n nx : Nat) (hs : List (Nat × List Nat)) : jOp := fun K R ls st h => jgd (jwd n st) (jrk k h (st.take n).reverse ∧ (jcP E y (st.take n).reverse h (fun x h1 => K nx ls (jP x :: st.drop n) h1) ∨ jcX E y (st.take n).reverse h (fun a h1 => jth hs K R ls a h1)))
def ocallSD (E : jE) (y n nx : Nat) : jOp := fun K _ ls st h => jgd (jwd n st) (jcD E y (st.take n).reverse h (fun x h1 => K nx ls (jD x :: st.drop n) h1))
def ocallXSD (E : jE) (y n nx : Nat) (hs : List (Nat × List Nat)) : jOp := fun K R ls st h => jgd (jwd n st) ((jcD E y (st.take n).reverse h (fun x h1 => K nx ls (jD x :: st.drop n) h1) ∨ jcX E y (st.take n).reverse h (fun a h1 => jth hs K R ls a h1)))
def ocallND (E : jE) (y n nx : Nat) : jOp := fun K _ ls st h => jgd (jwd n st) (jrn (st.take n).reverse ∧ jcD E y (st.take n).reverse h (fun x h1 => K nx ls (jD x :: st.drop n) h1))
def ocallXND (E : jE) (y n nx : Nat) (hs : List (Nat × List Nat)) : jOp := fun K R ls st h => jgd (jwd n st) (jrn (st.take n).reverse ∧ (jcD E y (st.take n).reverse h (fun x h1 => K nx ls (jD x :: st.drop n) h1) ∨ jcX E y (st.take n).reverse h (fun a h1 => jth hs K R ls a h1)))
def ocallRD (E : jE) (k : Nat) (y n nx : Nat) : jOp := fun K _ ls st h => jgd (jwd n st) (jrk k h (st.take n).reverse ∧ jcD E y (st.take n).reverse h (fun x h1 => K nx ls (jD x :: st.drop n) h1))
def ocallXRD (E : jE) (k : Nat) (y n nx : Nat) (hs : List (Nat × List Nat)) : jOp := fun K R ls st h => jgd (jwd n st) (jrk k h (st.take n).reverse ∧ (jcD E y (st.take n).reverse h (fun x h1 => K nx ls (jD x :: st.drop n) h1) ∨ jcX E y (st.take n).reverse h (fun a h1 => jth hs K R ls a h1)))
def ocallSF (E : jE) (y n nx : Nat) : jOp := fun K _ ls st h => jgd (jwd n st) (jcF E y (st.take n).reverse h (fun x h1 => K nx ls (jF x :: st.drop n) h1))
def ocallXSF (E : jE) (y n nx : Nat) (hs : List (Nat × List Nat)) : jOp := fun K R ls st h => jgd (jwd n st) ((jcF E y (st.take n).reverse h (fun x h1 => K nx ls (jF x :: st.drop n) h1) ∨ jcX E y (st.take n).reverse h (fun a h1 => jth hs K R ls a h1)))
def ocallNF (E : jE) (y n nx : Nat) : jOp := fun K _ ls st h => jgd (jwd n st) (jrn (st.take n).reverse ∧ jcF E y (st.take n).reverse h (fun x h1 => K nx ls (jF x :: st.drop n) h1))
def ocallXNF (E : jE) (y n nx : Nat) (hs : List (Nat × List Nat)) : jOp := fun K R ls st h => jgd (jwd n st) (jrn (st.take n).reverse ∧ (jcF E y (st.take n).reverse h (fun x h1 => K nx ls (jF x :: st.drop n) h1) ∨ jcX E y (st.take n).reverse h (fun a h1 => jth hs K R ls a h1)))
def ocallRF (E : jE) (k : Nat) (y n nx : Nat) : jOp := fun K _ ls st h => jgd (jwd n st) (jrk k h (st.take n).reverse ∧ jcF E y (st.take n).reverse h (fun x h1 => K nx ls (jF x :: st.drop n) h1))
def ocallXRF (E : jE) (k : Nat) (y n nx : Nat) (hs : List (Nat × List Nat)) : jOp := fun K R ls st h => jgd (jwd n st) (jrk k h (st.take n).reverse ∧ (jcF E y (st.take n).reverse h (fun x h1 => K nx ls (jF x :: st.drop n) h1) ∨ jcX E y (st.take n).reverse h (fun a h1 => jth hs K R ls a h1)))
def ocallSV (E : jE) (y n nx : Nat) : jOp := fun K _ ls st h => jgd (jwd n st) (jcV E y (st.take n).reverse h (fun h1 => K nx ls (st.drop n) h1))
def ocallXSV (E : jE) (y n nx : Nat) (hs : List (Nat × List Nat)) : jOp := fun K R ls st h => jgd (jwd n st) ((jcV E y (st.take n).reverse h (fun h1 => K nx ls (st.drop n) h1) ∨ jcX E y (st.take n).reverse h (fun a h1 => jth hs K R ls a h1)))
def ocallNV (E : jE) (y n nx : Nat) : jOp := fun K _ ls st h => jgd (jwd n st) (jrn (st.take n).reverse ∧ jcV E y (st.take n).reverse h (fun h1 => K nx ls (st.drop n) h1))
def ocallXNV (E : jE) (y n nx : Nat) (hs : List (Nat × List Nat)) : jOp := fun K R ls st h => jgd (jwd n st) (jrn (st.take n).reverse ∧ (jcV E y (st.take n).reverse h (fun h1 => K nx ls (st.drop n) h1) ∨ jcX E y (st.take n).reverse h (fun a h1 => jth hs K R ls a h1)))
def ocallRV (E : jE) (k : Nat) (y n nx : Nat) : jOp := fun K _ ls st h => jgd (jwd n st) (jrk k h (st.take n).reverse ∧ jcV E y (st.take n).reverse h (fun h1 => K nx ls (st.drop n) h1))
def ocallXRV (E : jE) (k : Nat) (y n nx : Nat) (hs : List (Nat × List Nat)) : jOp := fun K R ls st h => jgd (jwd n st) (jrk k h (st.take n).reverse ∧ (jcV E y (st.take n).reverse h (fun h1 => K nx ls (st.drop n) h1) ∨ jcX E y (st.take n).reverse h (fun a h1 => jth hs K R ls a h1)))
def ocallMI (E : jE) (cs : List (Nat × Nat)) (n nx : Nat) : jOp := fun K _ ls st h => jgd (jwd n st) (jrm cs h (st.take n).reverse fun y => jcI E y (st.take n).reverse h (fun x h1 => K nx ls (.inl x :: st.drop n) h1))
def oobj (nx : Nat) : jOp := fun K _ ls st h => match st with
  | .inr (.inr (.inr (.inr o))) :: r => jgd (Nat.ble (jws r) 8) (onr o fun _ => K nx ls r h)
  | _ => False
/-- 'throw new X()' of a JDK's exception, as one -/
def othr0 (c : Nat) (hs : List (Nat × List Nat)) : jOp := fun K R ls st h => jgd (Nat.ble (jws st) 8) (jnm (jnew h c 6) (fun g => jth hs K R ls (jsz h) g))
/-- two dimensions of ints -/
def jnewAA (h : jH) (m n : Nat) : jH := (fun b => if b = jsz h then 111 else if jsz h < b ∧ b ≤ jsz h + m then 101 else jkd h b, fun b => if b = jsz h then m else if jsz h < b ∧ b ≤ jsz h + m then n else jln h b, jsz h + 1 + m, jsl h + m + m * n, jcs h, jOI h, jOP h, fun u b j => if jsz h ≤ b ∧ b ≤ jsz h + m then 0 else jAI h u b j, fun b j => if jsz h ≤ b ∧ b ≤ jsz h + m then 0 else jAL h b j, fun b j => if jsz h ≤ b ∧ b ≤ jsz h + m then 0 else jAD h b j, fun u b j => if b = jsz h then (if j < m then some (jsz h + 1 + j) else none) else if jsz h < b ∧ b ≤ jsz h + m then none else jAP h u b j)
def onewAA (nx : Nat) : jOp := fun K _ ls st h => match st with
  | .inl y :: .inl x :: r => ¬ x < 0 ∧ ¬ y < 0 ∧ x.toNatClampNeg ≤ 1000 ∧ y.toNatClampNeg ≤ 1000 ∧ jnm (jnewAA h x.toNatClampNeg y.toNatClampNeg) (fun g => K nx ls (jP (some (jsz h)) :: r) g)
  | _ => False
/-- an object's clone, its two reference-free fields and one reference: fields fs of ints, gs of references -/
def jclo (h : jH) (c n : Nat) (a : Nat) : jH := (fun b => if b = jsz h then c else jkd h b, jln h, jsz h + 1, jsl h + n, jcs h, fun g b => if b = jsz h then jOI h g a else jOI h g b, fun g b => if b = jsz h then jOP h g a else jOP h g b, jAI h, jAL h, jAD h, jAP h)
def oclo (c n fz nx : Nat) : jOp := fun K _ ls st h => match st with
  | .inr (.inr (.inr (.inr o))) :: r => jgd (Nat.ble (jws r) 8) (onr o fun a => jkd h a = c ∧ jbo (jOI h fz a) ∧ jnm (jclo h c n a) (fun g => K nx ls (jP (some (jsz h)) :: r) g))
  | _ => False
def othrow (hs : List (Nat × List Nat)) : jOp := fun K R ls st h => match st with
  | .inr (.inr (.inr (.inr o))) :: _ => onr o fun a => jexk (jkd h a) ∧ jth hs K R ls a h
  | _ => False
/-! the run of a code -/
abbrev jC : Type := List (Nat × jOp)
def jsub (l1 l2 : List (Option jV)) : Prop := l1.length = l2.length ∧ ∀ (i : Nat) (v : jV), l1[i]? = some (some v) → l2[i]? = some (some v)
def jcl (tb : jC) (R : jR) (I : jK) : Prop := (∀ pc f ls st h, jlk tb pc = some f → f I R ls st h → I pc ls st h) ∧ ∀ pc l1 l2 st h, jsub l1 l2 → I pc l1 st h → I pc l2 st h
/-- the least such: from there the code comes to an end with R -/
def jWX (tb : jC) (R : jR) : jK := fun pc ls st h => ∀ I : jK, jcl tb R I → I pc ls st h
def jmask : List Bool → List (Option jV) → List (Option jV)
  | true :: m, x :: l => x :: jmask m l
  | false :: m, _ :: l => none :: jmask m l
  | _, l => l
def jrun (tb : jC) (cut : List (Nat × List Bool)) (K : jK) (R : jR) : Nat → jK
  | 0 => K
  | n + 1 => fun pc ls st h => match jlk cut pc with
    | some m => K pc (jmask m ls) st h
    | none => match jlk tb pc with
      | some f => f (jrun tb cut K R n) R ls st h
      | none => False
def jfirst (tb : jC) (cut : List (Nat × List Bool)) (K : jK) (R : jR) (n : Nat) : jK := fun pc ls st h => match jlk tb pc with
      | some f => f (jrun tb cut K R n) R ls st h
      | none => False
def jent : List jV → List (Option jV)
  | [] => []
  | v :: r => bif jwide v then some v :: none :: jent r else some v :: jent r
def jlocs (args : List jV) (n : Nat) : List (Option jV) := jent args ++ List.replicate (n - (jent args).length) none
abbrev jT : Type := Nat → Option ((jE → jC) × Nat)
def jEV (tbl : jT) : Nat → jE
  | 0 => fun _ _ _ _ _ => False
  | d + 1 => fun y args h r h1 => ∃ m, tbl y = some m ∧ Nat.ble (jent args).length m.2 = true ∧ jWX (m.1 (jEV tbl d)) (fun r2 h2 => r2 = r ∧ h2 = h1) 0 (jlocs args m.2) [] h
