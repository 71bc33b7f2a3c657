/-! AN ENUM CONSTANT'S ORDINAL, AS ONE OPERATION (own work) -/
def oord (nx : Nat) : jOp := fun K _ ls st h => match st with
  | .inr (.inr (.inr (.inr o))) :: r => jgd (Nat.ble (jws r) 8) (onr o fun a => ∃ i : Nat, i < 7 ∧ jcs h (3 + i) = some a ∧ K nx ls (jI (nI i) :: r) h)
  | _ => False
theorem oord_g (nx : Nat) : jok (oord nx) := by
  refine ⟨?_, ?_⟩
  · intro K K2 R R2 ls st h hK hR H
    unfold oord at H ⊢
    split at H
    · exact jgd_m (fun H => onr_m (fun _ H => by
        obtain ⟨i, c, c2, H⟩ := H
        exact ⟨i, c, c2, hK _ _ _ _ H⟩) H) H
    · exact H.elim
  · intro ι K R ls st h H
    unfold oord at H ⊢
    split at H
    · exact jgd_d (jgd_m (fun H => onr_d (fun _ H => by
        obtain ⟨i, c, c2, x, H⟩ := H
        exact ⟨x, i, c, c2, H⟩) H) H)
    · exact H.elim
theorem oord_z (nx : Nat) : jmz (oord nx) := by
  intro N M ls st h H
  unfold oord at H
  split at H
  · obtain ⟨-, H⟩ := jgd_ex H
    obtain ⟨a, e, H⟩ := onr_ex H
    obtain ⟨i, e1, e2, H⟩ := H
    exact H
  · exact H.elim
