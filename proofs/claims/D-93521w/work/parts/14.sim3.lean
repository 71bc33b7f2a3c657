/-! THE GIVEN MACHINE ANSWERS TO THE SMALL ONE: stores, new arrays, casts, ends (own work) -/
section JS3
variable {p : Program} {l : Launch} {e : Env} {R : Room} {s : State} {m : MethodId} {args : Array Value} {below : List Frame} {meth : Method} {c : Code} {D : va_G} {dA : Nat → ClassId} {lo nL z0 w0 zF wF dd : Nat} {cs0 : Nat → Option Nat} {Q : State → Prop} {cc : ByteArray} {own : String} {pc : Nat} {Rf : jR} {H : Heap} {locs : List Loc} {cells slots : Nat} {mls : Array Slot} {rest : List Value}
theorem sm_iast (C : jCx p l e R s m args meth c cc own D dA lo cs0 nL z0 w0 zF wF dd) (d : decode cc pc = .ok (.iastore, 1)) : ∀ ls st h, oastI 101 (fun v => v) (pc + 1) (jSim p l e R s m args below meth c D dA lo cs0 nL z0 w0 zF wF Q) Rf ls st h → jSim p l e R s m args below meth c D dA lo cs0 nL z0 w0 zF wF Q pc ls st h := by
  intro ls st h kz
  unfold oastI at kz
  split at kz
  · rename_i x9 i9 _ _
    obtain ⟨a, ea, hk, hi, kt⟩ := onr_ex kz
    subst ea
    have kt := kt _ rfl
    refine ⟨kt.1, fun a1 b1 n1 H locs mls r v w => ?_⟩
    have hr := jRep_arrO r hk (by decide) (jRep_own r hk (by decide) (by decide) (fun e => absurd e (by decide)))
    refine W.iast C.1 C.2.1 hr ((C.2.2.2.2.2.2.2.2.1.1.2 0 (dA 101, .int) rfl).1 (jln h a) _) (fun q => by cases q) (by show ¬ (i9 < 0 ∨ (arrV _ _ _).slots.size ≤ _); rw [arrV_size]; exact hi) rfl rfl d fun H1 ee z oq => ?_
    have hkd : jkd (jwAI h 101 a i9.toNatClampNeg (x9)) a = 101 := hk
    refine kt.2 a1 b1 n1 H1 _ mls (jRep_upd (a := a) r z oq rfl (fun _ => rfl) (fun _ => rfl) (fun b hb k2 => by apply jcell_wA <;> intros <;> first | rfl | (funext j; simp [jwAI_AI, hb])) (fun _ => ?_) (fun h36 => absurd (hk.symm.trans h36) (by decide))) (v.put z oq (jRep_own r hk (by decide) (by decide) (fun e => by cases e))) w
    rw [hk, jcell_arr (by decide)]
    show H1[a]? = some (vp_cell _ _)
    rw [ee]
    show some ((arrV _ _ _).setSlot _ _) = some (vp_cell _ (_, .inl _))
    rw [vp_cell_i, arrV_store]
    congr 2
    funext q
    by_cases hq : q = i9.toNatClampNeg
    · subst hq
      simp [updV, jwAI_AI, vp_nar]
      try rfl
    · simp [updV, jwAI_AI, hq]
  · exact kz.elim
theorem sm_castr (C : jCx p l e R s m args meth c cc own D dA lo cs0 nL z0 w0 zF wF dd) (d : decode cc pc = .ok (.castore, 1)) : ∀ ls st h, oastI 102 (fun v => vp_nar .char v) (pc + 1) (jSim p l e R s m args below meth c D dA lo cs0 nL z0 w0 zF wF Q) Rf ls st h → jSim p l e R s m args below meth c D dA lo cs0 nL z0 w0 zF wF Q pc ls st h := by
  intro ls st h kz
  unfold oastI at kz
  split at kz
  · rename_i x9 i9 _ _
    obtain ⟨a, ea, hk, hi, kt⟩ := onr_ex kz
    subst ea
    have kt := kt _ rfl
    refine ⟨kt.1, fun a1 b1 n1 H locs mls r v w => ?_⟩
    have hr := jRep_arrO r hk (by decide) (jRep_own r hk (by decide) (by decide) (fun e => absurd e (by decide)))
    refine W.cast C.1 C.2.1 hr ((C.2.2.2.2.2.2.2.2.1.1.2 1 (dA 102, .char) rfl).1 (jln h a) _) (fun q => by cases q) (by show ¬ (i9 < 0 ∨ (arrV _ _ _).slots.size ≤ _); rw [arrV_size]; exact hi) rfl rfl d fun H1 ee z oq => ?_
    have hkd : jkd (jwAI h 102 a i9.toNatClampNeg (vp_nar .char x9)) a = 102 := hk
    refine kt.2 a1 b1 n1 H1 _ mls (jRep_upd (a := a) r z oq rfl (fun _ => rfl) (fun _ => rfl) (fun b hb k2 => by apply jcell_wA <;> intros <;> first | rfl | (funext j; simp [jwAI_AI, hb])) (fun _ => ?_) (fun h36 => absurd (hk.symm.trans h36) (by decide))) (v.put z oq (jRep_own r hk (by decide) (by decide) (fun e => by cases e))) w
    rw [hk, jcell_arr (by decide)]
    show H1[a]? = some (vp_cell _ _)
    rw [ee]
    show some ((arrV _ _ _).setSlot _ _) = some (vp_cell _ (_, .inl _))
    rw [vp_cell_i, arrV_store]
    congr 2
    funext q
    by_cases hq : q = i9.toNatClampNeg
    · subst hq
      simp [updV, jwAI_AI, vp_nar]
      try rfl
    · simp [updV, jwAI_AI, hq]
  · exact kz.elim
theorem sm_zast (C : jCx p l e R s m args meth c cc own D dA lo cs0 nL z0 w0 zF wF dd) (d : decode cc pc = .ok (.bastore, 1)) : ∀ ls st h, oastI 103 (fun v => vp_nar .boolean v) (pc + 1) (jSim p l e R s m args below meth c D dA lo cs0 nL z0 w0 zF wF Q) Rf ls st h → jSim p l e R s m args below meth c D dA lo cs0 nL z0 w0 zF wF Q pc ls st h := by
  intro ls st h kz
  unfold oastI at kz
  split at kz
  · rename_i x9 i9 _ _
    obtain ⟨a, ea, hk, hi, kt⟩ := onr_ex kz
    subst ea
    have kt := kt _ rfl
    refine ⟨kt.1, fun a1 b1 n1 H locs mls r v w => ?_⟩
    have hr := jRep_arrO r hk (by decide) (jRep_own r hk (by decide) (by decide) (fun e => absurd e (by decide)))
    refine W.zast C.1 C.2.1 hr ((C.2.2.2.2.2.2.2.2.1.1.2 2 (dA 103, .boolean) rfl).1 (jln h a) _) (fun q => by cases q) (by show ¬ (i9 < 0 ∨ (arrV _ _ _).slots.size ≤ _); rw [arrV_size]; exact hi) rfl rfl d fun H1 ee z oq => ?_
    have hkd : jkd (jwAI h 103 a i9.toNatClampNeg (vp_nar .boolean x9)) a = 103 := hk
    refine kt.2 a1 b1 n1 H1 _ mls (jRep_upd (a := a) r z oq rfl (fun _ => rfl) (fun _ => rfl) (fun b hb k2 => by apply jcell_wA <;> intros <;> first | rfl | (funext j; simp [jwAI_AI, hb])) (fun _ => ?_) (fun h36 => absurd (hk.symm.trans h36) (by decide))) (v.put z oq (jRep_own r hk (by decide) (by decide) (fun e => by cases e))) w
    rw [hk, jcell_arr (by decide)]
    show H1[a]? = some (vp_cell _ _)
    rw [ee]
    show some ((arrV _ _ _).setSlot _ _) = some (vp_cell _ (_, .inl _))
    rw [vp_cell_i, arrV_store]
    congr 2
    funext q
    by_cases hq : q = i9.toNatClampNeg
    · subst hq
      simp [updV, jwAI_AI, vp_nar]
      try rfl
    · simp [updV, jwAI_AI, hq]
  · exact kz.elim
theorem sm_last (C : jCx p l e R s m args meth c cc own D dA lo cs0 nL z0 w0 zF wF dd) (d : decode cc pc = .ok (.lastore, 1)) : ∀ ls st h, oastL 105 (pc + 1) (jSim p l e R s m args below meth c D dA lo cs0 nL z0 w0 zF wF Q) Rf ls st h → jSim p l e R s m args below meth c D dA lo cs0 nL z0 w0 zF wF Q pc ls st h := by
  intro ls st h kz
  unfold oastL at kz
  split at kz
  · rename_i x9 i9 _ _
    obtain ⟨a, ea, hk, hi, kt⟩ := onr_ex kz
    subst ea
    have kt := kt _ rfl
    refine ⟨kt.1, fun a1 b1 n1 H locs mls r v w => ?_⟩
    have hr := jRep_arrO r hk (by decide) (jRep_own r hk (by decide) (by decide) (fun e => absurd e (by decide)))
    refine W.last C.1 C.2.1 hr ((C.2.2.2.2.2.2.2.2.1.1.2 4 (dA 105, .long) rfl).1 (jln h a) _) (fun q => by cases q) (by show ¬ (i9 < 0 ∨ (arrV _ _ _).slots.size ≤ _); rw [arrV_size]; exact hi) rfl rfl d fun H1 ee z oq => ?_
    refine kt.2 a1 b1 n1 H1 _ mls (jRep_upd (a := a) r z oq rfl (fun _ => rfl) (fun _ => rfl) (fun b hb k2 => by apply jcell_wA <;> intros <;> first | rfl | (funext j; simp [jwAL_AL, hb])) (fun _ => ?_) (fun h36 => absurd (hk.symm.trans h36) (by decide))) (v.put z oq (jRep_own r hk (by decide) (by decide) (fun e => by cases e))) w
    rw [hk, jcell_arr (by decide)]
    show H1[a]? = some (vp_cell _ _)
    rw [ee]
    show some ((arrV _ _ _).setSlot _ _) = some (vp_cell _ (_, .inr (.inl _)))
    rw [vp_cell_l, arrV_store]
    congr 2
    funext q
    by_cases hq : q = i9.toNatClampNeg
    · subst hq
      simp [updV, jwAL_AL]
    · simp [updV, jwAL_AL, hq]
  · exact kz.elim
theorem sm_dast (C : jCx p l e R s m args meth c cc own D dA lo cs0 nL z0 w0 zF wF dd) (d : decode cc pc = .ok (.dastore, 1)) : ∀ ls st h, oastD 106 (pc + 1) (jSim p l e R s m args below meth c D dA lo cs0 nL z0 w0 zF wF Q) Rf ls st h → jSim p l e R s m args below meth c D dA lo cs0 nL z0 w0 zF wF Q pc ls st h := by
  intro ls st h kz
  unfold oastD at kz
  split at kz
  · rename_i x9 i9 _ _
    obtain ⟨a, ea, hk, hi, kt⟩ := onr_ex kz
    subst ea
    have kt := kt _ rfl
    refine ⟨kt.1, fun a1 b1 n1 H locs mls r v w => ?_⟩
    have hr := jRep_arrO r hk (by decide) (jRep_own r hk (by decide) (by decide) (fun e => absurd e (by decide)))
    refine W.dast C.1 C.2.1 hr ((C.2.2.2.2.2.2.2.2.1.1.2 5 (dA 106, .double) rfl).1 (jln h a) _) (fun q => by cases q) (by show ¬ (i9 < 0 ∨ (arrV _ _ _).slots.size ≤ _); rw [arrV_size]; exact hi) rfl rfl d fun H1 ee z oq => ?_
    refine kt.2 a1 b1 n1 H1 _ mls (jRep_upd (a := a) r z oq rfl (fun _ => rfl) (fun _ => rfl) (fun b hb k2 => by apply jcell_wA <;> intros <;> first | rfl | (funext j; simp [jwAD_AD, hb])) (fun _ => ?_) (fun h36 => absurd (hk.symm.trans h36) (by decide))) (v.put z oq (jRep_own r hk (by decide) (by decide) (fun e => by cases e))) w
    rw [hk, jcell_arr (by decide)]
    show H1[a]? = some (vp_cell _ _)
    rw [ee]
    show some ((arrV _ _ _).setSlot _ _) = some (vp_cell _ (_, .inr (.inr (.inr (.inl _)))))
    rw [vp_cell_d, arrV_store]
    congr 2
    funext q
    by_cases hq : q = i9.toNatClampNeg
    · subst hq
      simp [updV, jwAD_AD]
    · simp [updV, jwAD_AD, hq]
  · exact kz.elim
theorem z_aast (hexec : p.tables.exec = Jvm.exec) (hb : c.code = cc) (hK : va_K D jcls (jtys dA) s) {a cA n v ci : Nat} {f : Nat → Option Nat} {EN : String} {r9 : vw_C} {vs : List Value} (ha : va_at D jcls (a, .inl (cA, n, .inr (.inr (.inr (.inr f))))) H) (t0 : Nat) (ht : (jtys dA)[t0]? = some (cA, .object EN)) (hca : r9.1 = EN ∨ va_Nw (.castable r9.1 EN) s) (hv : jwe D (v, .inr (ci, vs)) H) (hc : jcls[ci]? = some r9) {i : Int32} (hin : vp_in i n) (hdg : decode cc pc = .ok (.aastore, 1))
    (kk : ∀ H1 : Heap, H1[a]? = some ((vp_cell cA (n, .inr (.inr (.inr (.inr f))))).setSlot i.toNatClampNeg (.ref v)) → H1.size = H.size → (∀ q, q ≠ a → H1[q]? = H[q]?) → W p l e R s m args below meth c H1 (locs ++ [⟨a, i.toNatClampNeg⟩]) cells slots Q (F0 m (pc + 1) mls rest)) : W p l e R s m args below meth c H locs cells slots Q (F0 m pc mls (.ref v :: .int i :: .ref a :: rest)) := by
  have hlt : i.toNatClampNeg < n := Nat.not_le.mp fun q => hin (Or.inr q)
  have h0 : ¬ i < 0 := fun q => hin (Or.inl q)
  obtain ⟨r', cellV, hr', g1, g2, g3, -⟩ := hv
  have hcls := (hK.1 ci r9 hc).2
  obtain ⟨kA, comp, k1, k2, k3, -⟩ := (hK.2 t0 _ ht).2
  obtain ⟨kE, hkE, -⟩ := Vm.findClass_spec k3
  obtain ⟨kC, hkC, -⟩ := hcls.2
  have f3 : s.vm.assignable (D.1 ci) comp = true := by
    rcases hca with e9 | hca
    · have e2 : D.1 ci = comp := Option.some.inj (hcls.1.symm.trans (by rw [e9]; exact k3))
      rw [← e2]
      exact va_assign hcls
    · obtain ⟨c0, t1, f1, f2, f3⟩ := Cond.castable_spec (va_Nw.use (A := args) rfl hca)
      cases hcls.1.symm.trans f1
      cases k3.symm.trans f2
      exact f3
  exact W.aast hexec hb ha (fun q h => by cases h) (fun h => by cases h) k1 k2 rfl hkE ⟨h0, by show _ < (arrV _ _ _).slots.size; rw [arrV_size]; exact hlt⟩ g1 g3.1 (by rw [g2]; exact hkC) (by rw [g2]; exact f3) rfl rfl hdg kk
theorem sm_aast (C : jCx p l e R s m args meth c cc own D dA lo cs0 nL z0 w0 zF wF dd) {t : Nat} {cs : List Nat} {EN : String} (ht : 107 ≤ t) (ht2 : t ∉ [22, 23, 37, 38, 100, 104, 112]) (hy : (jtys dA)[t - 101]? = some (dA t, .object EN)) (hcs : ∀ k ∈ cs, k ≠ 0 ∧ k < 100 ∧ ∃ r : vw_C, jcls[k]? = some r ∧ (r.1 = EN ∨ Cond.castable r.1 EN ∈ lw_tbl)) (d : decode cc pc = .ok (.aastore, 1)) : ∀ ls st h, oastP t cs (pc + 1) (jSim p l e R s m args below meth c D dA lo cs0 nL z0 w0 zF wF Q) Rf ls st h → jSim p l e R s m args below meth c D dA lo cs0 nL z0 w0 zF wF Q pc ls st h := by
  intro ls st h kz
  unfold oastP at kz
  split at kz
  · rename_i x9 i9 _ _
    obtain ⟨a, ea, hk, hi, hof, kt⟩ := onr_ex kz
    subst ea
    have kt := kt _ rfl
    refine ⟨kt.1, fun a1 b1 n1 H locs mls r v w => ?_⟩
    have hlt : i9.toNatClampNeg < jln h a := Nat.not_le.mp fun q => hi (Or.inr q)
    have hown : lo ≤ a := jRep_own r hk (by omega) ht2 (fun _ e => by omega)
    have hr := jRep_arrO r hk (by omega) hown
    rw [jarr_q ht] at hr
    have fin : ∀ (H1 : Heap), H1[a]? = some ((vp_cell (dA t) (jln h a, .inr (.inr (.inr (.inr (jAP h t a)))))).setSlot i9.toNatClampNeg (va_rf x9)) → H1.size = H.size → (∀ q, q ≠ a → H1[q]? = H[q]?) → jRep D dA lo (jwAP h t a i9.toNatClampNeg x9) H1 := by
      intro H1 ee z oq
      refine jRep_upd (a := a) r z oq rfl (fun _ => rfl) (fun _ => rfl) (fun b hb k2 => by apply jcell_wA <;> intros <;> first | rfl | (funext j; simp [jwAP_AP, hb])) (fun _ => ?_) (fun h36 => absurd (hk.symm.trans h36) (by omega))
      rw [hk, jcell_arr (by omega), jarr_q ht]
      show H1[a]? = some (vp_cell _ _)
      rw [ee, vp_cell_q, vp_cell_q, arrV_store]
      congr 2
      funext q
      by_cases hq : q = i9.toNatClampNeg
      · subst hq
        simp [updV, jwAP_AP]
      · simp [updV, jwAP_AP, hq]
    cases x9 with
    | none => exact va_WaastN (C := EN) C.1 C.2.1 hr ((C.2.2.2.2.2.2.2.2.1.1.2 (t - 101) _ hy).1 (jln h a) (fun j => va_rf (jAP h t a j))) (fun q => by cases q) (by show ¬ (i9 < 0 ∨ (arrV _ _ _).slots.size ≤ _); rw [arrV_size]; exact hi) rfl rfl d fun H1 ee z oq => kt.2 a1 b1 n1 H1 _ mls (fin H1 ee z oq) (v.put z oq hown) w
    | some y =>
      obtain ⟨k0, k9, r9, hr9, hca⟩ := hcs _ hof
      have hv := jRep_obj r (a := y) rfl k0 k9
      obtain ⟨r8, cell, hc8, g1, g2, g3, -⟩ := id hv
      cases Option.some.inj (hc8.symm.trans hr9)
      refine z_aast C.1 C.2.1 C.2.2.2.2.2.2.2.2.1.1 hr (t - 101) hy (hca.imp id (fun q => C.2.2.2.2.2.2.2.2.2.1.1 _ q rfl)) hv hr9 hi d fun H1 ee z oq => kt.2 a1 b1 n1 H1 _ mls (fin H1 ee z oq) (v.put z oq hown) w
  · exact kz.elim
theorem sm_newA (C : jCx p l e R s m args meth c cc own D dA lo cs0 nL z0 w0 zF wF dd) {t : Nat} {at9 : ArrayType} {ty : FieldType} (hty : newarray.typeOf at9 = ty) (ht : 101 ≤ t) (hy : (jtys dA)[t - 101]? = some (dA t, ty)) (hcb : componentBytes ty ≤ 8) (hcell : ∀ (h : jH) (n : Nat), vp_cell (dA t) (jarr t (jnewA h t n) (jsz h)) = arrV (dA t) n (fun _ => defaultValue ty)) (hnm : ∀ U, va_RA U (dA t) ty = (U.vm.findClass ("[" ++ ty.toString) = some (dA t))) (q1 : Cond.arrayClass ty ∈ lw_all) (hlo : lo ≤ z0) (hlz : z0 ≤ zF) (hlw : w0 ≤ wF) (d : decode cc pc = .ok (.newarray at9, 2)) : ∀ ls st h, onewA t (pc + 2) (jSim p l e R s m args below meth c D dA lo cs0 nL z0 w0 zF wF Q) Rf ls st h → jSim p l e R s m args below meth c D dA lo cs0 nL z0 w0 zF wF Q pc ls st h := by
  intro ls st h kz
  subst hty
  unfold onewA at kz
  split at kz
  · rename_i x9 _
    obtain ⟨hn, hb, kt⟩ := kz
    have kt := kt _ rfl
    have hz1 : jsz h + 1 ≤ zF := kt.1.1
    have hz2 : jsl h + x9.toNatClampNeg ≤ wF := kt.1.2
    refine ⟨⟨by omega, by omega⟩, fun a1 b1 n1 H locs mls r v w => ?_⟩
    have hRc := C.2.2.2.2.2.2.1
    have hRs := C.2.2.2.2.2.2.2.1
    refine va_newaK C.1 C.2.1 (C.2.2.2.1 _ q1) rfl d rfl hn rfl (Nat.le_trans (Nat.mul_le_mul hb hcb) (by decide)) (by omega) (by omega) r.1 fun H1 cA e1 z1 o1 hAr hNm => ?_
    have hcA : cA = dA t := by
      have h1 := (C.2.2.2.2.2.2.2.2.1.1.2 (t - 101) _ hy).2
      rw [hnm] at h1
      exact Option.some.inj (hNm.symm.trans h1)
    subst hcA
    have kk := kt.2 (by show z0 ≤ jsz h + 1; omega) (by show w0 ≤ jsl h + x9.toNatClampNeg; omega) n1 H1 locs mls ?_ ⟨Nat.le_trans v.1 (by rw [z1, r.1]; omega), fun q h1 h2 => (o1 q (by have := v.1; rw [r.1] at this; omega)).trans (v.2.1 q h1 h2), v.2.2⟩ w
    · have t1 : jsz (jnewA h t x9.toNatClampNeg) - z0 = jsz h - z0 + 1 := by show jsz h + 1 - z0 = _; omega
      have t2 : jsl (jnewA h t x9.toNatClampNeg) - w0 = jsl h - w0 + x9.toNatClampNeg := by show jsl h + _ - w0 = _; omega
      rw [t1, t2] at kk
      exact kk
    · refine jRep_new r (by omega) (by rw [z1, r.1]) (fun q hq => o1 q (by rw [← r.1]; exact hq)) rfl (fun b hb => by simp [jnewA_kd, hb]) (fun b hb => by simp [jnewA_ln, hb]) (fun b hb k => jcell_newA hb) ?_ (fun h36 => absurd ((show jkd (jnewA h t x9.toNatClampNeg) (jsz h) = t by simp [jnewA_kd]).symm.trans h36) (by omega))
      have hkd : jkd (jnewA h t x9.toNatClampNeg) (jsz h) = t := by simp [jnewA_kd]
      rw [hkd, jcell_arr (by omega)]
      show H1[_]? = some (vp_cell _ _)
      rw [hcell]
      exact e1
  · exact kz.elim
theorem sm_anew (C : jCx p l e R s m args meth c cc own D dA lo cs0 nL z0 w0 zF wF dd) {t : Nat} {EN : String} {ix : Nat} (ht : 107 ≤ t) (hy : (jtys dA)[t - 101]? = some (dA t, .object EN)) (q1 : Cond.classLink own ix EN ∈ lw_all) (q2 : Cond.arrayOver (.object EN) ∈ lw_tbl) (hlo : lo ≤ z0) (hlz : z0 ≤ zF) (hlw : w0 ≤ wF) (d : decode cc pc = .ok (.anewarray ix, 3)) : ∀ ls st h, onewA t (pc + 3) (jSim p l e R s m args below meth c D dA lo cs0 nL z0 w0 zF wF Q) Rf ls st h → jSim p l e R s m args below meth c D dA lo cs0 nL z0 w0 zF wF Q pc ls st h := by
  intro ls st h kz
  unfold onewA at kz
  split at kz
  · rename_i x9 _
    obtain ⟨hn, hb, kt⟩ := kz
    have kt := kt _ rfl
    have hz1 : jsz h + 1 ≤ zF := kt.1.1
    have hz2 : jsl h + x9.toNatClampNeg ≤ wF := kt.1.2
    refine ⟨⟨by omega, by omega⟩, fun a1 b1 n1 H locs mls r v w => ?_⟩
    have hRc := C.2.2.2.2.2.2.1
    have hRs := C.2.2.2.2.2.2.2.1
    refine W.anew C.1 C.2.1 C.2.2.1 (C.2.2.2.1 _ q1) (va_AO.use (C.2.2.2.2.2.2.2.2.2.1.1 _ q2 rfl)) rfl d rfl hn (by omega) (by omega) (by omega) fun cA kA comp f1 f2 f3 f4 => ?_
    have hcA : cA = dA t := by
      obtain ⟨kA', comp', -, -, -, h4⟩ := (C.2.2.2.2.2.2.2.2.1.1.2 (t - 101) _ hy).2
      first
      | exact Option.some.inj (f1.symm.trans h4)
      | exact Option.some.inj (f4.symm.trans h4)
      | exact Option.some.inj (f3.symm.trans h4)
    subst hcA
    generalize hH1 : H.push ({ cls := dA t, slots := Array.replicate x9.toNatClampNeg .null, vm := .none } : Cell) = H1
    have z1 : H1.size = H.size + 1 := by rw [← hH1, Array.size_push]
    have e1 : H1[H.size]? = some (arrV (dA t) x9.toNatClampNeg (fun _ => .null)) := by rw [← hH1, Array.getElem?_push_size, ← arrV_new]
    have o1 : ∀ q : Nat, q < H.size → H1[q]? = H[q]? := fun q hq => by rw [← hH1, Array.getElem?_push, if_neg (Nat.ne_of_lt hq)]
    have kk := kt.2 (by show z0 ≤ jsz h + 1; omega) (by show w0 ≤ jsl h + x9.toNatClampNeg; omega) n1 H1 locs mls ?_ ⟨Nat.le_trans v.1 (by rw [z1]; omega), fun q h1 h2 => (o1 q (by have := v.1; omega)).trans (v.2.1 q h1 h2), v.2.2⟩ w
    · have t1 : jsz (jnewA h t x9.toNatClampNeg) - z0 = jsz h - z0 + 1 := by show jsz h + 1 - z0 = _; omega
      have t2 : jsl (jnewA h t x9.toNatClampNeg) - w0 = jsl h - w0 + x9.toNatClampNeg := by show jsl h + _ - w0 = _; omega
      rw [t1, t2] at kk
      rw [r.1]
      exact kk
    · refine jRep_new r (by omega) z1 o1 rfl (fun b hb => by simp [jnewA_kd, hb]) (fun b hb => by simp [jnewA_ln, hb]) (fun b hb k => jcell_newA hb) ?_ (fun h36 => absurd ((show jkd (jnewA h t x9.toNatClampNeg) (jsz h) = t by simp [jnewA_kd]).symm.trans h36) (by omega))
      have hkd : jkd (jnewA h t x9.toNatClampNeg) (jsz h) = t := by simp [jnewA_kd]
      rw [hkd, jcell_arr (by omega), jarr_q ht]
      show H1[_]? = some (vp_cell _ _)
      rw [vp_cell_q, ← r.1, e1]
      simp [jnewA_ln, jnewA_AP, r.1, va_rf]
  · exact kz.elim
theorem sm_cast (C : jCx p l e R s m args meth c cc own D dA lo cs0 nL z0 w0 zF wF dd) {nm : String} {ix : Nat} {cs : List Nat} (q1 : Cond.classLink own ix nm ∈ lw_all) (hcs : ∀ k ∈ cs, k ≠ 0 ∧ k < 100 ∧ ∃ r : vw_C, jcls[k]? = some r ∧ (r.1 = nm ∨ Cond.castable r.1 nm ∈ lw_tbl)) (d : decode cc pc = .ok (.checkcast ix, 3)) : ∀ ls st h, ocast cs (pc + 3) (jSim p l e R s m args below meth c D dA lo cs0 nL z0 w0 zF wF Q) Rf ls st h → jSim p l e R s m args below meth c D dA lo cs0 nL z0 w0 zF wF Q pc ls st h := by
  intro ls st h kz
  unfold ocast at kz
  split at kz
  · rename_i x9 _
    obtain ⟨hof, kt⟩ := kz
    refine ⟨kt.1, fun a1 b1 n1 H locs mls r v w => ?_⟩
    have kk := kt.2 a1 b1 n1 H locs mls r v w
    cases x9 with
    | none => exact lv_castN C.1 C.2.1 d kk
    | some y =>
      obtain ⟨k0, k9, r9, hr9, hca⟩ := hcs _ hof
      have hv := jRep_obj r (a := y) rfl k0 k9
      obtain ⟨r8, cell, hc8, g1, g2, g3, -⟩ := hv
      cases Option.some.inj (hc8.symm.trans hr9)
      have hcl := C.2.2.2.2.2.2.2.2.1.1.1 _ _ hr9
      rcases hca with e | hca
      · exact va_castS C.1 C.2.1 C.2.2.1 (C.2.2.2.1 _ q1) (e ▸ hcl.2) ⟨cell, g1, jvm0_st g3, by rw [g2, ← e]; exact hcl.2.1⟩ d kk
      · exact va_castY C.1 C.2.1 C.2.2.1 (C.2.2.2.1 _ q1) (C.2.2.2.2.2.2.2.2.2.1.1 _ hca rfl) ⟨cell, g1, jvm0_st g3, by rw [g2]; exact hcl.2.1⟩ d kk
  · exact kz.elim
theorem sm_castA (C : jCx p l e R s m args meth c cc own D dA lo cs0 nL z0 w0 zF wF dd) {nm : String} {ix t : Nat} {ty : FieldType} (ht : 101 ≤ t) (hy : (jtys dA)[t - 101]? = some (dA t, ty)) (hnm : ∀ U, va_RA U (dA t) ty → U.vm.findClass nm = some (dA t)) (q1 : Cond.classLink own ix nm ∈ lw_all) (d : decode cc pc = .ok (.checkcast ix, 3)) : ∀ ls st h, ocast [t] (pc + 3) (jSim p l e R s m args below meth c D dA lo cs0 nL z0 w0 zF wF Q) Rf ls st h → jSim p l e R s m args below meth c D dA lo cs0 nL z0 w0 zF wF Q pc ls st h := by
  intro ls st h kz
  unfold ocast at kz
  split at kz
  · rename_i x9 _
    obtain ⟨hof, kt⟩ := kz
    refine ⟨kt.1, fun a1 b1 n1 H locs mls r v w => ?_⟩
    have kk := kt.2 a1 b1 n1 H locs mls r v w
    cases x9 with
    | none => exact lv_castN C.1 C.2.1 d kk
    | some y =>
      have hk : jkd h y = t := List.mem_singleton.mp hof
      obtain ⟨cell, g1, g2, g3, g4⟩ := jRep_arr r hk (by omega)
      intro T hT X
      obtain ⟨vm', X', st⟩ := X.checkcastYes C.1 C.2.2.1 (C.2.2.2.1 _ q1) (by rw [hT]; exact g1) (jvm0_st g3) (hnm _ (C.2.2.2.2.2.2.2.2.1.1.2 (t - 101) _ hy).2) (by rw [g2]; exact va_asg _ _) (g := F0 m pc mls (.ref y :: _)) rfl rfl (by rw [C.2.1]; exact d)
      obtain ⟨t, a1, b1⟩ := kk (T.setVm vm') hT X'
      exact ⟨t, st t a1, b1⟩
  · exact kz.elim
theorem sm_inst (C : jCx p l e R s m args meth c cc own D dA lo cs0 nL z0 w0 zF wF dd) {nm : String} {ix : Nat} {cs : List Nat} (q1 : Cond.classLink own ix nm ∈ lw_all) (hcs : ∀ k ∈ cs, k ≠ 0 ∧ k < 100 ∧ ∃ r : vw_C, jcls[k]? = some r ∧ (r.1 = nm ∨ Cond.castable r.1 nm ∈ lw_tbl)) (d : decode cc pc = .ok (.instanceof ix, 3)) : ∀ ls st h, oinst cs (pc + 3) (jSim p l e R s m args below meth c D dA lo cs0 nL z0 w0 zF wF Q) Rf ls st h → jSim p l e R s m args below meth c D dA lo cs0 nL z0 w0 zF wF Q pc ls st h := by
  intro ls st h kz
  unfold oinst at kz
  split at kz
  · obtain ⟨y, ey, hof, kt⟩ := onr_ex kz
    subst ey
    refine ⟨kt.1, fun a1 b1 n1 H locs mls r v w => ?_⟩
    have kk := kt.2 a1 b1 n1 H locs mls r v w
    obtain ⟨k0, k9, r9, hr9, hca⟩ := hcs _ hof
    have hv := jRep_obj r (a := y) rfl k0 k9
    obtain ⟨r8, cell, hc8, g1, g2, g3, -⟩ := hv
    cases Option.some.inj (hc8.symm.trans hr9)
    have hcl := C.2.2.2.2.2.2.2.2.1.1.1 _ _ hr9
    rcases hca with e | hca
    · exact va_instS C.1 C.2.1 C.2.2.1 (C.2.2.2.1 _ q1) (e ▸ hcl.2) ⟨cell, g1, jvm0_st g3, by rw [g2, ← e]; exact hcl.2.1⟩ d kk
    · exact va_instY C.1 C.2.1 C.2.2.1 (C.2.2.2.1 _ q1) (C.2.2.2.2.2.2.2.2.2.1.1 _ hca rfl) ⟨cell, g1, jvm0_st g3, by rw [g2]; exact hcl.2.1⟩ d kk
  · exact kz.elim
end JS3
