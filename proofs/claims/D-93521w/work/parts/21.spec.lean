/-! COPIES, CLONES, CLASS OBJECTS, THROWN OBJECTS (own work) -/
section JS10
variable {p : Program} {l : Launch} {e : Env} {R : Room} {s : State} {m : MethodId} {args : Array Value} {below : List Frame} {meth : Method} {c : Code} {D : va_G} {dA : Nat → ClassId} {lo nL z0 w0 zF wF dd : Nat} {cs0 : Nat → Option Nat} {Q : State → Prop} {cc : ByteArray} {own : String} {pc : Nat} {Rf : jR} {H : Heap} {locs : List Loc} {cells slots : Nat} {mls : Array Slot} {rest : List Value} {rF : jA} {hF : jH}
theorem jI_nn (z : Int32) (hz : ¬ z < 0) : z.toInt = (z.toNatClampNeg : Int) := by
  have hz0 : (0 : Int) ≤ z.toInt := by
    have := Int32.not_lt.mp hz
    simpa using Int32.le_iff_toInt_le.mp this
  show z.toInt = ((z.toInt.toNat : Nat) : Int)
  omega
/-- a copy between arrays, the heap behind it to the cell -/
theorem z_cpy (C : jCx p l e R s m args meth c cc own D dA lo cs0 nL z0 w0 zF wF dd) {α : Type} (mk : α → Value) {a0 a ix : Nat} {c0 c1 cm0 cm1 : ClassId} {n0 n1 : Nat} {f g : Nat → α} {sT dT : FieldType} {k0 k1 : Class} (e0 : H[a0]? = some (arrV c0 n0 fun j => mk (f j))) (e1 : H[a]? = some (arrV c1 n1 fun j => mk (g j))) (hk0 : s.vm.classes[c0]? = some k0) (hk1 : s.vm.classes[c1]? = some k1) (hkk0 : k0.kind = .array cm0 sT) (hkk1 : k1.kind = .array cm1 dT) (hty : ((refKind sT != refKind dT) || (!refKind sT && sT != dT)) = false)
    {sp dp n : Int32} (h1 : ¬ sp < 0) (h2 : ¬ dp < 0) (h3 : ¬ n < 0) (h4 : sp.toNatClampNeg + n.toNatClampNeg ≤ n0) (h5 : dp.toNatClampNeg + n.toNatClampNeg ≤ n1)
    (hv : ∀ (T : State) (vm' : Vm), T.heap = H → s.vm.Alike vm' → ∀ i, i < n.toNatClampNeg → fits dT (mk (f (sp.toNatClampNeg + i))) = true ∧ (T.setVm vm').takes cm1 (mk (f (sp.toNatClampNeg + i))))
    (q1 : Cond.methodLink own ix arraycopyName ∈ lw_all) (q2 : Cond.native arraycopyName ∈ lw_all) (q3 : Cond.static arraycopyName ∈ lw_all) (q4 : Cond.initialized "java/lang/System" ∈ lw_all) (hw : (rest.map fun v => v.category).sum ≤ 8) (hls : mls.size = nL) (d : decode cc pc = .ok (.invokestatic ix, 3))
    (kk : ∀ (H1 : Heap) (locs1 : List Loc), H1[a]? = some (arrV c1 n1 fun j => mk (va_cpy f g sp.toNatClampNeg dp.toNatClampNeg n.toNatClampNeg j)) → H1.size = H.size → (∀ q : Nat, q ≠ a → H1[q]? = H[q]?) → (∀ z ∈ locs1, z ∈ locs ∨ (z.base = a ∧ n.toNatClampNeg ≠ 0)) → W p l e R s m args below meth c H1 locs1 cells slots Q (F0 m (pc + 3) mls rest)) : W p l e R s m args below meth c H locs cells slots Q (F0 m pc mls (.int n :: .int dp :: .ref a :: .int sp :: .ref a0 :: rest)) := by
  have hts : ∀ w ∈ lw_all, w.before args s = true := C.2.2.2.1
  have hfr := C.2.2.2.2.2.2.2.2.2.2.2.1
  have hlo := C.2.2.2.2.2.2.2.2.2.2.2.2
  intro T hT X
  have hnf : nativeFrameWords "java/lang/System" "arraycopy" 5 ≤ 100 := by decide
  obtain ⟨vm', X', step⟩ := X.arraycopy C.1 C.2.2.1 (hts _ q1) (hts _ q2) (hts _ q3) (hts _ q4) (src := a0) (dst := a) (cs := arrV c0 n0 fun j => mk (f j)) (cd := arrV c1 n1 fun j => mk (g j)) (srcPos := sp) (destPos := dp) (n := n) (by rw [hT]; exact e0) (by rw [hT]; exact e1)
    (fun _ h => by cases h) (fun _ h => by cases h) (fun h => by cases h) (fun h => by cases h) hk0 hk1 hkk0 hkk1 hty h1 h2 h3
    (by rw [jI_nn sp h1, jI_nn n h3, arrV_size]; omega) (by rw [jI_nn dp h2, jI_nn n h3, arrV_size]; omega)
    (fun vm₁ hal i hi => by
      have e : (arrV c0 n0 fun j => mk (f j)).slots.getD (sp.toNatClampNeg + i) .null = mk (f (sp.toNatClampNeg + i)) := by
        rw [Array.getD_eq_getD_getElem?, arrV_read _ _ (by omega)]
        rfl
      rw [e]
      exact hv T vm₁ hT hal i hi)
    (g := F0 m pc mls (.int n :: .int dp :: .ref a :: .int sp :: .ref a0 :: rest)) rfl (by rw [C.2.2.2.2.2.1]; exact hls) (rest := rest) rfl (by rw [C.2.1]; exact d) (by have : jfrm (dd + 1) = dd + 17 := rfl; omega) (by show 2 * 0 + _ + _ ≤ _; have : jloc (dd + 1) = 64 * (dd + 1) + 600 := rfl; omega)
  have ec : copied (arrV c0 n0 fun j => mk (f j)) (arrV c1 n1 fun j => mk (g j)) sp dp n = arrV c1 n1 fun j => mk (va_cpy f g sp.toNatClampNeg dp.toNatClampNeg n.toNatClampNeg j) := va_copied mk c0 c1 f g h4
  have hst : ∀ z ∈ ((arrV c0 n0 fun j => mk (f j)).stretch sp.toNatClampNeg n.toNatClampNeg).zipIdx.map (fun q => (⟨a, dp.toNatClampNeg + q.2⟩ : Loc)), z.base = a ∧ n.toNatClampNeg ≠ 0 := by
    intro z hz
    obtain ⟨y, hy, hz⟩ := List.mem_map.mp hz
    refine ⟨by rw [← hz], fun h0 => ?_⟩
    rw [h0] at hy
    have : (arrV c0 n0 fun j => mk (f j)).stretch sp.toNatClampNeg 0 = [] := by
      apply List.eq_nil_of_length_eq_zero
      simp [Cell.stretch]
    rw [this] at hy
    cases hy
  rw [ec] at X' step
  have hl : a < H.size := (Array.getElem?_eq_some_iff.mp e1).1
  obtain ⟨t, a1, b1⟩ := kk (H.setIfInBounds a (arrV c1 n1 fun j => mk (va_cpy f g sp.toNatClampNeg dp.toNatClampNeg n.toNatClampNeg j))) _ (by simp [Array.getElem?_setIfInBounds, hl]) (by simp) (fun q hq => by simp [Array.getElem?_setIfInBounds, Ne.symm hq]) (fun z hz => by
      rcases List.mem_append.mp hz with h | h
      · exact Or.inl h
      · exact Or.inr (hst z h)) _ (by rw [← hT]; rfl) X'
  exact ⟨t, step t a1, b1⟩
/-- a copy of nothing -/
theorem z_cpy0 (C : jCx p l e R s m args meth c cc own D dA lo cs0 nL z0 w0 zF wF dd) {a0 a ix : Nat} {cs cd : Cell} {cm0 cm1 : ClassId} {sT dT : FieldType} {k0 k1 : Class} (e0 : H[a0]? = some cs) (e1 : H[a]? = some cd) (v0 : jvm0 cs) (v1 : jvm0 cd) (hk0 : s.vm.classes[cs.cls]? = some k0) (hk1 : s.vm.classes[cd.cls]? = some k1) (hkk0 : k0.kind = .array cm0 sT) (hkk1 : k1.kind = .array cm1 dT) (hty : ((refKind sT != refKind dT) || (!refKind sT && sT != dT)) = false)
    {sp dp n : Int32} (h1 : ¬ sp < 0) (h2 : ¬ dp < 0) (h3 : ¬ n < 0) (hn : n.toNatClampNeg = 0) (h4 : sp.toNatClampNeg ≤ cs.slots.size) (h5 : dp.toNatClampNeg ≤ cd.slots.size)
    (q1 : Cond.methodLink own ix arraycopyName ∈ lw_all) (q2 : Cond.native arraycopyName ∈ lw_all) (q3 : Cond.static arraycopyName ∈ lw_all) (q4 : Cond.initialized "java/lang/System" ∈ lw_all) (hw : (rest.map fun v => v.category).sum ≤ 8) (hls : mls.size = nL) (d : decode cc pc = .ok (.invokestatic ix, 3))
    (kk : W p l e R s m args below meth c H locs cells slots Q (F0 m (pc + 3) mls rest)) : W p l e R s m args below meth c H locs cells slots Q (F0 m pc mls (.int n :: .int dp :: .ref a :: .int sp :: .ref a0 :: rest)) := by
  have hts : ∀ w ∈ lw_all, w.before args s = true := C.2.2.2.1
  have hfr := C.2.2.2.2.2.2.2.2.2.2.2.1
  have hlo := C.2.2.2.2.2.2.2.2.2.2.2.2
  intro T hT X
  have hnf : nativeFrameWords "java/lang/System" "arraycopy" 5 ≤ 100 := by decide
  obtain ⟨vm', X', step⟩ := X.arraycopy C.1 C.2.2.1 (hts _ q1) (hts _ q2) (hts _ q3) (hts _ q4) (src := a0) (dst := a) (cs := cs) (cd := cd) (srcPos := sp) (destPos := dp) (n := n) (by rw [hT]; exact e0) (by rw [hT]; exact e1)
    v0.1 v1.1 v0.2 v1.2 hk0 hk1 hkk0 hkk1 hty h1 h2 h3
    (by rw [jI_nn sp h1, jI_nn n h3]; omega) (by rw [jI_nn dp h2, jI_nn n h3]; omega)
    (fun vm₁ hal i hi => by omega)
    (g := F0 m pc mls (.int n :: .int dp :: .ref a :: .int sp :: .ref a0 :: rest)) rfl (by rw [C.2.2.2.2.2.1]; exact hls) (rest := rest) rfl (by rw [C.2.1]; exact d) (by have : jfrm (dd + 1) = dd + 17 := rfl; omega) (by show 2 * 0 + _ + _ ≤ _; have : jloc (dd + 1) = 64 * (dd + 1) + 600 := rfl; omega)
  have hst : cs.stretch sp.toNatClampNeg n.toNatClampNeg = [] := by
    rw [hn]
    apply List.eq_nil_of_length_eq_zero
    simp [Cell.stretch]
  have ec : copied cs cd sp dp n = cd := by
    unfold copied
    rw [hst]
    rfl
  rw [ec, hst] at X' 
  rw [ec] at step
  have hl : a < H.size := (Array.getElem?_eq_some_iff.mp e1).1
  have eH : H.setIfInBounds a cd = H := by
    refine Array.ext_getElem? fun q => ?_
    rw [Array.getElem?_setIfInBounds]
    by_cases e9 : a = q
    · subst e9
      rw [if_pos rfl, if_pos hl, e1]
    · rw [if_neg e9]
  have kk2 : W p l e R s m args below meth c (H.setIfInBounds a cd) locs cells slots Q (F0 m (pc + 3) mls rest) := by
    rw [eH]
    exact kk
  have X2 := X'
  simp only [List.zipIdx_nil, List.map_nil, List.append_nil] at X2
  obtain ⟨t, a1, b1⟩ := kk2 _ (by rw [← hT]; rfl) X2
  exact ⟨t, step t a1, b1⟩
theorem va_cpy0 {α : Type} (f g : Nat → α) (sp dp : Nat) : va_cpy f g sp dp 0 = g := by
  funext k
  unfold va_cpy
  rw [if_neg (by omega)]
theorem va_cpyS {lo9 a : Nat} {h : jH} {n : Int32} {H0 H1 : Heap} {locs1 : List Loc} (v : va_S (fun q => lo9 ≤ q) H0 H locs) (hz : H1.size = H.size) (ho : ∀ q : Nat, q ≠ a → H1[q]? = H[q]?) (h0 : n.toNatClampNeg = 0 → H1[a]? = H[a]?) (hl : ∀ z ∈ locs1, z ∈ locs ∨ (z.base = a ∧ n.toNatClampNeg ≠ 0)) (ha : n.toNatClampNeg ≠ 0 → lo9 ≤ a) : va_S (fun q => lo9 ≤ q) H0 H1 locs1 := by
  refine ⟨by rw [hz]; exact v.1, fun q q1 q2 => ?_, fun z hz9 => ?_⟩
  · by_cases e : q = a
    · subst e
      by_cases hn : n.toNatClampNeg = 0
      · exact (h0 hn).trans (v.2.1 q q1 q2)
      · exact absurd (ha hn) q2
    · exact (ho q e).trans (v.2.1 q q1 q2)
  · rcases hl z hz9 with h | ⟨h, hn⟩
    · exact v.2.2 z h
    · show lo9 ≤ z.base
      rw [h]
      exact ha hn
theorem jI_0 {z : Int32} (h : 0 ≤ z) : ¬ z < 0 := Int32.not_lt.mpr h
theorem sm_cpL (C : jCx p l e R s m args meth c cc own D dA lo cs0 nL z0 w0 zF wF dd) {ix : Nat} (q1 : Cond.methodLink own ix arraycopyName ∈ lw_all) (q2 : Cond.native arraycopyName ∈ lw_all) (q3 : Cond.static arraycopyName ∈ lw_all) (q4 : Cond.initialized "java/lang/System" ∈ lw_all) (d : decode cc pc = .ok (.invokestatic ix, 3)) : ∀ ls st h, ocpL 105 (pc + 3) (jSim p l e R s m args below meth c D dA lo cs0 nL z0 w0 zF wF Q) Rf ls st h → jSim p l e R s m args below meth c D dA lo cs0 nL z0 w0 zF wF Q pc ls st h := by
  intro ls st h kz
  unfold ocpL at kz
  split at kz
  · rename_i n9 dp9 o1 sp9 o2 r9
    obtain ⟨g, kz⟩ := jgd_ex kz
    obtain ⟨a, ea, kz⟩ := onr_ex kz
    obtain ⟨b, eb, kz⟩ := onr_ex kz
    subst ea
    subst eb
    obtain ⟨ha, hb, s0, d0, n0, l1, l2, kt⟩ := kz
    have kt := kt _ rfl
    refine ⟨kt.1, fun a1 b1 n1 H locs mls r v w => ?_⟩
    have hra := jRep_arrO r ha (by decide) (jRep_own r ha (by decide) (by decide) (fun e => absurd e (by decide)))
    have hrb := jRep_arrO r hb (by decide) (jRep_own r hb (by decide) (by decide) (fun e => absurd e (by decide)))
    obtain ⟨-, k0, hk0, cm0, hkk0⟩ := (C.2.2.2.2.2.2.2.2.1.1.2 4 (dA 105, .long) rfl).1 0 (fun _ => .null)
    refine z_cpy C (fun z => Value.long z) (f := jAL h a) (g := jAL h b) hra hrb hk0 hk0 hkk0 hkk0 rfl (jI_0 s0) (jI_0 d0) (jI_0 n0) l1 l2 (fun T vm' hT hal i hi => ⟨rfl, trivial⟩) q1 q2 q3 q4 (by rw [jws_sum]; exact Nat.le_of_ble_eq_true g) w.1 d fun H1 locs1 e1 z1 o1 hl => ?_
    refine kt.2 a1 b1 n1 H1 locs1 mls (jRep_upd (a := b) r z1 o1 rfl (fun _ => rfl) (fun _ => rfl) (fun b2 hb2 k2 => by apply jcell_wA <;> intros <;> first | rfl | (funext j; simp [jwXL_AL, hb2])) (fun _ => ?_) (fun h36 => absurd (hb.symm.trans h36) (by decide))) (va_cpyS (h := h) v z1 o1 (fun hn => ?_) hl (fun hn => jRep_own r hb (by decide) (by decide) (fun e => by cases e))) w
    · show va_at D jcls (b, jcell dA (jkd h b) _ b) H1
      rw [hb, jcell_arr (by decide)]
      exact e1.trans (congrArg some (congrArg (arrV (dA 105) (jln h b)) (funext fun q => congrArg Value.long (if_pos rfl).symm)))
    · rw [e1, hn, va_cpy0]
      exact hrb.symm
  · exact kz.elim
theorem sm_cpP (C : jCx p l e R s m args meth c cc own D dA lo cs0 nL z0 w0 zF wF dd) {ix t : Nat} {cs : List Nat} {EN : String} (ht : 107 ≤ t) (ht2 : t ∉ [22, 23, 37, 38, 100, 104, 112]) (hy : (jtys dA)[t - 101]? = some (dA t, .object EN)) (hcs : ∀ k ∈ cs, k ≠ 0 ∧ k < 100 ∧ ∃ r : vw_C, jcls[k]? = some r ∧ (r.1 = EN ∨ Cond.castable r.1 EN ∈ lw_tbl)) (q1 : Cond.methodLink own ix arraycopyName ∈ lw_all) (q2 : Cond.native arraycopyName ∈ lw_all) (q3 : Cond.static arraycopyName ∈ lw_all) (q4 : Cond.initialized "java/lang/System" ∈ lw_all) (d : decode cc pc = .ok (.invokestatic ix, 3)) : ∀ ls st h, ocpP t cs (pc + 3) (jSim p l e R s m args below meth c D dA lo cs0 nL z0 w0 zF wF Q) Rf ls st h → jSim p l e R s m args below meth c D dA lo cs0 nL z0 w0 zF wF Q pc ls st h := by
  intro ls st h kz
  unfold ocpP at kz
  split at kz
  · rename_i n9 dp9 o1 sp9 o2 r9
    obtain ⟨g, kz⟩ := jgd_ex kz
    obtain ⟨a, ea, kz⟩ := onr_ex kz
    obtain ⟨b, eb, kz⟩ := onr_ex kz
    subst ea
    subst eb
    obtain ⟨ha, hb, s0, d0, n0, l1, l2, hel, kt⟩ := kz
    have kt := kt _ rfl
    refine ⟨kt.1, fun a1 b1 n1 H locs mls r v w => ?_⟩
    have hK := C.2.2.2.2.2.2.2.2.1.1
    by_cases hn0 : n9.toNatClampNeg = 0
    · have eg : jwXP h t b (va_cpy (jAP h t a) (jAP h t b) sp9.toNatClampNeg dp9.toNatClampNeg n9.toNatClampNeg) = h := by
        rw [hn0, va_cpy0]
        unfold jwXP
        have : (fun u b9 j => if u = t ∧ b9 = b then jAP h t b j else jAP h u b9 j) = jAP h := by
          funext u b9 j
          by_cases e9 : u = t ∧ b9 = b
          · rw [if_pos e9, e9.1, e9.2]
          · rw [if_neg e9]
        rw [this]
        rfl
      rw [eg] at kt
      obtain ⟨cA9, u1, u2, u3, u4⟩ := jRep_arr r ha (by omega)
      obtain ⟨cB9, v1, v2, v3, v4⟩ := jRep_arr r hb (by omega)
      obtain ⟨kA, comp, r1, r2, -⟩ := (hK.2 (t - 101) _ hy).2
      exact z_cpy0 C u1 v1 u3 v3 (by rw [u2]; exact r1) (by rw [v2]; exact r1) r2 r2 rfl (jI_0 s0) (jI_0 d0) (jI_0 n0) hn0 (Nat.le_trans (show sp9.toNatClampNeg ≤ jln h a by omega) u4.1) (Nat.le_trans (show dp9.toNatClampNeg ≤ jln h b by omega) v4.1) q1 q2 q3 q4 (by rw [jws_sum]; exact Nat.le_of_ble_eq_true g) w.1 d (kt.2 a1 b1 n1 H locs mls r v w)
    have hoa : lo ≤ a := jRep_own r ha (show t ≠ 0 by omega) ht2 (fun _ e => by rw [e] at l1; omega)
    have hob : lo ≤ b := jRep_own r hb (show t ≠ 0 by omega) ht2 (fun _ e => by rw [e] at l2; omega)
    have hra := jRep_arrO r ha (by omega) hoa
    have hrb := jRep_arrO r hb (by omega) hob
    rw [jarr_q ht] at hra hrb
    obtain ⟨-, k0, hk0, cm0, hkk0⟩ := (hK.2 (t - 101) _ hy).1 0 (fun _ => .null)
    obtain ⟨kA, comp, r1, r2, r3, -⟩ := (hK.2 (t - 101) _ hy).2
    obtain ⟨kE, hkE, -⟩ := Vm.findClass_spec r3
    refine z_cpy C va_rf (f := jAP h t a) (g := jAP h t b) hra hrb r1 r1 r2 r2 rfl (jI_0 s0) (jI_0 d0) (jI_0 n0) l1 l2 (fun T vm' hT hal i hi => ?_) q1 q2 q3 q4 (by rw [jws_sum]; exact Nat.le_of_ble_eq_true g) w.1 d fun H1 locs1 e1 z1 o1 hl => ?_
    · cases hy9 : jAP h t a (sp9.toNatClampNeg + i) with
      | none => exact ⟨rfl, trivial⟩
      | some y =>
        obtain ⟨k0, k9, r8, hr8, hca⟩ := hcs _ (hel i hi y hy9)
        obtain ⟨r', cellV, hr', g1, g2, g3, -⟩ := jRep_obj r (rfl : jkd h y = _) k0 k9
        have hcls := (hK.1 _ r8 hr8).2
        have f3 : s.vm.assignable (D.1 (jkd h y)) comp = true := by
          rcases hca with e9 | hca
          · have e2 : D.1 (jkd h y) = comp := Option.some.inj (hcls.1.symm.trans (by rw [e9]; exact r3))
            rw [← e2]
            exact va_assign hcls
          · obtain ⟨c0, t1, f1, f2, f3⟩ := Cond.castable_spec (va_Nw.use (A := args) rfl (C.2.2.2.2.2.2.2.2.2.1.1 _ hca rfl))
            cases hcls.1.symm.trans f1
            cases r3.symm.trans f2
            exact f3
        obtain ⟨kC, hkC, -⟩ := hcls.2
        obtain ⟨kC', hkC', -⟩ := hal.2.2 _ _ hkC
        obtain ⟨kE', hkE', -⟩ := hal.2.2 _ _ hkE
        refine ⟨rfl, cellV, (show T.heap[y]? = some cellV by rw [hT]; exact g1), g3.1, ⟨kC', by rw [g2]; exact hkC'⟩, ?_, ?_⟩
        · exact ⟨kE', hkE'⟩
        · show vm'.assignable _ _ = true
          rw [hal.assignable, g2]
          exact f3
    refine kt.2 a1 b1 n1 H1 locs1 mls (jRep_upd (a := b) r z1 o1 rfl (fun _ => rfl) (fun _ => rfl) (fun b2 hb2 k2 => by apply jcell_wA <;> intros <;> first | rfl | (funext j; simp [jwXP_AP, hb2])) (fun _ => ?_) (fun h36 => absurd (hb.symm.trans h36) (by omega))) (va_cpyS (h := h) v z1 o1 (fun hn => ?_) hl (fun hn => jRep_own r hb (show t ≠ 0 by omega) ht2 (fun _ e => by rw [e] at l2; omega))) w
    · show va_at D jcls (b, jcell dA (jkd h b) _ b) H1
      rw [hb, jcell_arr (by omega), jarr_q ht]
      exact e1.trans (congrArg some (congrArg (arrV (dA t) (jln h b)) (funext fun q => congrArg va_rf (if_pos ⟨rfl, rfl⟩).symm)))
    · rw [e1, hn, va_cpy0]
      exact hrb.symm
  · exact kz.elim

theorem sm_cloL (C : jCx p l e R s m args meth c cc own D dA lo cs0 nL z0 w0 zF wF dd) {ix : Nat} (q1 : Cond.methodLink own ix ⟨"[J", "clone", "()Ljava/lang/Object;"⟩ ∈ lw_all) (q2 : Cond.sameMethod "[J" "java/lang/Object" "clone" "()Ljava/lang/Object;" ∈ lw_all) (q3 : Cond.native ⟨"java/lang/Object", "clone", "()Ljava/lang/Object;"⟩ ∈ lw_all) (q4 : Cond.instanceMethod ⟨"java/lang/Object", "clone", "()Ljava/lang/Object;"⟩ ∈ lw_all) (q5 : Cond.selects "[J" ⟨"[J", "clone", "()Ljava/lang/Object;"⟩ ⟨"java/lang/Object", "clone", "()Ljava/lang/Object;"⟩ ∈ lw_all) (q6 : Cond.castable "[J" "java/lang/Cloneable" ∈ lw_tbl) (hnm : ∀ U, va_RA U (dA 105) .long → U.vm.findClass "[J" = some (dA 105)) (hlo : lo ≤ z0) (hlz : z0 ≤ zF) (hlw : w0 ≤ wF) (d : decode cc pc = .ok (.invokevirtual ix, 3)) : ∀ ls st h, ocloL 105 (pc + 3) (jSim p l e R s m args below meth c D dA lo cs0 nL z0 w0 zF wF Q) Rf ls st h → jSim p l e R s m args below meth c D dA lo cs0 nL z0 w0 zF wF Q pc ls st h := by
  intro ls st h kz
  unfold ocloL at kz
  split at kz
  · rename_i o1 r9
    obtain ⟨g, kz⟩ := jgd_ex kz
    obtain ⟨a, ea, kz⟩ := onr_ex kz
    subst ea
    obtain ⟨ha, kt⟩ := kz
    have kt := kt _ rfl
    have hz1 : jsz h + 1 ≤ zF := kt.1.1
    have hz2 : jsl h + jln h a ≤ wF := kt.1.2
    refine ⟨⟨by omega, by omega⟩, fun a1 b1 n1 H locs mls r v w => ?_⟩
    have hRc := C.2.2.2.2.2.2.1
    have hRs := C.2.2.2.2.2.2.2.1
    have hts : ∀ w ∈ lw_all, w.before args s = true := C.2.2.2.1
    have hfr := C.2.2.2.2.2.2.2.2.2.2.2.1
    have hlo9 := C.2.2.2.2.2.2.2.2.2.2.2.2
    have hK := C.2.2.2.2.2.2.2.2.1.1
    have hra : H[a]? = some (arrV (dA 105) (jln h a) fun j => .long (jAL h a j)) := jRep_arrO r ha (by decide) (jRep_own r ha (by decide) (by decide) (fun e => absurd e (by decide)))
    have hA := hnm s (hK.2 4 (dA 105, .long) rfl).2
    obtain ⟨c0, t0', f1, f2, f3⟩ := Cond.castable_spec (va_Nw.use (A := args) rfl (C.2.2.2.2.2.2.2.2.2.1.1 _ q6 rfl))
    cases hA.symm.trans f1
    intro T hT X
    obtain ⟨-, kA, hkA, comp, hkind⟩ := State.isArrayOf_alike X.warmed.alike ((hK.2 4 (dA 105, .long) rfl).1 0 (fun _ => .null))
    obtain ⟨-, kS, hkS, compS, hkindS⟩ := (hK.2 4 (dA 105, .long) rfl).1 0 (fun _ => .null)
    obtain ⟨vm', X', st⟩ := X.cloneArray C.1 C.2.2.1 (hts _ q1) (hts _ q2) (hts _ q3) (hts _ q4) (hts _ q5) (a := a) (cell := arrV (dA 105) (jln h a) fun j => .long (jAL h a j)) (by rw [hT]; exact hra) (fun k h => by cases h) (fun h => by cases h) hA f2 f3
      (fun i v9 hv9 => by
        have hk' : T.vm.classes[dA 105]? = some kA := hkA
        have hfit : fits .long v9 = true := va_fit (ty := .long) (F := fun j => .long (jAL h a j)) (fun i _ => rfl) i v9 hv9
        show T.fitsSlot (dA 105) .none i v9 = true
        simpa [State.fitsSlot, State.slotType?, hk', hkind] using hfit)
      (g := F0 m pc mls (.ref a :: r9.map jtv)) rfl (by rw [C.2.2.2.2.2.1]; exact w.1) rfl (by rw [C.2.1]; exact d) (by have : jfrm (dd + 1) = dd + 17 := rfl; omega) (by show 2 * 0 + _ + 14 ≤ _; rw [jws_sum]; have := Nat.le_of_ble_eq_true g; have : jloc (dd + 1) = 64 * (dd + 1) + 600 := rfl; omega) (by omega) (by rw [arrV_size]; omega) (hloader := Vm.clonesLoader_of_array hkS hkindS)
    have hcE : ({ cls := (arrV (dA 105) (jln h a) fun j => .long (jAL h a j)).cls, slots := (arrV (dA 105) (jln h a) fun j => .long (jAL h a j)).slots } : Cell) = arrV (dA 105) (jln h a) fun j => .long (jAL h a j) := rfl
    rw [hcE, arrV_size] at X'
    generalize hH1 : H.push (arrV (dA 105) (jln h a) fun j => .long (jAL h a j)) = H1
    have z1 : H1.size = H.size + 1 := by rw [← hH1, Array.size_push]
    have e1 : H1[H.size]? = some (arrV (dA 105) (jln h a) fun j => .long (jAL h a j)) := by rw [← hH1, Array.getElem?_push_size]
    have o1 : ∀ q : Nat, q < H.size → H1[q]? = H[q]? := fun q hq => by rw [← hH1, Array.getElem?_push, if_neg (Nat.ne_of_lt hq)]
    have kk := kt.2 (by show z0 ≤ jsz h + 1; omega) (by show w0 ≤ jsl h + jln h a; omega) n1 H1 locs mls ?_ ⟨Nat.le_trans v.1 (by rw [z1, r.1]; omega), fun q h1 h2 => (o1 q (by have := v.1; rw [r.1] at this ⊢; omega)).trans (v.2.1 q h1 h2), v.2.2⟩ w
    · have t1 : jsz (jwXL (jnewA h 105 (jln h a)) (jsz h) (jAL h a)) - z0 = jsz h - z0 + 1 := by show jsz h + 1 - z0 = _; omega
      have t2 : jsl (jwXL (jnewA h 105 (jln h a)) (jsz h) (jAL h a)) - w0 = jsl h - w0 + jln h a := by show jsl h + _ - w0 = _; omega
      rw [t1, t2] at kk
      obtain ⟨t, b1, b2⟩ := kk ((T.setVm vm').pushCell (arrV (dA 105) (jln h a) fun j => .long (jAL h a j))) (by rw [← hH1, ← hT]; rfl) X'
      refine ⟨t, st _ ?_, b2⟩
      have es : T.heap.size = jsz h := by rw [hT]; exact r.1
      rw [hcE, es]
      exact b1
    · refine jRep_new r (by omega) z1 (fun q hq => o1 q hq) rfl (fun b hb => by simp [jwXL_kd, jnewA_kd, hb]) (fun b hb => by simp [jwXL_ln, jnewA_ln, hb]) (fun b hb k => ?_) ?_ (fun h36 => absurd ((show jkd (jwXL (jnewA h 105 (jln h a)) (jsz h) (jAL h a)) (jsz h) = 105 by simp [jwXL_kd, jnewA_kd]).symm.trans h36) (by decide))
      · have h1 : jcell dA k (jwXL (jnewA h 105 (jln h a)) (jsz h) (jAL h a)) b = jcell dA k (jnewA h 105 (jln h a)) b := by
          apply jcell_wA <;> intros <;> first | rfl | (funext j; simp [jwXL_AL, hb])
        exact h1.trans (jcell_newA hb)
      · have hkd : jkd (jwXL (jnewA h 105 (jln h a)) (jsz h) (jAL h a)) (jsz h) = 105 := by simp [jwXL_kd, jnewA_kd]
        rw [hkd, jcell_arr (by decide)]
        show H1[jsz h]? = some (arrV (dA 105) (jln (jwXL (jnewA h 105 (jln h a)) (jsz h) (jAL h a)) (jsz h)) fun j => .long (jAL (jwXL (jnewA h 105 (jln h a)) (jsz h) (jAL h a)) (jsz h) j))
        rw [← r.1, e1]
        simp [jwXL_AL, jwXL_ln, jnewA_ln, r.1]
  · exact kz.elim
theorem sm_gclV (C : jCx p l e R s m args meth c cc own D dA lo cs0 nL z0 w0 zF wF dd) {ix t k : Nat} {ty : FieldType} {CN : String} (ht : 101 ≤ t) (hy : (jtys dA)[t - 101]? = some (dA t, ty)) (hnm : ∀ U, va_RA U (dA t) ty → U.vm.findClass CN = some (dA t)) (hm : (k, CN) ∈ jmir) (q1 : Cond.methodLink own ix ⟨"java/lang/Object", "getClass", "()Ljava/lang/Class;"⟩ ∈ lw_all) (q2 : Cond.declares ⟨"java/lang/Object", "getClass", "()Ljava/lang/Class;"⟩ ∈ lw_tbl) (q3 : Cond.selects CN ⟨"java/lang/Object", "getClass", "()Ljava/lang/Class;"⟩ ⟨"java/lang/Object", "getClass", "()Ljava/lang/Class;"⟩ ∈ lw_all) (q4 : Cond.instanceMethod ⟨"java/lang/Object", "getClass", "()Ljava/lang/Class;"⟩ ∈ lw_all) (q5 : Cond.native ⟨"java/lang/Object", "getClass", "()Ljava/lang/Class;"⟩ ∈ lw_all) (d : decode cc pc = .ok (.invokevirtual ix, 3)) : ∀ ls st h, ogcl [(t, k)] (pc + 3) (jSim p l e R s m args below meth c D dA lo cs0 nL z0 w0 zF wF Q) Rf ls st h → jSim p l e R s m args below meth c D dA lo cs0 nL z0 w0 zF wF Q pc ls st h := by
  intro ls st h kz
  unfold ogcl at kz
  split at kz
  · rename_i o1 r9
    obtain ⟨g, kz⟩ := jgd_ex kz
    obtain ⟨a, ea, kz⟩ := onr_ex kz
    subst ea
    obtain ⟨k9, hk9, kt⟩ := kz
    have hk8 : (bif Nat.beq t (jkd h a) then some k else none) = some k9 := hk9
    cases hb : Nat.beq t (jkd h a) with
    | false => rw [hb] at hk8; cases hk8
    | true =>
      rw [hb] at hk8
      cases hk8
      have ha : jkd h a = t := (Nat.eq_of_beq_eq_true hb).symm
      refine ⟨kt.1, fun a1 b1 n1 H locs mls r v w => ?_⟩
      have hts : ∀ w ∈ lw_all, w.before args s = true := C.2.2.2.1
      have hfr := C.2.2.2.2.2.2.2.2.2.2.2.1
      have hlo9 := C.2.2.2.2.2.2.2.2.2.2.2.2
      have hK := C.2.2.2.2.2.2.2.2.1.1
      obtain ⟨mi, hcs, hMi⟩ := C.2.2.2.2.2.2.2.2.2.2.1.2.2.2.1 _ hm
      obtain ⟨cell, g1, g2, g3, g4⟩ := jRep_arr r ha (by omega)
      have hk := kt.2 a1 b1 n1 H locs mls r v w
      have e9 : jcs h k = some mi := by rw [n1.2]; exact hcs
      rw [e9] at hk
      refine va_getC C.1 C.2.1 (C.2.2.2.2.2.1.trans w.1.symm) C.2.2.1 (hts _ q1) (va_any rfl (C.2.2.2.2.2.2.2.2.2.1.1 _ q2 rfl)) (hts _ q3) (hts _ q4) (hts _ q5) hMi ⟨cell, g1, jvm0_st g3, by rw [g2]; exact hnm s (hK.2 (t - 101) _ hy).2⟩ (by have : jfrm (dd + 1) = dd + 17 := rfl; omega) (by rw [jws_sum]; have := Nat.le_of_ble_eq_true g; have : jloc (dd + 1) = 64 * (dd + 1) + 600 := rfl; omega) d hk
  · exact kz.elim
/-- a call whose receiver's kind tells the method -/
theorem sm_cMI {E : jE} {cs : List (Nat × Nat)} {n : Nat} (F : ∀ k yi : Nat, jlk cs k = some yi → ∀ ls st h, ocallRI E k yi n (pc + 5) (jSim p l e R s m args below meth c D dA lo cs0 nL z0 w0 zF wF Q) Rf ls st h → jSim p l e R s m args below meth c D dA lo cs0 nL z0 w0 zF wF Q pc ls st h) : ∀ ls st h, ocallMI E cs n (pc + 5) (jSim p l e R s m args below meth c D dA lo cs0 nL z0 w0 zF wF Q) Rf ls st h → jSim p l e R s m args below meth c D dA lo cs0 nL z0 w0 zF wF Q pc ls st h := by
  intro ls st h kz
  obtain ⟨g, kz⟩ := jgd_ex kz
  unfold jrm at kz
  split at kz
  · rename_i o1 r9 hst
    obtain ⟨a, ea, yi, hy, kc⟩ := onr_ex kz
    subst ea
    refine F (jkd h a) yi hy ls st h ?_
    unfold ocallRI
    rw [g]
    refine ⟨?_, ?_⟩
    · rw [hst]
      exact (rfl : jkd h a = jkd h a)
    · exact kc
  · exact kz.elim
theorem jlk2 {a b x y k z : Nat} (h : jlk [(a, x), (b, y)] k = some z) : (k = a ∧ z = x) ∨ (k = b ∧ z = y) := by
  have h1 : (bif Nat.beq a k then some x else (bif Nat.beq b k then some y else none)) = some z := h
  cases e : Nat.beq a k with
  | true => rw [e] at h1; cases h1; exact Or.inl ⟨(Nat.eq_of_beq_eq_true e).symm, rfl⟩
  | false =>
    rw [e] at h1
    cases e2 : Nat.beq b k with
    | true => rw [e2] at h1; cases h1; exact Or.inr ⟨(Nat.eq_of_beq_eq_true e2).symm, rfl⟩
    | false => rw [e2] at h1; cases h1
end JS10
