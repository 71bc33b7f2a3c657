/-! AN OBJECT'S CLONE (own work) -/
section JS13
variable {p : Program} {l : Launch} {e : Env} {R : Room} {s : State} {m : MethodId} {args : Array Value} {below : List Frame} {meth : Method} {c : Code} {D : va_G} {dA : Nat → ClassId} {lo nL z0 w0 zF wF dd : Nat} {cs0 : Nat → Option Nat} {Q : State → Prop} {cc : ByteArray} {own : String} {pc : Nat} {Rf : jR} {H : Heap} {locs : List Loc} {cells slots : Nat} {mls : Array Slot} {rest : List Value} {rF : jA} {hF : jH}
theorem z_noload {own sup : String} {cB : ClassId} (hc : s.vm.findClass own = some cB) (h1 : (Cond.superclass own sup).before args s = true) (h2 : (Cond.noSuperclass sup).before args s = true) (n1 : own ≠ "java/lang/ClassLoader") (n2 : sup ≠ "java/lang/ClassLoader") : s.vm.clonesLoader cB = false := by
  obtain ⟨ps, k, kp, a1, a2, a3, a4, -, -, -⟩ := Cond.superclass_spec hc h1
  obtain ⟨ps', kp', b1, b2, b3, -, -⟩ := Cond.noSuperclass_spec h2
  cases a1.symm.trans b1
  cases a3.symm.trans b2
  obtain ⟨k0, hk0, hn0⟩ := Vm.findClass_spec hc
  cases a2.symm.trans hk0
  obtain ⟨k1, hk1, hn1⟩ := Vm.findClass_spec a1
  cases a3.symm.trans hk1
  have hsup : ∀ x ∈ cB :: s.vm.superclasses cB, x = cB ∨ x = ps := by
    intro x hx
    rcases List.mem_cons.mp hx with e | e
    · exact Or.inl e
    · unfold Vm.superclasses at e
      cases hz : s.vm.classes.size with
      | zero =>
        rw [hz] at e
        simp [Vm.superclassesAux, a2, a4] at e
        exact Or.inr e
      | succ n =>
        rw [hz] at e
        simp [Vm.superclassesAux, a2, a4, a3, b3] at e
        exact Or.inr e
  unfold Vm.clonesLoader
  rw [Bool.and_eq_false_iff]
  right
  rw [List.any_eq_false]
  intro x hx
  rcases hsup x hx with e | e
  · subst e
    rw [a2]
    simp [hn0, n1]
  · subst e
    rw [a3]
    simp [hn1, n2]
theorem sm_clo (C : jCx p l e R s m args meth c cc own D dA lo cs0 nL z0 w0 zF wF dd) {ix : Nat} (q1 : Cond.methodLink own ix ⟨"java/lang/Object", "clone", "()Ljava/lang/Object;"⟩ ∈ lw_all) (q2 : Cond.sameMethod "java/lang/Object" "java/lang/Object" "clone" "()Ljava/lang/Object;" ∈ lw_all) (q3 : Cond.superclass own "java/lang/Object" ∈ lw_all) (q4 : Cond.native ⟨"java/lang/Object", "clone", "()Ljava/lang/Object;"⟩ ∈ lw_all) (q5 : Cond.instanceMethod ⟨"java/lang/Object", "clone", "()Ljava/lang/Object;"⟩ ∈ lw_all) (q6 : Cond.castable RJ40 "java/lang/Cloneable" ∈ lw_tbl) (q7 : Cond.noSuperclass "java/lang/Object" ∈ lw_all) (hown9 : own = RJ40) (hinB : ∀ w ∈ u_ws RJ40 TJ40 3, w ∈ lw_all) (hlo : lo ≤ z0) (hlz : z0 ≤ zF) (hlw : w0 ≤ wF) (d : decode cc pc = .ok (.invokespecial ix, 3)) : ∀ ls st h, oclo 36 3 150 (pc + 3) (jSim p l e R s m args below meth c D dA lo cs0 nL z0 w0 zF wF Q) Rf ls st h → jSim p l e R s m args below meth c D dA lo cs0 nL z0 w0 zF wF Q pc ls st h := by
  intro ls st h kz
  unfold oclo at kz
  split at kz
  · rename_i o1 r9
    obtain ⟨g, kz⟩ := jgd_ex kz
    obtain ⟨a, ea, kz⟩ := onr_ex kz
    subst ea
    obtain ⟨ha, hbo, kt⟩ := kz
    have kt := kt _ rfl
    have hz1 : jsz h + 1 ≤ zF := kt.1.1
    have hz2 : jsl h + 3 ≤ wF := kt.1.2
    refine ⟨⟨by omega, by omega⟩, fun a1 b1 n1 H locs mls r v w => ?_⟩
    have hRc := C.2.2.2.2.2.2.1
    have hRs := C.2.2.2.2.2.2.2.1
    have hts : ∀ w ∈ lw_all, w.before args s = true := C.2.2.2.1
    have hfr := C.2.2.2.2.2.2.2.2.2.2.2.1
    have hlo9 := C.2.2.2.2.2.2.2.2.2.2.2.2
    have hK := C.2.2.2.2.2.2.2.2.1.1
    have hown := C.2.2.1
    have hat := jRep_objO r ha (by decide) (by decide) (jRep_own r ha (by decide) (by decide) (fun e => absurd e (by decide)))
    obtain ⟨r8, hr8, cellB, g1, g2, g3, g4⟩ := hat
    cases Option.some.inj (hr8.symm.trans (rfl : jcls[36]? = some (RJ40, TJ40, 3)))
    obtain ⟨c9, w1, w2⟩ := (r.2 a (by rw [ha]; decide)).2.2 ha
    cases Option.some.inj (g1.symm.trans w1)
    obtain ⟨hS, hfc, kC, hkC, hkind⟩ := hK.1 36 _ (rfl : jcls[36]? = some (RJ40, TJ40, 3))
    have hap := va_apart (own := own) hts hinB tyJ40 tyJ40_ok nmJ40 hK (rfl : jcls[36]? = some (RJ40, TJ40, 3))
    have hff : ∀ k, k < 3 → s.fitsSlot (D.1 36) .none (D.2 36 k) (vp_V (jfs (jlay 36) h a) k) = true := by
      intro k hk
      obtain ⟨cf, kf, fi, f, hi, hsl⟩ := hS k hk
      have hw : narrow (tyJ40 k) (vp_V (jfs (jlay 36) h a) k) = vp_V (jfs (jlay 36) h a) k ∧ fits (tyJ40 k) (vp_V (jfs (jlay 36) h a) k) = true := by
        match k, hk with
        | 0, _ => exact ⟨jnar rfl _, jfit rfl _⟩
        | 1, _ => exact ⟨rfl, rfl⟩
        | 2, _ =>
          show narrow .boolean (.int (jOI h 150 a)) = .int (jOI h 150 a) ∧ fits .boolean (.int (jOI h 150 a)) = true
          rcases hbo with e | e <;> rw [e] <;> exact ⟨rfl, rfl⟩
      have := (u_fits hfc hkC hkind (u_lays hts hinB hk) hi (tyJ40_ok k hk) hw.1 hw.2).2
      rw [hsl] at this
      exact this
    have hlt : ∀ k, k < 3 → D.2 36 k < 3 := fun k hk => by
      have := (Array.getElem?_eq_some_iff.mp (g4 k hk)).1
      rw [w2] at this
      exact this
    have hfit : ∀ (i : Nat) (v9 : Value), cellB.slots[i]? = some v9 → s.fitsSlot (D.1 36) .none i v9 = true := by
      intro i v9 hv
      have hi3 : i < 3 := by
        have := (Array.getElem?_eq_some_iff.mp hv).1
        rw [w2] at this
        exact this
      have c0 := hlt 0 (by decide)
      have c1 := hlt 1 (by decide)
      have c2 := hlt 2 (by decide)
      have d01 := hap 0 1 (by decide) (by decide) (by decide)
      have d02 := hap 0 2 (by decide) (by decide) (by decide)
      have d12 := hap 1 2 (by decide) (by decide) (by decide)
      have hor : i = D.2 36 0 ∨ i = D.2 36 1 ∨ i = D.2 36 2 := by omega
      rcases hor with e | e | e
      · rw [e] at hv ⊢
        rw [← Option.some.inj ((g4 0 (by decide)).symm.trans hv)]
        exact hff 0 (by decide)
      · rw [e] at hv ⊢
        rw [← Option.some.inj ((g4 1 (by decide)).symm.trans hv)]
        exact hff 1 (by decide)
      · rw [e] at hv ⊢
        rw [← Option.some.inj ((g4 2 (by decide)).symm.trans hv)]
        exact hff 2 (by decide)
    obtain ⟨cz, tz, f1, f2, f3⟩ := Cond.castable_spec (va_Nw.use (A := args) rfl (C.2.2.2.2.2.2.2.2.2.1.1 _ q6 rfl))
    cases hfc.symm.trans f1
    have hld : s.vm.clonesLoader (D.1 36) = false := z_noload hfc (by rw [← hown9]; exact hts _ q3) (hts _ q7) (by decide) (by decide)
    intro T hT X
    subst hT
    obtain ⟨r0, kO, methO, hnO, hmO, hkO, N⟩ := NativeOf.of_instance (hts _ q4) (hts _ q5) (ps := []) (ret := some (.object "java/lang/Object")) (by decide +kernel)
    obtain ⟨r0', methO', hnO', hmO', hstO, habO⟩ := Cond.instanceMethod_spec (hts _ q5)
    cases hnO.symm.trans hnO'
    cases hmO.symm.trans hmO'
    obtain ⟨ps, dk, kp, hps, hdk, hkp, hsuper, -, -, hnid⟩ := Cond.superclass_spec hown (hts _ q3)
    have hpm : ps = r0.cls := Option.some.inj (hps.symm.trans (findClass_of_methodNamed hnO))
    have hsub : s.vm.isSubclass ps r0.cls = true := by rw [hpm]; simp [Vm.isSubclass, Vm.isSubclassAux]
    obtain ⟨vm', X', step⟩ := X.invokespecialUp C.1 hown (hts _ q1) (hts _ q2) hnO hmO hstO habO (by decide) hdk hnid hps hsuper hsub (a := a) (cell := cellB) g1
      (fun z h => by rw [g3] at h; cases h) (by rw [g2]; exact hkC) (g := F0 m pc mls (.ref a :: r9.map jtv)) rfl (argsL := []) (rest := r9.map jtv) (by rw [N.sig]; rfl) rfl (by rw [C.2.1]; exact d)
    have hA' : s.vm.Alike vm' := X'.warmed.alike
    obtain ⟨kO', N'⟩ := N.alike hA'
    obtain ⟨kC', hkC', -⟩ := hA'.2.2 _ _ hkC
    obtain ⟨kZ, hkZ, -⟩ := Vm.findClass_spec f2
    obtain ⟨kZ', hkZ', -⟩ := hA'.2.2 _ _ hkZ
    have hroom := X.room
    simp only [State.hasRoom, Bool.and_eq_true, decide_eq_true_eq] at hroom
    have h1 := X.heapSize
    have h2 := X.used
    have hcE : ({ cls := cellB.cls, slots := cellB.slots } : Cell) = { cls := D.1 36, slots := cellB.slots } := by rw [g2]
    have X2 := X'.pushed ({ cls := cellB.cls, slots := cellB.slots } : Cell)
    have stepC : ∀ target, Steps p.tables e below (((T.setVm vm').pushCell { cls := cellB.cls, slots := cellB.slots }).setTop (F0 m (pc + 3) mls (.ref T.heap.size :: r9.map jtv))) target → Steps p.tables e below (T.setTop (F0 m pc mls (.ref a :: r9.map jtv))) target := by
      intro target hrest
      refine step target ?_
      exact Steps.cloneOf (g := F0 m pc mls (r9.map jtv)) (ig := .invokespecial ix) (len := 3) p X'.here [] N'
        (X'.notFull (g := F0 m pc mls (r9.map jtv)) (by show mls.size = c.maxLocals; rw [C.2.2.2.2.2.1]; exact w.1) (vars := nativeFrameWords "java/lang/Object" "clone" 1) (by have : jfrm (dd + 1) = dd + 17 := rfl; omega) (by rw [show nativeFrameWords "java/lang/Object" "clone" 1 = 3 from by decide]; show 2 * 0 + _ + 14 ≤ _; rw [jws_sum]; have := Nat.le_of_ble_eq_true g; have : jloc (dd + 1) = 64 * (dd + 1) + 600 := rfl; omega))
        g1 (fun z h => by rw [g3] at h; cases h) (by rw [g3]; exact fun h => by cases h) ⟨kC', by rw [g2]; exact hkC'⟩ (by show vm'.findClass _ = _; rw [hA'.findClass]; exact f2) ⟨kZ', hkZ'⟩ (by show vm'.assignable _ _ = _; rw [hA'.assignable, g2]; exact f3) (Launch.admits_finalization X.admits)
        (by show T.heap.size < _; omega) (by show T.slotsUsed + _ ≤ _; omega) (fun i v9 hv9 => by
          rw [State.fitsSlot_setVm (X.warmed.alike.symm.trans hA'), g2]
          show (s.setVm T.vm).fitsSlot (D.1 36) .none i v9 = true
          rw [State.fitsSlot_setVm X.warmed.alike]
          exact hfit i v9 hv9) (by rw [C.2.1]; exact d) hrest (by show vm'.clonesLoader _ = false; rw [hA'.clonesLoader, g2]; exact hld)
    rw [w2] at X2
    generalize hH1 : T.heap.push ({ cls := cellB.cls, slots := cellB.slots } : Cell) = H1
    have z1 : H1.size = T.heap.size + 1 := by rw [← hH1, Array.size_push]
    have e1 : H1[T.heap.size]? = some ({ cls := cellB.cls, slots := cellB.slots } : Cell) := by rw [← hH1, Array.getElem?_push_size]
    have o1 : ∀ q : Nat, q < T.heap.size → H1[q]? = T.heap[q]? := fun q hq => by rw [← hH1, Array.getElem?_push, if_neg (Nat.ne_of_lt hq)]
    have hkd : jkd (jclo h 36 3 a) (jsz h) = 36 := if_pos rfl
    have kk := kt.2 (by show z0 ≤ jsz h + 1; omega) (by show w0 ≤ jsl h + 3; omega) n1 H1 locs mls ?_ ⟨Nat.le_trans v.1 (by rw [z1]; omega), fun q h1 h2 => (o1 q (Nat.lt_of_lt_of_le h1 v.1)).trans (v.2.1 q h1 h2), v.2.2⟩ w
    · have t1 : jsz (jclo h 36 3 a) - z0 = jsz h - z0 + 1 := by show jsz h + 1 - z0 = _; omega
      have t2 : jsl (jclo h 36 3 a) - w0 = jsl h - w0 + 3 := by show jsl h + 3 - w0 = _; omega
      rw [t1, t2] at kk
      obtain ⟨t, b1, b2⟩ := kk _ (by rw [← hH1]; rfl) X2
      refine ⟨t, stepC _ ?_, b2⟩
      rw [r.1]
      exact b1
    · have hjf : jfs (jlay 36) (jclo h 36 3 a) (jsz h) = jfs (jlay 36) h a := by
        unfold jfs
        refine List.map_congr_left fun q _ => ?_
        show (if q.2 = true then va_rf (if jsz h = jsz h then jOP h q.1 a else jOP h q.1 (jsz h)) else Value.int (if jsz h = jsz h then jOI h q.1 a else jOI h q.1 (jsz h))) = if q.2 = true then va_rf (jOP h q.1 a) else .int (jOI h q.1 a)
        rw [if_pos rfl, if_pos rfl]
      refine jRep_new r (by omega) z1 o1 rfl (fun b hb => if_neg hb) (fun b hb => rfl) (fun b hb k => ?_) ?_ (fun _ => ⟨({ cls := cellB.cls, slots := cellB.slots } : Cell), by rw [← r.1]; exact e1, w2⟩)
      · unfold jcell
        have : jfs (jlay k) (jclo h 36 3 a) b = jfs (jlay k) h b := by
          unfold jfs
          refine List.map_congr_left fun q _ => ?_
          show (if q.2 = true then va_rf (if b = jsz h then jOP h q.1 a else jOP h q.1 b) else Value.int (if b = jsz h then jOI h q.1 a else jOI h q.1 b)) = if q.2 = true then va_rf (jOP h q.1 b) else .int (jOI h q.1 b)
          rw [if_neg hb, if_neg hb]
        rw [this]
        rfl
      · rw [hkd, jcell_obj (by decide), hjf]
        exact ⟨_, rfl, ({ cls := cellB.cls, slots := cellB.slots } : Cell), by rw [← r.1]; exact e1, g2, rfl, g4⟩
  · exact kz.elim
end JS13
