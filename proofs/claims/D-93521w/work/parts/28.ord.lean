/-! AN ENUM CONSTANT'S ORDINAL: the call as one operation (own work) -/
section JSO
variable {p : Program} {l : Launch} {e : Env} {R : Room} {s : State} {m : MethodId} {args : Array Value} {below : List Frame} {meth : Method} {c : Code} {D : va_G} {dA : Nat → ClassId} {lo nL z0 w0 zF wF dd : Nat} {cs0 : Nat → Option Nat} {Q : State → Prop} {cc : ByteArray} {own : String} {pc : Nat} {Rf : jR} {rF : jA} {hF : jH} {hh : List (Nat × Nat × Nat × Nat)}
theorem z_ordM {b i jx : Nat} {h : jH} (hi : i < 7) (hb : cs0 (3 + i) = some b) (hp : plainFor yJ28_ordinal = true) (q8 : Cond.fieldLink yJ28_ordinal.cls jx "java/lang/Enum" "ordinal" "I" ∈ lw_all) (d0 : decode cJ28_ordinal 0 = .ok (.aload_n 0, 1)) (d1 : decode cJ28_ordinal 1 = .ok (.getfield jx, 3)) (d4 : decode cJ28_ordinal 4 = .ok (.ireturn, 1)) :
    jMet l D dA lo cs0 yJ28_ordinal (ws_ yJ28_ordinal cJ28_ordinal 1 (some .int)) dd [jP (some b)] h (.inl (some (jI (nI i)))) h := by
  refine zx_ofW hp rfl ?_
  intro p e s m args below meth c s1 B hml htab hPc
  obtain ⟨ha, hrep, hcs, hK, hNw, hFs, hSt, hlo⟩ := hPc
  subst ha
  have hts : ∀ w ∈ lw_all, w.before _ s = true := fun w hw => atoms_spec B.pre w (List.mem_cons_of_mem _ hw)
  have hown : s.vm.findClass yJ28_ordinal.cls = some m.cls := findClass_of_methodNamed B.named
  obtain ⟨a2, cell, e1, e2, e3, e4, e5, e6, sl, e7, e8⟩ := hSt.2.2.2.2.2.2 i hi
  have ea : b = a2 := Option.some.inj (hb.symm.trans e1)
  subst ea
  obtain ⟨cf, kf, fi, f, hi3, hsl⟩ := e7
  obtain ⟨cf2, kf2, fi2, f2, hi2, hst⟩ := hFs.2.2.1
  have e := hi3.symm.trans hi2
  have ef : f = f2 := by injection e with e; injection e with e e2; injection e2 with e2 e3; injection e3
  subst ef
  have hv := lv_entry ([.ref b]) (n := 1) (Nat.le_of_ble_eq_true rfl)
  have hl9 : (([jP (some b)] : List jV).map jtv) = [.ref b] := rfl
  rw [hl9, lg_entry_eq]
  generalize (lg_sl ([.ref b]) ++ List.replicate (1 - (lg_sl ([.ref b])).length) Slot.unset).toArray = mls at hv ⊢
  have hv : lv_has mls 1 [(0, .ref b)] := hv
  refine lv_aload_n B.exec B.bytes d0 rfl (lv_at hv 0 rfl) ?_
  refine W.getf B.exec B.bytes hown (hts _ q8) hi3 hst e3 e5 (v := .int (nI i)) ?_ rfl rfl d1 ?_
  · rw [hsl]; exact e8
  · rw [Nat.sub_self, Nat.sub_self]
    exact zx_ret (W.iret B.exec B.bytes B.returns (fun t ht hW => ⟨rfl, by rw [ht]; exact hrep, hcs, va_S.rf.F ht⟩) (fun q hq => by cases hq) d4 B.notSynchronized)
theorem sm_oord (B : jBd p l e R s m args below meth c cc own D dA lo cs0 nL z0 w0 zF wF dd Q rF hF hh) {ix jx : Nat} (q1 : Cond.methodLink own ix ⟨"PointerAnalyzer$Kind", "ordinal", "()I"⟩ ∈ lw_all) (q2 : Cond.sameMethod "PointerAnalyzer$Kind" "java/lang/Enum" "ordinal" "()I" ∈ lw_all) (q7 : Cond.declares ⟨"java/lang/Enum", "ordinal", "()I"⟩ ∈ lw_tbl) (q3 : Cond.selects "PointerAnalyzer$Kind" ⟨"PointerAnalyzer$Kind", "ordinal", "()I"⟩ yJ28_ordinal ∈ lw_all) (q5 : Cond.instanceMethod yJ28_ordinal ∈ lw_all) (q4 : Cond.code yJ28_ordinal cJ28_ordinal 1 (some .int) ∈ lw_all) (q6 : Cond.initialized yJ28_ordinal.cls ∈ lw_all) (hp : plainFor yJ28_ordinal = true) (q8 : Cond.fieldLink yJ28_ordinal.cls jx "java/lang/Enum" "ordinal" "I" ∈ lw_all) (d0 : decode cJ28_ordinal 0 = .ok (.aload_n 0, 1)) (d1 : decode cJ28_ordinal 1 = .ok (.getfield jx, 3)) (d4 : decode cJ28_ordinal 4 = .ok (.ireturn, 1)) (d : decode cc pc = .ok (.invokevirtual ix, 3)) : ∀ ls st h, oord (pc + 3) (jSim p l e R s m args below meth c D dA lo cs0 nL z0 w0 zF wF Q) Rf ls st h → jSim p l e R s m args below meth c D dA lo cs0 nL z0 w0 zF wF Q pc ls st h := by
  intro ls st h kz
  have C := B.1
  unfold oord at kz
  split at kz
  · rename_i o1 r9
    obtain ⟨g, kz⟩ := jgd_ex kz
    obtain ⟨b, eb, i, hi, hcs, kt⟩ := onr_ex kz
    subst eb
    refine ⟨kt.1, fun a1 b1 n1 H locs mls rr v w => ?_⟩
    intro T hT X
    have hts : ∀ w ∈ lw_all, w.before args s = true := C.2.2.2.1
    obtain ⟨a2, cell, e1, e2, e3, e4, e5, e6, -⟩ := C.2.2.2.2.2.2.2.2.2.2.1.2.2.2.2.2.2 i hi
    rw [n1.2] at hcs
    have ea : b = a2 := Option.some.inj (hcs.symm.trans e1)
    subst ea
    have hcell : H[b]? = some cell := (v.2.1 b (Array.getElem?_eq_some_iff.mp e3).1 e2).trans e3
    have hM := z_ordM (l := l) (D := D) (dA := dA) (lo := lo) (dd := dd) (h := h) hi hcs hp q8 d0 d1 d4
    have hc := vx_callVU X C.1 C.2.2.1 (hts _ q1) (hts _ q2) (va_Decl.abs (C.2.2.2.2.2.2.2.2.2.1.1 _ q7 rfl)) ⟨by decide, by decide⟩ (hts _ q3) (hts _ q5) (hts _ q4) (z_pay (ln := 3) C hM (by decide) q4 q6) (b := b) (cellB := cell) (by rw [hT]; exact hcell) e4 e6 (g := F0 m pc mls (.ref b :: r9.map jtv)) rfl (by rw [C.2.2.2.2.2.1]; exact w.1) (argsL := []) (rest := r9.map jtv)
      (fun sig hsig => by
        have hl : (parseMethodDescriptor "()I").map (fun q => q.parameters.length) = some 0 := by decide +kernel
        rw [hsig] at hl
        exact (Option.some.inj hl).symm) rfl (by show 2 * 0 + _ ≤ 8; rw [jws_sum]; have := Nat.le_of_ble_eq_true g; omega) (by rw [C.2.1]; exact d) (fun vm₁ hW₁ => z_pre C (av := [jP (some b)]) B.2.2.2 ⟨a1, b1⟩ ⟨Nat.le_refl _, Nat.le_refl _⟩ kt.1 n1.2 hT hW₁ rr v)
    refine z_fin (ln := 3) hT hc v (fun v9 hr9 H1 locs1 rp hcs9 vs => ?_) (fun q9 hr9 => by cases hr9)
    cases hr9
    have kk := kt.2 a1 b1 ⟨n1.1, hcs9⟩ H1 locs1 mls rp vs w
    have t1 : jsz h - z0 = jsz h - z0 + (jsz h - jsz h) := by omega
    have t2 : jsl h - w0 = jsl h - w0 + (jsl h - jsl h) := by omega
    rw [t1, t2] at kk
    exact kk
  · exact kz.elim
end JSO
