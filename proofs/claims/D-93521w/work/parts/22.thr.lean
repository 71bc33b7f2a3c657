/-! OBJECTS MADE TO BE THROWN; FURTHER CALLS (own work) -/
section JS11
variable {p : Program} {l : Launch} {e : Env} {R : Room} {s : State} {m : MethodId} {args : Array Value} {below : List Frame} {meth : Method} {c : Code} {D : va_G} {dA : Nat → ClassId} {lo nL z0 w0 zF wF dd : Nat} {cs0 : Nat → Option Nat} {Q : State → Prop} {cc : ByteArray} {own : String} {pc : Nat} {Rf : jR} {H : Heap} {locs : List Loc} {cells slots : Nat} {mls : Array Slot} {rest : List Value} {rF : jA} {hF : jH}
variable {E : jE} {f : jOp} {yi n : Nat} {ox : Option (List (Nat × List Nat))} {hh : List (Nat × Nat × Nat × Nat)}
theorem z_make0 (C : jCx p l e R s m args meth c cc own D dA lo cs0 nL z0 w0 zF wF dd) (hl : l.stackTraces = false) {cls : String} {names : List String} {ik ic ci : Nat} {T0 : u_T}
    (hcls : Bundle.fit cls = true) (hnames : ∀ n ∈ names, Bundle.fit n = true)
    (hk : (Cond.classLink own ik cls).before args s = true) (hini : (Cond.initialized cls).before args s = true) (hat : ∀ w ∈ vx_at0 own ic cls names, w.before args s = true)
    (hgood : ∀ w ∈ Cond.classLink own ik cls :: Cond.initialized cls :: vx_at0 own ic cls names, vx_ot w = true)
    (hS : va_S (fun q => lo ≤ q) s.heap H locs) (hsize : mls.size = nL)
    (d0 : decode cc pc = .ok (.new ik, 3)) (d3 : decode cc (pc + 3) = .ok (.dup, 1)) (d4 : decode cc (pc + 4) = .ok (.invokespecial ic, 3))
    (hc : jcls[ci]? = some (cls, T0, 0)) (hn2 : names.length = 2) (hr8 : (rest.map fun v => v.category).sum ≤ 8) (hRcells : cells + 1 ≤ R.cells) (hRslots : slots + 6 ≤ R.slots)
    (kk : ∀ (H1 : Heap) (ce : Cell), H1[H.size]? = some ce → ce.cls = D.1 ci → ce.vm = .none → H1.size = H.size + 1 → (∀ q : Nat, q < H.size → H1[q]? = H[q]?) → W p l e R s m args below meth c H1 locs (cells + 1) (slots + 6) Q (F0 m (pc + 7) mls (.ref H.size :: rest))) :
    W p l e R s m args below meth c H locs cells slots Q (F0 m pc mls rest) := by
  intro T hT X
  subst hT
  have hexec := C.1
  have hb := C.2.1
  have hown := C.2.2.1
  have hK := C.2.2.2.2.2.2.2.2.1.1
  have hU := C.2.2.2.2.2.2.2.2.2.2.1.2.2.2.2.1
  have hN := C.2.2.2.2.2.2.2.2.2.2.1.2.2.2.2.2.1
  have hfr := C.2.2.2.2.2.2.2.2.2.2.2.1
  have hlo9 := C.2.2.2.2.2.2.2.2.2.2.2.2
  have hf17 : jfrm (dd + 1) = dd + 17 := rfl
  have hl64 : jloc (dd + 1) = 64 * (dd + 1) + 600 := rfl
  have htr : e.platform.stackTraces = false := (show e.platform.stackTraces = l.stackTraces by rw [X.admits.platform]).trans hl
  have Y := vx_rebase X (R' := { frames := R.frames, locals := R.locals, cells := 1, slots := 6 }) (Nat.le_refl _) (Nat.le_refl _) hRcells hRslots
  obtain ⟨s', hA'⟩ : ∃ z, z = (T.setVm s.vm).setFrames (.invoking m args :: below) := ⟨_, rfl⟩
  rw [← hA'] at Y
  have hvm : s'.vm = s.vm := by rw [hA']; rfl
  have hhp : s'.heap = T.heap := by rw [hA']; rfl
  have hW0 : s.WarmedH s'.vm := by rw [hvm]; exact State.WarmedH.refl s
  have hat' : ∀ w ∈ vx_at0 own ic cls names, w.before args s' = true := fun w hw => vx_ot_at hW0 hvm.symm (hgood w (List.mem_cons_of_mem _ (List.mem_cons_of_mem _ hw))) (hat w hw)
  have hk' : (Cond.classLink own ik cls).before args s' = true := vx_ot_at hW0 hvm.symm (hgood _ List.mem_cons_self) hk
  have hini' : (Cond.initialized cls).before args s' = true := vx_ot_at hW0 hvm.symm (hgood _ (List.mem_cons_of_mem _ List.mem_cons_self)) hini
  have hU' : vx_Zq Bundle.tN "UNASSIGNED_STACK" Bundle.steD (fun q => lo ≤ q) s' s'.heap := by rw [hhp]; exact vx_Zq.moved hW0.alike (hU.kept hS.2.1)
  have hN' : vx_Zq Bundle.tN "SUPPRESSED_SENTINEL" Bundle.listD (fun q => lo ≤ q) s' s'.heap := by rw [hhp]; exact vx_Zq.moved hW0.alike (hN.kept hS.2.1)
  have h : ∀ w ∈ Bundle.ownAtoms0 own ic cls names, w.before args s' = true := vx_own hat' (vx_isRefq hU'.1) (vx_isRefq hN'.1) hU'.2.word hN'.2.word
  have hown' : s'.vm.findClass own = some m.cls := by rw [hvm]; exact hown
  have hins : (Cond.instantiable cls 6).before args s' = true := h _ (by simp [Bundle.ownAtoms0])
  obtain ⟨vm₁, cX, kX, hfX, hkX, -, -, X₁, st1⟩ := Y.newCold hexec (own := own) (C := cls) (index := ik) (n := 6) hown' hk' hins hini'
    (g := F0 m pc mls rest) rfl (by rw [hb]; exact d0) (Nat.le_refl _) (Nat.le_refl _)
  generalize hT1 : (T.setVm vm₁).pushCell { cls := cX, slots := kX.instanceTypes.map defaultValue, vm := .none } = T1 at X₁ st1
  have hcat : (Value.ref T.heap.size).category = 1 := rfl
  have hcellA : T1.heap[T.heap.size]? = some (freshCell cX kX) := by rw [← hT1]; exact State.heap_pushCell_size _ _
  have d3' : decode c.code (pc + 3) = .ok (.dup, 1) := by rw [hb]; exact d3
  obtain ⟨V, ce, L, Z, hL, hlt, hcl9, hvm9, st⟩ := vx_ctorMade0 X₁ hexec htr (own := own) (cls := cls) (names := names) (ic := ic) hown' hcls hnames h (fun x hx => nomatch hx) hfX hkX hcellA (by rw [hhp]; exact Nat.le_refl _)
    (g := { method := m, pc := pc + 4, locals := mls, stack := .ref T.heap.size :: .ref T.heap.size :: rest, locked := none }) rfl (by show mls.size = c.maxLocals; rw [C.2.2.2.2.2.1]; exact hsize) (rest := rest) rfl
    (by rw [hb]; exact d4) (by show names.length + 3 < R.frames; omega) (by simp only [List.map_cons, List.sum_cons, hcat]; show 2 * 0 + _ + _ ≤ R.locals; omega)
  have Z0 := Stand.forget (locs := []) Z (fun y hy => by rw [hL y hy, hhp]; exact Nat.le_refl _)
  obtain ⟨f1, f2⟩ := vx_frame Z0.same
  have f3 := Z0.same.2.2.1
  have hcid : ce.cls = D.1 ci := by
    rw [hcl9]
    have h1 := (hK.1 ci _ hc).2.1
    rw [hvm] at hfX
    exact Option.some.inj (hfX.symm.trans h1)
  have hh9 : (V.setCell T.heap.size ce).heap[T.heap.size]? = some ce := heapAt_setCell_self (s := V) ce hlt
  have hsz : (V.setCell T.heap.size ce).heap.size = T.heap.size + 1 := by
    have g1 : T.heap.size < (V.setCell T.heap.size ce).heap.size := (Array.getElem?_eq_some_iff.mp hh9).1
    have g2 : (V.setCell T.heap.size ce).heap.size ≤ s'.heap.size + 1 := f3
    rw [hhp] at g2
    omega
  rw [hhp] at f1 f2
  subst hA'
  have X5 := vx_back9 X Y Z0
  have X6 : Stand p l e R s m args below meth c (V.setCell T.heap.size ce) locs (cells + 1) (slots + 6) := { X5 with same := X5.same.mono (by omega) (by omega) }
  obtain ⟨t, a1, b1⟩ := kk (V.setCell T.heap.size ce).heap ce hh9 hcid hvm9 hsz (fun q hq => f2 q hq (fun z hz => nomatch hz)) _ rfl X6
  refine ⟨t, st1 _ ?_, b1⟩
  show Steps p.tables e below (T1.setTop { method := m, pc := pc + 3, locals := mls, stack := .ref T.heap.size :: rest, locked := none }) _
  jvm_step X₁.here [X₁.here.top, hexec, d3', Value.category]
  exact st _ a1
theorem sm_thr0 (B : jBd p l e R s m args below meth c cc own D dA lo cs0 nL z0 w0 zF wF dd Q rF hF hh) (hl : l.stackTraces = false) {cls : String} {names : List String} {ik ic ci : Nat} {T0 : u_T} {hs : List (Nat × List Nat)}
    (hcls : Bundle.fit cls = true) (hnames : ∀ n ∈ names, Bundle.fit n = true) (hn2 : names.length = 2)
    (hk : Cond.classLink own ik cls ∈ lw_all) (hini : Cond.initialized cls ∈ lw_all) (hat : ∀ w ∈ vx_at0 own ic cls names, w ∈ lw_tbl ∧ (goodWord w = true ∨ (jNok w = true ∧ w.onTables = true)))
    (hgood : ∀ w ∈ Cond.classLink own ik cls :: Cond.initialized cls :: vx_at0 own ic cls names, vx_ot w = true)
    (hc : jcls[ci]? = some (cls, T0, 0)) (h0 : ci ≠ 0) (h9 : ci < 100) (hx : jexk ci) (hlz : z0 ≤ zF) (hlw : w0 ≤ wF)
    (d0 : decode cc pc = .ok (.new ik, 3)) (d3 : decode cc (pc + 3) = .ok (.dup, 1)) (d4 : decode cc (pc + 4) = .ok (.invokespecial ic, 3)) (d7 : decode cc (pc + 7) = .ok (.athrow, 1)) (hH : jHok s own (pc + 7) hh hs) :
    ∀ ls st h, othr0 ci hs (jSim p l e R s m args below meth c D dA lo cs0 nL z0 w0 zF wF Q) (fun r2 h2 => r2 = rF ∧ h2 = hF) ls st h → jSim p l e R s m args below meth c D dA lo cs0 nL z0 w0 zF wF Q pc ls st h := by
  intro ls st h kz
  obtain ⟨g, kz⟩ := jgd_ex kz
  have kz := kz _ rfl
  have C := B.1
  have hkd : jkd (jnew h ci 6) (jsz h) = ci := by simp [jnew_kd]
  have k9 := z_hand C B.2.1 B.2.2.1 (pc := pc + 7) (rs := st) (by rw [hkd]; exact hx) hh [] hs rfl (by intro z hz; cases hz) hH kz
  have hz1 : jsz h + 1 ≤ zF := k9.1.1
  have hz2 : jsl h + 6 ≤ wF := k9.1.2
  have hlo := B.2.2.2
  refine ⟨⟨by omega, by omega⟩, fun a1 b1 n1 H locs mls r v w => ?_⟩
  have hRc := C.2.2.2.2.2.2.1
  have hRs := C.2.2.2.2.2.2.2.1
  have hts : ∀ w ∈ lw_all, w.before args s = true := C.2.2.2.1
  have hK := C.2.2.2.2.2.2.2.2.1.1
  refine z_make0 C hl hcls hnames (hts _ hk) (hts _ hini) (fun w hw => ?_) hgood v w.1 d0 d3 d4 hc hn2 (by rw [jws_sum]; exact Nat.le_of_ble_eq_true g) (by omega) (by omega) fun H1 ce e1 ecl evm z1 o1 => ?_
  · obtain ⟨w1, w2 | w2⟩ := hat w hw
    · exact hts _ (lw_g w1 w2)
    · exact va_any w2.2 (C.2.2.2.2.2.2.2.2.2.1.1 _ w1 w2.1)
  · rw [r.1] at e1 ⊢
    have hrep : jRep D dA lo (jnew h ci 6) H1 := by
      refine jRep_new r (by omega) (by rw [z1, r.1]) (fun q hq => o1 q hq) rfl (fun b hb => by simp [jnew_kd, hb]) (fun b hb => rfl) (fun b hb k => jcell_new hb) ?_ (fun h36 => absurd hx (by rw [hkd] at h36; rw [h36]; unfold jexk; decide))
      rw [hkd, jcell_obj h9, jfs_new]
      exact ⟨_, hc, ce, e1, ecl, evm, fun k hk => absurd hk (Nat.not_lt_zero k)⟩
    refine vx_athrow C.1 C.2.1 d7 ?_
    have kk := k9.2 (by show z0 ≤ jsz h + 1; omega) (by show w0 ≤ jsl h + 6; omega) n1 (by rw [hkd]; exact hx) H1 locs mls hrep ⟨Nat.le_trans v.1 (by rw [z1, r.1]; omega), fun q h1 h2 => (o1 q (by have := v.1; rw [r.1] at this ⊢; omega)).trans (v.2.1 q h1 h2), v.2.2⟩ w ⟨_, ce, by rw [hkd]; exact hc, e1, evm, by rw [ecl]; exact (hK.1 ci _ hc).2.1⟩
    have t1 : jsz (jnew h ci 6) - z0 = jsz h - z0 + 1 := by show jsz h + 1 - z0 = _; omega
    have t2 : jsl (jnew h ci 6) - w0 = jsl h - w0 + 6 := by show jsl h + 6 - w0 = _; omega
    rw [t1, t2] at kk
    exact kk
end JS11
