/-! CALLS OF AN INHERITED METHOD OF AN INTERFACE (own work) -/
section JS15
variable {p : Program} {l : Launch} {e : Env} {R : Room} {s : State} {m : MethodId} {args : Array Value} {below : List Frame} {meth : Method} {c : Code} {D : va_G} {dA : Nat → ClassId} {lo nL z0 w0 zF wF dd : Nat} {cs0 : Nat → Option Nat} {Q : State → Prop} {cc : ByteArray} {own : String} {pc : Nat} {Rf : jR} {H : Heap} {locs : List Loc} {cells slots : Nat} {mls : Array Slot} {rest : List Value} {rF : jA} {hF : jH}
theorem z_faceUp {T : State} (X : Stand p l e R s m args below meth c T locs cells slots) (hexec : p.tables.exec = Jvm.exec) {own : String} {index count : Nat} {x : MethodName} (hown : s.vm.findClass own = some m.cls) (hlink : (Cond.methodLink own index x).before args s = true)
    (hx : x.cls ≠ "java/lang/invoke/MethodHandle" ∧ x.cls ≠ "java/lang/invoke/VarHandle") (hnc : x.name ≠ "clone")
    {a : Addr} {cell : Cell} {kcell kL : Class} {cI : ClassId} (hcI : s.vm.findClass x.cls = some cI) (hkL : s.vm.classes[cI]? = some kL) (hiL : kL.isInterface = true) (hcell : T.heap[a]? = some cell) (hobj : ∀ c, cell.vm ≠ .statics c) (hkcell : s.vm.classes[cell.cls]? = some kcell)
    (hinst : s.vm.assignable cell.cls cI = true)
    {r0 m' : MethodId} {r meth' : Method} (hfound : s.methodFound? x.cls x.name x.desc = some r0) (hrm : s.vm.method? r0 = some r) (hstR : r.isStatic = false)
    (hsel : selectMethod e.platform s.vm cell.cls r0 = .method m') (hm' : s.vm.method? m' = some meth')
    (hway : ((cell.cls :: s.vm.superclasses cell.cls).any fun k => (declaredIn s.vm r.name r.desc k).any fun (_, y) => y.isPrivate || y.isStatic) = false)
    (hpub : hasFlag meth'.accessFlags Acc.public_ = true) (habs : meth'.isAbstract = false)
    {g : JFrame} (hg : g.method = m) {argsL rest : List Value} (hlen : argsL.length = r.sig.parameters.length) (hstack : g.stack = argsL.reverse ++ .ref a :: rest)
    (hdg : decode c.code g.pc = .ok (.invokeinterface index count, 5)) :
    ∃ vm', Stand p l e R s m args below meth c (T.setVm vm') locs cells slots ∧
      ∀ target, (∀ acts, Steps p.tables e below (doInvoke e ((T.setVm vm').setTop { g with stack := rest }) acts m' (.ref a :: argsL).toArray).1 target) → Steps p.tables e below (T.setTop g) target := by
  have hpl : e.platform.magicAccessors = ({} : Platform).magicAccessors := by rw [X.admits.platform]
  obtain ⟨ci, hl, hright⟩ := jLF_link hown hcI hkL hiL hfound hx hlink e.platform hpl hnc
  have hE : s.MethodEntryUp e T.vm m.cls index cI r0 ci := jLF_entry X.warmed hl hright
  obtain ⟨dk, cfile, nt, _, _, ck, _, _, hd, hcf, hcp, -, -, -, hck, hvia, -⟩ := hl
  cases hkL.symm.trans hck
  have alike := hE.warmed.alike
  obtain ⟨dk₂, hdk₂, hres⟩ := hE.classReady
  obtain ⟨dk₃, hdk₃, hed⟩ := alike.2.2 _ _ hd
  cases hdk₂.symm.trans hdk₃
  obtain ⟨ck₂, hck₂, hec⟩ := alike.2.2 _ _ hck
  obtain ⟨kcell₂, hkcell₂, -⟩ := alike.2.2 _ _ hkcell
  refine ⟨T.vm.calledUp m.cls ci index cI r0, X.noted hE.warmed, fun target hrest => ?_⟩
  subst hg
  jvm_step X.here [hexec, hdg, invokeinterface.wp_coldFace (e := e) (s := T) (s₀ := s) (f := g) (count := count) X.here.top X.warmed hE hd hcf (Or.inr hcp) hck hvia,
    invokeinterface.wp_ready (e := e) (s := T.setVm (T.vm.calledUp g.method.cls ci index cI r0)) (f := g) (count := count) (r := r) (meth := meth') (m := m') (args := argsL) (rest := rest) (cell := cell) (kcell := kcell₂) (ck := dk₂) (nk := ck₂) (cf := cfile) (ci := ci) (nt := nt) (named := cI)
      X.here.top hE.ready (by show (T.vm.calledUp g.method.cls ci index cI r0).method? r0 = some r; rw [alike.method?]; exact hrm) hstR hlen hstack hcell hobj hkcell₂ hdk₂ (by rw [hed]; exact hcf) hcp hres hck₂ (by rw [hec]; exact hvia)
      (by show (T.vm.calledUp g.method.cls ci index cI r0).assignable cell.cls cI = true; rw [alike.assignable]; exact hinst)
      (by show selectMethod e.platform (T.vm.calledUp g.method.cls ci index cI r0) cell.cls r0 = .method m'; rw [alike.selectMethod]; exact hsel)
      (by show (T.vm.calledUp g.method.cls ci index cI r0).method? m' = some meth'; rw [alike.method?]; exact hm')
      (Or.inr (Or.inr (by show ((cell.cls :: (T.vm.calledUp g.method.cls ci index cI r0).superclasses cell.cls).any fun k => (declaredIn (T.vm.calledUp g.method.cls ci index cI r0) r.name r.desc k).any fun (_, y) => y.isPrivate || y.isStatic) = false; simp only [alike.superclasses, alike.declaredIn]; exact hway)))
      (Or.inl hpub) habs]
  exact hrest
theorem z_faceCall {T : State} (X : Stand p l e R s m args below meth c T locs cells slots) (hexec : p.tables.exec = Jvm.exec) {own C owner : String} {index count : Nat} {x y : MethodName}
    (hown : s.vm.findClass own = some m.cls) (hlink : (Cond.methodLink own index x).before args s = true) (hdecl : (Cond.declares ⟨owner, x.name, x.desc⟩).before args s = true) (hface : (Cond.interfaceMethod x.cls owner x.name x.desc).before args s = true)
    (hsel : (Cond.selects C ⟨owner, x.name, x.desc⟩ y).before args s = true) (hinst : (Cond.instanceMethod y).before args s = true) (hpub : (Cond.publicMethod y).before args s = true) (hunh : (Cond.unhidden C x.name x.desc).before args s = true)
    (hcast : (Cond.castable C x.cls).before args s = true) (hx : x.cls ≠ "java/lang/invoke/MethodHandle" ∧ x.cls ≠ "java/lang/invoke/VarHandle") (ho : owner ≠ "java/lang/invoke/MethodHandle" ∧ owner ≠ "java/lang/invoke/VarHandle") (hnc : x.name ≠ "clone")
    {W9 : Nat} {Pre : Pt → Array Value → Prop} {Post : Pt → Array Value → Option Value → Pt → Prop} {PostX : Pt → Array Value → Addr → Pt → Prop} (hK : vx_Back l R p e below s args y 5 W9 Pre Post PostX)
    {b : Addr} {cellB : Cell} {kB : Class} (hcell : T.heap[b]? = some cellB) (hobj : cellB.vm.isStatics = false) (hcls : s.vm.findClass C = some cellB.cls) (hkB : s.vm.classes[cellB.cls]? = some kB)
    {g : JFrame} (hg : g.method = m) (hsize : g.locals.size = c.maxLocals) {argsL rest : List Value} (hlen : ∀ sig, parseMethodDescriptor x.desc = some sig → argsL.length = sig.parameters.length)
    (hstack : g.stack = argsL.reverse ++ .ref b :: rest) (hW : 2 * g.monitorRoom + (rest.map fun v => v.category).sum ≤ W9) (hdg : decode c.code g.pc = .ok (.invokeinterface index count, 5))
    (hpre : ∀ vm₁, s.WarmedH vm₁ → Pre ⟨T.setVm vm₁, locs, cells, slots⟩ (Value.ref b :: argsL).toArray) :
    (∃ (v : Option Value) (vm₁ : Vm) (B : Pt), s.WarmedH vm₁ ∧ Stand p l e R s m args below meth c B.U B.locs B.cells B.slots ∧ Post ⟨T.setVm vm₁, locs, cells, slots⟩ (Value.ref b :: argsL).toArray v B ∧
      ∀ target, Steps p.tables e below (B.U.setTop { g with pc := g.pc + 5, stack := v.toList ++ rest }) target → Steps p.tables e below (T.setTop g) target) ∨
    (∃ (q : Addr) (vm₁ : Vm) (B : Pt), s.WarmedH vm₁ ∧ Stand p l e R s m args below meth c B.U B.locs B.cells B.slots ∧ PostX ⟨T.setVm vm₁, locs, cells, slots⟩ (Value.ref b :: argsL).toArray q B ∧
      Steps p.tables e below (T.setTop g) ((B.U.setTop { g with stack := rest }).pushFrame (.throwing q))) := by
  obtain ⟨r0, r, hn, hrm, hstR, hsigR⟩ := Cond.declares_spec hdecl
  obtain ⟨cL, kL, r1, hcL, hkL, hiL, hfoundL, hn1⟩ := Cond.interfaceMethod_spec hface
  cases hn.symm.trans hn1
  obtain ⟨hnameR, hdescR⟩ := name_of_methodNamed hn hrm
  obtain ⟨mk, methM, hnamed, hmethM, -, habM⟩ := Cond.instanceMethod_spec hinst
  obtain ⟨c2, r2, m2, q1, q2, q3, q4, -⟩ := Cond.selects_spec hsel
  cases hcls.symm.trans q1
  cases (State.methodFound?_of_named (x := ⟨owner, x.name, x.desc⟩) hn ho).symm.trans q2
  cases hnamed.symm.trans q3
  have hselP : selectMethod e.platform s.vm cellB.cls r0 = .method mk := by rw [Launch.admits_selectMethod X.admits]; exact q4
  have hpubM : hasFlag methM.accessFlags Acc.public_ = true := Cond.publicMethod_spec hnamed hmethM hpub
  have hway : ((cellB.cls :: s.vm.superclasses cellB.cls).any fun k => (declaredIn s.vm r.name r.desc k).any fun (_, z) => z.isPrivate || z.isStatic) = false := by
    rw [hnameR, hdescR]; exact Cond.unhidden_spec hcls hunh
  obtain ⟨c3, t3, w1, w2, w3⟩ := Cond.castable_spec hcast
  cases hcls.symm.trans w1
  cases hcL.symm.trans w2
  obtain ⟨vm₁, X₁, hstep₁⟩ := z_faceUp X hexec hown hlink hx hnc hcL hkL hiL (a := b) (cell := cellB) (kcell := kB) hcell
    (fun z h => by rw [h] at hobj; cases hobj) hkB w3 hfoundL hrm hstR hselP hmethM hway hpubM habM (g := g) hg (argsL := argsL) (rest := rest) (hlen _ hsigR) hstack hdg
  rcases hK m meth c ⟨T.setVm vm₁, locs, cells, slots⟩ { g with stack := rest } (.invokeinterface index count) mk (Value.ref b :: argsL).toArray X₁ hg hsize hdg hW (X₁.named hnamed) (hpre vm₁ X₁.warmed) with ⟨v, B, X', hpost, hsteps⟩ | ⟨q, B, X', hpost, hsteps⟩
  · exact Or.inl ⟨v, vm₁, B, X₁.warmed, X', hpost, fun target h => hstep₁ _ fun acts => by rw [doInvoke_state]; exact hsteps.trans h⟩
  · exact Or.inr ⟨q, vm₁, B, X₁.warmed, X', hpost, hstep₁ _ fun acts => by rw [doInvoke_state]; exact hsteps⟩
theorem z_callFN (C : jCx p l e R s m args meth c cc own D dA lo cs0 nL z0 w0 zF wF dd) {x y : MethodName} {owner : String} {bytes : ByteArray} {maxL ix ct b k : Nat} {ret : Option FieldType} {r9 : vw_C} {av rs : List jV} {h h1 : jH} {r : jA} {ls : List (Option jV)} (hpay : vx_Back l R p e below s args y 5 8 (PreOf R (jsz h1 - jsz h) (jsl h1 - jsl h) (jPc D dA lo cs0 (jP (some b) :: av) h)) (PostOf (jQn D dA lo cs0 r h1) (jsz h1 - jsz h) (jsl h1 - jsl h) (fun q => lo ≤ q)) (zx_Post (jXC D dA lo cs0 r h1) (jsz h1 - jsz h) (jsl h1 - jsl h) (fun q => lo ≤ q))) (hk : jkd h b = k) (hk0 : k ≠ 0) (hk9 : k < 100) (hr9 : jcls[k]? = some r9) (hdecl : Cond.declares ⟨owner, x.name, x.desc⟩ ∈ lw_tbl) (hlinkN : (Cond.methodLink own ix x) ∈ jnavl) (hfaceN : Cond.interfaceMethod x.cls owner x.name x.desc ∈ jnavl) (q3 : Cond.selects r9.1 ⟨owner, x.name, x.desc⟩ y ∈ lw_all) (hpubN : Cond.publicMethod y ∈ lw_tbl) (hunhN : Cond.unhidden r9.1 x.name x.desc ∈ lw_tbl) (hcastN : Cond.castable r9.1 x.cls ∈ lw_tbl) (hx : x.cls ≠ "java/lang/invoke/MethodHandle" ∧ x.cls ≠ "java/lang/invoke/VarHandle") (ho : owner ≠ "java/lang/invoke/MethodHandle" ∧ owner ≠ "java/lang/invoke/VarHandle") (hnc : x.name ≠ "clone") (q5 : Cond.instanceMethod y ∈ lw_all) (q4 : Cond.code y bytes maxL ret ∈ lw_all) (hlen : (parseMethodDescriptor x.desc).map (fun q => q.parameters.length) = some av.length) (hw : jws rs ≤ 8) (d : decode cc pc = .ok (.invokeinterface ix ct, 5)) (hE : jsz h ≤ jsz h1 ∧ jsl h ≤ jsl h1) (hlo : lo ≤ z0) (hXz : ∀ a : Nat, r = .inr a → jsz h1 ≤ zF ∧ jsl h1 ≤ wF) (kn : ∀ v : Option jV, r = .inl v → jSim p l e R s m args below meth c D dA lo cs0 nL z0 w0 zF wF Q (pc + 5) ls (v.toList ++ rs) h1) (kx : ∀ a : Nat, r = .inr a → jexk (jkd h1 a) → jSimX p l e R s m args below meth c D dA lo cs0 nL z0 w0 zF wF Q pc ls rs a h1) : jSim p l e R s m args below meth c D dA lo cs0 nL z0 w0 zF wF Q pc ls (av.reverse ++ jP (some b) :: rs) h := by
  have hFz : jsz h1 ≤ zF ∧ jsl h1 ≤ wF := by
    cases hr : r with
    | inl v => exact (kn v hr).1
    | inr a => exact hXz a hr
  refine ⟨⟨Nat.le_trans hE.1 hFz.1, Nat.le_trans hE.2 hFz.2⟩, fun a1 b1 n1 H locs mls rr v w => ?_⟩
  intro T hT X
  have hts : ∀ w ∈ lw_all, w.before args s = true := C.2.2.2.1
  have hst : (av.reverse ++ jP (some b) :: rs).map jtv = (av.map jtv).reverse ++ .ref b :: rs.map jtv := by simp [jtv, va_rf]
  obtain ⟨r8, cellB, hc8, g1, g2, g3, -⟩ := jRep_obj rr hk hk0 hk9
  cases Option.some.inj (hc8.symm.trans hr9)
  have hcl := C.2.2.2.2.2.2.2.2.1.1.1 _ _ hr9
  obtain ⟨kB, hkB, -⟩ := hcl.2.2
  have hN : ∀ w ∈ lw_tbl, jNok w = true → w.before #[] s = true := C.2.2.2.2.2.2.2.2.2.1.1
  have hV : ∀ w ∈ jnavl, w.before #[] s = true := C.2.2.2.2.2.2.2.2.2.1.2.2.2.2
  have hc := z_faceCall X C.1 C.2.2.1 (va_any rfl (hV _ hlinkN)) (va_any rfl (hN _ hdecl rfl)) (va_any rfl (hV _ hfaceN)) (hts _ q3) (hts _ q5) (va_any rfl (hN _ hpubN rfl)) (va_any rfl (hN _ hunhN rfl)) (va_any rfl (hN _ hcastN rfl)) hx ho hnc hpay (b := b) (cellB := cellB) (kB := kB) (by rw [hT]; exact g1) (jvm0_st g3) (by rw [g2]; exact hcl.2.1) (by rw [g2]; exact hkB) (g := F0 m pc mls ((av.map jtv).reverse ++ .ref b :: rs.map jtv)) rfl (by rw [C.2.2.2.2.2.1]; exact w.1) (argsL := av.map jtv) (rest := rs.map jtv)
    (fun sig hsig => by rw [hsig] at hlen; rw [List.length_map]; exact (Option.some.inj hlen).symm) rfl (by show 2 * 0 + _ ≤ 8; rw [jws_sum]; omega) (by rw [C.2.1]; exact d) (fun vm₁ hW₁ => z_pre C (av := jP (some b) :: av) hlo ⟨a1, b1⟩ hE hFz n1.2 hT hW₁ rr v)
  rw [hst]
  refine z_fin (ln := 5) hT hc v (fun v9 hr9 H1 locs1 rp hcs9 vs => ?_) (fun q9 hr9 H1 locs1 rp hcs9 vs cf => ?_)
  · have kk := (kn v9 hr9).2 (by omega) (by omega) ⟨n1.1, hcs9⟩ H1 locs1 mls rp vs w
    have t1 : jsz h1 - z0 = jsz h - z0 + (jsz h1 - jsz h) := by omega
    have t2 : jsl h1 - w0 = jsl h - w0 + (jsl h1 - jsl h) := by omega
    rw [t1, t2] at kk
    have t3 : (v9.toList ++ rs).map jtv = (v9.map jtv).toList ++ rs.map jtv := by cases v9 <;> rfl
    rw [t3] at kk
    exact kk
  · obtain ⟨r9, ce, c1, c2, c3, c4, c5⟩ := cf
    have kk := (kx q9 hr9 c2).2 (by omega) (by omega) ⟨n1.1, hcs9⟩ c2 H1 locs1 mls rp vs w ⟨r9, ce, c1, c3, c4, c5⟩
    have t1 : jsz h1 - z0 = jsz h - z0 + (jsz h1 - jsz h) := by omega
    have t2 : jsl h1 - w0 = jsl h - w0 + (jsl h1 - jsl h) := by omega
    rw [t1, t2] at kk
    exact kk
section CFN
variable {E : jE} {f : jOp} {yi n : Nat} {ox : Option (List (Nat × List Nat))} {hh : List (Nat × Nat × Nat × Nat)}
theorem sm_cFN {x : MethodName} {r9 : vw_C} {host owner : String} {y : MethodName} {bytes : ByteArray} {maxL ix k ct : Nat} {ret : Option FieldType} (hf : jIs f E (fun h av => jrk k h av) yi n (pc + 5) ox) (hE : jMe l D dA lo cs0 E yi y (ws_ y bytes maxL ret) dd) (B : jBd p l e R s m args below meth c cc own D dA lo cs0 nL z0 w0 zF wF dd Q rF hF hh) (hdecl : Cond.declares ⟨owner, x.name, x.desc⟩ ∈ lw_tbl) (hlinkN : (Cond.methodLink own ix x) ∈ jnavl) (hfaceN : Cond.interfaceMethod x.cls owner x.name x.desc ∈ jnavl) (q3 : Cond.selects r9.1 ⟨owner, x.name, x.desc⟩ y ∈ lw_all) (hpubN : Cond.publicMethod y ∈ lw_tbl) (hunhN : Cond.unhidden r9.1 x.name x.desc ∈ lw_tbl) (hcastN : Cond.castable r9.1 x.cls ∈ lw_tbl) (hx : x.cls ≠ "java/lang/invoke/MethodHandle" ∧ x.cls ≠ "java/lang/invoke/VarHandle") (ho : owner ≠ "java/lang/invoke/MethodHandle" ∧ owner ≠ "java/lang/invoke/VarHandle") (hnc : x.name ≠ "clone") (q5 : Cond.instanceMethod y ∈ lw_all) (q4 : Cond.code y bytes maxL ret ∈ lw_all) (q6 : Cond.initialized y.cls ∈ lw_all) (hL : maxL ≤ 45) (hk0 : k ≠ 0) (hk9 : k < 100) (hr9 : jcls[k]? = some r9) (hlen : (parseMethodDescriptor x.desc).map (fun q => q.parameters.length) = some (n - 1)) (d : decode cc pc = .ok (.invokeinterface ix ct, 5)) (hH : jHo s own pc hh ox) : ∀ ls st h, f (jSim p l e R s m args below meth c D dA lo cs0 nL z0 w0 zF wF Q) (fun r2 h2 => r2 = rF ∧ h2 = hF) ls st h → jSim p l e R s m args below meth c D dA lo cs0 nL z0 w0 zF wF Q pc ls st h := by
  intro ls st h k
  obtain ⟨⟨g1, g2⟩, gP, r, h1, e1, k1, k2⟩ := hf _ _ _ _ _ k
  obtain ⟨hs, hM⟩ := hE _ _ _ _ e1
  obtain ⟨b, av, ea, hk⟩ := z_rk gP
  have hl := z_len g1 ea
  rw [ea] at hM
  have es := z_st2 ea
  suffices G : jSim p l e R s m args below meth c D dA lo cs0 nL z0 w0 zF wF Q pc ls (av.reverse ++ jP (some b) :: st.drop n) h by rw [← es] at G; exact G
  exact z_callFN B.1 (z_pay B.1 hM hL q4 q6) hk hk0 hk9 hr9 hdecl hlinkN hfaceN q3 hpubN hunhN hcastN hx ho hnc q5 q4 (by rw [hlen]; congr 1; omega) g2 d hs B.2.2.2 (fun a ha => (z_kx (rs := []) B hH (k2 a ha).1 (k2 a ha).2).1) k1 (fun a ha hx => z_kx B hH hx (k2 a ha).2)
end CFN
end JS15
