/-! A CONSTRUCTOR WITH HANDLERS; getClass BY AN INTERFACE (own work) -/
section JS12
variable {p : Program} {l : Launch} {e : Env} {R : Room} {s : State} {m : MethodId} {args : Array Value} {below : List Frame} {meth : Method} {c : Code} {D : va_G} {dA : Nat → ClassId} {lo nL z0 w0 zF wF dd : Nat} {cs0 : Nat → Option Nat} {Q : State → Prop} {cc : ByteArray} {own : String} {pc : Nat} {Rf : jR} {H : Heap} {locs : List Loc} {cells slots : Nat} {mls : Array Slot} {rest : List Value} {rF : jA} {hF : jH}
theorem z_ctor {T : State} (X : Stand p l e R s m args below meth c T locs cells slots) (hexec : p.tables.exec = Jvm.exec) {own : String} {index : Nat} {y : MethodName} (hown : s.vm.findClass own = some m.cls) (hy1 : y.name = "<init>") (hlink : (Cond.methodLink own index y).before args s = true) (hinst : (Cond.instanceMethod y).before args s = true) (hdecl : va_Decl s y) (hy : y.cls ≠ "java/lang/invoke/MethodHandle" ∧ y.cls ≠ "java/lang/invoke/VarHandle")
    {W9 : Nat} {Pre : Pt → Array Value → Prop} {Post : Pt → Array Value → Option Value → Pt → Prop} {PostX : Pt → Array Value → Addr → Pt → Prop} (hK : vx_Back l R p e below s args y 3 W9 Pre Post PostX)
    {g : JFrame} (hg : g.method = m) (hsize : g.locals.size = c.maxLocals) {a : Addr} {argsL rest : List Value} (hlen : ∀ sig, parseMethodDescriptor y.desc = some sig → argsL.length = sig.parameters.length)
    (hstack : g.stack = argsL.reverse ++ .ref a :: rest) (hW : 2 * g.monitorRoom + (rest.map fun v => v.category).sum ≤ W9) (hdg : decode c.code g.pc = .ok (.invokespecial index, 3))
    (hpre : ∀ vm₁, s.WarmedH vm₁ → Pre ⟨T.setVm vm₁, locs, cells, slots⟩ (Value.ref a :: argsL).toArray) :
    (∃ (v : Option Value) (vm₁ : Vm) (B : Pt), s.WarmedH vm₁ ∧ Stand p l e R s m args below meth c B.U B.locs B.cells B.slots ∧ Post ⟨T.setVm vm₁, locs, cells, slots⟩ (Value.ref a :: argsL).toArray v B ∧
      ∀ target, Steps p.tables e below (B.U.setTop { g with pc := g.pc + 3, stack := v.toList ++ rest }) target → Steps p.tables e below (T.setTop g) target) ∨
    (∃ (q : Addr) (vm₁ : Vm) (B : Pt), s.WarmedH vm₁ ∧ Stand p l e R s m args below meth c B.U B.locs B.cells B.slots ∧ PostX ⟨T.setVm vm₁, locs, cells, slots⟩ (Value.ref a :: argsL).toArray q B ∧
      Steps p.tables e below (T.setTop g) ((B.U.setTop { g with stack := rest }).pushFrame (.throwing q))) := by
  subst hg
  have hpl : e.platform.magicAccessors = ({} : Platform).magicAccessors := by rw [X.admits.platform]
  obtain ⟨obj, methO, hnO, hmO, hstO, habO⟩ := Cond.instanceMethod_spec hinst
  obtain ⟨obj', methO', hn', hm', -, hsigO⟩ := hdecl
  cases hnO.symm.trans hn'
  cases hmO.symm.trans hm'
  obtain ⟨kO, hkO, hnameO⟩ := className_of_methodNamed hnO
  obtain ⟨hnameMO, hdescO⟩ := name_of_methodNamed hnO hmO
  obtain ⟨ci, hl, hright⟩ := Cond.methodLink_spec hown hnO hlink e.platform hpl
  have hE : s.MethodEntry e T.vm g.method.cls index obj ci := State.methodEntry X.warmed hl hright fun k hk => by
    cases hkO.symm.trans hk
    rw [hnameO]; exact hy
  obtain ⟨dk, cf, nt, _, _, via, _, _, hd', hcf, hcp, -⟩ := hl.here
  have hcp' : cf.constantPool[index]? = some (.methodref ci nt) ∨ cf.constantPool[index]? = some (.interfaceMethodref ci nt) := by
    cases via
    · exact Or.inl (by simpa using hcp)
    · exact Or.inr (by simpa using hcp)
  have hwarm := hE.warmed
  have hreadyM := hE.ready
  have hreadyC := hE.classReady
  generalize hvm₂ : T.vm.called g.method.cls ci index obj = vm₂ at hwarm hreadyM hreadyC
  obtain ⟨dk₂, hdk₂, hed₂⟩ := hwarm.alike.2.2 _ _ hd'
  obtain ⟨kO₂, hkO₂, heO₂⟩ := hwarm.alike.2.2 _ _ hkO
  have hmO₂ : vm₂.method? obj = some methO := by rw [hwarm.alike.method?]; exact hmO
  have hfound : lookupSpecial vm₂ obj.cls "<init>" methO.desc = .method obj := by
    rw [hwarm.alike.lookupSpecial, hdescO, ← hy1]; exact lookupSpecial_of_named hnO hmO hstO
  have X₁ := X.noted hwarm
  have hAt₂ : At (T.setVm vm₂) g.method c below := X.here.setVm (X.warmed.alike.symm.trans hwarm.alike)
  have hstep₁ : ∀ target, (∀ acts, Steps p.tables e below (doInvoke e ((T.setVm vm₂).setTop { g with stack := rest }) acts obj (.ref a :: argsL).toArray).1 target) → Steps p.tables e below (T.setTop g) target := by
    intro target hrest
    jvm_step X.here [hexec, hdg, invokespecial.wp_cold (e := e) (s := T) (s₀ := s) (f := g) (meth := methO) X.here.top hE hd' hcf hcp' hmO, hvm₂,
      invokespecial.wp_init (e := e) (s := T.setVm vm₂) (k := kO₂) (meth := methO) (m := obj) (a := a) (args := argsL) (rest := rest) (f := g)
        hAt₂.top ⟨dk₂, cf, ci, nt, hdk₂, by rw [hed₂]; exact hcf, hcp', hreadyC⟩ hreadyM hkO₂ hmO₂ (by rw [hnameMO]; exact hy1) hstO habO hfound (hlen _ hsigO) hstack]
    exact hrest
  rcases hK g.method meth c ⟨T.setVm vm₂, locs, cells, slots⟩ { g with stack := rest } (.invokespecial index) obj (Value.ref a :: argsL).toArray X₁ rfl hsize hdg hW (X₁.named hnO) (hpre vm₂ X₁.warmed) with ⟨v, B, X', hpost, hsteps⟩ | ⟨q, B, X', hpost, hsteps⟩
  · exact Or.inl ⟨v, vm₂, B, X₁.warmed, X', hpost, fun target h => hstep₁ _ fun acts => by rw [doInvoke_state]; exact hsteps.trans h⟩
  · exact Or.inr ⟨q, vm₂, B, X₁.warmed, X', hpost, hstep₁ _ fun acts => by rw [doInvoke_state]; exact hsteps⟩
theorem z_callIW (C : jCx p l e R s m args meth c cc own D dA lo cs0 nL z0 w0 zF wF dd) {y : MethodName} {bytes : ByteArray} {maxL ix b : Nat} {gg : List (Nat × Nat × Nat × Nat)} {av rs : List jV} {h h1 : jH} {r : jA} {ls : List (Option jV)} (hpay : vx_Back l R p e below s args y 3 8 (PreOf R (jsz h1 - jsz h) (jsl h1 - jsl h) (jPc D dA lo cs0 (jP (some b) :: av) h)) (PostOf (jQn D dA lo cs0 r h1) (jsz h1 - jsz h) (jsl h1 - jsl h) (fun q => lo ≤ q)) (zx_Post (jXC D dA lo cs0 r h1) (jsz h1 - jsz h) (jsl h1 - jsl h) (fun q => lo ≤ q))) (q1 : Cond.methodLink own ix y ∈ lw_all) (q2 : Cond.instanceMethod y ∈ lw_all) (q4 : Cond.codeWith y bytes maxL none gg ∈ lw_all) (hyi : y.name = "<init>") (hy : y.cls ≠ "java/lang/invoke/MethodHandle" ∧ y.cls ≠ "java/lang/invoke/VarHandle") (hlen : (parseMethodDescriptor y.desc).map (fun q => q.parameters.length) = some av.length) (hw : jws rs ≤ 8) (d : decode cc pc = .ok (.invokespecial ix, 3)) (hE : jsz h ≤ jsz h1 ∧ jsl h ≤ jsl h1) (hlo : lo ≤ z0) (hXz : ∀ a : Nat, r = .inr a → jsz h1 ≤ zF ∧ jsl h1 ≤ wF) (kn : ∀ v : Option jV, r = .inl v → jSim p l e R s m args below meth c D dA lo cs0 nL z0 w0 zF wF Q (pc + 3) ls (v.toList ++ rs) h1) (kx : ∀ a : Nat, r = .inr a → jexk (jkd h1 a) → jSimX p l e R s m args below meth c D dA lo cs0 nL z0 w0 zF wF Q pc ls rs a h1) : jSim p l e R s m args below meth c D dA lo cs0 nL z0 w0 zF wF Q pc ls (av.reverse ++ jP (some b) :: rs) h := by
  have hFz : jsz h1 ≤ zF ∧ jsl h1 ≤ wF := by
    cases hr : r with
    | inl v => exact (kn v hr).1
    | inr a => exact hXz a hr
  refine ⟨⟨Nat.le_trans hE.1 hFz.1, Nat.le_trans hE.2 hFz.2⟩, fun a1 b1 n1 H locs mls rr v w => ?_⟩
  intro T hT X
  have hts : ∀ w ∈ lw_all, w.before args s = true := C.2.2.2.1
  have hdecl : va_Decl s y := by
    obtain ⟨mk, methM, hnamed, hmethM, hstM, habM⟩ := Cond.instanceMethod_spec (hts _ q2)
    obtain ⟨m8, methM', cM, hn8, hmethM', -, -, -, -, -, -, hsigM⟩ := Cond.codeWith_spec (hts _ q4)
    cases Option.some.inj (hn8.symm.trans hnamed)
    cases hmethM.symm.trans hmethM'
    exact ⟨mk, methM, hnamed, hmethM, hstM, hsigM⟩
  have hst : (av.reverse ++ jP (some b) :: rs).map jtv = (av.map jtv).reverse ++ .ref b :: rs.map jtv := by simp [jtv, va_rf]
  have hc := z_ctor X C.1 C.2.2.1 hyi (hts _ q1) (hts _ q2) hdecl hy hpay (g := F0 m pc mls ((av.map jtv).reverse ++ .ref b :: rs.map jtv)) rfl (by rw [C.2.2.2.2.2.1]; exact w.1) (a := b) (argsL := av.map jtv) (rest := rs.map jtv)
    (fun sig hsig => by rw [hsig] at hlen; rw [List.length_map]; exact (Option.some.inj hlen).symm) rfl (by show 2 * 0 + _ ≤ 8; rw [jws_sum]; omega) (by rw [C.2.1]; exact d) (fun vm₁ hW₁ => z_pre C (av := jP (some b) :: av) hlo ⟨a1, b1⟩ hE hFz n1.2 hT hW₁ rr v)
  rw [hst]
  refine z_fin (ln := 3) hT hc v (fun v9 hr9 H1 locs1 rp hcs9 vs => ?_) (fun q9 hr9 H1 locs1 rp hcs9 vs cf => ?_)
  · have kk := (kn v9 hr9).2 (by omega) (by omega) ⟨n1.1, hcs9⟩ H1 locs1 mls rp vs w
    have t1 : jsz h1 - z0 = jsz h - z0 + (jsz h1 - jsz h) := by omega
    have t2 : jsl h1 - w0 = jsl h - w0 + (jsl h1 - jsl h) := by omega
    rw [t1, t2] at kk
    have t3 : (v9.toList ++ rs).map jtv = (v9.map jtv).toList ++ rs.map jtv := by cases v9 <;> rfl
    rw [t3] at kk
    exact kk
  · obtain ⟨r9, ce, c1, c2, c3, c4, c5⟩ := cf
    have kk := (kx q9 hr9 c2).2 (by omega) (by omega) ⟨n1.1, hcs9⟩ c2 H1 locs1 mls rp vs w ⟨r9, ce, c1, c3, c4, c5⟩
    have t1 : jsz h1 - z0 = jsz h - z0 + (jsz h1 - jsz h) := by omega
    have t2 : jsl h1 - w0 = jsl h - w0 + (jsl h1 - jsl h) := by omega
    rw [t1, t2] at kk
    exact kk
section CIW
variable {E : jE} {f : jOp} {yi n : Nat} {ox : Option (List (Nat × List Nat))} {hh : List (Nat × Nat × Nat × Nat)}
theorem sm_cIW {x : MethodName} {r9 : vw_C} {host owner : String} {y : MethodName} {bytes : ByteArray} {maxL ix : Nat} {gg : List (Nat × Nat × Nat × Nat)} (hf : jIs f E (fun _ av => jrn av) yi n (pc + 3) ox) (hE : jMe l D dA lo cs0 E yi y (wsW_ y bytes maxL none gg) dd) (B : jBd p l e R s m args below meth c cc own D dA lo cs0 nL z0 w0 zF wF dd Q rF hF hh) (q1 : Cond.methodLink own ix y ∈ lw_all) (q2 : Cond.instanceMethod y ∈ lw_all) (q4 : Cond.codeWith y bytes maxL none gg ∈ lw_all) (q6 : Cond.initialized y.cls ∈ lw_all) (hL : maxL ≤ 45) (hyi : y.name = "<init>") (hy : y.cls ≠ "java/lang/invoke/MethodHandle" ∧ y.cls ≠ "java/lang/invoke/VarHandle") (hlen : (parseMethodDescriptor y.desc).map (fun q => q.parameters.length) = some (n - 1)) (d : decode cc pc = .ok (.invokespecial ix, 3)) (hH : jHo s own pc hh ox) : ∀ ls st h, f (jSim p l e R s m args below meth c D dA lo cs0 nL z0 w0 zF wF Q) (fun r2 h2 => r2 = rF ∧ h2 = hF) ls st h → jSim p l e R s m args below meth c D dA lo cs0 nL z0 w0 zF wF Q pc ls st h := by
  intro ls st h k
  obtain ⟨⟨g1, g2⟩, gP, r, h1, e1, k1, k2⟩ := hf _ _ _ _ _ k
  obtain ⟨hs, hM⟩ := hE _ _ _ _ e1
  obtain ⟨b, av, ea⟩ := z_rn gP
  have hl := z_len g1 ea
  rw [ea] at hM
  have es := z_st2 ea
  suffices G : jSim p l e R s m args below meth c D dA lo cs0 nL z0 w0 zF wF Q pc ls (av.reverse ++ jP (some b) :: st.drop n) h by rw [← es] at G; exact G
  exact z_callIW B.1 (z_payW B.1 hM hL q4 q6) q1 q2 q4 hyi hy (by rw [hlen]; congr 1; omega) g2 d hs B.2.2.2 (fun a ha => (z_kx (rs := []) B hH (k2 a ha).1 (k2 a ha).2).1) k1 (fun a ha hx => z_kx B hH hx (k2 a ha).2)
end CIW
theorem sm_gclI (C : jCx p l e R s m args meth c cc own D dA lo cs0 nL z0 w0 zF wF dd) {ix ct kd9 k : Nat} {r9 : vw_C} {xc : String} (h0 : kd9 ≠ 0) (h9 : kd9 < 100) (hr9 : jcls[kd9]? = some r9) (hm : (k, r9.1) ∈ jmir) (hx : xc ≠ "java/lang/invoke/MethodHandle" ∧ xc ≠ "java/lang/invoke/VarHandle") (hxo : xc ≠ "java/lang/Object") (q1 : Cond.methodLink own ix ⟨xc, "getClass", "()Ljava/lang/Class;"⟩ ∈ lw_all) (q2 : Cond.declares ⟨"java/lang/Object", "getClass", "()Ljava/lang/Class;"⟩ ∈ lw_tbl) (q3 : Cond.selects r9.1 ⟨"java/lang/Object", "getClass", "()Ljava/lang/Class;"⟩ ⟨"java/lang/Object", "getClass", "()Ljava/lang/Class;"⟩ ∈ lw_all) (q4 : Cond.instanceMethod ⟨"java/lang/Object", "getClass", "()Ljava/lang/Class;"⟩ ∈ lw_all) (q5 : Cond.native ⟨"java/lang/Object", "getClass", "()Ljava/lang/Class;"⟩ ∈ lw_all) (q6 : Cond.interfaceMethod xc "java/lang/Object" "getClass" "()Ljava/lang/Class;" ∈ lw_tbl) (q7 : Cond.publicMethod ⟨"java/lang/Object", "getClass", "()Ljava/lang/Class;"⟩ ∈ lw_tbl) (q8 : Cond.unhidden r9.1 "getClass" "()Ljava/lang/Class;" ∈ lw_tbl) (q9 : Cond.castable r9.1 xc ∈ lw_tbl) (d : decode cc pc = .ok (.invokeinterface ix ct, 5)) : ∀ ls st h, ogcl [(kd9, k)] (pc + 5) (jSim p l e R s m args below meth c D dA lo cs0 nL z0 w0 zF wF Q) Rf ls st h → jSim p l e R s m args below meth c D dA lo cs0 nL z0 w0 zF wF Q pc ls st h := by
  intro ls st h kz
  unfold ogcl at kz
  split at kz
  · rename_i o1 r9'
    obtain ⟨g, kz⟩ := jgd_ex kz
    obtain ⟨a, ea, kz⟩ := onr_ex kz
    subst ea
    obtain ⟨k9, hk9, kt⟩ := kz
    have hk8 : (bif Nat.beq kd9 (jkd h a) then some k else none) = some k9 := hk9
    cases hb : Nat.beq kd9 (jkd h a) with
    | false => rw [hb] at hk8; cases hk8
    | true =>
      rw [hb] at hk8
      cases hk8
      have ha : jkd h a = kd9 := (Nat.eq_of_beq_eq_true hb).symm
      refine ⟨kt.1, fun a1 b1 n1 H locs mls r v w => ?_⟩
      have hts : ∀ w ∈ lw_all, w.before args s = true := C.2.2.2.1
      have hfr := C.2.2.2.2.2.2.2.2.2.2.2.1
      have hlo9 := C.2.2.2.2.2.2.2.2.2.2.2.2
      have hK := C.2.2.2.2.2.2.2.2.1.1
      have hN : ∀ w ∈ lw_tbl, jNok w = true → w.before #[] s = true := C.2.2.2.2.2.2.2.2.2.1.1
      obtain ⟨mi, hcs, c0, kB, f1, f2, f3⟩ := C.2.2.2.2.2.2.2.2.2.2.1.2.2.2.1 _ hm
      obtain ⟨r8, cellB, hr8, g1, g2, g3, -⟩ := jRep_obj r ha h0 h9
      have hcl := (hK.1 _ _ hr9).2.1
      cases hcl.symm.trans f1
      have hk := kt.2 a1 b1 n1 H locs mls r v w
      have e9 : jcs h k = some mi := by rw [n1.2]; exact hcs
      rw [e9] at hk
      have hface : (Cond.interfaceMethod xc "java/lang/Object" "getClass" "()Ljava/lang/Class;").before args s = true := va_any rfl (hN _ q6 rfl)
      have hsel : (Cond.selects r9.1 ⟨xc, "getClass", "()Ljava/lang/Class;"⟩ ⟨"java/lang/Object", "getClass", "()Ljava/lang/Class;"⟩).before args s = true := by
        have hs := hts _ q3
        obtain ⟨cL, kL, r1, hcL, hkL, hiL, hfoundL, hn1⟩ := Cond.interfaceMethod_spec hface
        have hf : s.methodFound? "java/lang/Object" "getClass" "()Ljava/lang/Class;" = some r1 := State.methodFound?_of_named (x := ⟨"java/lang/Object", "getClass", "()Ljava/lang/Class;"⟩) hn1 (by decide)
        unfold Cond.before Cond.holds at hs ⊢
        simp only [Cond.value, hfoundL, hf] at hs ⊢
        exact hs
      intro T hT X
      have hnf : nativeFrameWords "java/lang/Object" "getClass" 1 = 3 := by decide
      obtain ⟨vm', X', stp⟩ := X.getClassOfI C.1 (xi := ⟨xc, "getClass", "()Ljava/lang/Class;"⟩) C.2.2.1 (hts _ q1) (va_any rfl (hN _ q2 rfl)) hface hsel (hts _ q4) (va_any rfl (hN _ q7 rfl)) (va_any rfl (hN _ q8 rfl)) (va_any rfl (hN _ q9 rfl)) (hts _ q5) hx hxo rfl rfl f1 f2 ⟨cellB, by rw [hT]; exact g1, g2, jvm0_st g3⟩ f3
        (g := F0 m pc mls (.ref a :: r9'.map jtv)) rfl (by rw [C.2.2.2.2.2.1]; exact w.1) rfl (by rw [C.2.1]; exact d) (by have : jfrm (dd + 1) = dd + 17 := rfl; omega) (by show 2 * 0 + _ + _ ≤ _; rw [jws_sum]; have := Nat.le_of_ble_eq_true g; have : jloc (dd + 1) = 64 * (dd + 1) + 600 := rfl; omega)
      obtain ⟨t, b1, b2⟩ := hk (T.setVm vm') hT X'
      exact ⟨t, stp t b1, b2⟩
  · exact kz.elim
end JS12
