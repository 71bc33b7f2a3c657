/-! AN INHERITED METHOD OF AN INTERFACE (own work) -/
section NAV0
/-- what Object answers to an interface's lookup -/
def jIO (vm : Vm) (name desc : String) : Option MethodId := do
  let o ← vm.findClass "java/lang/Object"
  let i ← (← vm.classes[o]?).findMethod name desc
  let m ← vm.method? ⟨o, i⟩
  if hasFlag m.accessFlags Acc.public_ && !m.isStatic then some (⟨o, i⟩ : MethodId) else none
/-- what an interface's lookup finds -/
def jFI (vm : Vm) (k : Class) (c : ClassId) (name desc : String) : Option MethodId := match k.findMethod name desc with
  | some i => some ⟨c, i⟩
  | none => jIO vm name desc <|> lookupInSuperinterfaces vm c name desc
theorem jIO_alike {vm vm' : Vm} (h : vm.Alike vm') (name desc : String) : jIO vm' name desc = jIO vm name desc := by
  unfold jIO
  rw [h.findClass]
  cases ho : vm.findClass "java/lang/Object" with
  | none => rfl
  | some o =>
    obtain ⟨ko, hko, -⟩ := Vm.findClass_spec ho
    obtain ⟨ko', hko', he⟩ := h.2.2 _ _ hko
    have e2 : ko'.findMethod name desc = ko.findMethod name desc := by rw [he]; rfl
    simp only [Option.bind_eq_bind, Option.bind_some, hko, hko', e2, h.method?]
theorem jFI_alike {vm vm' : Vm} (h : vm.Alike vm') {k k' : Class} (hk : k' = { k with resolved := k'.resolved, nestHost := k'.nestHost, nestHostError := k'.nestHostError }) (c : ClassId) (name desc : String) : jFI vm' k' c name desc = jFI vm k c name desc := by
  have e1 : k'.findMethod name desc = k.findMethod name desc := by rw [hk]; rfl
  unfold jFI
  rw [e1, h.lookupInSuperinterfaces, jIO_alike h]
theorem jFI_found {s : State} {cls name desc : String} {c : ClassId} {k : Class} (hc : s.vm.findClass cls = some c) (hk : s.vm.classes[c]? = some k) (hi : k.isInterface = true)
    (hpoly : ∀ y, signaturePolymorphic k y = false) (m : MethodId) : s.methodFound? cls name desc = some m ↔ jFI s.vm k c name desc = some m ∧ ∃ mk, s.vm.classes[m.cls]? = some mk := by
  have hX : (do
      let o ← s.vm.findClass "java/lang/Object"
      let i ← (← s.vm.classes[o]?).findMethod name desc
      let m ← s.vm.method? ⟨o, i⟩
      if hasFlag m.accessFlags Acc.public_ && !m.isStatic then some (⟨o, i⟩ : MethodId) else none) = jIO s.vm name desc := rfl
  simp only [Option.bind_eq_bind] at hX
  simp only [State.methodFound?, hc, hk, Option.bind_eq_bind, Option.bind_some]
  have hany : ∀ j : Nat, Option.any (signaturePolymorphic k) k.methods[j]? = false := fun j => by cases k.methods[j]? <;> simp [hpoly]
  simp only [methodIn, VmM.ask, VmM.bind_run, getClass, VmM.getVm, hk, VmM.pure_run]
  generalize (List.filter (fun (i : Nat) => Option.any (fun (x_1 : Method) => x_1.name == name) k.methods[i]?) (List.range k.methods.size)) = L
  have key : ∀ F : Option MethodId, jFI s.vm k c name desc = F → (match k.findMethod name desc with | some i => F = some ⟨c, i⟩ | none => F = (jIO s.vm name desc).or (lookupInSuperinterfaces s.vm c name desc)) := by
    intro F hF
    unfold jFI at hF
    cases hfm : k.findMethod name desc with
    | some i => rw [hfm] at hF; exact hF.symm
    | none =>
      rw [hfm] at hF
      show F = (jIO s.vm name desc).or (lookupInSuperinterfaces s.vm c name desc)
      rw [← hF]
      simp only [Option.orElse_eq_or, HOrElse.hOrElse, OrElse.orElse]
  obtain ⟨F, hF0⟩ : ∃ F, jFI s.vm k c name desc = F := ⟨_, rfl⟩
  have hF1 := key F hF0
  rw [hF0]
  cases hfm : k.findMethod name desc with
  | some i0 =>
    rw [hfm] at hF1
    have hF2 : F = some ⟨c, i0⟩ := hF1
    subst hF2
    rcases L with _ | ⟨j, _ | ⟨j', L⟩⟩ <;>
    · simp only [VmM.bind_run, VmM.getVm, hany, hi, bne_self_eq_false, Bool.false_eq_true, if_false, if_true, Option.isSome_none, hfm]
      simp [VmM.bind_run, VmM.getVm, VmM.getEnv, VmM.mark, hk, Except.toOption]
      rintro rfl
      exact ⟨k, hk⟩
  | none =>
    rw [hfm] at hF1
    have hF2 : F = (jIO s.vm name desc).or (lookupInSuperinterfaces s.vm c name desc) := hF1
    rcases L with _ | ⟨j, _ | ⟨j', L⟩⟩ <;>
    · simp only [VmM.bind_run, VmM.getVm, hany, hi, bne_self_eq_false, Bool.false_eq_true, if_false, if_true, Option.isSome_none, hfm, Option.bind_eq_bind, hX, Option.orElse_eq_or, HOrElse.hOrElse, OrElse.orElse]
      rw [← hF2]
      cases F with
      | none => cases namesTheOthers k name <;> simp [VmM.bind_run, VmM.getEnv, VmM.failAs, VmM.unsupported, VmM.stop, Except.toOption]
      | some x =>
        cases hx : s.vm.classes[x.cls]? with
        | none => simp [VmM.bind_run, VmM.getVm, VmM.getEnv, VmM.stop, hx, Except.toOption]; rintro rfl; simp [hx]
        | some mk => simp [VmM.bind_run, VmM.getVm, VmM.getEnv, VmM.mark, hx, Except.toOption]; rintro rfl; exact ⟨mk, hx⟩
theorem methodIn_FI {vm : Vm} {c d : Nat} {m : MethodId} {name desc : String} {ck dk mk : Class} {meth : Method} (e : Setting)
    (hc : vm.classes[c]? = some ck) (hd : vm.classes[d]? = some dk) (hvia : ck.isInterface = true) (hpoly : ∀ y, signaturePolymorphic ck y = false)
    (hlook : jFI vm ck c name desc = some m) (hmk : vm.classes[m.cls]? = some mk) (hm : mk.methods[m.idx]? = some meth) (hl : dk.loader = mk.loader)
    (hacc : vm.Plain meth.accessFlags m.cls mk c d dk) :
    (methodIn c name desc true (some d)).Gives e vm (.ok m) vm := by
  unfold methodIn
  refine (getClass_gives e hc).bind ?_
  have hany : ∀ j : Nat, Option.any (signaturePolymorphic ck) ck.methods[j]? = false := fun j => by cases ck.methods[j]? <;> simp [hpoly]
  have hgm : (getMethod m).Gives e vm (.ok meth) vm := getMethod_gives e hmk hm
  have hX : (do
      let o ← vm.findClass "java/lang/Object"
      let i ← (← vm.classes[o]?).findMethod name desc
      let m ← vm.method? ⟨o, i⟩
      if hasFlag m.accessFlags Acc.public_ && !m.isStatic then some (⟨o, i⟩ : MethodId) else none) = jIO vm name desc := rfl
  have hF1 : (∃ i, ck.findMethod name desc = some i ∧ m = ⟨c, i⟩) ∨ (ck.findMethod name desc = none ∧ (jIO vm name desc <|> lookupInSuperinterfaces vm c name desc) = some m) := by
    unfold jFI at hlook
    cases hfm : ck.findMethod name desc with
    | some i => rw [hfm] at hlook; exact Or.inl ⟨i, rfl, (Option.some.inj hlook).symm⟩
    | none => rw [hfm] at hlook; exact Or.inr ⟨rfl, hlook⟩
  simp only [hvia, bne_self_eq_false, Bool.false_eq_true, if_false, hany]
  generalize (List.filter (fun i => Option.any (fun x => x.name == name) ck.methods[i]?) (List.range ck.methods.size)) = L
  rcases L with _ | ⟨j, _ | ⟨j', L⟩⟩ <;>
  · simp only [Option.isSome_none, Option.isNone_none, Bool.false_eq_true, if_false, Bool.and_self, if_true, Option.any_none]
    refine VmM.Gives.getVm.bind ?_
    rcases hF1 with ⟨i0, hfm, rfl⟩ | ⟨hfm, hor9⟩
    · simp only [hfm, if_true]
      refine (getEnv_gives e vm).bind ?_
      split
      · refine hgm.bind ?_
        refine (memberAccessible_road e hmk hd hacc).bind ?_
        simp only [Bool.not_true, Bool.false_eq_true, if_false]
        refine (getClass_gives e hd).bind ?_
        refine (getClass_gives e hmk).bind ?_
        refine VmM.Gives.getVm.bind ?_
        refine hgm.bind ?_
        simp only [hl]
        refine (imposeConstraints_same e vm _ _ _ _).bind ?_
        refine (getClass_gives e hmk).bind ?_
        exact (VmM.Gives.mark _).bind (.pure _)
      · refine (getClass_gives e hd).bind ?_
        refine (getClass_gives e hmk).bind ?_
        refine VmM.Gives.getVm.bind ?_
        refine hgm.bind ?_
        simp only [hl]
        refine (imposeConstraints_same e vm _ _ _ _).bind ?_
        refine (getClass_gives e hmk).bind ?_
        exact (VmM.Gives.mark _).bind (.pure _)
    · simp only [hfm, hX, hor9, if_true]
      refine (getEnv_gives e vm).bind ?_
      split
      · refine hgm.bind ?_
        refine (memberAccessible_road e hmk hd hacc).bind ?_
        simp only [Bool.not_true, Bool.false_eq_true, if_false]
        refine (getClass_gives e hd).bind ?_
        refine (getClass_gives e hmk).bind ?_
        refine VmM.Gives.getVm.bind ?_
        refine hgm.bind ?_
        simp only [hl]
        refine (imposeConstraints_same e vm _ _ _ _).bind ?_
        refine (getClass_gives e hmk).bind ?_
        exact (VmM.Gives.mark _).bind (.pure _)
      · refine (getClass_gives e hd).bind ?_
        refine (getClass_gives e hmk).bind ?_
        refine VmM.Gives.getVm.bind ?_
        refine hgm.bind ?_
        simp only [hl]
        refine (imposeConstraints_same e vm _ _ _ _).bind ?_
        refine (getClass_gives e hmk).bind ?_
        exact (VmM.Gives.mark _).bind (.pure _)
/-- the entry of an InterfaceMethodref that its lookup finds -/
def jLF (vm : Vm) (pl : Platform) (d : ClassId) (index ci : Nat) (c : ClassId) (m : MethodId) : Prop :=
  ∃ dk cf nt name desc ck mk meth, vm.classes[d]? = some dk ∧ dk.cf = some cf ∧ cf.constantPool[index]? = some (.interfaceMethodref ci nt) ∧ cf.constantPool.nameAndType? nt = some (name, desc) ∧
    vm.ClassLinks pl d ci c ∧ ci ≠ index ∧ vm.classes[c]? = some ck ∧ ck.isInterface = true ∧ (∀ y, signaturePolymorphic ck y = false) ∧ jFI vm ck c name desc = some m ∧
    vm.classes[m.cls]? = some mk ∧ mk.methods[m.idx]? = some meth ∧ dk.loader = mk.loader ∧
    vm.Plain meth.accessFlags m.cls mk c d dk ∧ (dk.openAt index ∨ dk.resolved[index]? = some (some (.method m)))
theorem jLF_res {vm : Vm} {d index ci c : Nat} {m : MethodId} (e : Setting) (h : jLF vm e.platform d index ci c m) :
    ∃ vm', (resolveMethod d index).Gives e vm (.ok m) vm' ∧ (vm' = vm ∨ vm' = (vm.noted d ci (.cls c)).noted d index (.method m)) ∧ vm.ClassLinks e.platform d ci c ∧ vm'.methodReady d index m := by
  obtain ⟨dk, cf, nt, name, desc, ck, mk, meth, hd, hcf, hcp, hnt, hcl, hne, hc, hvia, hpoly, hlook, hmk, hm, hl, hacc, hres⟩ := h
  unfold resolveMethod
  rcases hres with hopen | hdone
  · have hd₁ : (vm.noted d ci (.cls c)).classes[d]? = some (dk.noted ci (.cls c)) := Vm.classes_note_self ci (.cls c) hd
    have hopen₁ : (dk.noted ci (.cls c)).resolved[index]? = some none := by rw [Class.resolved_note_other dk (.cls c) hne]; exact hopen
    refine ⟨_, (resolveOnce_first e hd hopen (r := .method m) (vm₁ := vm.noted d ci (.cls c)) ?_).bind (.pure m), Or.inr rfl, hcl,
      _, Vm.classes_note_self index (.method m) hd₁, Class.resolved_note_self _ hopen₁⟩
    refine (memberRef_method e hd hcf (by simpa using hcp : cf.constantPool[index]? = some (if true then .interfaceMethodref ci nt else .methodref ci nt)) hnt).bind ?_
    refine (resolveClass_links e hcl).bind ?_
    have A : vm.Alike (vm.noted d ci (.cls c)) := (Vm.Alike.refl vm).noted d ci (.cls c)
    obtain ⟨ck', hc', hec⟩ := A.2.2 _ _ hc
    obtain ⟨dk', hd', hed⟩ := A.2.2 _ _ hd
    obtain ⟨mk', hmk', hem⟩ := A.2.2 _ _ hmk
    exact (methodIn_FI e hc' hd' (by rw [hec]; exact hvia) (by rw [hec]; exact hpoly) (by rw [jFI_alike A hec]; exact hlook) hmk' (by rw [hem]; exact hm) (by rw [hed, hem]; exact hl) (hacc.alike A hem hed)).bind (.pure _)
  · exact ⟨vm, (resolveOnce_memo e _ hd hdone (by simp) (by simp)).bind (.pure m), Or.inl rfl, hcl, dk, hd, hdone⟩
theorem jLF_warm {s : State} {vm' : Vm} (h : s.WarmedH vm') {pl : Platform} {d index ci c : Nat} {m : MethodId} (hl : jLF s.vm pl d index ci c m) : jLF vm' pl d index ci c m := by
  obtain ⟨dk, cf, nt, name, desc, ck, mk, meth, hd, hcf, hcp, hnt, hcl, hne, hc, hvia, hpoly, hlook, hmk, hm, hlo, hacc, hres⟩ := hl
  obtain ⟨dk', hd', hed⟩ := h.alike.2.2 _ _ hd
  obtain ⟨ck', hc', hec⟩ := h.alike.2.2 _ _ hc
  obtain ⟨mk', hmk', hem⟩ := h.alike.2.2 _ _ hmk
  obtain ⟨ref, hrefn, hreff⟩ : ∃ ref, cf.constantPool.className? ci = some ref ∧ s.vm.findClass ref = some c := by
    obtain ⟨dk₂, cf₂, ref, _, hd₂, hcf₂, _, hn₂, hfind₂, _⟩ := hcl.here
    cases hd.symm.trans hd₂
    cases hcf.symm.trans hcf₂
    exact ⟨ref, hn₂, hfind₂⟩
  refine ⟨dk', cf, nt, name, desc, ck', mk', meth, hd', by rw [hed]; exact hcf, hcp, hnt, h.classLinks hcl, hne, hc', by rw [hec]; exact hvia, by rw [hec]; exact hpoly, by rw [jFI_alike h.alike hec]; exact hlook,
    hmk', by rw [hem]; exact hm, by rw [hed, hem]; exact hlo, hacc.alike h.alike hem hed, ?_⟩
  rcases h.entry hd hd' index with e | ⟨-, r, e1, hr⟩
  · rcases hres with hres | hres
    · exact Or.inl (e.trans hres)
    · exact Or.inr (e.trans hres)
  · refine Or.inr ?_
    have hn : namesOf? cf.constantPool index = some (.method ref name desc) := by simp [namesOf?, hcp, hnt, hrefn]
    have hfound : s.methodFound? ref name desc = some m := (jFI_found hreff hc hvia hpoly m).mpr ⟨hlook, mk, hmk⟩
    have hr' : r = .method m := by
      simp only [State.rightAt, hd, hcf, Option.bind_some, hn] at hr
      cases r <;> simp [hfound] at hr
      rw [hr]
    rw [e1, hr']
theorem jLF_entry {s : State} {e : Env} {vm₀ : Vm} {d index ci c : Nat} {m : MethodId} (hW : s.WarmedH vm₀) (hl : jLF s.vm e.platform d index ci c m) (hright : s.rightAt d index (.method m) = true) :
    s.MethodEntryUp e vm₀ d index c m ci := by
  obtain ⟨dk, _, _, _, _, _, _, _, hd, _, _, _, hcl, hne, _, _, _, _, _, _, _, _, hres⟩ := id hl
  have hclopen : dk.openAt ci ∨ dk.resolved[ci]? = some (some (.cls c)) := by
    obtain ⟨dk', _, _, _, hd', _, _, _, _, _, _, h⟩ := hcl.here
    cases hd.symm.trans hd'; exact h
  have hW₁ : s.WarmedH (vm₀.noted d ci (.cls c)) := hW.noted hd hclopen (State.rightAt_cls hcl)
  have hW₂ : s.WarmedH (vm₀.calledUp d ci index c m) := hW₁.noted hd hres hright
  have hcl₀ := hW.classLinks hcl
  have hc2 : (vm₀.noted d ci (.cls c)).classReady d ci c := hcl₀.ready
  obtain ⟨vm', hg, hor, -, hready⟩ := jLF_res e.toSetting (jLF_warm hW₁ hl)
  have hvm' : vm' = vm₀.calledUp d ci index c m := by
    rcases hor with rfl | rfl
    · exact (Vm.noted_of_methodReady hready).symm
    · rw [Vm.noted_of_classReady hc2]; rfl
  subst hvm'
  have hc3 : (vm₀.calledUp d ci index c m).classReady d ci c := Vm.classReady_noted_other hc2 (Ne.symm hne) _
  obtain ⟨vm₁, hg₁, hor₁, -, hready₁⟩ := jLF_res e.toSetting (jLF_warm hW hl)
  have hW' : s.WarmedH vm₁ := by
    rcases hor₁ with rfl | rfl
    · exact hW
    · exact hW₂
  have hend : vm₁.noted d ci (.cls c) = vm₀.calledUp d ci index c m := by
    rcases hor₁ with rfl | rfl
    · exact (Vm.noted_of_methodReady (Vm.methodReady_noted_other hready₁ hne _)).symm
    · exact Vm.noted_of_classReady hc3
  exact ⟨hW₂, hready, hc3, ⟨vm₁, hg₁, hready₁, hW', hend ▸ resolveClass_links e.toSetting (hW'.classLinks hcl)⟩, resolveClass_links e.toSetting hcl₀, hc2, hW₁, hg⟩
/-- what 'methodLink' gives of an interface's method, found above -/
theorem jLF_link {args : Array Value} {first s : State} {o : Option Outcome} {idx : List Nat} {cls : String} {x : MethodName} {index d c : Nat} {ck : Class} {m : MethodId}
    (hd : s.vm.findClass cls = some d) (hc : s.vm.findClass x.cls = some c) (hck : s.vm.classes[c]? = some ck) (hvi : ck.isInterface = true) (hf : s.methodFound? x.cls x.name x.desc = some m) (hx : x.cls ≠ "java/lang/invoke/MethodHandle" ∧ x.cls ≠ "java/lang/invoke/VarHandle")
    (h : (Cond.methodLink cls index x).holds args first o s idx = true) (pl : Platform) (hpl : pl.magicAccessors = ({} : Platform).magicAccessors) (hnc : x.name ≠ "clone") :
    ∃ ci, jLF s.vm pl d index ci c m ∧ s.rightAt d index (.method m) = true := by
  obtain ⟨k₀, hk₀, hname⟩ := Vm.findClass_spec hc
  cases hck.symm.trans hk₀
  have hpoly : ∀ y, signaturePolymorphic ck y = false := fun y => by simp [signaturePolymorphic, hname, hx.1, hx.2]
  simp only [Cond.holds, Cond.value, hd, hc, hf] at h
  cases hme : s.memberEntry? cls index with
  | none => simp [hme] at h
  | some me =>
    obtain ⟨ci, via⟩ := me
    cases hcl : s.classLinks cls ci x.cls with
    | none => simp [hme, hcl] at h
    | some linked =>
      cases hdk : s.vm.classes[d]? with
      | none => simp [hme, hcl, hdk] at h
      | some dk =>
        cases hmk : s.vm.classes[m.cls]? with
        | none => simp [hme, hcl, hdk, hck, hmk] at h
        | some mk =>
          cases hmeth : s.vm.method? m with
          | none => simp [hme, hcl, hdk, hck, hmk, hmeth] at h
          | some meth =>
            simp only [hme, hcl, hdk, hck, hmk, hmeth, Option.bind_eq_bind, Option.bind_some, Option.pure_def, beq_iff_eq, bne_iff_ne, ne_eq, Option.some.injEq, Bool.and_eq_true, Option.isNone_iff_eq_none] at h
            obtain ⟨⟨⟨⟨⟨⟨⟨rfl, hnm⟩, hopen⟩, hvia⟩, -⟩, -⟩, hml⟩, hacc⟩ := h
            rw [hvi] at hvia
            subst hvia
            obtain ⟨cr, hcr, hlinks⟩ := State.classLinks_spec hd hcl pl hpl
            cases hc.symm.trans hcr
            obtain ⟨cp, hcp, hnames⟩ := State.names_spec hnm
            obtain ⟨dk', cf, hdk', hcf, rfl⟩ := State.poolOf?_spec hd hcp
            cases hdk.symm.trans hdk'
            obtain ⟨ci', nt, hent, hnt, -⟩ := namesOf?_method hnames
            have hent' : ci' = ci ∧ cf.constantPool[index]? = some (.interfaceMethodref ci nt) := by
              rcases hent with hent | hent
              · simp only [State.memberEntry?, hcp, Option.bind_eq_bind, Option.bind_some, hent, Option.some.injEq, Prod.mk.injEq] at hme
                exact absurd hme.2 (by simp)
              · simp only [State.memberEntry?, hcp, Option.bind_eq_bind, Option.bind_some, hent, Option.some.injEq, Prod.mk.injEq] at hme
                obtain ⟨rfl, -⟩ := hme
                exact ⟨rfl, hent⟩
            obtain ⟨rfl, hent''⟩ := hent'
            have hne : ci' ≠ index := by
              intro he
              obtain ⟨_, cf', name', _, hd', hcf', _, hname', _⟩ := hlinks.here
              cases hdk.symm.trans hd'
              cases hcf.symm.trans hcf'
              subst he
              simp [ConstantPool.className?, hent''] at hname'
            have hdl : dk.loader = none := by
              obtain ⟨dk', _, _, _, hd', _, hl', _⟩ := hlinks.here
              cases hdk.symm.trans hd'; exact hl'
            have hmm' : mk.methods[m.idx]? = some meth := by simpa [Vm.method?, hmk] using hmeth
            refine ⟨ci', ⟨dk, cf, nt, x.name, x.desc, ck, mk, meth, hdk, hcf, hent'', hnt, hlinks, hne, hck, hvi, hpoly, ((jFI_found hc hck hvi hpoly m).mp hf).1, hmk, hmm', hdl.trans hml.symm, ?_, State.openOr_spec hd hdk hopen⟩, ?_⟩
            · have h4 : s.vm.Plain meth.accessFlags m.cls mk c d dk := by
                rcases (Bool.or_eq_true _ _).mp hacc with h | h
                · simpa [Vm.Plain, plainAccess, or_assoc, and_assoc] using h
                · exfalso
                  simp [hnc] at h
              exact h4
            · simp [State.rightAt, hdk, hcf, hnames, hf]
end NAV0
