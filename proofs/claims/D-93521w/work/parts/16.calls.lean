/-! CONTRACTS AND CALLS (own work) -/
theorem jNw.same {u U : State} (hv : u.vm = U.vm) (h : jNw u) : jNw U := by
  intro w hw hok
  have h1 := h w hw hok
  cases w <;> first | (cases hok; done) | exact va_tabs rfl hv h1 | skip
  case arrayOver ty =>
    have h2 : (Cond.arrayOver ty).before #[] u = true := h1
    unfold Cond.before Cond.holds at h2 ⊢
    simp only [Cond.value] at h2 ⊢
    rw [← hv]
    exact h2
theorem jAO_arr {t : FieldType} {u U : State} (hvm : u.vm.Alike U.vm) (h : (Cond.arrayOver (.array t)).before #[] u = true) : (Cond.arrayOver (.array t)).before #[] U = true := by
  unfold Cond.before Cond.holds at h ⊢
  simp only [Cond.value, beq_iff_eq] at h ⊢
  cases hc : u.vm.findClass (FieldType.array t).toString with
  | none => simp [hc] at h
  | some comp =>
    simp only [hc, Option.bind_some, Option.bind_eq_some_iff, Option.map_eq_some_iff] at h
    obtain ⟨c, hi, k, hk, hb⟩ := h
    obtain ⟨k', hk', he⟩ := hvm.2.2 _ _ hk
    have hi' : (U.vm.classes.findIdx? fun (x : Class) => match x.kind with | .array component _ => component == comp | _ => false) = some c := by
      have e1 := va_idx_bare U.vm comp
      have e2 := va_idx_bare u.vm comp
      rw [hvm.bare_eq] at e1
      exact (e1.symm.trans e2).trans hi
    rw [hvm.findClass, hc, Option.bind_some]
    refine Option.bind_eq_some_iff.mpr ⟨c, hi', Option.map_eq_some_iff.mpr ⟨k', hk', ?_⟩⟩
    rw [hvm.findClass]
    rw [he]
    exact hb
theorem jtab_rides {c : Cond} {s U : State} (hc : c.onTables = true) (h : c.before #[] (s.setVm U.vm) = true) : c.before #[] U = true := by
  have e := Cond.onTables_vm (A := #[]) (A' := #[]) (U := s) (U' := U) U.vm c hc
  have hU : U.setVm U.vm = U := rfl
  rw [hU] at e
  rw [← e]
  exact h
theorem jNw.warm {s U : State} (hW : s.WarmedH U.vm) (h : jNw s) : jNw U := by
  intro w hw hok
  have h1 := h w hw hok
  cases w <;> first | (cases hok; done) | exact va_Nw.warmC hW h1 | exact va_Nw.warmF hW h1 | exact va_Nw.warmM hW h1 | exact va_Nw.warmD hW h1 | skip
  case arrayOver ty => cases ty <;> first | (cases hok; done) | exact va_AO.moved hW.alike h1 | exact jAO_arr hW.alike h1
  case interfaceMethod ref owner name desc => exact jif_rides hW.alike h1
  case publicMethod x => exact jtab_rides rfl (by rw [Cond.publicMethod_setVm hW.alike]; exact h1)
  case unhidden C n d => exact jtab_rides rfl (by rw [Cond.unhidden_setVm hW.alike]; exact h1)
def jout (r : jA) : Outcome := match r with
  | .inl v => .returned (v.map jtv)
  | .inr a => .threw a
def jPc (D : va_G) (dA : Nat → ClassId) (lo : Nat) (cs0 : Nat → Option Nat) (av : List jV) (h : jH) : Array Value → State → Prop := fun a U =>
  a = (av.map jtv).toArray ∧ jRep D dA lo h U.heap ∧ jcs h = cs0 ∧ (va_K D jcls (jtys dA) U ∧ jK3 dA U) ∧ jNw U ∧ jFs U ∧ jSt cs0 lo U U.heap ∧ lo ≤ jsz h
def jQn (D : va_G) (dA : Nat → ClassId) (lo : Nat) (cs0 : Nat → Option Nat) (r : jA) (h1 : jH) : Array Value → State → Outcome → State → Prop := fun _ st oc t =>
  oc = jout r ∧ jRep D dA lo h1 t.heap ∧ jcs h1 = cs0 ∧ va_F (fun q => lo ≤ q) st t
def jXC (D : va_G) (dA : Nat → ClassId) (lo : Nat) (cs0 : Nat → Option Nat) (r : jA) (h1 : jH) : Addr → String → State → State → Prop := fun q E st t =>
  r = .inr q ∧ jRep D dA lo h1 t.heap ∧ jcs h1 = cs0 ∧ va_F (fun q => lo ≤ q) st t ∧ ∃ r9 : vw_C, jcls[jkd h1 q]? = some r9 ∧ r9.1 = E ∧ jexk (jkd h1 q)
def jrmo (d : Nat) (h h1 : jH) : Room := { frames := jfrm d, cells := jsz h1 - jsz h, slots := jsl h1 - jsl h, locals := jloc d }
/-- a method's contract at depth d for one run of the small machine -/
def jMet (l : Launch) (D : va_G) (dA : Nat → ClassId) (lo : Nat) (cs0 : Nat → Option Nat) (y : MethodName) (ws : List Cond) (d : Nat) (av : List jV) (h : jH) (r : jA) (h1 : jH) : Prop :=
  zx_Met l y ws (jrmo d h h1) (jPc D dA lo cs0 av h) (jQn D dA lo cs0 r h1) (jXC D dA lo cs0 r h1) (jsz h1 - jsz h) (jsl h1 - jsl h) (fun q => lo ≤ q)
theorem jPc_blind {D : va_G} {dA : Nat → ClassId} {lo : Nat} {cs0 : Nat → Option Nat} {av : List jV} {h : jH} : FrameBlind (jPc D dA lo cs0 av h) := by
  intro a U g mk hp
  obtain ⟨h1, h2, h3, h4, h5, h6, h7, h8⟩ := hp
  have hv : U.vm = (U.calling g mk a).vm := rfl
  have ha : U.vm.Alike (U.calling g mk a).vm := Vm.Alike.refl _
  exact ⟨h1, h2, h3, ⟨va_K.moved ha h4.1, h4.2.moved ha⟩, h5.same hv, h6.same hv, ⟨fun q m => (h7.1 q m).moved ha, fun q m => (h7.2.1 q m).moved ha, h7.2.2.1.imp fun t k => ⟨k.1, k.2.same rfl⟩, fun q m => (h7.2.2.2.1 q m).imp fun mi k => ⟨k.1, k.2.moved ha⟩, h7.2.2.2.2.1.moved ha, h7.2.2.2.2.2.1.moved ha, h7.2.2.2.2.2.2.moved ha⟩, h8⟩
section JS5
variable {p : Program} {l : Launch} {e : Env} {R : Room} {s : State} {m : MethodId} {args : Array Value} {below : List Frame} {meth : Method} {c : Code} {D : va_G} {dA : Nat → ClassId} {lo nL z0 w0 zF wF dd : Nat} {cs0 : Nat → Option Nat} {Q : State → Prop} {cc : ByteArray} {own : String} {pc : Nat} {Rf : jR} {H : Heap} {locs : List Loc} {cells slots : Nat} {mls : Array Slot} {rest : List Value}
/-- behind a call -/
theorem z_fin {ln mc ms : Nat} {aa : Array Value} {T : State} {r : jA} {h1 : jH} {st0 : List Value} (hT : T.heap = H)
    (hc : (∃ (v : Option Value) (vm₁ : Vm) (B : Pt), s.WarmedH vm₁ ∧ Stand p l e R s m args below meth c B.U B.locs B.cells B.slots ∧ PostOf (jQn D dA lo cs0 r h1) mc ms (fun q => lo ≤ q) ⟨T.setVm vm₁, locs, cells, slots⟩ aa v B ∧
      ∀ target, Steps p.tables e below (B.U.setTop (F0 m (pc + ln) mls (v.toList ++ rest))) target → Steps p.tables e below (T.setTop (F0 m pc mls st0)) target) ∨
    (∃ (q : Addr) (vm₁ : Vm) (B : Pt), s.WarmedH vm₁ ∧ Stand p l e R s m args below meth c B.U B.locs B.cells B.slots ∧ zx_Post (jXC D dA lo cs0 r h1) mc ms (fun q => lo ≤ q) ⟨T.setVm vm₁, locs, cells, slots⟩ aa q B ∧
      Steps p.tables e below (T.setTop (F0 m pc mls st0)) ((B.U.setTop (F0 m pc mls rest)).pushFrame (.throwing q))))
    (hS : va_S (fun q => lo ≤ q) s.heap H locs)
    (kn : ∀ v : Option jV, r = .inl v → ∀ (H1 : Heap) (locs1 : List Loc), jRep D dA lo h1 H1 → jcs h1 = cs0 → va_S (fun q => lo ≤ q) s.heap H1 locs1 → W p l e R s m args below meth c H1 locs1 (cells + mc) (slots + ms) Q (F0 m (pc + ln) mls ((v.map jtv).toList ++ rest)))
    (kx : ∀ q : Nat, r = .inr q → ∀ (H1 : Heap) (locs1 : List Loc), jRep D dA lo h1 H1 → jcs h1 = cs0 → va_S (fun q => lo ≤ q) s.heap H1 locs1 → (∃ (r9 : vw_C) (ce : Cell), jcls[jkd h1 q]? = some r9 ∧ jexk (jkd h1 q) ∧ H1[q]? = some ce ∧ ce.vm = .none ∧ s.vm.findClass r9.1 = some ce.cls) → vx_W p l e R s m args below meth c H1 locs1 (cells + mc) (slots + ms) Q (F0 m pc mls rest) q) :
    ∃ t, Steps p.tables e below (T.setTop (F0 m pc mls st0)) t ∧ Q t := by
  have keep : ∀ (st t : State) (H1 : Heap) (L : List Loc), st.heap = H → H1 = t.heap → va_F (fun q => lo ≤ q) st t → (∀ z ∈ L, lo ≤ z.base) → va_S (fun q => lo ≤ q) s.heap H1 (locs ++ L) := by
    intro st t H1 L e1 e2 hF hL
    subst e2
    obtain ⟨f1, f2⟩ := hF
    rw [e1] at f1 f2
    refine ⟨Nat.le_trans hS.1 f1, fun q q1 q2 => (f2 q (Nat.lt_of_lt_of_le q1 hS.1) q2).trans (hS.2.1 q q1 q2), fun z hz => ?_⟩
    rcases List.mem_append.mp hz with k | k
    · exact hS.2.2 z k
    · exact hL z k
  rcases hc with ⟨v, vm₁, B, hW, X', ⟨g, mk, t, L, b1, b2, ⟨q1, q2, q3, q4⟩, b4, b5, b6, b7⟩, st⟩ | ⟨q, vm₁, B, hW, X', ⟨g, mk, t, L, E, ce, b1, b2, ⟨x1, x2, x3, x4, r9, x5, x6, x7⟩, hce, hcv, hcl, b4, b5, b6, b7⟩, st⟩
  · cases r with
    | inr a => cases q1
    | inl v9 =>
      have hv : v = v9.map jtv := by injection q1
      subst hv
      have hs' := keep _ t B.U.heap L hT b1 q4 b5
      have X2 : Stand p l e R s m args below meth c B.U (locs ++ L) (cells + mc) (slots + ms) := by
        rw [show B.locs = locs ++ L from b4, show B.cells = cells + mc from b6, show B.slots = slots + ms from b7] at X'
        exact X'
      obtain ⟨t2, a1, a2⟩ := kn v9 rfl B.U.heap (locs ++ L) (by rw [b1]; exact q2) q3 hs' B.U rfl X2
      exact ⟨t2, st t2 a1, a2⟩
  · subst x1
    have hs' := keep _ t B.U.heap L hT b1 x4 b5
    have X2 : Stand p l e R s m args below meth c B.U (locs ++ L) (cells + mc) (slots + ms) := by
      rw [show B.locs = locs ++ L from b4, show B.cells = cells + mc from b6, show B.slots = slots + ms from b7] at X'
      exact X'
    obtain ⟨t2, a1, a2⟩ := kx q rfl B.U.heap (locs ++ L) (by rw [b1]; exact x2) x3 hs' ⟨r9, ce, x5, x7, by rw [b1]; exact hce, hcv, by rw [x6]; exact vx_cls hW hcl⟩ B.U rfl X2
    exact ⟨t2, st.trans a1, a2⟩
/-- what the caller pays: a method without handlers -/
theorem z_pay (C : jCx p l e R s m args meth c cc own D dA lo cs0 nL z0 w0 zF wF dd) {y : MethodName} {bytes : ByteArray} {maxL ln : Nat} {ret : Option FieldType} {av : List jV} {h h1 : jH} {r : jA} (hM : jMet l D dA lo cs0 y (ws_ y bytes maxL ret) dd av h r h1) (hL : maxL ≤ 45) (q5 : Cond.code y bytes maxL ret ∈ lw_all) (q6 : Cond.initialized y.cls ∈ lw_all) :
    vx_Back l R p e below s args y ln 8 (PreOf R (jsz h1 - jsz h) (jsl h1 - jsl h) (jPc D dA lo cs0 av h)) (PostOf (jQn D dA lo cs0 r h1) (jsz h1 - jsz h) (jsl h1 - jsl h) (fun q => lo ≤ q)) (zx_Post (jXC D dA lo cs0 r h1) (jsz h1 - jsz h) (jsl h1 - jsl h) (fun q => lo ≤ q)) := by
  have hts : ∀ w ∈ lw_all, w.before args s = true := C.2.2.2.1
  have hfr := C.2.2.2.2.2.2.2.2.2.2.2.1
  have hlo := C.2.2.2.2.2.2.2.2.2.2.2.2
  have hw : ∀ w ∈ lw_all, ∀ (a' : Array Value) (U : State), s.WarmedH U.vm → w.before a' U = true := fun w hw a' U hW => word_at hW (good_of_word (List.mem_filter.mp hw).2) (hts w hw)
  refine zx_back (bytes := bytes) (maxL := maxL) (ret := ret) hM jPc_blind rfl rfl ?_ ?_ (fun w hw' a' U hW => ?_) List.mem_cons_self (fun a' U hW => hw _ q6 a' U hW)
  · show jfrm dd + 1 ≤ R.frames
    have : jfrm (dd + 1) = jfrm dd + 1 := rfl
    omega
  · show 8 + (maxL + 11) + jloc dd ≤ R.locals
    have : jloc (dd + 1) = jloc dd + 64 := by unfold jloc; omega
    omega
  · rcases List.mem_cons.mp hw' with e1 | e1
    · rw [e1]; exact hw _ q5 a' U hW
    · exact hw w e1 a' U hW
theorem z_payW (C : jCx p l e R s m args meth c cc own D dA lo cs0 nL z0 w0 zF wF dd) {y : MethodName} {bytes : ByteArray} {maxL ln : Nat} {ret : Option FieldType} {hh : List (Nat × Nat × Nat × Nat)} {av : List jV} {h h1 : jH} {r : jA} (hM : jMet l D dA lo cs0 y (wsW_ y bytes maxL ret hh) dd av h r h1) (hL : maxL ≤ 45) (q5 : Cond.codeWith y bytes maxL ret hh ∈ lw_all) (q6 : Cond.initialized y.cls ∈ lw_all) :
    vx_Back l R p e below s args y ln 8 (PreOf R (jsz h1 - jsz h) (jsl h1 - jsl h) (jPc D dA lo cs0 av h)) (PostOf (jQn D dA lo cs0 r h1) (jsz h1 - jsz h) (jsl h1 - jsl h) (fun q => lo ≤ q)) (zx_Post (jXC D dA lo cs0 r h1) (jsz h1 - jsz h) (jsl h1 - jsl h) (fun q => lo ≤ q)) := by
  have hts : ∀ w ∈ lw_all, w.before args s = true := C.2.2.2.1
  have hfr := C.2.2.2.2.2.2.2.2.2.2.2.1
  have hlo := C.2.2.2.2.2.2.2.2.2.2.2.2
  have hw : ∀ w ∈ lw_all, ∀ (a' : Array Value) (U : State), s.WarmedH U.vm → w.before a' U = true := fun w hw a' U hW => word_at hW (good_of_word (List.mem_filter.mp hw).2) (hts w hw)
  refine zx_backW (bytes := bytes) (maxL := maxL) (ret := ret) (hh := hh) hM jPc_blind rfl rfl ?_ ?_ (fun w hw' a' U hW => ?_) List.mem_cons_self (fun a' U hW => hw _ q6 a' U hW)
  · show jfrm dd + 1 ≤ R.frames
    have : jfrm (dd + 1) = jfrm dd + 1 := rfl
    omega
  · show 8 + (maxL + 11) + jloc dd ≤ R.locals
    have : jloc (dd + 1) = jloc dd + 64 := by unfold jloc; omega
    omega
  · rcases List.mem_cons.mp hw' with e1 | e1
    · rw [e1]; exact hw _ q5 a' U hW
    · exact hw w e1 a' U hW
def jSimX (p : Program) (l : Launch) (e : Env) (R : Room) (s : State) (m : MethodId) (args : Array Value) (below : List Frame) (meth : Method) (c : Code) (D : va_G) (dA : Nat → ClassId) (lo : Nat) (cs0 : Nat → Option Nat) (nL z0 w0 zF wF : Nat) (Q : State → Prop) (pc : Nat) : List (Option jV) → List jV → Nat → jH → Prop := fun ls rs a h =>
  (jsz h ≤ zF ∧ jsl h ≤ wF) ∧ (z0 ≤ jsz h → w0 ≤ jsl h → (ls.length = nL ∧ jcs h = cs0) → jexk (jkd h a) → ∀ (H : Heap) (locs : List Loc) (mls : Array Slot), jRep D dA lo h H → va_S (fun q => lo ≤ q) s.heap H locs → lv_has mls nL (jlv 0 ls) →
    (∃ (r9 : vw_C) (ce : Cell), jcls[jkd h a]? = some r9 ∧ H[a]? = some ce ∧ ce.vm = .none ∧ s.vm.findClass r9.1 = some ce.cls) → vx_W p l e R s m args below meth c H locs (jsz h - z0) (jsl h - w0) Q (F0 m pc mls (rs.map jtv)) a)
theorem z_pre (C : jCx p l e R s m args meth c cc own D dA lo cs0 nL z0 w0 zF wF dd) {av : List jV} {h h1 : jH} {vm₁ : Vm} {T : State} (hlo : lo ≤ z0) (hz : z0 ≤ jsz h ∧ w0 ≤ jsl h) (hE : jsz h ≤ jsz h1 ∧ jsl h ≤ jsl h1) (hF : jsz h1 ≤ zF ∧ jsl h1 ≤ wF) (hcs : jcs h = cs0) (hT : T.heap = H) (hW : s.WarmedH vm₁) (r : jRep D dA lo h H) (v : va_S (fun q => lo ≤ q) s.heap H locs) :
    PreOf R (jsz h1 - jsz h) (jsl h1 - jsl h) (jPc D dA lo cs0 av h) ⟨T.setVm vm₁, locs, jsz h - z0, jsl h - w0⟩ (av.map jtv).toArray := by
  have hRc := C.2.2.2.2.2.2.1
  have hRs := C.2.2.2.2.2.2.2.1
  refine ⟨?_, ?_, rfl, ?_, hcs, ?_, ?_, ?_, ?_, by omega⟩
  · show jsz h - z0 + (jsz h1 - jsz h) ≤ R.cells
    omega
  · show jsl h - w0 + (jsl h1 - jsl h) ≤ R.slots
    omega
  · show jRep D dA lo h T.heap
    rw [hT]; exact r
  · exact ⟨va_K.moved (U := T.setVm vm₁) hW.alike C.2.2.2.2.2.2.2.2.1.1, C.2.2.2.2.2.2.2.2.1.2.moved (U := T.setVm vm₁) hW.alike⟩
  · exact C.2.2.2.2.2.2.2.2.2.1.1.warm (U := T.setVm vm₁) hW
  · exact C.2.2.2.2.2.2.2.2.2.1.2.warm (U := T.setVm vm₁) hW
  · show jSt cs0 lo (T.setVm vm₁) T.heap
    rw [hT]
    exact (C.2.2.2.2.2.2.2.2.2.2.1.warm (U := T.setVm vm₁) hW).kept v.2.1
theorem z_callS (C : jCx p l e R s m args meth c cc own D dA lo cs0 nL z0 w0 zF wF dd) {y : MethodName} {bytes : ByteArray} {maxL ix : Nat} {ret : Option FieldType} {av rs : List jV} {h h1 : jH} {r : jA} {ls : List (Option jV)} (hpay : vx_Back l R p e below s args y 3 8 (PreOf R (jsz h1 - jsz h) (jsl h1 - jsl h) (jPc D dA lo cs0 av h)) (PostOf (jQn D dA lo cs0 r h1) (jsz h1 - jsz h) (jsl h1 - jsl h) (fun q => lo ≤ q)) (zx_Post (jXC D dA lo cs0 r h1) (jsz h1 - jsz h) (jsl h1 - jsl h) (fun q => lo ≤ q))) (q1 : Cond.methodLink own ix y ∈ lw_all) (q2 : Cond.static y ∈ lw_all) (q3 : Cond.initialized y.cls ∈ lw_all) (q4 : Cond.code y bytes maxL ret ∈ lw_all) (hy : y.cls ≠ "java/lang/invoke/MethodHandle" ∧ y.cls ≠ "java/lang/invoke/VarHandle") (hlen : (parseMethodDescriptor y.desc).map (fun q => q.parameters.length) = some av.length) (hw : jws rs ≤ 8) (d : decode cc pc = .ok (.invokestatic ix, 3)) (hE : jsz h ≤ jsz h1 ∧ jsl h ≤ jsl h1) (hlo : lo ≤ z0) (hXz : ∀ a : Nat, r = .inr a → jsz h1 ≤ zF ∧ jsl h1 ≤ wF) (kn : ∀ v : Option jV, r = .inl v → jSim p l e R s m args below meth c D dA lo cs0 nL z0 w0 zF wF Q (pc + 3) ls (v.toList ++ rs) h1) (kx : ∀ a : Nat, r = .inr a → jexk (jkd h1 a) → jSimX p l e R s m args below meth c D dA lo cs0 nL z0 w0 zF wF Q pc ls rs a h1) : jSim p l e R s m args below meth c D dA lo cs0 nL z0 w0 zF wF Q pc ls (av.reverse ++ rs) h := by
  have hFz : jsz h1 ≤ zF ∧ jsl h1 ≤ wF := by
    cases hr : r with
    | inl v => exact (kn v hr).1
    | inr a => exact hXz a hr
  refine ⟨⟨Nat.le_trans hE.1 hFz.1, Nat.le_trans hE.2 hFz.2⟩, fun a1 b1 n1 H locs mls rr v w => ?_⟩
  intro T hT X
  have hts : ∀ w ∈ lw_all, w.before args s = true := C.2.2.2.1
  have hst : (av.reverse ++ rs).map jtv = (av.map jtv).reverse ++ rs.map jtv := by simp
  have hc := vx_callS X C.1 C.2.2.1 (hts _ q1) (hts _ q2) (hts _ q3) (hts _ q4) hy hpay (g := F0 m pc mls ((av.map jtv).reverse ++ rs.map jtv)) rfl (by rw [C.2.2.2.2.2.1]; exact w.1) (argsL := av.map jtv) (rest := rs.map jtv)
    (fun sig hsig => by rw [hsig] at hlen; rw [List.length_map]; exact (Option.some.inj hlen).symm) rfl (by show 2 * 0 + _ ≤ 8; rw [jws_sum]; omega) (by rw [C.2.1]; exact d) (fun vm₁ hW₁ => z_pre C hlo ⟨a1, b1⟩ hE hFz n1.2 hT hW₁ rr v)
  rw [hst]
  refine z_fin (ln := 3) hT hc v (fun v9 hr9 H1 locs1 rp hcs9 vs => ?_) (fun q9 hr9 H1 locs1 rp hcs9 vs cf => ?_)
  · have kk := (kn v9 hr9).2 (by omega) (by omega) ⟨n1.1, hcs9⟩ H1 locs1 mls rp vs w
    have t1 : jsz h1 - z0 = jsz h - z0 + (jsz h1 - jsz h) := by omega
    have t2 : jsl h1 - w0 = jsl h - w0 + (jsl h1 - jsl h) := by omega
    rw [t1, t2] at kk
    have t3 : (v9.toList ++ rs).map jtv = (v9.map jtv).toList ++ rs.map jtv := by cases v9 <;> rfl
    rw [t3] at kk
    exact kk
  · obtain ⟨r9, ce, c1, c2, c3, c4, c5⟩ := cf
    have kk := (kx q9 hr9 c2).2 (by omega) (by omega) ⟨n1.1, hcs9⟩ c2 H1 locs1 mls rp vs w ⟨r9, ce, c1, c3, c4, c5⟩
    have t1 : jsz h1 - z0 = jsz h - z0 + (jsz h1 - jsz h) := by omega
    have t2 : jsl h1 - w0 = jsl h - w0 + (jsl h1 - jsl h) := by omega
    rw [t1, t2] at kk
    exact kk
theorem z_callSW (C : jCx p l e R s m args meth c cc own D dA lo cs0 nL z0 w0 zF wF dd) {y : MethodName} {bytes : ByteArray} {maxL ix : Nat} {ret : Option FieldType} {hh : List (Nat × Nat × Nat × Nat)} {av rs : List jV} {h h1 : jH} {r : jA} {ls : List (Option jV)} (hpay : vx_Back l R p e below s args y 3 8 (PreOf R (jsz h1 - jsz h) (jsl h1 - jsl h) (jPc D dA lo cs0 av h)) (PostOf (jQn D dA lo cs0 r h1) (jsz h1 - jsz h) (jsl h1 - jsl h) (fun q => lo ≤ q)) (zx_Post (jXC D dA lo cs0 r h1) (jsz h1 - jsz h) (jsl h1 - jsl h) (fun q => lo ≤ q))) (q1 : Cond.methodLink own ix y ∈ lw_all) (q2 : Cond.static y ∈ lw_all) (q3 : Cond.initialized y.cls ∈ lw_all) (q4 : Cond.codeWith y bytes maxL ret hh ∈ lw_all) (hy : y.cls ≠ "java/lang/invoke/MethodHandle" ∧ y.cls ≠ "java/lang/invoke/VarHandle") (hlen : (parseMethodDescriptor y.desc).map (fun q => q.parameters.length) = some av.length) (hw : jws rs ≤ 8) (d : decode cc pc = .ok (.invokestatic ix, 3)) (hE : jsz h ≤ jsz h1 ∧ jsl h ≤ jsl h1) (hlo : lo ≤ z0) (hXz : ∀ a : Nat, r = .inr a → jsz h1 ≤ zF ∧ jsl h1 ≤ wF) (kn : ∀ v : Option jV, r = .inl v → jSim p l e R s m args below meth c D dA lo cs0 nL z0 w0 zF wF Q (pc + 3) ls (v.toList ++ rs) h1) (kx : ∀ a : Nat, r = .inr a → jexk (jkd h1 a) → jSimX p l e R s m args below meth c D dA lo cs0 nL z0 w0 zF wF Q pc ls rs a h1) : jSim p l e R s m args below meth c D dA lo cs0 nL z0 w0 zF wF Q pc ls (av.reverse ++ rs) h := by
  have hFz : jsz h1 ≤ zF ∧ jsl h1 ≤ wF := by
    cases hr : r with
    | inl v => exact (kn v hr).1
    | inr a => exact hXz a hr
  refine ⟨⟨Nat.le_trans hE.1 hFz.1, Nat.le_trans hE.2 hFz.2⟩, fun a1 b1 n1 H locs mls rr v w => ?_⟩
  intro T hT X
  have hts : ∀ w ∈ lw_all, w.before args s = true := C.2.2.2.1
  have hst : (av.reverse ++ rs).map jtv = (av.map jtv).reverse ++ rs.map jtv := by simp
  have hc := vx_callSX X C.1 C.2.2.1 (hts _ q1) (hts _ q2) (hts _ q3) (hts _ q4) hy hpay (g := F0 m pc mls ((av.map jtv).reverse ++ rs.map jtv)) rfl (by rw [C.2.2.2.2.2.1]; exact w.1) (argsL := av.map jtv) (rest := rs.map jtv)
    (fun sig hsig => by rw [hsig] at hlen; rw [List.length_map]; exact (Option.some.inj hlen).symm) rfl (by show 2 * 0 + _ ≤ 8; rw [jws_sum]; omega) (by rw [C.2.1]; exact d) (fun vm₁ hW₁ => z_pre C hlo ⟨a1, b1⟩ hE hFz n1.2 hT hW₁ rr v)
  rw [hst]
  refine z_fin (ln := 3) hT hc v (fun v9 hr9 H1 locs1 rp hcs9 vs => ?_) (fun q9 hr9 H1 locs1 rp hcs9 vs cf => ?_)
  · have kk := (kn v9 hr9).2 (by omega) (by omega) ⟨n1.1, hcs9⟩ H1 locs1 mls rp vs w
    have t1 : jsz h1 - z0 = jsz h - z0 + (jsz h1 - jsz h) := by omega
    have t2 : jsl h1 - w0 = jsl h - w0 + (jsl h1 - jsl h) := by omega
    rw [t1, t2] at kk
    have t3 : (v9.toList ++ rs).map jtv = (v9.map jtv).toList ++ rs.map jtv := by cases v9 <;> rfl
    rw [t3] at kk
    exact kk
  · obtain ⟨r9, ce, c1, c2, c3, c4, c5⟩ := cf
    have kk := (kx q9 hr9 c2).2 (by omega) (by omega) ⟨n1.1, hcs9⟩ c2 H1 locs1 mls rp vs w ⟨r9, ce, c1, c3, c4, c5⟩
    have t1 : jsz h1 - z0 = jsz h - z0 + (jsz h1 - jsz h) := by omega
    have t2 : jsl h1 - w0 = jsl h - w0 + (jsl h1 - jsl h) := by omega
    rw [t1, t2] at kk
    exact kk
theorem z_callSN (C : jCx p l e R s m args meth c cc own D dA lo cs0 nL z0 w0 zF wF dd) {y : MethodName} {bytes : ByteArray} {maxL ix : Nat} {ret : Option FieldType} {av rs : List jV} {h h1 : jH} {r : jA} {ls : List (Option jV)} (hpay : vx_Back l R p e below s args y 3 8 (PreOf R (jsz h1 - jsz h) (jsl h1 - jsl h) (jPc D dA lo cs0 av h)) (PostOf (jQn D dA lo cs0 r h1) (jsz h1 - jsz h) (jsl h1 - jsl h) (fun q => lo ≤ q)) (zx_Post (jXC D dA lo cs0 r h1) (jsz h1 - jsz h) (jsl h1 - jsl h) (fun q => lo ≤ q))) {host : String} (q1 : Cond.methodLinkNest own ix y host ∈ lw_tbl) (q2 : Cond.static y ∈ lw_all) (q3 : Cond.initialized y.cls ∈ lw_all) (q4 : Cond.code y bytes maxL ret ∈ lw_all) (hy : y.cls ≠ "java/lang/invoke/MethodHandle" ∧ y.cls ≠ "java/lang/invoke/VarHandle") (hlen : (parseMethodDescriptor y.desc).map (fun q => q.parameters.length) = some av.length) (hw : jws rs ≤ 8) (d : decode cc pc = .ok (.invokestatic ix, 3)) (hE : jsz h ≤ jsz h1 ∧ jsl h ≤ jsl h1) (hlo : lo ≤ z0) (hXz : ∀ a : Nat, r = .inr a → jsz h1 ≤ zF ∧ jsl h1 ≤ wF) (kn : ∀ v : Option jV, r = .inl v → jSim p l e R s m args below meth c D dA lo cs0 nL z0 w0 zF wF Q (pc + 3) ls (v.toList ++ rs) h1) (kx : ∀ a : Nat, r = .inr a → jexk (jkd h1 a) → jSimX p l e R s m args below meth c D dA lo cs0 nL z0 w0 zF wF Q pc ls rs a h1) : jSim p l e R s m args below meth c D dA lo cs0 nL z0 w0 zF wF Q pc ls (av.reverse ++ rs) h := by
  have hFz : jsz h1 ≤ zF ∧ jsl h1 ≤ wF := by
    cases hr : r with
    | inl v => exact (kn v hr).1
    | inr a => exact hXz a hr
  refine ⟨⟨Nat.le_trans hE.1 hFz.1, Nat.le_trans hE.2 hFz.2⟩, fun a1 b1 n1 H locs mls rr v w => ?_⟩
  intro T hT X
  have hts : ∀ w ∈ lw_all, w.before args s = true := C.2.2.2.1
  have hst : (av.reverse ++ rs).map jtv = (av.map jtv).reverse ++ rs.map jtv := by simp
  have hc := vx_callSN X C.1 C.2.2.1 (va_any rfl (C.2.2.2.2.2.2.2.2.2.1.1 _ q1 rfl)) (hts _ q2) (hts _ q3) (hts _ q4) hy hpay (g := F0 m pc mls ((av.map jtv).reverse ++ rs.map jtv)) rfl (by rw [C.2.2.2.2.2.1]; exact w.1) (argsL := av.map jtv) (rest := rs.map jtv)
    (fun sig hsig => by rw [hsig] at hlen; rw [List.length_map]; exact (Option.some.inj hlen).symm) rfl (by show 2 * 0 + _ ≤ 8; rw [jws_sum]; omega) (by rw [C.2.1]; exact d) (fun vm₁ hW₁ => z_pre C hlo ⟨a1, b1⟩ hE hFz n1.2 hT hW₁ rr v)
  rw [hst]
  refine z_fin (ln := 3) hT hc v (fun v9 hr9 H1 locs1 rp hcs9 vs => ?_) (fun q9 hr9 H1 locs1 rp hcs9 vs cf => ?_)
  · have kk := (kn v9 hr9).2 (by omega) (by omega) ⟨n1.1, hcs9⟩ H1 locs1 mls rp vs w
    have t1 : jsz h1 - z0 = jsz h - z0 + (jsz h1 - jsz h) := by omega
    have t2 : jsl h1 - w0 = jsl h - w0 + (jsl h1 - jsl h) := by omega
    rw [t1, t2] at kk
    have t3 : (v9.toList ++ rs).map jtv = (v9.map jtv).toList ++ rs.map jtv := by cases v9 <;> rfl
    rw [t3] at kk
    exact kk
  · obtain ⟨r9, ce, c1, c2, c3, c4, c5⟩ := cf
    have kk := (kx q9 hr9 c2).2 (by omega) (by omega) ⟨n1.1, hcs9⟩ c2 H1 locs1 mls rp vs w ⟨r9, ce, c1, c3, c4, c5⟩
    have t1 : jsz h1 - z0 = jsz h - z0 + (jsz h1 - jsz h) := by omega
    have t2 : jsl h1 - w0 = jsl h - w0 + (jsl h1 - jsl h) := by omega
    rw [t1, t2] at kk
    exact kk
theorem z_callV (C : jCx p l e R s m args meth c cc own D dA lo cs0 nL z0 w0 zF wF dd) {y : MethodName} {bytes : ByteArray} {maxL ix b k : Nat} {ret : Option FieldType} {r9 : vw_C} {av rs : List jV} {h h1 : jH} {r : jA} {ls : List (Option jV)} (hpay : vx_Back l R p e below s args y 3 8 (PreOf R (jsz h1 - jsz h) (jsl h1 - jsl h) (jPc D dA lo cs0 (jP (some b) :: av) h)) (PostOf (jQn D dA lo cs0 r h1) (jsz h1 - jsz h) (jsl h1 - jsl h) (fun q => lo ≤ q)) (zx_Post (jXC D dA lo cs0 r h1) (jsz h1 - jsz h) (jsl h1 - jsl h) (fun q => lo ≤ q))) (hk : jkd h b = k) (hk0 : k ≠ 0) (hk9 : k < 100) (hr9 : jcls[k]? = some r9) (q1 : Cond.methodLink own ix y ∈ lw_all) (q2 : Cond.instanceMethod y ∈ lw_all) (q3 : Cond.selects r9.1 y y ∈ lw_all) (q4 : Cond.code y bytes maxL ret ∈ lw_all) (hy : y.cls ≠ "java/lang/invoke/MethodHandle" ∧ y.cls ≠ "java/lang/invoke/VarHandle") (hlen : (parseMethodDescriptor y.desc).map (fun q => q.parameters.length) = some av.length) (hw : jws rs ≤ 8) (d : decode cc pc = .ok (.invokevirtual ix, 3)) (hE : jsz h ≤ jsz h1 ∧ jsl h ≤ jsl h1) (hlo : lo ≤ z0) (hXz : ∀ a : Nat, r = .inr a → jsz h1 ≤ zF ∧ jsl h1 ≤ wF) (kn : ∀ v : Option jV, r = .inl v → jSim p l e R s m args below meth c D dA lo cs0 nL z0 w0 zF wF Q (pc + 3) ls (v.toList ++ rs) h1) (kx : ∀ a : Nat, r = .inr a → jexk (jkd h1 a) → jSimX p l e R s m args below meth c D dA lo cs0 nL z0 w0 zF wF Q pc ls rs a h1) : jSim p l e R s m args below meth c D dA lo cs0 nL z0 w0 zF wF Q pc ls (av.reverse ++ jP (some b) :: rs) h := by
  have hFz : jsz h1 ≤ zF ∧ jsl h1 ≤ wF := by
    cases hr : r with
    | inl v => exact (kn v hr).1
    | inr a => exact hXz a hr
  refine ⟨⟨Nat.le_trans hE.1 hFz.1, Nat.le_trans hE.2 hFz.2⟩, fun a1 b1 n1 H locs mls rr v w => ?_⟩
  intro T hT X
  have hts : ∀ w ∈ lw_all, w.before args s = true := C.2.2.2.1
  have hst : (av.reverse ++ jP (some b) :: rs).map jtv = (av.map jtv).reverse ++ .ref b :: rs.map jtv := by simp [jtv, va_rf]
  obtain ⟨r8, cellB, hc8, g1, g2, g3, -⟩ := jRep_obj rr hk hk0 hk9
  cases Option.some.inj (hc8.symm.trans hr9)
  have hcl := C.2.2.2.2.2.2.2.2.1.1.1 _ _ hr9
  have hc := vx_callV X C.1 C.2.2.1 (hts _ q1) (hts _ q2) (hts _ q3) (hts _ q4) hy hpay (b := b) (cellB := cellB) (by rw [hT]; exact g1) (jvm0_st g3) (by rw [g2]; exact hcl.2.1) (g := F0 m pc mls ((av.map jtv).reverse ++ .ref b :: rs.map jtv)) rfl (by rw [C.2.2.2.2.2.1]; exact w.1) (argsL := av.map jtv) (rest := rs.map jtv)
    (fun sig hsig => by rw [hsig] at hlen; rw [List.length_map]; exact (Option.some.inj hlen).symm) rfl (by show 2 * 0 + _ ≤ 8; rw [jws_sum]; omega) (by rw [C.2.1]; exact d) (fun vm₁ hW₁ => z_pre C (av := jP (some b) :: av) hlo ⟨a1, b1⟩ hE hFz n1.2 hT hW₁ rr v)
  rw [hst]
  refine z_fin (ln := 3) hT hc v (fun v9 hr9 H1 locs1 rp hcs9 vs => ?_) (fun q9 hr9 H1 locs1 rp hcs9 vs cf => ?_)
  · have kk := (kn v9 hr9).2 (by omega) (by omega) ⟨n1.1, hcs9⟩ H1 locs1 mls rp vs w
    have t1 : jsz h1 - z0 = jsz h - z0 + (jsz h1 - jsz h) := by omega
    have t2 : jsl h1 - w0 = jsl h - w0 + (jsl h1 - jsl h) := by omega
    rw [t1, t2] at kk
    have t3 : (v9.toList ++ rs).map jtv = (v9.map jtv).toList ++ rs.map jtv := by cases v9 <;> rfl
    rw [t3] at kk
    exact kk
  · obtain ⟨r9, ce, c1, c2, c3, c4, c5⟩ := cf
    have kk := (kx q9 hr9 c2).2 (by omega) (by omega) ⟨n1.1, hcs9⟩ c2 H1 locs1 mls rp vs w ⟨r9, ce, c1, c3, c4, c5⟩
    have t1 : jsz h1 - z0 = jsz h - z0 + (jsz h1 - jsz h) := by omega
    have t2 : jsl h1 - w0 = jsl h - w0 + (jsl h1 - jsl h) := by omega
    rw [t1, t2] at kk
    exact kk
theorem z_callVW (C : jCx p l e R s m args meth c cc own D dA lo cs0 nL z0 w0 zF wF dd) {y : MethodName} {bytes : ByteArray} {maxL ix b k : Nat} {ret : Option FieldType} {r9 : vw_C} {hh : List (Nat × Nat × Nat × Nat)} {av rs : List jV} {h h1 : jH} {r : jA} {ls : List (Option jV)} (hpay : vx_Back l R p e below s args y 3 8 (PreOf R (jsz h1 - jsz h) (jsl h1 - jsl h) (jPc D dA lo cs0 (jP (some b) :: av) h)) (PostOf (jQn D dA lo cs0 r h1) (jsz h1 - jsz h) (jsl h1 - jsl h) (fun q => lo ≤ q)) (zx_Post (jXC D dA lo cs0 r h1) (jsz h1 - jsz h) (jsl h1 - jsl h) (fun q => lo ≤ q))) (hk : jkd h b = k) (hk0 : k ≠ 0) (hk9 : k < 100) (hr9 : jcls[k]? = some r9) (q1 : Cond.methodLink own ix y ∈ lw_all) (q2 : Cond.instanceMethod y ∈ lw_all) (q3 : Cond.selects r9.1 y y ∈ lw_all) (q4 : Cond.codeWith y bytes maxL ret hh ∈ lw_all) (hy : y.cls ≠ "java/lang/invoke/MethodHandle" ∧ y.cls ≠ "java/lang/invoke/VarHandle") (hlen : (parseMethodDescriptor y.desc).map (fun q => q.parameters.length) = some av.length) (hw : jws rs ≤ 8) (d : decode cc pc = .ok (.invokevirtual ix, 3)) (hE : jsz h ≤ jsz h1 ∧ jsl h ≤ jsl h1) (hlo : lo ≤ z0) (hXz : ∀ a : Nat, r = .inr a → jsz h1 ≤ zF ∧ jsl h1 ≤ wF) (kn : ∀ v : Option jV, r = .inl v → jSim p l e R s m args below meth c D dA lo cs0 nL z0 w0 zF wF Q (pc + 3) ls (v.toList ++ rs) h1) (kx : ∀ a : Nat, r = .inr a → jexk (jkd h1 a) → jSimX p l e R s m args below meth c D dA lo cs0 nL z0 w0 zF wF Q pc ls rs a h1) : jSim p l e R s m args below meth c D dA lo cs0 nL z0 w0 zF wF Q pc ls (av.reverse ++ jP (some b) :: rs) h := by
  have hFz : jsz h1 ≤ zF ∧ jsl h1 ≤ wF := by
    cases hr : r with
    | inl v => exact (kn v hr).1
    | inr a => exact hXz a hr
  refine ⟨⟨Nat.le_trans hE.1 hFz.1, Nat.le_trans hE.2 hFz.2⟩, fun a1 b1 n1 H locs mls rr v w => ?_⟩
  intro T hT X
  have hts : ∀ w ∈ lw_all, w.before args s = true := C.2.2.2.1
  have hst : (av.reverse ++ jP (some b) :: rs).map jtv = (av.map jtv).reverse ++ .ref b :: rs.map jtv := by simp [jtv, va_rf]
  obtain ⟨r8, cellB, hc8, g1, g2, g3, -⟩ := jRep_obj rr hk hk0 hk9
  cases Option.some.inj (hc8.symm.trans hr9)
  have hcl := C.2.2.2.2.2.2.2.2.1.1.1 _ _ hr9
  have hc := vx_callVX X C.1 C.2.2.1 (hts _ q1) (hts _ q2) (hts _ q3) (hts _ q4) hy hpay (b := b) (cellB := cellB) (by rw [hT]; exact g1) (jvm0_st g3) (by rw [g2]; exact hcl.2.1) (g := F0 m pc mls ((av.map jtv).reverse ++ .ref b :: rs.map jtv)) rfl (by rw [C.2.2.2.2.2.1]; exact w.1) (argsL := av.map jtv) (rest := rs.map jtv)
    (fun sig hsig => by rw [hsig] at hlen; rw [List.length_map]; exact (Option.some.inj hlen).symm) rfl (by show 2 * 0 + _ ≤ 8; rw [jws_sum]; omega) (by rw [C.2.1]; exact d) (fun vm₁ hW₁ => z_pre C (av := jP (some b) :: av) hlo ⟨a1, b1⟩ hE hFz n1.2 hT hW₁ rr v)
  rw [hst]
  refine z_fin (ln := 3) hT hc v (fun v9 hr9 H1 locs1 rp hcs9 vs => ?_) (fun q9 hr9 H1 locs1 rp hcs9 vs cf => ?_)
  · have kk := (kn v9 hr9).2 (by omega) (by omega) ⟨n1.1, hcs9⟩ H1 locs1 mls rp vs w
    have t1 : jsz h1 - z0 = jsz h - z0 + (jsz h1 - jsz h) := by omega
    have t2 : jsl h1 - w0 = jsl h - w0 + (jsl h1 - jsl h) := by omega
    rw [t1, t2] at kk
    have t3 : (v9.toList ++ rs).map jtv = (v9.map jtv).toList ++ rs.map jtv := by cases v9 <;> rfl
    rw [t3] at kk
    exact kk
  · obtain ⟨r9, ce, c1, c2, c3, c4, c5⟩ := cf
    have kk := (kx q9 hr9 c2).2 (by omega) (by omega) ⟨n1.1, hcs9⟩ c2 H1 locs1 mls rp vs w ⟨r9, ce, c1, c3, c4, c5⟩
    have t1 : jsz h1 - z0 = jsz h - z0 + (jsz h1 - jsz h) := by omega
    have t2 : jsl h1 - w0 = jsl h - w0 + (jsl h1 - jsl h) := by omega
    rw [t1, t2] at kk
    exact kk
theorem z_callVN (C : jCx p l e R s m args meth c cc own D dA lo cs0 nL z0 w0 zF wF dd) {y : MethodName} {bytes : ByteArray} {maxL ix b k : Nat} {ret : Option FieldType} {r9 : vw_C} {av rs : List jV} {h h1 : jH} {r : jA} {ls : List (Option jV)} (hpay : vx_Back l R p e below s args y 3 8 (PreOf R (jsz h1 - jsz h) (jsl h1 - jsl h) (jPc D dA lo cs0 (jP (some b) :: av) h)) (PostOf (jQn D dA lo cs0 r h1) (jsz h1 - jsz h) (jsl h1 - jsl h) (fun q => lo ≤ q)) (zx_Post (jXC D dA lo cs0 r h1) (jsz h1 - jsz h) (jsl h1 - jsl h) (fun q => lo ≤ q))) (hk : jkd h b = k) (hk0 : k ≠ 0) (hk9 : k < 100) (hr9 : jcls[k]? = some r9) {host : String} (q1 : Cond.methodLinkNest own ix y host ∈ lw_tbl) (q2 : Cond.instanceMethod y ∈ lw_all) (q3 : Cond.selects r9.1 y y ∈ lw_all) (q4 : Cond.code y bytes maxL ret ∈ lw_all) (hy : y.cls ≠ "java/lang/invoke/MethodHandle" ∧ y.cls ≠ "java/lang/invoke/VarHandle") (hlen : (parseMethodDescriptor y.desc).map (fun q => q.parameters.length) = some av.length) (hw : jws rs ≤ 8) (d : decode cc pc = .ok (.invokevirtual ix, 3)) (hE : jsz h ≤ jsz h1 ∧ jsl h ≤ jsl h1) (hlo : lo ≤ z0) (hXz : ∀ a : Nat, r = .inr a → jsz h1 ≤ zF ∧ jsl h1 ≤ wF) (kn : ∀ v : Option jV, r = .inl v → jSim p l e R s m args below meth c D dA lo cs0 nL z0 w0 zF wF Q (pc + 3) ls (v.toList ++ rs) h1) (kx : ∀ a : Nat, r = .inr a → jexk (jkd h1 a) → jSimX p l e R s m args below meth c D dA lo cs0 nL z0 w0 zF wF Q pc ls rs a h1) : jSim p l e R s m args below meth c D dA lo cs0 nL z0 w0 zF wF Q pc ls (av.reverse ++ jP (some b) :: rs) h := by
  have hFz : jsz h1 ≤ zF ∧ jsl h1 ≤ wF := by
    cases hr : r with
    | inl v => exact (kn v hr).1
    | inr a => exact hXz a hr
  refine ⟨⟨Nat.le_trans hE.1 hFz.1, Nat.le_trans hE.2 hFz.2⟩, fun a1 b1 n1 H locs mls rr v w => ?_⟩
  intro T hT X
  have hts : ∀ w ∈ lw_all, w.before args s = true := C.2.2.2.1
  have hst : (av.reverse ++ jP (some b) :: rs).map jtv = (av.map jtv).reverse ++ .ref b :: rs.map jtv := by simp [jtv, va_rf]
  obtain ⟨r8, cellB, hc8, g1, g2, g3, -⟩ := jRep_obj rr hk hk0 hk9
  cases Option.some.inj (hc8.symm.trans hr9)
  have hcl := C.2.2.2.2.2.2.2.2.1.1.1 _ _ hr9
  have hc := vx_callVN X C.1 C.2.2.1 (va_any rfl (C.2.2.2.2.2.2.2.2.2.1.1 _ q1 rfl)) (hts _ q2) (hts _ q3) (hts _ q4) hy hpay (b := b) (cellB := cellB) (by rw [hT]; exact g1) (jvm0_st g3) (by rw [g2]; exact hcl.2.1) (g := F0 m pc mls ((av.map jtv).reverse ++ .ref b :: rs.map jtv)) rfl (by rw [C.2.2.2.2.2.1]; exact w.1) (argsL := av.map jtv) (rest := rs.map jtv)
    (fun sig hsig => by rw [hsig] at hlen; rw [List.length_map]; exact (Option.some.inj hlen).symm) rfl (by show 2 * 0 + _ ≤ 8; rw [jws_sum]; omega) (by rw [C.2.1]; exact d) (fun vm₁ hW₁ => z_pre C (av := jP (some b) :: av) hlo ⟨a1, b1⟩ hE hFz n1.2 hT hW₁ rr v)
  rw [hst]
  refine z_fin (ln := 3) hT hc v (fun v9 hr9 H1 locs1 rp hcs9 vs => ?_) (fun q9 hr9 H1 locs1 rp hcs9 vs cf => ?_)
  · have kk := (kn v9 hr9).2 (by omega) (by omega) ⟨n1.1, hcs9⟩ H1 locs1 mls rp vs w
    have t1 : jsz h1 - z0 = jsz h - z0 + (jsz h1 - jsz h) := by omega
    have t2 : jsl h1 - w0 = jsl h - w0 + (jsl h1 - jsl h) := by omega
    rw [t1, t2] at kk
    have t3 : (v9.toList ++ rs).map jtv = (v9.map jtv).toList ++ rs.map jtv := by cases v9 <;> rfl
    rw [t3] at kk
    exact kk
  · obtain ⟨r9, ce, c1, c2, c3, c4, c5⟩ := cf
    have kk := (kx q9 hr9 c2).2 (by omega) (by omega) ⟨n1.1, hcs9⟩ c2 H1 locs1 mls rp vs w ⟨r9, ce, c1, c3, c4, c5⟩
    have t1 : jsz h1 - z0 = jsz h - z0 + (jsz h1 - jsz h) := by omega
    have t2 : jsl h1 - w0 = jsl h - w0 + (jsl h1 - jsl h) := by omega
    rw [t1, t2] at kk
    exact kk
theorem z_callI (C : jCx p l e R s m args meth c cc own D dA lo cs0 nL z0 w0 zF wF dd) {y : MethodName} {bytes : ByteArray} {maxL ix b : Nat} {av rs : List jV} {h h1 : jH} {r : jA} {ls : List (Option jV)} (hpay : vx_Back l R p e below s args y 3 8 (PreOf R (jsz h1 - jsz h) (jsl h1 - jsl h) (jPc D dA lo cs0 (jP (some b) :: av) h)) (PostOf (jQn D dA lo cs0 r h1) (jsz h1 - jsz h) (jsl h1 - jsl h) (fun q => lo ≤ q)) (zx_Post (jXC D dA lo cs0 r h1) (jsz h1 - jsz h) (jsl h1 - jsl h) (fun q => lo ≤ q))) (q1 : Cond.methodLink own ix y ∈ lw_all) (q2 : Cond.instanceMethod y ∈ lw_all) (q4 : Cond.code y bytes maxL none ∈ lw_all) (hyi : y.name = "<init>") (hy : y.cls ≠ "java/lang/invoke/MethodHandle" ∧ y.cls ≠ "java/lang/invoke/VarHandle") (hlen : (parseMethodDescriptor y.desc).map (fun q => q.parameters.length) = some av.length) (hw : jws rs ≤ 8) (d : decode cc pc = .ok (.invokespecial ix, 3)) (hE : jsz h ≤ jsz h1 ∧ jsl h ≤ jsl h1) (hlo : lo ≤ z0) (hXz : ∀ a : Nat, r = .inr a → jsz h1 ≤ zF ∧ jsl h1 ≤ wF) (kn : ∀ v : Option jV, r = .inl v → jSim p l e R s m args below meth c D dA lo cs0 nL z0 w0 zF wF Q (pc + 3) ls (v.toList ++ rs) h1) (kx : ∀ a : Nat, r = .inr a → jexk (jkd h1 a) → jSimX p l e R s m args below meth c D dA lo cs0 nL z0 w0 zF wF Q pc ls rs a h1) : jSim p l e R s m args below meth c D dA lo cs0 nL z0 w0 zF wF Q pc ls (av.reverse ++ jP (some b) :: rs) h := by
  have hFz : jsz h1 ≤ zF ∧ jsl h1 ≤ wF := by
    cases hr : r with
    | inl v => exact (kn v hr).1
    | inr a => exact hXz a hr
  refine ⟨⟨Nat.le_trans hE.1 hFz.1, Nat.le_trans hE.2 hFz.2⟩, fun a1 b1 n1 H locs mls rr v w => ?_⟩
  intro T hT X
  have hts : ∀ w ∈ lw_all, w.before args s = true := C.2.2.2.1
  have hst : (av.reverse ++ jP (some b) :: rs).map jtv = (av.map jtv).reverse ++ .ref b :: rs.map jtv := by simp [jtv, va_rf]
  have hc := vx_callI X C.1 C.2.2.1 hyi (hts _ q1) (hts _ q2) (hts _ q4) hy hpay (g := F0 m pc mls ((av.map jtv).reverse ++ .ref b :: rs.map jtv)) rfl (by rw [C.2.2.2.2.2.1]; exact w.1) (a := b) (argsL := av.map jtv) (rest := rs.map jtv)
    (fun sig hsig => by rw [hsig] at hlen; rw [List.length_map]; exact (Option.some.inj hlen).symm) rfl (by show 2 * 0 + _ ≤ 8; rw [jws_sum]; omega) (by rw [C.2.1]; exact d) (fun vm₁ hW₁ => z_pre C (av := jP (some b) :: av) hlo ⟨a1, b1⟩ hE hFz n1.2 hT hW₁ rr v)
  rw [hst]
  refine z_fin (ln := 3) hT hc v (fun v9 hr9 H1 locs1 rp hcs9 vs => ?_) (fun q9 hr9 H1 locs1 rp hcs9 vs cf => ?_)
  · have kk := (kn v9 hr9).2 (by omega) (by omega) ⟨n1.1, hcs9⟩ H1 locs1 mls rp vs w
    have t1 : jsz h1 - z0 = jsz h - z0 + (jsz h1 - jsz h) := by omega
    have t2 : jsl h1 - w0 = jsl h - w0 + (jsl h1 - jsl h) := by omega
    rw [t1, t2] at kk
    have t3 : (v9.toList ++ rs).map jtv = (v9.map jtv).toList ++ rs.map jtv := by cases v9 <;> rfl
    rw [t3] at kk
    exact kk
  · obtain ⟨r9, ce, c1, c2, c3, c4, c5⟩ := cf
    have kk := (kx q9 hr9 c2).2 (by omega) (by omega) ⟨n1.1, hcs9⟩ c2 H1 locs1 mls rp vs w ⟨r9, ce, c1, c3, c4, c5⟩
    have t1 : jsz h1 - z0 = jsz h - z0 + (jsz h1 - jsz h) := by omega
    have t2 : jsl h1 - w0 = jsl h - w0 + (jsl h1 - jsl h) := by omega
    rw [t1, t2] at kk
    exact kk
theorem z_callIN (C : jCx p l e R s m args meth c cc own D dA lo cs0 nL z0 w0 zF wF dd) {y : MethodName} {bytes : ByteArray} {maxL ix b : Nat} {av rs : List jV} {h h1 : jH} {r : jA} {ls : List (Option jV)} (hpay : vx_Back l R p e below s args y 3 8 (PreOf R (jsz h1 - jsz h) (jsl h1 - jsl h) (jPc D dA lo cs0 (jP (some b) :: av) h)) (PostOf (jQn D dA lo cs0 r h1) (jsz h1 - jsz h) (jsl h1 - jsl h) (fun q => lo ≤ q)) (zx_Post (jXC D dA lo cs0 r h1) (jsz h1 - jsz h) (jsl h1 - jsl h) (fun q => lo ≤ q))) {host : String} (q1 : Cond.methodLinkNest own ix y host ∈ lw_tbl) (q2 : Cond.instanceMethod y ∈ lw_all) (q4 : Cond.code y bytes maxL none ∈ lw_all) (hyi : y.name = "<init>") (hy : y.cls ≠ "java/lang/invoke/MethodHandle" ∧ y.cls ≠ "java/lang/invoke/VarHandle") (hlen : (parseMethodDescriptor y.desc).map (fun q => q.parameters.length) = some av.length) (hw : jws rs ≤ 8) (d : decode cc pc = .ok (.invokespecial ix, 3)) (hE : jsz h ≤ jsz h1 ∧ jsl h ≤ jsl h1) (hlo : lo ≤ z0) (hXz : ∀ a : Nat, r = .inr a → jsz h1 ≤ zF ∧ jsl h1 ≤ wF) (kn : ∀ v : Option jV, r = .inl v → jSim p l e R s m args below meth c D dA lo cs0 nL z0 w0 zF wF Q (pc + 3) ls (v.toList ++ rs) h1) (kx : ∀ a : Nat, r = .inr a → jexk (jkd h1 a) → jSimX p l e R s m args below meth c D dA lo cs0 nL z0 w0 zF wF Q pc ls rs a h1) : jSim p l e R s m args below meth c D dA lo cs0 nL z0 w0 zF wF Q pc ls (av.reverse ++ jP (some b) :: rs) h := by
  have hFz : jsz h1 ≤ zF ∧ jsl h1 ≤ wF := by
    cases hr : r with
    | inl v => exact (kn v hr).1
    | inr a => exact hXz a hr
  refine ⟨⟨Nat.le_trans hE.1 hFz.1, Nat.le_trans hE.2 hFz.2⟩, fun a1 b1 n1 H locs mls rr v w => ?_⟩
  intro T hT X
  have hts : ∀ w ∈ lw_all, w.before args s = true := C.2.2.2.1
  have hst : (av.reverse ++ jP (some b) :: rs).map jtv = (av.map jtv).reverse ++ .ref b :: rs.map jtv := by simp [jtv, va_rf]
  have hc := vx_callIN X C.1 C.2.2.1 hyi (va_any rfl (C.2.2.2.2.2.2.2.2.2.1.1 _ q1 rfl)) (hts _ q2) (hts _ q4) hy hpay (g := F0 m pc mls ((av.map jtv).reverse ++ .ref b :: rs.map jtv)) rfl (by rw [C.2.2.2.2.2.1]; exact w.1) (a := b) (argsL := av.map jtv) (rest := rs.map jtv)
    (fun sig hsig => by rw [hsig] at hlen; rw [List.length_map]; exact (Option.some.inj hlen).symm) rfl (by show 2 * 0 + _ ≤ 8; rw [jws_sum]; omega) (by rw [C.2.1]; exact d) (fun vm₁ hW₁ => z_pre C (av := jP (some b) :: av) hlo ⟨a1, b1⟩ hE hFz n1.2 hT hW₁ rr v)
  rw [hst]
  refine z_fin (ln := 3) hT hc v (fun v9 hr9 H1 locs1 rp hcs9 vs => ?_) (fun q9 hr9 H1 locs1 rp hcs9 vs cf => ?_)
  · have kk := (kn v9 hr9).2 (by omega) (by omega) ⟨n1.1, hcs9⟩ H1 locs1 mls rp vs w
    have t1 : jsz h1 - z0 = jsz h - z0 + (jsz h1 - jsz h) := by omega
    have t2 : jsl h1 - w0 = jsl h - w0 + (jsl h1 - jsl h) := by omega
    rw [t1, t2] at kk
    have t3 : (v9.toList ++ rs).map jtv = (v9.map jtv).toList ++ rs.map jtv := by cases v9 <;> rfl
    rw [t3] at kk
    exact kk
  · obtain ⟨r9, ce, c1, c2, c3, c4, c5⟩ := cf
    have kk := (kx q9 hr9 c2).2 (by omega) (by omega) ⟨n1.1, hcs9⟩ c2 H1 locs1 mls rp vs w ⟨r9, ce, c1, c3, c4, c5⟩
    have t1 : jsz h1 - z0 = jsz h - z0 + (jsz h1 - jsz h) := by omega
    have t2 : jsl h1 - w0 = jsl h - w0 + (jsl h1 - jsl h) := by omega
    rw [t1, t2] at kk
    exact kk
theorem z_callVU (C : jCx p l e R s m args meth c cc own D dA lo cs0 nL z0 w0 zF wF dd) {x y : MethodName} {owner : String} {bytes : ByteArray} {maxL ix b k : Nat} {ret : Option FieldType} {r9 : vw_C} {av rs : List jV} {h h1 : jH} {r : jA} {ls : List (Option jV)} (hpay : vx_Back l R p e below s args y 3 8 (PreOf R (jsz h1 - jsz h) (jsl h1 - jsl h) (jPc D dA lo cs0 (jP (some b) :: av) h)) (PostOf (jQn D dA lo cs0 r h1) (jsz h1 - jsz h) (jsl h1 - jsl h) (fun q => lo ≤ q)) (zx_Post (jXC D dA lo cs0 r h1) (jsz h1 - jsz h) (jsl h1 - jsl h) (fun q => lo ≤ q))) (hk : jkd h b = k) (hk0 : k ≠ 0) (hk9 : k < 100) (hr9 : jcls[k]? = some r9) (q1 : Cond.methodLink own ix x ∈ lw_all) (q2 : Cond.sameMethod x.cls owner x.name x.desc ∈ lw_all) (hd0 : va_Decl s ⟨owner, x.name, x.desc⟩) (howner : owner ≠ "java/lang/invoke/MethodHandle" ∧ owner ≠ "java/lang/invoke/VarHandle") (q3 : Cond.selects r9.1 x y ∈ lw_all) (q5 : Cond.instanceMethod y ∈ lw_all) (q4 : Cond.code y bytes maxL ret ∈ lw_all) (hlen : (parseMethodDescriptor x.desc).map (fun q => q.parameters.length) = some av.length) (hw : jws rs ≤ 8) (d : decode cc pc = .ok (.invokevirtual ix, 3)) (hE : jsz h ≤ jsz h1 ∧ jsl h ≤ jsl h1) (hlo : lo ≤ z0) (hXz : ∀ a : Nat, r = .inr a → jsz h1 ≤ zF ∧ jsl h1 ≤ wF) (kn : ∀ v : Option jV, r = .inl v → jSim p l e R s m args below meth c D dA lo cs0 nL z0 w0 zF wF Q (pc + 3) ls (v.toList ++ rs) h1) (kx : ∀ a : Nat, r = .inr a → jexk (jkd h1 a) → jSimX p l e R s m args below meth c D dA lo cs0 nL z0 w0 zF wF Q pc ls rs a h1) : jSim p l e R s m args below meth c D dA lo cs0 nL z0 w0 zF wF Q pc ls (av.reverse ++ jP (some b) :: rs) h := by
  have hFz : jsz h1 ≤ zF ∧ jsl h1 ≤ wF := by
    cases hr : r with
    | inl v => exact (kn v hr).1
    | inr a => exact hXz a hr
  refine ⟨⟨Nat.le_trans hE.1 hFz.1, Nat.le_trans hE.2 hFz.2⟩, fun a1 b1 n1 H locs mls rr v w => ?_⟩
  intro T hT X
  have hts : ∀ w ∈ lw_all, w.before args s = true := C.2.2.2.1
  have hst : (av.reverse ++ jP (some b) :: rs).map jtv = (av.map jtv).reverse ++ .ref b :: rs.map jtv := by simp [jtv, va_rf]
  obtain ⟨r8, cellB, hc8, g1, g2, g3, -⟩ := jRep_obj rr hk hk0 hk9
  cases Option.some.inj (hc8.symm.trans hr9)
  have hcl := C.2.2.2.2.2.2.2.2.1.1.1 _ _ hr9
  have hc := vx_callVU X C.1 C.2.2.1 (hts _ q1) (hts _ q2) hd0 howner (hts _ q3) (hts _ q5) (hts _ q4) hpay (b := b) (cellB := cellB) (by rw [hT]; exact g1) (jvm0_st g3) (by rw [g2]; exact hcl.2.1) (g := F0 m pc mls ((av.map jtv).reverse ++ .ref b :: rs.map jtv)) rfl (by rw [C.2.2.2.2.2.1]; exact w.1) (argsL := av.map jtv) (rest := rs.map jtv)
    (fun sig hsig => by rw [hsig] at hlen; rw [List.length_map]; exact (Option.some.inj hlen).symm) rfl (by show 2 * 0 + _ ≤ 8; rw [jws_sum]; omega) (by rw [C.2.1]; exact d) (fun vm₁ hW₁ => z_pre C (av := jP (some b) :: av) hlo ⟨a1, b1⟩ hE hFz n1.2 hT hW₁ rr v)
  rw [hst]
  refine z_fin (ln := 3) hT hc v (fun v9 hr9 H1 locs1 rp hcs9 vs => ?_) (fun q9 hr9 H1 locs1 rp hcs9 vs cf => ?_)
  · have kk := (kn v9 hr9).2 (by omega) (by omega) ⟨n1.1, hcs9⟩ H1 locs1 mls rp vs w
    have t1 : jsz h1 - z0 = jsz h - z0 + (jsz h1 - jsz h) := by omega
    have t2 : jsl h1 - w0 = jsl h - w0 + (jsl h1 - jsl h) := by omega
    rw [t1, t2] at kk
    have t3 : (v9.toList ++ rs).map jtv = (v9.map jtv).toList ++ rs.map jtv := by cases v9 <;> rfl
    rw [t3] at kk
    exact kk
  · obtain ⟨r9, ce, c1, c2, c3, c4, c5⟩ := cf
    have kk := (kx q9 hr9 c2).2 (by omega) (by omega) ⟨n1.1, hcs9⟩ c2 H1 locs1 mls rp vs w ⟨r9, ce, c1, c3, c4, c5⟩
    have t1 : jsz h1 - z0 = jsz h - z0 + (jsz h1 - jsz h) := by omega
    have t2 : jsl h1 - w0 = jsl h - w0 + (jsl h1 - jsl h) := by omega
    rw [t1, t2] at kk
    exact kk
theorem z_callF (C : jCx p l e R s m args meth c cc own D dA lo cs0 nL z0 w0 zF wF dd) {x y : MethodName} {bytes : ByteArray} {maxL ix ct b k : Nat} {ret : Option FieldType} {r9 : vw_C} {av rs : List jV} {h h1 : jH} {r : jA} {ls : List (Option jV)} (hpay : vx_Back l R p e below s args y 5 8 (PreOf R (jsz h1 - jsz h) (jsl h1 - jsl h) (jPc D dA lo cs0 (jP (some b) :: av) h)) (PostOf (jQn D dA lo cs0 r h1) (jsz h1 - jsz h) (jsl h1 - jsl h) (fun q => lo ≤ q)) (zx_Post (jXC D dA lo cs0 r h1) (jsz h1 - jsz h) (jsl h1 - jsl h) (fun q => lo ≤ q))) (hk : jkd h b = k) (hk0 : k ≠ 0) (hk9 : k < 100) (hr9 : jcls[k]? = some r9) (hf : (r9.1, x, y) ∈ jfcl) (q1 : Cond.methodLink own ix x ∈ lw_all) (q3 : Cond.selects r9.1 x y ∈ lw_all) (q5 : Cond.instanceMethod y ∈ lw_all) (q4 : Cond.code y bytes maxL ret ∈ lw_all) (hlen : (parseMethodDescriptor x.desc).map (fun q => q.parameters.length) = some av.length) (hw : jws rs ≤ 8) (d : decode cc pc = .ok (.invokeinterface ix ct, 5)) (hE : jsz h ≤ jsz h1 ∧ jsl h ≤ jsl h1) (hlo : lo ≤ z0) (hXz : ∀ a : Nat, r = .inr a → jsz h1 ≤ zF ∧ jsl h1 ≤ wF) (kn : ∀ v : Option jV, r = .inl v → jSim p l e R s m args below meth c D dA lo cs0 nL z0 w0 zF wF Q (pc + 5) ls (v.toList ++ rs) h1) (kx : ∀ a : Nat, r = .inr a → jexk (jkd h1 a) → jSimX p l e R s m args below meth c D dA lo cs0 nL z0 w0 zF wF Q pc ls rs a h1) : jSim p l e R s m args below meth c D dA lo cs0 nL z0 w0 zF wF Q pc ls (av.reverse ++ jP (some b) :: rs) h := by
  have hFz : jsz h1 ≤ zF ∧ jsl h1 ≤ wF := by
    cases hr : r with
    | inl v => exact (kn v hr).1
    | inr a => exact hXz a hr
  refine ⟨⟨Nat.le_trans hE.1 hFz.1, Nat.le_trans hE.2 hFz.2⟩, fun a1 b1 n1 H locs mls rr v w => ?_⟩
  intro T hT X
  have hts : ∀ w ∈ lw_all, w.before args s = true := C.2.2.2.1
  have hst : (av.reverse ++ jP (some b) :: rs).map jtv = (av.map jtv).reverse ++ .ref b :: rs.map jtv := by simp [jtv, va_rf]
  obtain ⟨r8, cellB, hc8, g1, g2, g3, -⟩ := jRep_obj rr hk hk0 hk9
  cases Option.some.inj (hc8.symm.trans hr9)
  have hcl := C.2.2.2.2.2.2.2.2.1.1.1 _ _ hr9
  obtain ⟨kB, hkB, -⟩ := hcl.2.2
  obtain ⟨f1, f2, f3, f4, f5⟩ := C.2.2.2.2.2.2.2.2.2.1.2.1 _ hf
  have hc := vx_callIF X C.1 C.2.2.1 (hts _ q1) (va_any rfl f1) (va_any rfl f2) (hts _ q3) (hts _ q5) (va_any rfl f3) (va_any rfl f4) (va_any rfl f5) (hts _ q4) (jfcl_ok _ hf) hpay (b := b) (cellB := cellB) (kB := kB) (by rw [hT]; exact g1) (jvm0_st g3) (by rw [g2]; exact hcl.2.1) (by rw [g2]; exact hkB) (g := F0 m pc mls ((av.map jtv).reverse ++ .ref b :: rs.map jtv)) rfl (by rw [C.2.2.2.2.2.1]; exact w.1) (argsL := av.map jtv) (rest := rs.map jtv)
    (fun sig hsig => by rw [hsig] at hlen; rw [List.length_map]; exact (Option.some.inj hlen).symm) rfl (by show 2 * 0 + _ ≤ 8; rw [jws_sum]; omega) (by rw [C.2.1]; exact d) (fun vm₁ hW₁ => z_pre C (av := jP (some b) :: av) hlo ⟨a1, b1⟩ hE hFz n1.2 hT hW₁ rr v)
  rw [hst]
  refine z_fin (ln := 5) hT hc v (fun v9 hr9 H1 locs1 rp hcs9 vs => ?_) (fun q9 hr9 H1 locs1 rp hcs9 vs cf => ?_)
  · have kk := (kn v9 hr9).2 (by omega) (by omega) ⟨n1.1, hcs9⟩ H1 locs1 mls rp vs w
    have t1 : jsz h1 - z0 = jsz h - z0 + (jsz h1 - jsz h) := by omega
    have t2 : jsl h1 - w0 = jsl h - w0 + (jsl h1 - jsl h) := by omega
    rw [t1, t2] at kk
    have t3 : (v9.toList ++ rs).map jtv = (v9.map jtv).toList ++ rs.map jtv := by cases v9 <;> rfl
    rw [t3] at kk
    exact kk
  · obtain ⟨r9, ce, c1, c2, c3, c4, c5⟩ := cf
    have kk := (kx q9 hr9 c2).2 (by omega) (by omega) ⟨n1.1, hcs9⟩ c2 H1 locs1 mls rp vs w ⟨r9, ce, c1, c3, c4, c5⟩
    have t1 : jsz h1 - z0 = jsz h - z0 + (jsz h1 - jsz h) := by omega
    have t2 : jsl h1 - w0 = jsl h - w0 + (jsl h1 - jsl h) := by omega
    rw [t1, t2] at kk
    exact kk

end JS5
