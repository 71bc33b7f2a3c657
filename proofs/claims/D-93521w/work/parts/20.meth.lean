/-! A METHOD'S CONTRACT OUT OF ITS OPERATIONS (own work) -/
theorem jent_len (av : List jV) : (jent av).length = (lg_sl (av.map jtv)).length := by
  induction av with
  | nil => rfl
  | cons v r ih =>
    show (bif jwide v then some v :: none :: jent r else some v :: jent r).length = ((if (jtv v).category = 2 then [Slot.val (jtv v), .second] else [.val (jtv v)]) ++ lg_sl (r.map jtv)).length
    rw [jtv_cat]
    cases jwide v <;> simp [ih]
theorem jlv_non (i n : Nat) : jlv i (List.replicate n none) = [] := by
  induction n generalizing i with
  | zero => rfl
  | succ n ih => exact ih (i + 1)
theorem jlv_ent (av : List jV) (n : Nat) : ∀ i, ∀ q ∈ jlv i (jent av ++ List.replicate n none), q ∈ lv_args i (av.map jtv) := by
  induction av with
  | nil =>
    intro i q hq
    have h2 : q ∈ jlv i (List.replicate n none) := hq
    rw [jlv_non] at h2
    cases h2
  | cons v r ih =>
    intro i q hq
    show q ∈ (i, jtv v) :: lv_args (if (jtv v).category = 2 then i + 2 else i + 1) (r.map jtv)
    rw [jtv_cat]
    have hq2 : q ∈ jlv i ((bif jwide v then some v :: none :: jent r else some v :: jent r) ++ List.replicate n none) := hq
    cases hw : jwide v with
    | true =>
      rw [hw] at hq2
      have hq3 : q ∈ (i, jtv v) :: jlv (i + 1 + 1) (jent r ++ List.replicate n none) := hq2
      rcases List.mem_cons.mp hq3 with h | h
      · rw [h]; exact List.mem_cons_self
      · exact List.mem_cons_of_mem _ (ih _ _ h)
    | false =>
      rw [hw] at hq2
      have hq3 : q ∈ (i, jtv v) :: jlv (i + 1) (jent r ++ List.replicate n none) := hq2
      rcases List.mem_cons.mp hq3 with h | h
      · rw [h]; exact List.mem_cons_self
      · exact List.mem_cons_of_mem _ (ih _ _ h)
section JS9
variable {l : Launch} {D : va_G} {dA : Nat → ClassId} {lo : Nat} {cs0 : Nat → Option Nat} {d n nL : Nat} {tbl : jT} {tb : jE → jC} {y : MethodName} {bytes : ByteArray} {ret : Option FieldType} {hh : List (Nat × Nat × Nat × Nat)}
theorem jSim_fg {p : Program} {e : Env} {R : Room} {s : State} {m : MethodId} {args : Array Value} {below : List Frame} {meth : Method} {c : Code} {nL z0 w0 zF wF : Nat} {Q : State → Prop} {pc : Nat} {l1 l2 : List (Option jV)} {st : List jV} {h : jH} (hs : jsub l1 l2) (k : jSim p l e R s m args below meth c D dA lo cs0 nL z0 w0 zF wF Q pc l1 st h) : jSim p l e R s m args below meth c D dA lo cs0 nL z0 w0 zF wF Q pc l2 st h :=
  ⟨k.1, fun a b n H locs mls r v w => k.2 a b ⟨hs.1.trans n.1, n.2⟩ H locs mls r v (jlv_forget w hs)⟩
/-- what a method's rows say: each of its operations is answered by the machine -/
def jRows (l : Launch) (D : va_G) (dA : Nat → ClassId) (lo : Nat) (cs0 : Nat → Option Nat) (d nL : Nat) (tb : jC) (y : MethodName) (bytes : ByteArray) (ret : Option FieldType) (hh : List (Nat × Nat × Nat × Nat)) : Prop :=
  ∀ (p : Program) (e : Env) (R : Room) (s : State) (m : MethodId) (args : Array Value) (below : List Frame) (meth : Method) (c : Code) (z0 w0 zF wF : Nat) (Q : State → Prop) (rF : jA) (hF : jH),
    jBd p l e R s m args below meth c bytes y.cls D dA lo cs0 nL z0 w0 zF wF d Q rF hF hh → z0 ≤ zF → w0 ≤ wF → meth.sig.returnType = ret → meth.name = y.name →
    ∀ (pc : Nat) (f : jOp), jlk tb pc = some f → ∀ (ls : List (Option jV)) (st : List jV) (h : jH), f (jSim p l e R s m args below meth c D dA lo cs0 nL z0 w0 zF wF Q) (fun r2 h2 => r2 = rF ∧ h2 = hF) ls st h → jSim p l e R s m args below meth c D dA lo cs0 nL z0 w0 zF wF Q pc ls st h
theorem z_entry {p : Program} {e : Env} {s : State} {m : MethodId} {args : Array Value} {below : List Frame} {meth : Method} {c : Code} {s1 : State} {ws : List Cond} {av : List jV} {h h1 : jH} {r : jA} (hb : jRows l D dA lo cs0 d nL (tb (jEV tbl d)) y bytes ret hh) (hzz : jsz h ≤ jsz h1 ∧ jsl h ≤ jsl h1) (hl : Nat.ble (jent av).length nL = true) (hrun : jWX (tb (jEV tbl d)) (fun r2 h2 => r2 = r ∧ h2 = h1) 0 (jlocs av nL) [] h) (hw : ∀ w ∈ lw_all, w ∈ ws)
    (B : BodyLoose p l y (headSpec ws (jrmo (d + 1) h h1)) bytes nL ret e s m args below meth c s1) (hml : c.maxLocals = nL) (ht : c.exceptionTable.toList = tableOf hh) (hPc : jPc D dA lo cs0 av h args s) :
    W p l e (headSpec ws (jrmo (d + 1) h h1)).room s m args below meth c s.heap [] 0 0 (zx_MQ below (jQn D dA lo cs0 r h1) (jXC D dA lo cs0 r h1) args s (jsz h1 - jsz h) (jsl h1 - jsl h) (fun q => lo ≤ q)) (entryFrame m args nL) := by
  obtain ⟨ha, hrep, hcs, hK, hNw, hFs, hSt, hlo⟩ := hPc
  subst ha
  have hpre := atoms_spec B.pre
  have hC : jCx p l e (headSpec ws (jrmo (d + 1) h h1)).room s m _ meth c bytes y.cls D dA lo cs0 nL (jsz h) (jsl h) (jsz h1) (jsl h1) d :=
    ⟨B.exec, B.bytes, findClass_of_methodNamed B.named, fun w hq => hpre w (hw w hq), B.notSynchronized, hml, rfl, rfl, hK, ⟨hNw, hFs⟩, hSt, Nat.le_refl _, Nat.le_refl _⟩
  have k0 := hrun _ ⟨fun pc f ls st h9 hf k => hb p e (headSpec ws (jrmo (d + 1) h h1)).room s m _ below meth c (jsz h) (jsl h) (jsz h1) (jsl h1) _ r h1 ⟨hC, ⟨rfl, rfl, rfl⟩, ht, hlo⟩ hzz.1 hzz.2 B.returns (name_of_methodNamed B.named B.method).1 pc f hf ls st h9 k, fun pc l1 l2 st h hs k => jSim_fg hs k⟩
  have hl' : (jent av).length ≤ nL := Nat.le_of_ble_eq_true hl
  have hlen : (jlocs av nL).length = nL := by
    unfold jlocs
    rw [List.length_append, List.length_replicate]
    omega
  have hv := lv_entry (av.map jtv) (n := nL) (by rw [← jent_len]; exact hl')
  have k1 := k0.2 (Nat.le_refl _) (Nat.le_refl _) ⟨hlen, hcs⟩ s.heap [] _ hrep ⟨Nat.le_refl _, fun _ _ _ => rfl, fun z hz => by cases hz⟩ (jlv_sub hv fun q hq => jlv_ent av _ 0 q hq)
  rw [Nat.sub_self, Nat.sub_self] at k1
  rw [lg_entry_eq]
  exact k1
/-- a method without handlers -/
theorem z_meth (hz : jEz (jEV tbl (d + 1))) (hn : tbl n = some (tb, nL)) (hp : plainFor y = true) (hb : jRows l D dA lo cs0 d nL (tb (jEV tbl d)) y bytes ret []) : jMe l D dA lo cs0 (jEV tbl (d + 1)) n y (ws_ y bytes nL ret) (d + 1) := by
  intro av h r h1 hE
  have hzz := hz _ _ _ _ _ hE
  refine ⟨hzz, ?_⟩
  obtain ⟨m9, hm, hl, hrun⟩ := hE
  cases hn.symm.trans hm
  refine zx_ofW hp rfl ?_
  intro p e s m args below meth c s1 B hml htab hPc
  exact z_entry hb hzz hl hrun (fun w hq => List.mem_cons_of_mem _ hq) B hml (List.eq_nil_iff_forall_not_mem.mpr fun x hx => htab x hx) hPc
/-- a method with handlers -/
theorem z_methW (hz : jEz (jEV tbl (d + 1))) (hn : tbl n = some (tb, nL)) (hp : plainFor y = true) (hb : jRows l D dA lo cs0 d nL (tb (jEV tbl d)) y bytes ret hh) : jMe l D dA lo cs0 (jEV tbl (d + 1)) n y (wsW_ y bytes nL ret hh) (d + 1) := by
  intro av h r h1 hE
  have hzz := hz _ _ _ _ _ hE
  refine ⟨hzz, ?_⟩
  obtain ⟨m9, hm, hl, hrun⟩ := hE
  cases hn.symm.trans hm
  refine zx_ofWH hp rfl ?_
  intro p e s m args below meth c s1 B hml hPc
  have ht : c.exceptionTable.toList = tableOf hh := by
    exact vx_table (x := y) B (atoms_spec B.pre _ List.mem_cons_self)
  exact z_entry hb hzz hl hrun (fun w hq => List.mem_cons_of_mem _ hq) B hml ht hPc
/-- rows of a table, one by one -/
theorem jlk_nil {P : Nat → jOp → Prop} : ∀ (pc : Nat) (f : jOp), jlk ([] : jC) pc = some f → P pc f := fun _ _ h => by cases h
theorem jlk_cons {P : Nat → jOp → Prop} {k : Nat} {g : jOp} {tb : jC} (h0 : P k g) (h : ∀ (pc : Nat) (f : jOp), jlk tb pc = some f → P pc f) : ∀ (pc : Nat) (f : jOp), jlk ((k, g) :: tb) pc = some f → P pc f := by
  intro pc f hf
  have hf2 : (bif Nat.beq k pc then some g else jlk tb pc) = some f := hf
  cases hb : Nat.beq k pc with
  | true =>
    rw [hb] at hf2
    cases hf2
    rw [← Nat.eq_of_beq_eq_true hb]
    exact h0
  | false =>
    rw [hb] at hf2
    exact h pc f hf2
theorem jlk_ap (A B : jC) (pc : Nat) : jlk (A ++ B) pc = (match jlk A pc with
    | some f => some f
    | none => jlk B pc) := by
  induction A with
  | nil => rfl
  | cons q A ih =>
    show (bif Nat.beq q.1 pc then some q.2 else jlk (A ++ B) pc) = (match (bif Nat.beq q.1 pc then some q.2 else jlk A pc) with
      | some f => some f
      | none => jlk B pc)
    cases Nat.beq q.1 pc with
    | true => rfl
    | false => exact ih
theorem jlk_app {P : Nat → jOp → Prop} {A B : jC} (ha : ∀ (pc : Nat) (f : jOp), jlk A pc = some f → P pc f) (hb : ∀ (pc : Nat) (f : jOp), jlk B pc = some f → P pc f) : ∀ (pc : Nat) (f : jOp), jlk (A ++ B) pc = some f → P pc f := by
  intro pc f h
  rw [jlk_ap] at h
  cases hA : jlk A pc with
  | some g =>
    rw [hA] at h
    have e : g = f := Option.some.inj h
    rw [← e]
    exact ha pc g hA
  | none =>
    rw [hA] at h
    exact hb pc f h
end JS9
