/-! FURTHER OPERATIONS (own work) -/
section JS8
variable {p : Program} {l : Launch} {e : Env} {R : Room} {s : State} {m : MethodId} {args : Array Value} {below : List Frame} {meth : Method} {c : Code} {D : va_G} {dA : Nat → ClassId} {lo nL z0 w0 zF wF dd : Nat} {cs0 : Nat → Option Nat} {Q : State → Prop} {cc : ByteArray} {own : String} {pc : Nat} {Rf : jR} {H : Heap} {locs : List Loc} {cells slots : Nat} {mls : Array Slot} {rest : List Value} {rF : jA} {hF : jH}
/-- a field across a nest -/
def jFldN (s : State) (own ref CN : String) (T : u_T) (N ci k f : Nat) (b : Bool) (ix : Nat) (host : String) : Prop := jcls[ci]? = some (CN, T, N) ∧ ci ≠ 0 ∧ ci < 100 ∧ k < N ∧ (jlay ci)[k]? = some (f, b) ∧ (∀ w ∈ u_ws CN T N, w ∈ lw_all) ∧ Cond.fieldLinkNest own ix ref (T k).2.1 (T k).2.2.1 host ∈ lw_tbl ∧ (∀ x, s.fieldFound? (T k).1 (T k).2.1 (T k).2.2.1 = some x → s.fieldFound? ref (T k).2.1 (T k).2.2.1 = some x)
theorem sm_getIN (C : jCx p l e R s m args meth c cc own D dA lo cs0 nL z0 w0 zF wF dd) {ref CN host : String} {T : u_T} {N ci k f ix : Nat} (F : jFldN s own ref CN T N ci k f false ix host) (d : decode cc pc = .ok (.getfield ix, 3)) : ∀ ls st h, ogetI ci f (pc + 3) (jSim p l e R s m args below meth c D dA lo cs0 nL z0 w0 zF wF Q) Rf ls st h → jSim p l e R s m args below meth c D dA lo cs0 nL z0 w0 zF wF Q pc ls st h := by
  intro ls st h kz
  obtain ⟨f1, f2, f3, f4, f5, f6, f7, f8⟩ := F
  unfold ogetI at kz
  split at kz
  · obtain ⟨a, ea, hk, kt⟩ := onr_ex kz
    subst ea
    exact ⟨kt.1, fun a1 b1 n1 H locs mls r v w => z_getNw C f6 (jRep_obj r hk f2 f3) f1 f4 (va_any rfl (C.2.2.2.2.2.2.2.2.2.1.1 _ f7 rfl)) f8 (jfs_at f5) d (kt.2 a1 b1 n1 H locs mls r v w)⟩
  · exact kz.elim
theorem sm_getIM (C : jCx p l e R s m args meth c cc own D dA lo cs0 nL z0 w0 zF wF dd) {cs : List Nat} {f ix : Nat} (F : ∀ ci ∈ cs, ∃ (ref CN : String) (T : u_T) (N k : Nat), jFld s own ref CN T N ci k f false ix) (d : decode cc pc = .ok (.getfield ix, 3)) : ∀ ls st h, ogetIM cs f (pc + 3) (jSim p l e R s m args below meth c D dA lo cs0 nL z0 w0 zF wF Q) Rf ls st h → jSim p l e R s m args below meth c D dA lo cs0 nL z0 w0 zF wF Q pc ls st h := by
  intro ls st h kz
  unfold ogetIM at kz
  split at kz
  · obtain ⟨a, ea, hk, kt⟩ := onr_ex kz
    obtain ⟨ref, CN, T, N, k, F⟩ := F _ hk
    subst ea
    exact sm_getI (Rf := Rf) C F d ls _ h (by unfold ogetI; exact ⟨rfl, kt⟩)
  · exact kz.elim
theorem sm_putIM (C : jCx p l e R s m args meth c cc own D dA lo cs0 nL z0 w0 zF wF dd) {cs : List Nat} {f ix : Nat} (F : ∀ ci ∈ cs, ∃ (ref CN : String) (T : u_T) (N k : Nat) (ty0 : Nat → FieldType), jFld s own ref CN T N ci k f false ix ∧ (∀ k, k < N → parseFieldDescriptor (T k).2.2.1 = some (ty0 k)) ∧ (∀ a, a < N → ∀ b, b < N → a ≠ b → (T a).2.1 ≠ (T b).2.1) ∧ ((T k).2.2.2 = false ∨ ((T k).2.2.2 = true ∧ meth.name = "<init>" ∧ (T k).1 = own)) ∧ parseFieldDescriptor (T k).2.2.1 = some .int ∧ jU (jlay ci) f k = true ∧ ci ∉ [22, 23, 37, 38, 100, 104, 112]) (d : decode cc pc = .ok (.putfield ix, 3)) : ∀ ls st h, oputIM cs f (pc + 3) (jSim p l e R s m args below meth c D dA lo cs0 nL z0 w0 zF wF Q) Rf ls st h → jSim p l e R s m args below meth c D dA lo cs0 nL z0 w0 zF wF Q pc ls st h := by
  intro ls st h kz
  unfold oputIM at kz
  split at kz
  · obtain ⟨a, ea, hk, kt⟩ := onr_ex kz
    obtain ⟨ref, CN, T, N, k, ty0, F, hty, hnm, hfin, hd, hu, hcon⟩ := F _ hk
    subst ea
    exact sm_putI (Rf := Rf) C F ty0 hty hnm hfin hd hu hcon d ls _ h (by unfold oputI; exact ⟨rfl, kt⟩)
  · exact kz.elim
theorem sm_getPN (C : jCx p l e R s m args meth c cc own D dA lo cs0 nL z0 w0 zF wF dd) {ref CN host : String} {T : u_T} {N ci k f ix : Nat} (F : jFldN s own ref CN T N ci k f true ix host) (d : decode cc pc = .ok (.getfield ix, 3)) : ∀ ls st h, ogetP ci f (pc + 3) (jSim p l e R s m args below meth c D dA lo cs0 nL z0 w0 zF wF Q) Rf ls st h → jSim p l e R s m args below meth c D dA lo cs0 nL z0 w0 zF wF Q pc ls st h := by
  intro ls st h kz
  obtain ⟨f1, f2, f3, f4, f5, f6, f7, f8⟩ := F
  unfold ogetP at kz
  split at kz
  · obtain ⟨a, ea, hk, kt⟩ := onr_ex kz
    subst ea
    exact ⟨kt.1, fun a1 b1 n1 H locs mls r v w => z_getNw C f6 (jRep_obj r hk f2 f3) f1 f4 (va_any rfl (C.2.2.2.2.2.2.2.2.2.1.1 _ f7 rfl)) f8 (jfs_at f5) d (kt.2 a1 b1 n1 H locs mls r v w)⟩
  · exact kz.elim
theorem sm_getPM (C : jCx p l e R s m args meth c cc own D dA lo cs0 nL z0 w0 zF wF dd) {cs : List Nat} {f ix : Nat} (F : ∀ ci ∈ cs, ∃ (ref CN : String) (T : u_T) (N k : Nat), jFld s own ref CN T N ci k f true ix) (d : decode cc pc = .ok (.getfield ix, 3)) : ∀ ls st h, ogetPM cs f (pc + 3) (jSim p l e R s m args below meth c D dA lo cs0 nL z0 w0 zF wF Q) Rf ls st h → jSim p l e R s m args below meth c D dA lo cs0 nL z0 w0 zF wF Q pc ls st h := by
  intro ls st h kz
  unfold ogetPM at kz
  split at kz
  · obtain ⟨a, ea, hk, kt⟩ := onr_ex kz
    obtain ⟨ref, CN, T, N, k, F⟩ := F _ hk
    subst ea
    exact sm_getP (Rf := Rf) C F d ls _ h (by unfold ogetP; exact ⟨rfl, kt⟩)
  · exact kz.elim
theorem sm_putPM (C : jCx p l e R s m args meth c cc own D dA lo cs0 nL z0 w0 zF wF dd) {cs : List Nat} {f ix : Nat} (F : ∀ ci ∈ cs, ∃ (ref CN : String) (T : u_T) (N k : Nat) (ty0 : Nat → FieldType), jFld s own ref CN T N ci k f true ix ∧ (∀ k, k < N → parseFieldDescriptor (T k).2.2.1 = some (ty0 k)) ∧ (∀ a, a < N → ∀ b, b < N → a ≠ b → (T a).2.1 ≠ (T b).2.1) ∧ ((T k).2.2.2 = false ∨ ((T k).2.2.2 = true ∧ meth.name = "<init>" ∧ (T k).1 = own)) ∧ (∃ ty : FieldType, refKind ty = true ∧ parseFieldDescriptor (T k).2.2.1 = some ty) ∧ jU (jlay ci) f k = true ∧ ci ∉ [22, 23, 37, 38, 100, 104, 112]) (d : decode cc pc = .ok (.putfield ix, 3)) : ∀ ls st h, oputPM cs f (pc + 3) (jSim p l e R s m args below meth c D dA lo cs0 nL z0 w0 zF wF Q) Rf ls st h → jSim p l e R s m args below meth c D dA lo cs0 nL z0 w0 zF wF Q pc ls st h := by
  intro ls st h kz
  unfold oputPM at kz
  split at kz
  · obtain ⟨a, ea, hk, kt⟩ := onr_ex kz
    obtain ⟨ref, CN, T, N, k, ty0, F, hty, hnm, hfin, hd, hu, hcon⟩ := F _ hk
    subst ea
    obtain ⟨ty, h9, hd⟩ := hd
    exact sm_putP (Rf := Rf) C F ty0 hty hnm hfin h9 hd hu hcon d ls _ h (by unfold oputP; exact ⟨rfl, kt⟩)
  · exact kz.elim
theorem z_putN (C : jCx p l e R s m args meth c cc own D dA lo cs0 nL z0 w0 zF wF dd) {ref CN host : String} {T : u_T} {N ci index a : Nat} (hin : ∀ w ∈ u_ws CN T N, w ∈ lw_all) (ty0 : Nat → FieldType) (hty : ∀ k, k < N → parseFieldDescriptor (T k).2.2.1 = some (ty0 k)) (hnm : ∀ a, a < N → ∀ b, b < N → a ≠ b → (T a).2.1 ≠ (T b).2.1) {fs : List Value} (he : va_at D jcls (a, .inr (ci, fs)) H) (hc : jcls[ci]? = some (CN, T, N)) (k : Nat) (hk : k < N) (hlink : (Cond.fieldLinkNest own index ref (T k).2.1 (T k).2.2.1 host).before args s = true) (hsame : ∀ x, s.fieldFound? (T k).1 (T k).2.1 (T k).2.2.1 = some x → s.fieldFound? ref (T k).2.1 (T k).2.2.1 = some x) (hfin : (T k).2.2.2 = false) {ty : FieldType} {v : Value} (hd : parseFieldDescriptor (T k).2.2.1 = some ty) (hn : narrow ty v = v) (hfit : fits ty v = true) (hl : k < fs.length) (hdg : decode cc pc = .ok (.putfield index, 3))
    (kk : ∀ (H1 : Heap) (i : Nat), va_at D jcls (a, .inr (ci, fs.set k v)) H1 → H1.size = H.size → (∀ q : Nat, q ≠ a → H1[q]? = H[q]?) → (∀ c9 : Cell, H[a]? = some c9 → ∃ c8 : Cell, H1[a]? = some c8 ∧ c8.slots.size = c9.slots.size) → W p l e R s m args below meth c H1 (locs ++ [⟨a, i⟩]) cells slots Q (F0 m (pc + 3) mls rest)) : W p l e R s m args below meth c H locs cells slots Q (F0 m pc mls (v :: .ref a :: rest)) := by
  have hts : ∀ w ∈ lw_all, w.before args s = true := C.2.2.2.1
  have hK := C.2.2.2.2.2.2.2.2.1.1
  have hap := va_apart (own := own) hts hin ty0 hty hnm hK hc
  obtain ⟨r, h1, cell, q1, q2, q3, q4⟩ := he
  have hr : r = (CN, T, N) := Option.some.inj (h1.symm.trans hc)
  subst hr
  obtain ⟨hS, hfc, kC, hkC, hkind⟩ := hK.1 ci _ hc
  obtain ⟨cf, kf, fi, f, hi, hsl⟩ := hS k hk
  have hlay := hts _ (hin _ (u_in_lay hk))
  have hst := (u_facts hfc hkC (u_lays hts hin hk) hi).1
  unfold u_lay at hlay
  rw [if_neg (by rw [hfin]; decide)] at hlay
  have h6 := u_store hfc hkC hkind hlay hi hd hn hfit
  refine va_WputK C.1 C.2.1 (f := f) C.2.2.1 hlink (hsame _ hi) hst (by rw [q2]; exact h6) q1 q3 (by rw [hsl]; exact k2_hasslot (q4 k hk)) rfl rfl hdg fun H' e1 e2 e3 => ?_
  rw [hsl] at e1 ⊢
  exact kk H' _ ⟨_, hc, t_OB.to (V := updV (vp_V fs) k v) ⟨_, e1, q2, q3, t_set q4 hap hk v⟩ (fun j _ => vp_updV_set hl v j)⟩ e2 e3 (fun c9 hc9 => ⟨_, e1, by cases Option.some.inj (q1.symm.trans hc9); simp [Cell.setSlot]⟩)
theorem sm_putZN (C : jCx p l e R s m args meth c cc own D dA lo cs0 nL z0 w0 zF wF dd) {ref CN host : String} {T : u_T} {N ci k f ix : Nat} (F : jFldN s own ref CN T N ci k f false ix host) (ty0 : Nat → FieldType) (hty : ∀ k, k < N → parseFieldDescriptor (T k).2.2.1 = some (ty0 k)) (hnm : ∀ a, a < N → ∀ b, b < N → a ≠ b → (T a).2.1 ≠ (T b).2.1) (hfin : (T k).2.2.2 = false) (hd : parseFieldDescriptor (T k).2.2.1 = some .boolean) (hu : jU (jlay ci) f k = true) (hcon : ci ∉ [22, 23, 37, 38, 100, 104, 112]) (d : decode cc pc = .ok (.putfield ix, 3)) : ∀ ls st h, oputZ ci f (pc + 3) (jSim p l e R s m args below meth c D dA lo cs0 nL z0 w0 zF wF Q) Rf ls st h → jSim p l e R s m args below meth c D dA lo cs0 nL z0 w0 zF wF Q pc ls st h := by
  intro ls st h kz
  obtain ⟨f1, f2, f3, f4, f5, f6, f7, f8⟩ := F
  unfold oputZ at kz
  split at kz
  · obtain ⟨a, ea, hk, kt⟩ := onr_ex kz
    subst ea
    rename_i v0 _ _
    obtain ⟨hz, kt⟩ := kt
    have kt := kt _ rfl
    refine ⟨kt.1, fun a1 b1 n1 H locs mls r v w => ?_⟩
    refine z_putN C f6 ty0 hty hnm (jRep_objO r hk f2 f3 (jRep_own r hk f2 hcon (fun e => absurd e (by omega)))) f1 k f4 (va_any rfl (C.2.2.2.2.2.2.2.2.2.1.1 _ f7 rfl)) f8 hfin hd (by rcases hz with rfl | rfl <;> rfl) (by rcases hz with rfl | rfl <;> rfl) (by rw [jfs_len]; exact (List.getElem?_eq_some_iff.mp f5).1) d fun H1 i g1 g2 g3 g4 => ?_
    exact kt.2 a1 b1 n1 H1 _ mls (jRep_wI r hk f3 f5 (jU_spec hu) g2 g3 g1 g4) (v.put g2 g3 (jRep_own r hk f2 hcon (fun e => absurd e (by omega)))) w
  · exact kz.elim
theorem sm_putPN (C : jCx p l e R s m args meth c cc own D dA lo cs0 nL z0 w0 zF wF dd) {ref CN host : String} {T : u_T} {N ci k f ix : Nat} (F : jFldN s own ref CN T N ci k f true ix host) (ty0 : Nat → FieldType) (hty : ∀ k, k < N → parseFieldDescriptor (T k).2.2.1 = some (ty0 k)) (hnm : ∀ a, a < N → ∀ b, b < N → a ≠ b → (T a).2.1 ≠ (T b).2.1) (hfin : (T k).2.2.2 = false) {ty : FieldType} (hty9 : refKind ty = true) (hd : parseFieldDescriptor (T k).2.2.1 = some ty) (hu : jU (jlay ci) f k = true) (hcon : ci ∉ [22, 23, 37, 38, 100, 104, 112]) (d : decode cc pc = .ok (.putfield ix, 3)) : ∀ ls st h, oputP ci f (pc + 3) (jSim p l e R s m args below meth c D dA lo cs0 nL z0 w0 zF wF Q) Rf ls st h → jSim p l e R s m args below meth c D dA lo cs0 nL z0 w0 zF wF Q pc ls st h := by
  intro ls st h kz
  obtain ⟨f1, f2, f3, f4, f5, f6, f7, f8⟩ := F
  unfold oputP at kz
  split at kz
  · obtain ⟨a, ea, hk, kt⟩ := onr_ex kz
    subst ea
    rename_i v0 _ _
    have kt := kt _ rfl
    refine ⟨kt.1, fun a1 b1 n1 H locs mls r v w => ?_⟩
    refine z_putN C f6 ty0 hty hnm (jRep_objO r hk f2 f3 (jRep_own r hk f2 hcon (fun e => absurd e (by omega)))) f1 k f4 (va_any rfl (C.2.2.2.2.2.2.2.2.2.1.1 _ f7 rfl)) f8 hfin hd (jnar hty9 _) (jfit hty9 _) (by rw [jfs_len]; exact (List.getElem?_eq_some_iff.mp f5).1) d fun H1 i g1 g2 g3 g4 => ?_
    exact kt.2 a1 b1 n1 H1 _ mls (jRep_wP r hk f3 f5 (jU_spec hu) g2 g3 g1 g4) (v.put g2 g3 (jRep_own r hk f2 hcon (fun e => absurd e (by omega)))) w
  · exact kz.elim
theorem sm_ord (C : jCx p l e R s m args meth c cc own D dA lo cs0 nL z0 w0 zF wF dd) {ix : Nat} (q1 : Cond.fieldLink own ix "java/lang/Enum" "ordinal" "I" ∈ lw_all) (d : decode cc pc = .ok (.getfield ix, 3)) : ∀ ls st h, ogetI 38 151 (pc + 3) (jSim p l e R s m args below meth c D dA lo cs0 nL z0 w0 zF wF Q) Rf ls st h → jSim p l e R s m args below meth c D dA lo cs0 nL z0 w0 zF wF Q pc ls st h := by
  intro ls st h kz
  unfold ogetI at kz
  split at kz
  · obtain ⟨a, ea, hk, kt⟩ := onr_ex kz
    subst ea
    refine ⟨kt.1, fun a1 b1 n1 H locs mls rr v w => ?_⟩
    obtain ⟨r, cell, h1, q2, q3, q4, q5⟩ := jRep_obj rr hk (by decide) (by decide)
    have hr : r = ("java/lang/Object", jTE, 1) := Option.some.inj (h1.symm.trans rfl)
    subst hr
    obtain ⟨hS, hfc, kC, hkC, hkind⟩ := C.2.2.2.2.2.2.2.2.1.1.1 38 _ rfl
    obtain ⟨cf, kf, fi, f, hi, hsl⟩ := hS 0 (by decide)
    obtain ⟨cf2, kf2, fi2, f2, hi2, hst⟩ := C.2.2.2.2.2.2.2.2.2.1.2.2.2.1
    have e := hi.symm.trans hi2
    have ef : f = f2 := by injection e with e; injection e with e e2; injection e2 with e2 e3; injection e3
    subst ef
    refine W.getf C.1 C.2.1 C.2.2.1 (C.2.2.2.1 _ q1) hi hst q2 q4.2 (v := .int (jOI h 151 a)) ?_ rfl rfl d (kt.2 a1 b1 n1 H locs mls rr v w)
    rw [hsl, q5 0 (by decide)]
    rfl
  · exact kz.elim
end JS8
