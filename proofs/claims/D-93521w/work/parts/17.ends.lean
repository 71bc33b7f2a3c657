/-! ENDS, THROWS, CONSTANTS (own work) -/
section JS6
variable {p : Program} {l : Launch} {e : Env} {R : Room} {s : State} {m : MethodId} {args : Array Value} {below : List Frame} {meth : Method} {c : Code} {D : va_G} {dA : Nat → ClassId} {lo nL z0 w0 zF wF dd : Nat} {cs0 : Nat → Option Nat} {Q : State → Prop} {cc : ByteArray} {own : String} {pc : Nat} {Rf : jR} {H : Heap} {locs : List Loc} {cells slots : Nat} {mls : Array Slot} {rest : List Value} {rF : jA} {hF : jH}
/-- what stands at a body's end -/
def jQz (below : List Frame) (args : Array Value) (s : State) (D : va_G) (dA : Nat → ClassId) (lo : Nat) (cs0 : Nat → Option Nat) (z0 w0 zF wF : Nat) (Q : State → Prop) (rF : jA) (hF : jH) : Prop :=
  zF = jsz hF ∧ wF = jsl hF ∧ Q = zx_MQ below (jQn D dA lo cs0 rF hF) (jXC D dA lo cs0 rF hF) args s (jsz hF - z0) (jsl hF - w0) (fun q => lo ≤ q)
theorem sm_iret (C : jCx p l e R s m args meth c cc own D dA lo cs0 nL z0 w0 zF wF dd) (E : jQz below args s D dA lo cs0 z0 w0 zF wF Q rF hF) (hr : meth.sig.returnType = some .int) (d : decode cc pc = .ok (.ireturn, 1)) : ∀ ls st h, oretI (jSim p l e R s m args below meth c D dA lo cs0 nL z0 w0 zF wF Q) (fun r2 h2 => r2 = rF ∧ h2 = hF) ls st h → jSim p l e R s m args below meth c D dA lo cs0 nL z0 w0 zF wF Q pc ls st h := by
  intro ls st h k
  unfold oretI at k
  split at k
  · obtain ⟨k1, k2⟩ := k
    subst k1
    subst k2
    obtain ⟨e1, e2, e3⟩ := E
    refine ⟨⟨by omega, by omega⟩, fun a b n H locs mls r v w => ?_⟩
    rw [e3]
    exact zx_ret (W.iret C.1 C.2.1 hr (fun t ht hW => ⟨rfl, by rw [ht]; exact r, n.2, v.F ht⟩) v.2.2 d C.2.2.2.2.1)
  · exact k.elim
theorem sm_lret (C : jCx p l e R s m args meth c cc own D dA lo cs0 nL z0 w0 zF wF dd) (E : jQz below args s D dA lo cs0 z0 w0 zF wF Q rF hF) (hr : meth.sig.returnType = some .long) (d : decode cc pc = .ok (.lreturn, 1)) : ∀ ls st h, oretL (jSim p l e R s m args below meth c D dA lo cs0 nL z0 w0 zF wF Q) (fun r2 h2 => r2 = rF ∧ h2 = hF) ls st h → jSim p l e R s m args below meth c D dA lo cs0 nL z0 w0 zF wF Q pc ls st h := by
  intro ls st h k
  unfold oretL at k
  split at k
  · obtain ⟨k1, k2⟩ := k
    subst k1
    subst k2
    obtain ⟨e1, e2, e3⟩ := E
    refine ⟨⟨by omega, by omega⟩, fun a b n H locs mls r v w => ?_⟩
    rw [e3]
    exact zx_ret (W.lret C.1 C.2.1 hr (fun t ht hW => ⟨rfl, by rw [ht]; exact r, n.2, v.F ht⟩) v.2.2 d C.2.2.2.2.1)
  · exact k.elim
theorem sm_dret (C : jCx p l e R s m args meth c cc own D dA lo cs0 nL z0 w0 zF wF dd) (E : jQz below args s D dA lo cs0 z0 w0 zF wF Q rF hF) (hr : meth.sig.returnType = some .double) (d : decode cc pc = .ok (.dreturn, 1)) : ∀ ls st h, oretD (jSim p l e R s m args below meth c D dA lo cs0 nL z0 w0 zF wF Q) (fun r2 h2 => r2 = rF ∧ h2 = hF) ls st h → jSim p l e R s m args below meth c D dA lo cs0 nL z0 w0 zF wF Q pc ls st h := by
  intro ls st h k
  unfold oretD at k
  split at k
  · obtain ⟨k1, k2⟩ := k
    subst k1
    subst k2
    obtain ⟨e1, e2, e3⟩ := E
    refine ⟨⟨by omega, by omega⟩, fun a b n H locs mls r v w => ?_⟩
    rw [e3]
    exact zx_ret (W.dret C.1 C.2.1 hr (fun t ht hW => ⟨rfl, by rw [ht]; exact r, n.2, v.F ht⟩) v.2.2 d C.2.2.2.2.1)
  · exact k.elim
theorem sm_fret (C : jCx p l e R s m args meth c cc own D dA lo cs0 nL z0 w0 zF wF dd) (E : jQz below args s D dA lo cs0 z0 w0 zF wF Q rF hF) (hr : meth.sig.returnType = some .float) (d : decode cc pc = .ok (.freturn, 1)) : ∀ ls st h, oretF (jSim p l e R s m args below meth c D dA lo cs0 nL z0 w0 zF wF Q) (fun r2 h2 => r2 = rF ∧ h2 = hF) ls st h → jSim p l e R s m args below meth c D dA lo cs0 nL z0 w0 zF wF Q pc ls st h := by
  intro ls st h k
  unfold oretF at k
  split at k
  · obtain ⟨k1, k2⟩ := k
    subst k1
    subst k2
    obtain ⟨e1, e2, e3⟩ := E
    refine ⟨⟨by omega, by omega⟩, fun a b n H locs mls r v w => ?_⟩
    rw [e3]
    exact zx_ret (W.fret C.1 C.2.1 hr (fun t ht hW => ⟨rfl, by rw [ht]; exact r, n.2, v.F ht⟩) v.2.2 d C.2.2.2.2.1)
  · exact k.elim
theorem sm_zret (C : jCx p l e R s m args meth c cc own D dA lo cs0 nL z0 w0 zF wF dd) (E : jQz below args s D dA lo cs0 z0 w0 zF wF Q rF hF) (hr : meth.sig.returnType = some .boolean) (d : decode cc pc = .ok (.ireturn, 1)) : ∀ ls st h, oretZ (jSim p l e R s m args below meth c D dA lo cs0 nL z0 w0 zF wF Q) (fun r2 h2 => r2 = rF ∧ h2 = hF) ls st h → jSim p l e R s m args below meth c D dA lo cs0 nL z0 w0 zF wF Q pc ls st h := by
  intro ls st h k
  unfold oretZ at k
  split at k
  · obtain ⟨hz, k1, k2⟩ := k
    subst k1
    subst k2
    obtain ⟨e1, e2, e3⟩ := E
    refine ⟨⟨by omega, by omega⟩, fun a b n H locs mls r v w => ?_⟩
    rw [e3]
    exact zx_ret (W.zret C.1 C.2.1 hr (by rcases hz with rfl | rfl <;> rfl) (fun t ht hW => ⟨rfl, by rw [ht]; exact r, n.2, v.F ht⟩) v.2.2 d C.2.2.2.2.1)
  · exact k.elim
theorem sm_tret (C : jCx p l e R s m args meth c cc own D dA lo cs0 nL z0 w0 zF wF dd) {ty : FieldType} (E : jQz below args s D dA lo cs0 z0 w0 zF wF Q rF hF) (hr : meth.sig.returnType = some ty) (d : decode cc pc = .ok (.ireturn, 1)) : ∀ ls st h, oretT ty (jSim p l e R s m args below meth c D dA lo cs0 nL z0 w0 zF wF Q) (fun r2 h2 => r2 = rF ∧ h2 = hF) ls st h → jSim p l e R s m args below meth c D dA lo cs0 nL z0 w0 zF wF Q pc ls st h := by
  intro ls st h k
  unfold oretT at k
  split at k
  · obtain ⟨hz, k1, k2⟩ := k
    subst k1
    subst k2
    obtain ⟨e1, e2, e3⟩ := E
    refine ⟨⟨by omega, by omega⟩, fun a b n H locs mls r v w => ?_⟩
    rw [e3]
    exact zx_ret (W.zret C.1 C.2.1 hr hz (fun t ht hW => ⟨rfl, by rw [ht]; exact r, n.2, v.F ht⟩) v.2.2 d C.2.2.2.2.1)
  · exact k.elim
theorem sm_aret (C : jCx p l e R s m args meth c cc own D dA lo cs0 nL z0 w0 zF wF dd) {rt : FieldType} (E : jQz below args s D dA lo cs0 z0 w0 zF wF Q rF hF) (hr : meth.sig.returnType = some rt) (hrt : (∃ n, rt = .object n) ∨ ∃ t, rt = .array t) (d : decode cc pc = .ok (.areturn, 1)) : ∀ ls st h, oretP (jSim p l e R s m args below meth c D dA lo cs0 nL z0 w0 zF wF Q) (fun r2 h2 => r2 = rF ∧ h2 = hF) ls st h → jSim p l e R s m args below meth c D dA lo cs0 nL z0 w0 zF wF Q pc ls st h := by
  intro ls st h k
  unfold oretP at k
  split at k
  · rename_i v0
    obtain ⟨k1, k2⟩ := k
    subst k1
    subst k2
    obtain ⟨e1, e2, e3⟩ := E
    refine ⟨⟨by omega, by omega⟩, fun a b n H locs mls r v w => ?_⟩
    rw [e3]
    exact zx_ret (W.aret (v := va_rf v0) C.1 C.2.1 hr hrt (by cases v0 <;> first | exact Or.inl rfl | exact Or.inr ⟨_, rfl⟩) (fun t ht hW => ⟨rfl, by rw [ht]; exact r, n.2, v.F ht⟩) v.2.2 d C.2.2.2.2.1)
  · exact k.elim
theorem sm_vret (C : jCx p l e R s m args meth c cc own D dA lo cs0 nL z0 w0 zF wF dd) (E : jQz below args s D dA lo cs0 z0 w0 zF wF Q rF hF) (hr : meth.sig.returnType = none) (d : decode cc pc = .ok (.return_, 1)) : ∀ ls st h, oretV (jSim p l e R s m args below meth c D dA lo cs0 nL z0 w0 zF wF Q) (fun r2 h2 => r2 = rF ∧ h2 = hF) ls st h → jSim p l e R s m args below meth c D dA lo cs0 nL z0 w0 zF wF Q pc ls st h := by
  intro ls st h k
  unfold oretV at k
  split at k
  · obtain ⟨k1, k2⟩ := k
    subst k1
    subst k2
    obtain ⟨e1, e2, e3⟩ := E
    refine ⟨⟨by omega, by omega⟩, fun a b n H locs mls r v w => ?_⟩
    rw [e3]
    exact zx_ret (W.vret C.1 C.2.1 hr (fun t ht hW => ⟨rfl, by rw [ht]; exact r, n.2, v.F ht⟩) v.2.2 d C.2.2.2.2.1)
  · exact k.elim
/-- thrown out of the body -/
theorem z_out (C : jCx p l e R s m args meth c cc own D dA lo cs0 nL z0 w0 zF wF dd) (E : jQz below args s D dA lo cs0 z0 w0 zF wF Q rF hF) (hout : ∀ x ∈ c.exceptionTable.toList, covers x pc = false) {ls : List (Option jV)} {rs : List jV} {a : Nat} {h : jH} (k : (Sum.inr a : jA) = rF ∧ h = hF) : jSimX p l e R s m args below meth c D dA lo cs0 nL z0 w0 zF wF Q pc ls rs a h := by
  obtain ⟨k1, k2⟩ := k
  subst k1
  subst k2
  obtain ⟨e1, e2, e3⟩ := E
  refine ⟨⟨by omega, by omega⟩, fun a1 b n hx H locs mls r v w cf => ?_⟩
  obtain ⟨r9, ce, c1, c2, c3, c4⟩ := cf
  rw [e3]
  exact zx_out hout C.2.2.2.2.1 c2 c3 c4 (fun t ht hW => ⟨rfl, by rw [ht]; exact r, n.2, v.F ht, r9, c1, rfl, hx⟩) v.2.2 (Nat.le_refl _) (Nat.le_refl _)
/-- a handler's row takes the kinds ks -/
def jHm (s : State) (own : String) (ct : Nat) (ks : List Nat) : Prop := if ct = 0 then ∀ k, jexk k → k ∈ ks else ∃ nm : String, Cond.classLink own ct nm ∈ lw_all ∧ ∀ (k : Nat) (r9 : vw_C), jexk k → jcls[k]? = some r9 → (k ∈ ks → Cond.castable r9.1 nm ∈ lw_tbl) ∧ (¬ k ∈ ks → va_Nc r9.1 nm s)
def jHok (s : State) (own : String) (pc : Nat) : List (Nat × Nat × Nat × Nat) → List (Nat × List Nat) → Prop
  | [], hs => hs = []
  | x :: r, hs => if x.1 ≤ pc ∧ pc < x.2.1 then ∃ ks hs2, hs = (x.2.2.1, ks) :: hs2 ∧ jHm s own x.2.2.2 ks ∧ (x.2.2.2 = 0 ∨ jHok s own pc r hs2) else jHok s own pc r hs
theorem z_hand (C : jCx p l e R s m args meth c cc own D dA lo cs0 nL z0 w0 zF wF dd) (E : jQz below args s D dA lo cs0 z0 w0 zF wF Q rF hF) {hh : List (Nat × Nat × Nat × Nat)} (ht : c.exceptionTable.toList = tableOf hh) {ls : List (Option jV)} {rs : List jV} {a : Nat} {h : jH} (ha : jexk (jkd h a)) : ∀ (sf pre : List (Nat × Nat × Nat × Nat)) (hs : List (Nat × List Nat)), hh = pre ++ sf → (∀ z ∈ tableOf pre, covers z pc = false ∨ (z.catchType ≠ 0 ∧ ∀ r9 : vw_C, jcls[jkd h a]? = some r9 → ∃ nm : String, (Cond.classLink own z.catchType nm).before args s = true ∧ va_Nc r9.1 nm s)) → jHok s own pc sf hs → jth hs (jSim p l e R s m args below meth c D dA lo cs0 nL z0 w0 zF wF Q) (fun r2 h2 => r2 = rF ∧ h2 = hF) ls a h → jSimX p l e R s m args below meth c D dA lo cs0 nL z0 w0 zF wF Q pc ls rs a h := by
  intro sf
  induction sf with
  | nil =>
    intro pre hs hp hpass hk k
    cases hk
    obtain ⟨k1, k2⟩ := k
    subst k1
    subst k2
    obtain ⟨e1, e2, e3⟩ := E
    refine ⟨⟨by omega, by omega⟩, fun a1 b n hx H locs mls r v w cf => ?_⟩
    obtain ⟨r9, ce, c1, c2, c3, c4⟩ := cf
    rw [e3]
    refine zx_outP C.2.2.1 C.2.2.2.2.1 ?_ c2 c3 c4 (fun t ht hW => ⟨rfl, by rw [ht]; exact r, n.2, v.F ht, r9, c1, rfl, hx⟩) v.2.2 (Nat.le_refl _) (Nat.le_refl _)
    rw [ht, hp, List.append_nil]
    intro z hz
    rcases hpass z hz with q | ⟨q1, q2⟩
    · exact Or.inl q
    · exact Or.inr ⟨q1, q2 r9 c1⟩
  | cons x sf ih =>
    intro pre hs hp hpass hk k
    have hcov : covers (⟨x.1, x.2.1, x.2.2.1, x.2.2.2⟩ : ExceptionTableEntry) pc = (decide (x.1 ≤ pc) && decide (pc < x.2.1)) := rfl
    have htab : tableOf hh = tableOf pre ++ (⟨x.1, x.2.1, x.2.2.1, x.2.2.2⟩ : ExceptionTableEntry) :: tableOf sf := by rw [hp]; simp [tableOf]
    unfold jHok at hk
    split at hk
    · rename_i hin
      obtain ⟨ks, hs2, rfl, hm, hrest⟩ := hk
      have hc1 : covers (⟨x.1, x.2.1, x.2.2.1, x.2.2.2⟩ : ExceptionTableEntry) pc = true := by rw [hcov]; simp [hin]
      unfold jHm at hm
      by_cases hz : x.2.2.2 = 0
      · rw [if_pos hz] at hm
        have kk := k.1 (hm _ ha)
        refine ⟨kk.1, fun a1 b n hx H locs mls r v w cf => ?_⟩
        obtain ⟨r9, ce, c1, c2, c3, c4⟩ := cf
        exact zx_catch0 C.2.2.1 (tableOf pre) ⟨x.1, x.2.1, x.2.2.1, x.2.2.2⟩ (tableOf sf) (ht.trans htab) (fun z hz => (hpass z hz).imp id fun q => ⟨q.1, q.2 r9 c1⟩) hc1 hz c2 c3 c4 (kk.2 a1 b n H locs mls r v w)
      · rw [if_neg hz] at hm
        obtain ⟨nm, q1, q2⟩ := hm
        by_cases hin2 : jkd h a ∈ ks
        · have kk := k.1 hin2
          refine ⟨kk.1, fun a1 b n hx H locs mls r v w cf => ?_⟩
          obtain ⟨r9, ce, c1, c2, c3, c4⟩ := cf
          exact vx_catch C.2.2.1 (tableOf pre) ⟨x.1, x.2.1, x.2.2.1, x.2.2.2⟩ (tableOf sf) (ht.trans htab) (fun z hz => (hpass z hz).imp id fun q => ⟨q.1, q.2 r9 c1⟩) hc1 hz (C.2.2.2.1 _ q1) (va_any rfl (C.2.2.2.2.2.2.2.2.2.1.1 _ ((q2 _ r9 ha c1).1 hin2) rfl)) c2 c3 c4 (kk.2 a1 b n H locs mls r v w)
        · refine ih (pre ++ [x]) hs2 (by rw [hp]; simp) ?_ (hrest.resolve_left hz) (k.2 hin2)
          intro z hz2
          have : z ∈ tableOf pre ∨ z = (⟨x.1, x.2.1, x.2.2.1, x.2.2.2⟩ : ExceptionTableEntry) := by simpa [tableOf] using hz2
          rcases this with q | q
          · exact hpass z q
          · subst q
            exact Or.inr ⟨hz, fun r9 c1 => ⟨nm, C.2.2.2.1 _ q1, (q2 _ r9 ha c1).2 hin2⟩⟩
    · rename_i hin
      refine ih (pre ++ [x]) hs (by rw [hp]; simp) ?_ hk k
      intro z hz2
      have : z ∈ tableOf pre ∨ z = (⟨x.1, x.2.1, x.2.2.1, x.2.2.2⟩ : ExceptionTableEntry) := by simpa [tableOf] using hz2
      rcases this with q | q
      · exact hpass z q
      · subst q
        refine Or.inl ?_
        rw [hcov]
        simp only [Bool.and_eq_false_iff, decide_eq_false_iff_not]
        omega
theorem sm_throw (C : jCx p l e R s m args meth c cc own D dA lo cs0 nL z0 w0 zF wF dd) {hs : List (Nat × List Nat)} (K : ∀ (ls : List (Option jV)) (rs : List jV) (a : Nat) (h : jH), jexk (jkd h a) → jth hs (jSim p l e R s m args below meth c D dA lo cs0 nL z0 w0 zF wF Q) Rf ls a h → jSimX p l e R s m args below meth c D dA lo cs0 nL z0 w0 zF wF Q pc ls rs a h) (d : decode cc pc = .ok (.athrow, 1)) : ∀ ls st h, othrow hs (jSim p l e R s m args below meth c D dA lo cs0 nL z0 w0 zF wF Q) Rf ls st h → jSim p l e R s m args below meth c D dA lo cs0 nL z0 w0 zF wF Q pc ls st h := by
  intro ls st h k
  unfold othrow at k
  split at k
  · rename_i rs0
    obtain ⟨a, ea, hx, kt⟩ := onr_ex k
    subst ea
    have kk := K ls rs0 a h hx kt
    refine ⟨kk.1, fun a1 b n H locs mls r v w => ?_⟩
    refine vx_athrow C.1 C.2.1 d (kk.2 a1 b n hx H locs mls r v w ?_)
    have hk0 : jkd h a ≠ 0 ∧ jkd h a < 100 ∧ jkd h a ∉ [22, 23, 37, 38, 100, 104, 112] ∧ jkd h a ≠ 107 := by
      have h9 : ∀ k, jexk k → k ≠ 0 ∧ k < 100 ∧ k ∉ [22, 23, 37, 38, 100, 104, 112] ∧ k ≠ 107 := by unfold jexk; decide
      exact h9 _ hx
    obtain ⟨r8, hc8, cell, g1, g2, g3, -⟩ := jRep_objO r rfl hk0.1 hk0.2.1 (jRep_own r rfl hk0.1 hk0.2.2.1 (fun e => absurd e hk0.2.2.2))
    exact ⟨r8, cell, hc8, g1, g3, by rw [g2]; exact (C.2.2.2.2.2.2.2.2.1.1.1 _ _ hc8).2.1⟩
  · exact k.elim
theorem sm_switch (C : jCx p l e R s m args meth c cc own D dA lo cs0 nL z0 w0 zF wF dd) {cs : List (Int32 × Nat)} {df lo9 hi : Int} {offs : Array Int} {ln dt : Nat} (hd : (pc : Int) + df = (dt : Int)) (hin : ∀ q ∈ cs, ¬ q.1.toInt < lo9 ∧ ¬ hi < q.1.toInt ∧ ∃ off : Int, offs[(q.1.toInt - lo9).toNat]? = some off ∧ (pc : Int) + off = (q.2 : Int)) (hall : ∀ x : Int32, (∀ q ∈ cs, ¬ x = q.1) → x.toInt < lo9 ∨ hi < x.toInt) (d : decode cc pc = .ok (.tableswitch df lo9 hi offs, ln)) : ∀ ls st h, osw cs dt (jSim p l e R s m args below meth c D dA lo cs0 nL z0 w0 zF wF Q) Rf ls st h → jSim p l e R s m args below meth c D dA lo cs0 nL z0 w0 zF wF Q pc ls st h := by
  intro ls st h k
  unfold osw at k
  split at k
  · rename_i x rs
    have key : ∀ (sf pre : List (Int32 × Nat)), cs = pre ++ sf → (∀ q ∈ pre, ¬ x = q.1) → jsw x (fun t => jSim p l e R s m args below meth c D dA lo cs0 nL z0 w0 zF wF Q t ls rs h) dt sf → jSim p l e R s m args below meth c D dA lo cs0 nL z0 w0 zF wF Q pc ls (.inl x :: rs) h := by
      intro sf
      induction sf with
      | nil =>
        intro pre hp hpre k
        exact ⟨k.1, fun a b n H locs mls r v w => lv_tableOut C.1 C.2.1 d (hall x fun q hq => hpre q (by rw [hp, List.append_nil] at hq; exact hq)) hd (k.2 a b n H locs mls r v w)⟩
      | cons q sf ih =>
        intro pre hp hpre k
        by_cases e : x = q.1
        · have kk := k.1 e
          obtain ⟨i1, i2, off, i3, i4⟩ := hin q (by rw [hp]; simp)
          rw [← e] at i1 i2 i3
          exact ⟨kk.1, fun a b n H locs mls r v w => lv_tableIn C.1 C.2.1 d i1 i2 i3 i4 (kk.2 a b n H locs mls r v w)⟩
        · exact ih (pre ++ [q]) (by rw [hp]; simp) (fun z hz => by
            rcases List.mem_append.mp hz with y | y
            · exact hpre z y
            · rw [List.mem_singleton.mp y]; exact e) (k.2 e)
    exact key cs [] rfl (fun _ q => by cases q) k
  · exact k.elim
theorem sm_cstS (C : jCx p l e R s m args meth c cc own D dA lo cs0 nL z0 w0 zF wF dd) {k ix : Nat} {CN n dsc : String} (hm : (k, CN, n, dsc) ∈ jstl) (q1 : Cond.fieldLink own ix CN n dsc ∈ lw_all) (d : decode cc pc = .ok (.getstatic ix, 3)) : ∀ ls st h, ocst k (pc + 3) (jSim p l e R s m args below meth c D dA lo cs0 nL z0 w0 zF wF Q) Rf ls st h → jSim p l e R s m args below meth c D dA lo cs0 nL z0 w0 zF wF Q pc ls st h := by
  intro ls st h kt
  unfold ocst at kt
  refine ⟨kt.1, fun a1 b1 n1 H locs mls r v w => ?_⟩
  have kk := kt.2 a1 b1 n1 H locs mls r v w
  have hz := C.2.2.2.2.2.2.2.2.2.2.1.1 _ hm
  rw [n1.2] at kk
  exact va_gets C.1 C.2.1 hz v C.2.2.1 (C.2.2.2.1 _ q1) (fun _ h9 => h9) d kk
theorem sm_cstSN (C : jCx p l e R s m args meth c cc own D dA lo cs0 nL z0 w0 zF wF dd) {k ix : Nat} {CN n dsc host : String} (hm : (k, CN, n, dsc) ∈ jstl) (q1 : Cond.fieldLinkNest own ix CN n dsc host ∈ lw_tbl) (d : decode cc pc = .ok (.getstatic ix, 3)) : ∀ ls st h, ocst k (pc + 3) (jSim p l e R s m args below meth c D dA lo cs0 nL z0 w0 zF wF Q) Rf ls st h → jSim p l e R s m args below meth c D dA lo cs0 nL z0 w0 zF wF Q pc ls st h := by
  intro ls st h kt
  unfold ocst at kt
  refine ⟨kt.1, fun a1 b1 n1 H locs mls r v w => ?_⟩
  have kk := kt.2 a1 b1 n1 H locs mls r v w
  have hz := C.2.2.2.2.2.2.2.2.2.2.1.1 _ hm
  rw [n1.2] at kk
  exact va_getsN C.1 C.2.1 hz v C.2.2.1 (va_any rfl (C.2.2.2.2.2.2.2.2.2.1.1 _ q1 rfl)) (fun _ h9 => h9) d kk
theorem sm_getsI (C : jCx p l e R s m args meth c cc own D dA lo cs0 nL z0 w0 zF wF dd) {ix : Nat} {CN n dsc : String} {x : Int32} (hm : (CN, n, dsc, x) ∈ jsti) (q1 : Cond.fieldLink own ix CN n dsc ∈ lw_all) (d : decode cc pc = .ok (.getstatic ix, 3)) : ∀ ls st h, okc (jI x) (pc + 3) (jSim p l e R s m args below meth c D dA lo cs0 nL z0 w0 zF wF Q) Rf ls st h → jSim p l e R s m args below meth c D dA lo cs0 nL z0 w0 zF wF Q pc ls st h := by
  intro ls st h kt
  unfold okc at kt
  refine ⟨kt.1, fun a1 b1 n1 H locs mls r v w => ?_⟩
  exact va_gets C.1 C.2.1 (C.2.2.2.2.2.2.2.2.2.2.1.2.1 _ hm) v C.2.2.1 (C.2.2.2.1 _ q1) (fun _ h9 => h9) d (kt.2 a1 b1 n1 H locs mls r v w)
theorem sm_cstT (C : jCx p l e R s m args meth c cc own D dA lo cs0 nL z0 w0 zF wF dd) (ho : own = "PointerAnalyzer$Reader") (d : decode cc pc = .ok (.ldc 45, 2)) : ∀ ls st h, ocst 11 (pc + 2) (jSim p l e R s m args below meth c D dA lo cs0 nL z0 w0 zF wF Q) Rf ls st h → jSim p l e R s m args below meth c D dA lo cs0 nL z0 w0 zF wF Q pc ls st h := by
  intro ls st h kt
  unfold ocst at kt
  subst ho
  refine ⟨kt.1, fun a1 b1 n1 H locs mls r v w => ?_⟩
  have kk := kt.2 a1 b1 n1 H locs mls r v w
  obtain ⟨t, t1, t2⟩ := C.2.2.2.2.2.2.2.2.2.2.1.2.2.1
  rw [n1.2, t1] at kk
  exact va_ldcS C.1 C.2.1 C.2.2.1 t2 d kk
theorem sm_cstM (C : jCx p l e R s m args meth c cc own D dA lo cs0 nL z0 w0 zF wF dd) {k ix : Nat} {CN : String} (hm : (k, CN) ∈ jmir) (q1 : Cond.classLink own ix CN ∈ lw_all) (d : decode cc pc = .ok (.ldc ix, 2)) : ∀ ls st h, ocst k (pc + 2) (jSim p l e R s m args below meth c D dA lo cs0 nL z0 w0 zF wF Q) Rf ls st h → jSim p l e R s m args below meth c D dA lo cs0 nL z0 w0 zF wF Q pc ls st h := by
  intro ls st h kt
  unfold ocst at kt
  refine ⟨kt.1, fun a1 b1 n1 H locs mls r v w => ?_⟩
  have kk := kt.2 a1 b1 n1 H locs mls r v w
  obtain ⟨t, t1, t2⟩ := C.2.2.2.2.2.2.2.2.2.2.1.2.2.2.1 _ hm
  rw [n1.2, t1] at kk
  exact va_ldcM C.1 C.2.1 C.2.2.1 (C.2.2.2.1 _ q1) t2 d kk
theorem sm_obj (C : jCx p l e R s m args meth c cc own D dA lo cs0 nL z0 w0 zF wF dd) {ix : Nat} (q1 : Cond.methodLink own ix Lib.objectInit ∈ lw_all) (q2 : Cond.instanceMethod Lib.objectInit ∈ lw_all) (q3 : Cond.code Lib.objectInit ⟨#[0xb1]⟩ 1 none ∈ lw_all) (d : decode cc pc = .ok (.invokespecial ix, 3)) : ∀ ls st h, oobj (pc + 3) (jSim p l e R s m args below meth c D dA lo cs0 nL z0 w0 zF wF Q) Rf ls st h → jSim p l e R s m args below meth c D dA lo cs0 nL z0 w0 zF wF Q pc ls st h := by
  intro ls st h k
  unfold oobj at k
  split at k
  · obtain ⟨g, k⟩ := jgd_ex k
    obtain ⟨a, ea, kt⟩ := onr_ex k
    subst ea
    refine ⟨kt.1, fun a1 b1 n1 H locs mls r v w => ?_⟩
    have hfr := C.2.2.2.2.2.2.2.2.2.2.2.1
    have hlo := C.2.2.2.2.2.2.2.2.2.2.2.2
    have hg := Nat.le_of_ble_eq_true g
    have hts : ∀ w ∈ lw_all, w.before args s = true := C.2.2.2.1
    refine W.objInit C.1 C.2.1 C.2.2.1 (hts _ q1) (hts _ q2) (hts _ q3) rfl (by rw [C.2.2.2.2.2.1]; exact w.1) rfl d ?_ ?_ (kt.2 a1 b1 n1 H locs mls r v w)
    · have : jfrm (dd + 1) = dd + 17 := rfl
      omega
    · show 2 * 0 + _ + 12 ≤ R.locals
      rw [jws_sum]
      have : jloc (dd + 1) = 64 * (dd + 1) + 600 := rfl
      omega
  · exact k.elim
end JS6
