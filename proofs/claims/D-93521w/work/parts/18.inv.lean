/-! CALLS AS OPERATIONS (own work) -/
/-- what is asked where something is thrown -/
def jHX (o : Option (List (Nat × List Nat))) (K : jK) (R : jR) (ls : List (Option jV)) (a : Nat) (h : jH) : Prop := match o with
  | none => False
  | some hs => jth hs K R ls a h
def jGo (E : jE) (y n nx : Nat) (K : jK) (KX : Nat → jH → Prop) (ls : List (Option jV)) (st : List jV) (h : jH) : Prop :=
  ∃ r h1, E y (st.take n).reverse h r h1 ∧ (∀ v, r = .inl v → K nx ls (v.toList ++ st.drop n) h1) ∧ (∀ a, r = .inr a → jexk (jkd h1 a) ∧ KX a h1)
def jIs (f : jOp) (E : jE) (P : jH → List jV → Prop) (y n nx : Nat) (o : Option (List (Nat × List Nat))) : Prop := ∀ K R ls st h, f K R ls st h → (n ≤ st.length ∧ jws (st.drop n) ≤ 8) ∧ P h (st.take n).reverse ∧ jGo E y n nx K (jHX o K R ls) ls st h
theorem jwd_ok {n : Nat} {st : List jV} (h : jwd n st = true) : n ≤ st.length ∧ jws (st.drop n) ≤ 8 := by
  unfold jwd at h
  split at h
  · rename_i g
    exact ⟨Nat.le_of_ble_eq_true g, Nat.le_of_ble_eq_true h⟩
  · cases h
theorem jGoI {E : jE} {y n nx : Nat} {K : jK} {KX : Nat → jH → Prop} {ls : List (Option jV)} {st : List jV} {h : jH} (k : jcI E y (st.take n).reverse h (fun x h1 => K nx ls (.inl x :: st.drop n) h1)) : jGo E y n nx K KX ls st h := by
  obtain ⟨x, h1, e, kk⟩ := k
  refine ⟨.inl (some (.inl x)), h1, e, fun v hv => ?_, fun a ha => (by cases ha)⟩
  cases hv
  exact kk
theorem jGoL {E : jE} {y n nx : Nat} {K : jK} {KX : Nat → jH → Prop} {ls : List (Option jV)} {st : List jV} {h : jH} (k : jcL E y (st.take n).reverse h (fun x h1 => K nx ls (jL x :: st.drop n) h1)) : jGo E y n nx K KX ls st h := by
  obtain ⟨x, h1, e, kk⟩ := k
  refine ⟨.inl (some (jL x)), h1, e, fun v hv => ?_, fun a ha => (by cases ha)⟩
  cases hv
  exact kk
theorem jGoP {E : jE} {y n nx : Nat} {K : jK} {KX : Nat → jH → Prop} {ls : List (Option jV)} {st : List jV} {h : jH} (k : jcP E y (st.take n).reverse h (fun x h1 => K nx ls (jP x :: st.drop n) h1)) : jGo E y n nx K KX ls st h := by
  obtain ⟨x, h1, e, kk⟩ := k
  refine ⟨.inl (some (jP x)), h1, e, fun v hv => ?_, fun a ha => (by cases ha)⟩
  cases hv
  exact kk
theorem jGoD {E : jE} {y n nx : Nat} {K : jK} {KX : Nat → jH → Prop} {ls : List (Option jV)} {st : List jV} {h : jH} (k : jcD E y (st.take n).reverse h (fun x h1 => K nx ls (jD x :: st.drop n) h1)) : jGo E y n nx K KX ls st h := by
  obtain ⟨x, h1, e, kk⟩ := k
  refine ⟨.inl (some (jD x)), h1, e, fun v hv => ?_, fun a ha => (by cases ha)⟩
  cases hv
  exact kk
theorem jGoF {E : jE} {y n nx : Nat} {K : jK} {KX : Nat → jH → Prop} {ls : List (Option jV)} {st : List jV} {h : jH} (k : jcF E y (st.take n).reverse h (fun x h1 => K nx ls (jF x :: st.drop n) h1)) : jGo E y n nx K KX ls st h := by
  obtain ⟨x, h1, e, kk⟩ := k
  refine ⟨.inl (some (jF x)), h1, e, fun v hv => ?_, fun a ha => (by cases ha)⟩
  cases hv
  exact kk
theorem jGoV {E : jE} {y n nx : Nat} {K : jK} {KX : Nat → jH → Prop} {ls : List (Option jV)} {st : List jV} {h : jH} (k : jcV E y (st.take n).reverse h (fun h1 => K nx ls (st.drop n) h1)) : jGo E y n nx K KX ls st h := by
  obtain ⟨h1, e, kk⟩ := k
  refine ⟨.inl (none), h1, e, fun v hv => ?_, fun a ha => (by cases ha)⟩
  cases hv
  exact kk
theorem jGoX {E : jE} {y n nx : Nat} {K : jK} {KX : Nat → jH → Prop} {ls : List (Option jV)} {st : List jV} {h : jH} (k : jcX E y (st.take n).reverse h KX) : jGo E y n nx K KX ls st h := by
  obtain ⟨a, h1, e, k1, k2⟩ := k
  refine ⟨.inr a, h1, e, fun v hv => (by cases hv), fun b hb => ?_⟩
  cases hb
  exact ⟨k1, k2⟩
theorem isSI {E : jE} {y n nx : Nat} : jIs (ocallSI E y n nx) E (fun _ _ => True) y n nx none := by
  intro K R ls st h H
  obtain ⟨g, H⟩ := jgd_ex H
  exact ⟨jwd_ok g, trivial, jGoI H⟩
theorem isXSI {E : jE} {y n nx : Nat} {hs : List (Nat × List Nat)} : jIs (ocallXSI E y n nx hs) E (fun _ _ => True) y n nx (some hs) := by
  intro K R ls st h H
  obtain ⟨g, H⟩ := jgd_ex H
  rcases H with H | H
  · exact ⟨jwd_ok g, trivial, jGoI H⟩
  · exact ⟨jwd_ok g, trivial, jGoX H⟩
theorem isSL {E : jE} {y n nx : Nat} : jIs (ocallSL E y n nx) E (fun _ _ => True) y n nx none := by
  intro K R ls st h H
  obtain ⟨g, H⟩ := jgd_ex H
  exact ⟨jwd_ok g, trivial, jGoL H⟩
theorem isXSL {E : jE} {y n nx : Nat} {hs : List (Nat × List Nat)} : jIs (ocallXSL E y n nx hs) E (fun _ _ => True) y n nx (some hs) := by
  intro K R ls st h H
  obtain ⟨g, H⟩ := jgd_ex H
  rcases H with H | H
  · exact ⟨jwd_ok g, trivial, jGoL H⟩
  · exact ⟨jwd_ok g, trivial, jGoX H⟩
theorem isSP {E : jE} {y n nx : Nat} : jIs (ocallSP E y n nx) E (fun _ _ => True) y n nx none := by
  intro K R ls st h H
  obtain ⟨g, H⟩ := jgd_ex H
  exact ⟨jwd_ok g, trivial, jGoP H⟩
theorem isXSP {E : jE} {y n nx : Nat} {hs : List (Nat × List Nat)} : jIs (ocallXSP E y n nx hs) E (fun _ _ => True) y n nx (some hs) := by
  intro K R ls st h H
  obtain ⟨g, H⟩ := jgd_ex H
  rcases H with H | H
  · exact ⟨jwd_ok g, trivial, jGoP H⟩
  · exact ⟨jwd_ok g, trivial, jGoX H⟩
theorem isSD {E : jE} {y n nx : Nat} : jIs (ocallSD E y n nx) E (fun _ _ => True) y n nx none := by
  intro K R ls st h H
  obtain ⟨g, H⟩ := jgd_ex H
  exact ⟨jwd_ok g, trivial, jGoD H⟩
theorem isXSD {E : jE} {y n nx : Nat} {hs : List (Nat × List Nat)} : jIs (ocallXSD E y n nx hs) E (fun _ _ => True) y n nx (some hs) := by
  intro K R ls st h H
  obtain ⟨g, H⟩ := jgd_ex H
  rcases H with H | H
  · exact ⟨jwd_ok g, trivial, jGoD H⟩
  · exact ⟨jwd_ok g, trivial, jGoX H⟩
theorem isSF {E : jE} {y n nx : Nat} : jIs (ocallSF E y n nx) E (fun _ _ => True) y n nx none := by
  intro K R ls st h H
  obtain ⟨g, H⟩ := jgd_ex H
  exact ⟨jwd_ok g, trivial, jGoF H⟩
theorem isXSF {E : jE} {y n nx : Nat} {hs : List (Nat × List Nat)} : jIs (ocallXSF E y n nx hs) E (fun _ _ => True) y n nx (some hs) := by
  intro K R ls st h H
  obtain ⟨g, H⟩ := jgd_ex H
  rcases H with H | H
  · exact ⟨jwd_ok g, trivial, jGoF H⟩
  · exact ⟨jwd_ok g, trivial, jGoX H⟩
theorem isSV {E : jE} {y n nx : Nat} : jIs (ocallSV E y n nx) E (fun _ _ => True) y n nx none := by
  intro K R ls st h H
  obtain ⟨g, H⟩ := jgd_ex H
  exact ⟨jwd_ok g, trivial, jGoV H⟩
theorem isXSV {E : jE} {y n nx : Nat} {hs : List (Nat × List Nat)} : jIs (ocallXSV E y n nx hs) E (fun _ _ => True) y n nx (some hs) := by
  intro K R ls st h H
  obtain ⟨g, H⟩ := jgd_ex H
  rcases H with H | H
  · exact ⟨jwd_ok g, trivial, jGoV H⟩
  · exact ⟨jwd_ok g, trivial, jGoX H⟩
theorem isNI {E : jE} {y n nx : Nat} : jIs (ocallNI E y n nx) E (fun _ av => jrn av) y n nx none := by
  intro K R ls st h H
  obtain ⟨g, H⟩ := jgd_ex H
  obtain ⟨q, H⟩ := H
  exact ⟨jwd_ok g, q, jGoI H⟩
theorem isXNI {E : jE} {y n nx : Nat} {hs : List (Nat × List Nat)} : jIs (ocallXNI E y n nx hs) E (fun _ av => jrn av) y n nx (some hs) := by
  intro K R ls st h H
  obtain ⟨g, H⟩ := jgd_ex H
  obtain ⟨q, H⟩ := H
  rcases H with H | H
  · exact ⟨jwd_ok g, q, jGoI H⟩
  · exact ⟨jwd_ok g, q, jGoX H⟩
theorem isNL {E : jE} {y n nx : Nat} : jIs (ocallNL E y n nx) E (fun _ av => jrn av) y n nx none := by
  intro K R ls st h H
  obtain ⟨g, H⟩ := jgd_ex H
  obtain ⟨q, H⟩ := H
  exact ⟨jwd_ok g, q, jGoL H⟩
theorem isXNL {E : jE} {y n nx : Nat} {hs : List (Nat × List Nat)} : jIs (ocallXNL E y n nx hs) E (fun _ av => jrn av) y n nx (some hs) := by
  intro K R ls st h H
  obtain ⟨g, H⟩ := jgd_ex H
  obtain ⟨q, H⟩ := H
  rcases H with H | H
  · exact ⟨jwd_ok g, q, jGoL H⟩
  · exact ⟨jwd_ok g, q, jGoX H⟩
theorem isNP {E : jE} {y n nx : Nat} : jIs (ocallNP E y n nx) E (fun _ av => jrn av) y n nx none := by
  intro K R ls st h H
  obtain ⟨g, H⟩ := jgd_ex H
  obtain ⟨q, H⟩ := H
  exact ⟨jwd_ok g, q, jGoP H⟩
theorem isXNP {E : jE} {y n nx : Nat} {hs : List (Nat × List Nat)} : jIs (ocallXNP E y n nx hs) E (fun _ av => jrn av) y n nx (some hs) := by
  intro K R ls st h H
  obtain ⟨g, H⟩ := jgd_ex H
  obtain ⟨q, H⟩ := H
  rcases H with H | H
  · exact ⟨jwd_ok g, q, jGoP H⟩
  · exact ⟨jwd_ok g, q, jGoX H⟩
theorem isND {E : jE} {y n nx : Nat} : jIs (ocallND E y n nx) E (fun _ av => jrn av) y n nx none := by
  intro K R ls st h H
  obtain ⟨g, H⟩ := jgd_ex H
  obtain ⟨q, H⟩ := H
  exact ⟨jwd_ok g, q, jGoD H⟩
theorem isXND {E : jE} {y n nx : Nat} {hs : List (Nat × List Nat)} : jIs (ocallXND E y n nx hs) E (fun _ av => jrn av) y n nx (some hs) := by
  intro K R ls st h H
  obtain ⟨g, H⟩ := jgd_ex H
  obtain ⟨q, H⟩ := H
  rcases H with H | H
  · exact ⟨jwd_ok g, q, jGoD H⟩
  · exact ⟨jwd_ok g, q, jGoX H⟩
theorem isNF {E : jE} {y n nx : Nat} : jIs (ocallNF E y n nx) E (fun _ av => jrn av) y n nx none := by
  intro K R ls st h H
  obtain ⟨g, H⟩ := jgd_ex H
  obtain ⟨q, H⟩ := H
  exact ⟨jwd_ok g, q, jGoF H⟩
theorem isXNF {E : jE} {y n nx : Nat} {hs : List (Nat × List Nat)} : jIs (ocallXNF E y n nx hs) E (fun _ av => jrn av) y n nx (some hs) := by
  intro K R ls st h H
  obtain ⟨g, H⟩ := jgd_ex H
  obtain ⟨q, H⟩ := H
  rcases H with H | H
  · exact ⟨jwd_ok g, q, jGoF H⟩
  · exact ⟨jwd_ok g, q, jGoX H⟩
theorem isNV {E : jE} {y n nx : Nat} : jIs (ocallNV E y n nx) E (fun _ av => jrn av) y n nx none := by
  intro K R ls st h H
  obtain ⟨g, H⟩ := jgd_ex H
  obtain ⟨q, H⟩ := H
  exact ⟨jwd_ok g, q, jGoV H⟩
theorem isXNV {E : jE} {y n nx : Nat} {hs : List (Nat × List Nat)} : jIs (ocallXNV E y n nx hs) E (fun _ av => jrn av) y n nx (some hs) := by
  intro K R ls st h H
  obtain ⟨g, H⟩ := jgd_ex H
  obtain ⟨q, H⟩ := H
  rcases H with H | H
  · exact ⟨jwd_ok g, q, jGoV H⟩
  · exact ⟨jwd_ok g, q, jGoX H⟩
theorem isRI {E : jE} {k : Nat} {y n nx : Nat} : jIs (ocallRI E k y n nx) E (fun h av => jrk k h av) y n nx none := by
  intro K R ls st h H
  obtain ⟨g, H⟩ := jgd_ex H
  obtain ⟨q, H⟩ := H
  exact ⟨jwd_ok g, q, jGoI H⟩
theorem isXRI {E : jE} {k : Nat} {y n nx : Nat} {hs : List (Nat × List Nat)} : jIs (ocallXRI E k y n nx hs) E (fun h av => jrk k h av) y n nx (some hs) := by
  intro K R ls st h H
  obtain ⟨g, H⟩ := jgd_ex H
  obtain ⟨q, H⟩ := H
  rcases H with H | H
  · exact ⟨jwd_ok g, q, jGoI H⟩
  · exact ⟨jwd_ok g, q, jGoX H⟩
theorem isRL {E : jE} {k : Nat} {y n nx : Nat} : jIs (ocallRL E k y n nx) E (fun h av => jrk k h av) y n nx none := by
  intro K R ls st h H
  obtain ⟨g, H⟩ := jgd_ex H
  obtain ⟨q, H⟩ := H
  exact ⟨jwd_ok g, q, jGoL H⟩
theorem isXRL {E : jE} {k : Nat} {y n nx : Nat} {hs : List (Nat × List Nat)} : jIs (ocallXRL E k y n nx hs) E (fun h av => jrk k h av) y n nx (some hs) := by
  intro K R ls st h H
  obtain ⟨g, H⟩ := jgd_ex H
  obtain ⟨q, H⟩ := H
  rcases H with H | H
  · exact ⟨jwd_ok g, q, jGoL H⟩
  · exact ⟨jwd_ok g, q, jGoX H⟩
theorem isRP {E : jE} {k : Nat} {y n nx : Nat} : jIs (ocallRP E k y n nx) E (fun h av => jrk k h av) y n nx none := by
  intro K R ls st h H
  obtain ⟨g, H⟩ := jgd_ex H
  obtain ⟨q, H⟩ := H
  exact ⟨jwd_ok g, q, jGoP H⟩
theorem isXRP {E : jE} {k : Nat} {y n nx : Nat} {hs : List (Nat × List Nat)} : jIs (ocallXRP E k y n nx hs) E (fun h av => jrk k h av) y n nx (some hs) := by
  intro K R ls st h H
  obtain ⟨g, H⟩ := jgd_ex H
  obtain ⟨q, H⟩ := H
  rcases H with H | H
  · exact ⟨jwd_ok g, q, jGoP H⟩
  · exact ⟨jwd_ok g, q, jGoX H⟩
theorem isRD {E : jE} {k : Nat} {y n nx : Nat} : jIs (ocallRD E k y n nx) E (fun h av => jrk k h av) y n nx none := by
  intro K R ls st h H
  obtain ⟨g, H⟩ := jgd_ex H
  obtain ⟨q, H⟩ := H
  exact ⟨jwd_ok g, q, jGoD H⟩
theorem isXRD {E : jE} {k : Nat} {y n nx : Nat} {hs : List (Nat × List Nat)} : jIs (ocallXRD E k y n nx hs) E (fun h av => jrk k h av) y n nx (some hs) := by
  intro K R ls st h H
  obtain ⟨g, H⟩ := jgd_ex H
  obtain ⟨q, H⟩ := H
  rcases H with H | H
  · exact ⟨jwd_ok g, q, jGoD H⟩
  · exact ⟨jwd_ok g, q, jGoX H⟩
theorem isRF {E : jE} {k : Nat} {y n nx : Nat} : jIs (ocallRF E k y n nx) E (fun h av => jrk k h av) y n nx none := by
  intro K R ls st h H
  obtain ⟨g, H⟩ := jgd_ex H
  obtain ⟨q, H⟩ := H
  exact ⟨jwd_ok g, q, jGoF H⟩
theorem isXRF {E : jE} {k : Nat} {y n nx : Nat} {hs : List (Nat × List Nat)} : jIs (ocallXRF E k y n nx hs) E (fun h av => jrk k h av) y n nx (some hs) := by
  intro K R ls st h H
  obtain ⟨g, H⟩ := jgd_ex H
  obtain ⟨q, H⟩ := H
  rcases H with H | H
  · exact ⟨jwd_ok g, q, jGoF H⟩
  · exact ⟨jwd_ok g, q, jGoX H⟩
theorem isRV {E : jE} {k : Nat} {y n nx : Nat} : jIs (ocallRV E k y n nx) E (fun h av => jrk k h av) y n nx none := by
  intro K R ls st h H
  obtain ⟨g, H⟩ := jgd_ex H
  obtain ⟨q, H⟩ := H
  exact ⟨jwd_ok g, q, jGoV H⟩
theorem isXRV {E : jE} {k : Nat} {y n nx : Nat} {hs : List (Nat × List Nat)} : jIs (ocallXRV E k y n nx hs) E (fun h av => jrk k h av) y n nx (some hs) := by
  intro K R ls st h H
  obtain ⟨g, H⟩ := jgd_ex H
  obtain ⟨q, H⟩ := H
  rcases H with H | H
  · exact ⟨jwd_ok g, q, jGoV H⟩
  · exact ⟨jwd_ok g, q, jGoX H⟩
/-- a method's contracts for every run of the small machine at depth d -/
def jMe (l : Launch) (D : va_G) (dA : Nat → ClassId) (lo : Nat) (cs0 : Nat → Option Nat) (E : jE) (n : Nat) (y : MethodName) (ws : List Cond) (d : Nat) : Prop :=
  ∀ av h r h1, E n av h r h1 → (jsz h ≤ jsz h1 ∧ jsl h ≤ jsl h1) ∧ jMet l D dA lo cs0 y ws d av h r h1
def jHo (s : State) (own : String) (pc : Nat) (hh : List (Nat × Nat × Nat × Nat)) (o : Option (List (Nat × List Nat))) : Prop := match o with
  | none => True
  | some hs => jHok s own pc hh hs
/-- what stands all through a body, for one run of it -/
def jBd (p : Program) (l : Launch) (e : Env) (R : Room) (s : State) (m : MethodId) (args : Array Value) (below : List Frame) (meth : Method) (c : Code) (cc : ByteArray) (own : String) (D : va_G) (dA : Nat → ClassId) (lo : Nat) (cs0 : Nat → Option Nat) (nL z0 w0 zF wF dd : Nat) (Q : State → Prop) (rF : jA) (hF : jH) (hh : List (Nat × Nat × Nat × Nat)) : Prop :=
  jCx p l e R s m args meth c cc own D dA lo cs0 nL z0 w0 zF wF dd ∧ jQz below args s D dA lo cs0 z0 w0 zF wF Q rF hF ∧ c.exceptionTable.toList = tableOf hh ∧ lo ≤ z0
section JS7
variable {p : Program} {l : Launch} {e : Env} {R : Room} {s : State} {m : MethodId} {args : Array Value} {below : List Frame} {meth : Method} {c : Code} {D : va_G} {dA : Nat → ClassId} {lo nL z0 w0 zF wF dd : Nat} {cs0 : Nat → Option Nat} {Q : State → Prop} {cc : ByteArray} {own : String} {pc : Nat} {Rf : jR} {H : Heap} {locs : List Loc} {cells slots : Nat} {mls : Array Slot} {rest : List Value} {rF : jA} {hF : jH}
variable {E : jE} {f : jOp} {yi n : Nat} {ox : Option (List (Nat × List Nat))} {hh : List (Nat × Nat × Nat × Nat)}
theorem z_kx (B : jBd p l e R s m args below meth c cc own D dA lo cs0 nL z0 w0 zF wF dd Q rF hF hh) (hH : jHo s own pc hh ox) {ls : List (Option jV)} {rs : List jV} {a : Nat} {h : jH} (ha : jexk (jkd h a)) (k : jHX ox (jSim p l e R s m args below meth c D dA lo cs0 nL z0 w0 zF wF Q) (fun r2 h2 => r2 = rF ∧ h2 = hF) ls a h) : jSimX p l e R s m args below meth c D dA lo cs0 nL z0 w0 zF wF Q pc ls rs a h := by
  cases ox with
  | none => exact k.elim
  | some hs => exact z_hand B.1 B.2.1 B.2.2.1 ha hh [] hs rfl (by intro z hz; cases hz) hH k
theorem z_st {st : List jV} {n : Nat} : st = ((st.take n).reverse).reverse ++ st.drop n := by rw [List.reverse_reverse, List.take_append_drop]
theorem z_rn {av : List jV} (k : jrn av) : ∃ b r, av = jP (some b) :: r := by
  unfold jrn at k
  split at k
  · rename_i o r
    cases o with
    | none => exact k.elim
    | some b => exact ⟨b, r, rfl⟩
  · exact k.elim
theorem z_rk {k : Nat} {h : jH} {av : List jV} (q : jrk k h av) : ∃ b r, av = jP (some b) :: r ∧ jkd h b = k := by
  unfold jrk at q
  split at q
  · rename_i o r
    cases o with
    | none => exact q.elim
    | some b => exact ⟨b, r, rfl, q⟩
  · exact q.elim
theorem z_len {st : List jV} {n : Nat} (h : n ≤ st.length) {b : Nat} {r : List jV} (e : (st.take n).reverse = jP (some b) :: r) : r.length + 1 = n := by
  have := congrArg List.length e
  rw [List.length_reverse, List.length_take, Nat.min_eq_left h] at this
  exact this.symm
theorem z_st2 {st : List jV} {n : Nat} {b : Nat} {r : List jV} (e : (st.take n).reverse = jP (some b) :: r) : st = r.reverse ++ jP (some b) :: st.drop n := by
  have h1 : st = ((st.take n).reverse).reverse ++ st.drop n := z_st
  rw [e] at h1
  have h2 : (jP (some b) :: r).reverse ++ st.drop n = r.reverse ++ jP (some b) :: st.drop n := by simp
  exact h1.trans h2
theorem sm_cS {x : MethodName} {r9 : vw_C} {host owner : String} {y : MethodName} {bytes : ByteArray} {maxL ix : Nat} {ret : Option FieldType} (hf : jIs f E (fun _ _ => True) yi n (pc + 3) ox) (hE : jMe l D dA lo cs0 E yi y (ws_ y bytes maxL ret) dd) (B : jBd p l e R s m args below meth c cc own D dA lo cs0 nL z0 w0 zF wF dd Q rF hF hh) (q1 : Cond.methodLink own ix y ∈ lw_all) (q2 : Cond.static y ∈ lw_all) (q4 : Cond.code y bytes maxL ret ∈ lw_all) (q6 : Cond.initialized y.cls ∈ lw_all) (hL : maxL ≤ 45) (hy : y.cls ≠ "java/lang/invoke/MethodHandle" ∧ y.cls ≠ "java/lang/invoke/VarHandle") (hlen : (parseMethodDescriptor y.desc).map (fun q => q.parameters.length) = some n) (d : decode cc pc = .ok (.invokestatic ix, 3)) (hH : jHo s own pc hh ox) : ∀ ls st h, f (jSim p l e R s m args below meth c D dA lo cs0 nL z0 w0 zF wF Q) (fun r2 h2 => r2 = rF ∧ h2 = hF) ls st h → jSim p l e R s m args below meth c D dA lo cs0 nL z0 w0 zF wF Q pc ls st h := by
  intro ls st h k
  obtain ⟨⟨g1, g2⟩, gP, r, h1, e1, k1, k2⟩ := hf _ _ _ _ _ k
  obtain ⟨hs, hM⟩ := hE _ _ _ _ e1
  rw [z_st (st := st) (n := n)]
  exact z_callS B.1 (z_pay B.1 hM hL q4 q6) q1 q2 q6 q4 hy (by rw [hlen, List.length_reverse, List.length_take, Nat.min_eq_left g1]) g2 d hs B.2.2.2 (fun a ha => (z_kx (rs := []) B hH (k2 a ha).1 (k2 a ha).2).1) k1 (fun a ha hx => z_kx B hH hx (k2 a ha).2)
theorem sm_cSW {x : MethodName} {r9 : vw_C} {host owner : String} {y : MethodName} {bytes : ByteArray} {maxL ix : Nat} {ret : Option FieldType} {gg : List (Nat × Nat × Nat × Nat)} (hf : jIs f E (fun _ _ => True) yi n (pc + 3) ox) (hE : jMe l D dA lo cs0 E yi y (wsW_ y bytes maxL ret gg) dd) (B : jBd p l e R s m args below meth c cc own D dA lo cs0 nL z0 w0 zF wF dd Q rF hF hh) (q1 : Cond.methodLink own ix y ∈ lw_all) (q2 : Cond.static y ∈ lw_all) (q4 : Cond.codeWith y bytes maxL ret gg ∈ lw_all) (q6 : Cond.initialized y.cls ∈ lw_all) (hL : maxL ≤ 45) (hy : y.cls ≠ "java/lang/invoke/MethodHandle" ∧ y.cls ≠ "java/lang/invoke/VarHandle") (hlen : (parseMethodDescriptor y.desc).map (fun q => q.parameters.length) = some n) (d : decode cc pc = .ok (.invokestatic ix, 3)) (hH : jHo s own pc hh ox) : ∀ ls st h, f (jSim p l e R s m args below meth c D dA lo cs0 nL z0 w0 zF wF Q) (fun r2 h2 => r2 = rF ∧ h2 = hF) ls st h → jSim p l e R s m args below meth c D dA lo cs0 nL z0 w0 zF wF Q pc ls st h := by
  intro ls st h k
  obtain ⟨⟨g1, g2⟩, gP, r, h1, e1, k1, k2⟩ := hf _ _ _ _ _ k
  obtain ⟨hs, hM⟩ := hE _ _ _ _ e1
  rw [z_st (st := st) (n := n)]
  exact z_callSW B.1 (z_payW B.1 hM hL q4 q6) q1 q2 q6 q4 hy (by rw [hlen, List.length_reverse, List.length_take, Nat.min_eq_left g1]) g2 d hs B.2.2.2 (fun a ha => (z_kx (rs := []) B hH (k2 a ha).1 (k2 a ha).2).1) k1 (fun a ha hx => z_kx B hH hx (k2 a ha).2)
theorem sm_cSN {x : MethodName} {r9 : vw_C} {host owner : String} {y : MethodName} {bytes : ByteArray} {maxL ix : Nat} {ret : Option FieldType} (hf : jIs f E (fun _ _ => True) yi n (pc + 3) ox) (hE : jMe l D dA lo cs0 E yi y (ws_ y bytes maxL ret) dd) (B : jBd p l e R s m args below meth c cc own D dA lo cs0 nL z0 w0 zF wF dd Q rF hF hh) (q1 : Cond.methodLinkNest own ix y host ∈ lw_tbl) (q2 : Cond.static y ∈ lw_all) (q4 : Cond.code y bytes maxL ret ∈ lw_all) (q6 : Cond.initialized y.cls ∈ lw_all) (hL : maxL ≤ 45) (hy : y.cls ≠ "java/lang/invoke/MethodHandle" ∧ y.cls ≠ "java/lang/invoke/VarHandle") (hlen : (parseMethodDescriptor y.desc).map (fun q => q.parameters.length) = some n) (d : decode cc pc = .ok (.invokestatic ix, 3)) (hH : jHo s own pc hh ox) : ∀ ls st h, f (jSim p l e R s m args below meth c D dA lo cs0 nL z0 w0 zF wF Q) (fun r2 h2 => r2 = rF ∧ h2 = hF) ls st h → jSim p l e R s m args below meth c D dA lo cs0 nL z0 w0 zF wF Q pc ls st h := by
  intro ls st h k
  obtain ⟨⟨g1, g2⟩, gP, r, h1, e1, k1, k2⟩ := hf _ _ _ _ _ k
  obtain ⟨hs, hM⟩ := hE _ _ _ _ e1
  rw [z_st (st := st) (n := n)]
  exact z_callSN B.1 (z_pay B.1 hM hL q4 q6) q1 q2 q6 q4 hy (by rw [hlen, List.length_reverse, List.length_take, Nat.min_eq_left g1]) g2 d hs B.2.2.2 (fun a ha => (z_kx (rs := []) B hH (k2 a ha).1 (k2 a ha).2).1) k1 (fun a ha hx => z_kx B hH hx (k2 a ha).2)
theorem sm_cV {x : MethodName} {r9 : vw_C} {host owner : String} {y : MethodName} {bytes : ByteArray} {maxL ix k : Nat} {ret : Option FieldType} (hf : jIs f E (fun h av => jrk k h av) yi n (pc + 3) ox) (hE : jMe l D dA lo cs0 E yi y (ws_ y bytes maxL ret) dd) (B : jBd p l e R s m args below meth c cc own D dA lo cs0 nL z0 w0 zF wF dd Q rF hF hh) (q1 : Cond.methodLink own ix y ∈ lw_all) (q2 : Cond.instanceMethod y ∈ lw_all) (q3 : Cond.selects r9.1 y y ∈ lw_all) (q4 : Cond.code y bytes maxL ret ∈ lw_all) (q6 : Cond.initialized y.cls ∈ lw_all) (hL : maxL ≤ 45) (hk0 : k ≠ 0) (hk9 : k < 100) (hr9 : jcls[k]? = some r9) (hy : y.cls ≠ "java/lang/invoke/MethodHandle" ∧ y.cls ≠ "java/lang/invoke/VarHandle") (hlen : (parseMethodDescriptor y.desc).map (fun q => q.parameters.length) = some (n - 1)) (d : decode cc pc = .ok (.invokevirtual ix, 3)) (hH : jHo s own pc hh ox) : ∀ ls st h, f (jSim p l e R s m args below meth c D dA lo cs0 nL z0 w0 zF wF Q) (fun r2 h2 => r2 = rF ∧ h2 = hF) ls st h → jSim p l e R s m args below meth c D dA lo cs0 nL z0 w0 zF wF Q pc ls st h := by
  intro ls st h k
  obtain ⟨⟨g1, g2⟩, gP, r, h1, e1, k1, k2⟩ := hf _ _ _ _ _ k
  obtain ⟨hs, hM⟩ := hE _ _ _ _ e1
  obtain ⟨b, av, ea, hk⟩ := z_rk gP
  have hl := z_len g1 ea
  rw [ea] at hM
  have es := z_st2 ea
  suffices G : jSim p l e R s m args below meth c D dA lo cs0 nL z0 w0 zF wF Q pc ls (av.reverse ++ jP (some b) :: st.drop n) h by rw [← es] at G; exact G
  exact z_callV B.1 (z_pay B.1 hM hL q4 q6) hk hk0 hk9 hr9 q1 q2 q3 q4 hy (by rw [hlen]; congr 1; omega) g2 d hs B.2.2.2 (fun a ha => (z_kx (rs := []) B hH (k2 a ha).1 (k2 a ha).2).1) k1 (fun a ha hx => z_kx B hH hx (k2 a ha).2)
theorem sm_cVW {x : MethodName} {r9 : vw_C} {host owner : String} {y : MethodName} {bytes : ByteArray} {maxL ix k : Nat} {ret : Option FieldType} {gg : List (Nat × Nat × Nat × Nat)} (hf : jIs f E (fun h av => jrk k h av) yi n (pc + 3) ox) (hE : jMe l D dA lo cs0 E yi y (wsW_ y bytes maxL ret gg) dd) (B : jBd p l e R s m args below meth c cc own D dA lo cs0 nL z0 w0 zF wF dd Q rF hF hh) (q1 : Cond.methodLink own ix y ∈ lw_all) (q2 : Cond.instanceMethod y ∈ lw_all) (q3 : Cond.selects r9.1 y y ∈ lw_all) (q4 : Cond.codeWith y bytes maxL ret gg ∈ lw_all) (q6 : Cond.initialized y.cls ∈ lw_all) (hL : maxL ≤ 45) (hk0 : k ≠ 0) (hk9 : k < 100) (hr9 : jcls[k]? = some r9) (hy : y.cls ≠ "java/lang/invoke/MethodHandle" ∧ y.cls ≠ "java/lang/invoke/VarHandle") (hlen : (parseMethodDescriptor y.desc).map (fun q => q.parameters.length) = some (n - 1)) (d : decode cc pc = .ok (.invokevirtual ix, 3)) (hH : jHo s own pc hh ox) : ∀ ls st h, f (jSim p l e R s m args below meth c D dA lo cs0 nL z0 w0 zF wF Q) (fun r2 h2 => r2 = rF ∧ h2 = hF) ls st h → jSim p l e R s m args below meth c D dA lo cs0 nL z0 w0 zF wF Q pc ls st h := by
  intro ls st h k
  obtain ⟨⟨g1, g2⟩, gP, r, h1, e1, k1, k2⟩ := hf _ _ _ _ _ k
  obtain ⟨hs, hM⟩ := hE _ _ _ _ e1
  obtain ⟨b, av, ea, hk⟩ := z_rk gP
  have hl := z_len g1 ea
  rw [ea] at hM
  have es := z_st2 ea
  suffices G : jSim p l e R s m args below meth c D dA lo cs0 nL z0 w0 zF wF Q pc ls (av.reverse ++ jP (some b) :: st.drop n) h by rw [← es] at G; exact G
  exact z_callVW B.1 (z_payW B.1 hM hL q4 q6) hk hk0 hk9 hr9 q1 q2 q3 q4 hy (by rw [hlen]; congr 1; omega) g2 d hs B.2.2.2 (fun a ha => (z_kx (rs := []) B hH (k2 a ha).1 (k2 a ha).2).1) k1 (fun a ha hx => z_kx B hH hx (k2 a ha).2)
theorem sm_cVN {x : MethodName} {r9 : vw_C} {host owner : String} {y : MethodName} {bytes : ByteArray} {maxL ix k : Nat} {ret : Option FieldType} (hf : jIs f E (fun h av => jrk k h av) yi n (pc + 3) ox) (hE : jMe l D dA lo cs0 E yi y (ws_ y bytes maxL ret) dd) (B : jBd p l e R s m args below meth c cc own D dA lo cs0 nL z0 w0 zF wF dd Q rF hF hh) (q1 : Cond.methodLinkNest own ix y host ∈ lw_tbl) (q2 : Cond.instanceMethod y ∈ lw_all) (q3 : Cond.selects r9.1 y y ∈ lw_all) (q4 : Cond.code y bytes maxL ret ∈ lw_all) (q6 : Cond.initialized y.cls ∈ lw_all) (hL : maxL ≤ 45) (hk0 : k ≠ 0) (hk9 : k < 100) (hr9 : jcls[k]? = some r9) (hy : y.cls ≠ "java/lang/invoke/MethodHandle" ∧ y.cls ≠ "java/lang/invoke/VarHandle") (hlen : (parseMethodDescriptor y.desc).map (fun q => q.parameters.length) = some (n - 1)) (d : decode cc pc = .ok (.invokevirtual ix, 3)) (hH : jHo s own pc hh ox) : ∀ ls st h, f (jSim p l e R s m args below meth c D dA lo cs0 nL z0 w0 zF wF Q) (fun r2 h2 => r2 = rF ∧ h2 = hF) ls st h → jSim p l e R s m args below meth c D dA lo cs0 nL z0 w0 zF wF Q pc ls st h := by
  intro ls st h k
  obtain ⟨⟨g1, g2⟩, gP, r, h1, e1, k1, k2⟩ := hf _ _ _ _ _ k
  obtain ⟨hs, hM⟩ := hE _ _ _ _ e1
  obtain ⟨b, av, ea, hk⟩ := z_rk gP
  have hl := z_len g1 ea
  rw [ea] at hM
  have es := z_st2 ea
  suffices G : jSim p l e R s m args below meth c D dA lo cs0 nL z0 w0 zF wF Q pc ls (av.reverse ++ jP (some b) :: st.drop n) h by rw [← es] at G; exact G
  exact z_callVN B.1 (z_pay B.1 hM hL q4 q6) hk hk0 hk9 hr9 q1 q2 q3 q4 hy (by rw [hlen]; congr 1; omega) g2 d hs B.2.2.2 (fun a ha => (z_kx (rs := []) B hH (k2 a ha).1 (k2 a ha).2).1) k1 (fun a ha hx => z_kx B hH hx (k2 a ha).2)
theorem sm_cI {x : MethodName} {r9 : vw_C} {host owner : String} {y : MethodName} {bytes : ByteArray} {maxL ix : Nat} (hf : jIs f E (fun _ av => jrn av) yi n (pc + 3) ox) (hE : jMe l D dA lo cs0 E yi y (ws_ y bytes maxL none) dd) (B : jBd p l e R s m args below meth c cc own D dA lo cs0 nL z0 w0 zF wF dd Q rF hF hh) (q1 : Cond.methodLink own ix y ∈ lw_all) (q2 : Cond.instanceMethod y ∈ lw_all) (q4 : Cond.code y bytes maxL none ∈ lw_all) (q6 : Cond.initialized y.cls ∈ lw_all) (hL : maxL ≤ 45) (hyi : y.name = "<init>") (hy : y.cls ≠ "java/lang/invoke/MethodHandle" ∧ y.cls ≠ "java/lang/invoke/VarHandle") (hlen : (parseMethodDescriptor y.desc).map (fun q => q.parameters.length) = some (n - 1)) (d : decode cc pc = .ok (.invokespecial ix, 3)) (hH : jHo s own pc hh ox) : ∀ ls st h, f (jSim p l e R s m args below meth c D dA lo cs0 nL z0 w0 zF wF Q) (fun r2 h2 => r2 = rF ∧ h2 = hF) ls st h → jSim p l e R s m args below meth c D dA lo cs0 nL z0 w0 zF wF Q pc ls st h := by
  intro ls st h k
  obtain ⟨⟨g1, g2⟩, gP, r, h1, e1, k1, k2⟩ := hf _ _ _ _ _ k
  obtain ⟨hs, hM⟩ := hE _ _ _ _ e1
  obtain ⟨b, av, ea⟩ := z_rn gP
  have hl := z_len g1 ea
  rw [ea] at hM
  have es := z_st2 ea
  suffices G : jSim p l e R s m args below meth c D dA lo cs0 nL z0 w0 zF wF Q pc ls (av.reverse ++ jP (some b) :: st.drop n) h by rw [← es] at G; exact G
  exact z_callI B.1 (z_pay B.1 hM hL q4 q6) q1 q2 q4 hyi hy (by rw [hlen]; congr 1; omega) g2 d hs B.2.2.2 (fun a ha => (z_kx (rs := []) B hH (k2 a ha).1 (k2 a ha).2).1) k1 (fun a ha hx => z_kx B hH hx (k2 a ha).2)
theorem sm_cIN {x : MethodName} {r9 : vw_C} {host owner : String} {y : MethodName} {bytes : ByteArray} {maxL ix : Nat} (hf : jIs f E (fun _ av => jrn av) yi n (pc + 3) ox) (hE : jMe l D dA lo cs0 E yi y (ws_ y bytes maxL none) dd) (B : jBd p l e R s m args below meth c cc own D dA lo cs0 nL z0 w0 zF wF dd Q rF hF hh) (q1 : Cond.methodLinkNest own ix y host ∈ lw_tbl) (q2 : Cond.instanceMethod y ∈ lw_all) (q4 : Cond.code y bytes maxL none ∈ lw_all) (q6 : Cond.initialized y.cls ∈ lw_all) (hL : maxL ≤ 45) (hyi : y.name = "<init>") (hy : y.cls ≠ "java/lang/invoke/MethodHandle" ∧ y.cls ≠ "java/lang/invoke/VarHandle") (hlen : (parseMethodDescriptor y.desc).map (fun q => q.parameters.length) = some (n - 1)) (d : decode cc pc = .ok (.invokespecial ix, 3)) (hH : jHo s own pc hh ox) : ∀ ls st h, f (jSim p l e R s m args below meth c D dA lo cs0 nL z0 w0 zF wF Q) (fun r2 h2 => r2 = rF ∧ h2 = hF) ls st h → jSim p l e R s m args below meth c D dA lo cs0 nL z0 w0 zF wF Q pc ls st h := by
  intro ls st h k
  obtain ⟨⟨g1, g2⟩, gP, r, h1, e1, k1, k2⟩ := hf _ _ _ _ _ k
  obtain ⟨hs, hM⟩ := hE _ _ _ _ e1
  obtain ⟨b, av, ea⟩ := z_rn gP
  have hl := z_len g1 ea
  rw [ea] at hM
  have es := z_st2 ea
  suffices G : jSim p l e R s m args below meth c D dA lo cs0 nL z0 w0 zF wF Q pc ls (av.reverse ++ jP (some b) :: st.drop n) h by rw [← es] at G; exact G
  exact z_callIN B.1 (z_pay B.1 hM hL q4 q6) q1 q2 q4 hyi hy (by rw [hlen]; congr 1; omega) g2 d hs B.2.2.2 (fun a ha => (z_kx (rs := []) B hH (k2 a ha).1 (k2 a ha).2).1) k1 (fun a ha hx => z_kx B hH hx (k2 a ha).2)
theorem sm_cVU {x : MethodName} {r9 : vw_C} {host owner : String} {y : MethodName} {bytes : ByteArray} {maxL ix k : Nat} {ret : Option FieldType} (hf : jIs f E (fun h av => jrk k h av) yi n (pc + 3) ox) (hE : jMe l D dA lo cs0 E yi y (ws_ y bytes maxL ret) dd) (B : jBd p l e R s m args below meth c cc own D dA lo cs0 nL z0 w0 zF wF dd Q rF hF hh) (q1 : Cond.methodLink own ix x ∈ lw_all) (q2 : Cond.sameMethod x.cls owner x.name x.desc ∈ lw_all) (q7 : Cond.declares ⟨owner, x.name, x.desc⟩ ∈ lw_tbl) (howner : owner ≠ "java/lang/invoke/MethodHandle" ∧ owner ≠ "java/lang/invoke/VarHandle") (q3 : Cond.selects r9.1 x y ∈ lw_all) (q5 : Cond.instanceMethod y ∈ lw_all) (q4 : Cond.code y bytes maxL ret ∈ lw_all) (q6 : Cond.initialized y.cls ∈ lw_all) (hL : maxL ≤ 45) (hk0 : k ≠ 0) (hk9 : k < 100) (hr9 : jcls[k]? = some r9) (hlen : (parseMethodDescriptor x.desc).map (fun q => q.parameters.length) = some (n - 1)) (d : decode cc pc = .ok (.invokevirtual ix, 3)) (hH : jHo s own pc hh ox) : ∀ ls st h, f (jSim p l e R s m args below meth c D dA lo cs0 nL z0 w0 zF wF Q) (fun r2 h2 => r2 = rF ∧ h2 = hF) ls st h → jSim p l e R s m args below meth c D dA lo cs0 nL z0 w0 zF wF Q pc ls st h := by
  intro ls st h k
  obtain ⟨⟨g1, g2⟩, gP, r, h1, e1, k1, k2⟩ := hf _ _ _ _ _ k
  obtain ⟨hs, hM⟩ := hE _ _ _ _ e1
  obtain ⟨b, av, ea, hk⟩ := z_rk gP
  have hl := z_len g1 ea
  rw [ea] at hM
  have es := z_st2 ea
  suffices G : jSim p l e R s m args below meth c D dA lo cs0 nL z0 w0 zF wF Q pc ls (av.reverse ++ jP (some b) :: st.drop n) h by rw [← es] at G; exact G
  exact z_callVU B.1 (z_pay B.1 hM hL q4 q6) hk hk0 hk9 hr9 q1 q2 (va_Decl.abs (B.1.2.2.2.2.2.2.2.2.2.1.1 _ q7 rfl)) howner q3 q5 q4 (by rw [hlen]; congr 1; omega) g2 d hs B.2.2.2 (fun a ha => (z_kx (rs := []) B hH (k2 a ha).1 (k2 a ha).2).1) k1 (fun a ha hx => z_kx B hH hx (k2 a ha).2)
theorem sm_cF {x : MethodName} {r9 : vw_C} {host owner : String} {y : MethodName} {bytes : ByteArray} {maxL ix k ct : Nat} {ret : Option FieldType} (hf : jIs f E (fun h av => jrk k h av) yi n (pc + 5) ox) (hE : jMe l D dA lo cs0 E yi y (ws_ y bytes maxL ret) dd) (B : jBd p l e R s m args below meth c cc own D dA lo cs0 nL z0 w0 zF wF dd Q rF hF hh) (hfq : (r9.1, x, y) ∈ jfcl) (q1 : Cond.methodLink own ix x ∈ lw_all) (q3 : Cond.selects r9.1 x y ∈ lw_all) (q5 : Cond.instanceMethod y ∈ lw_all) (q4 : Cond.code y bytes maxL ret ∈ lw_all) (q6 : Cond.initialized y.cls ∈ lw_all) (hL : maxL ≤ 45) (hk0 : k ≠ 0) (hk9 : k < 100) (hr9 : jcls[k]? = some r9) (hlen : (parseMethodDescriptor x.desc).map (fun q => q.parameters.length) = some (n - 1)) (d : decode cc pc = .ok (.invokeinterface ix ct, 5)) (hH : jHo s own pc hh ox) : ∀ ls st h, f (jSim p l e R s m args below meth c D dA lo cs0 nL z0 w0 zF wF Q) (fun r2 h2 => r2 = rF ∧ h2 = hF) ls st h → jSim p l e R s m args below meth c D dA lo cs0 nL z0 w0 zF wF Q pc ls st h := by
  intro ls st h k
  obtain ⟨⟨g1, g2⟩, gP, r, h1, e1, k1, k2⟩ := hf _ _ _ _ _ k
  obtain ⟨hs, hM⟩ := hE _ _ _ _ e1
  obtain ⟨b, av, ea, hk⟩ := z_rk gP
  have hl := z_len g1 ea
  rw [ea] at hM
  have es := z_st2 ea
  suffices G : jSim p l e R s m args below meth c D dA lo cs0 nL z0 w0 zF wF Q pc ls (av.reverse ++ jP (some b) :: st.drop n) h by rw [← es] at G; exact G
  exact z_callF B.1 (z_pay B.1 hM hL q4 q6) hk hk0 hk9 hr9 hfq q1 q3 q5 q4 (by rw [hlen]; congr 1; omega) g2 d hs B.2.2.2 (fun a ha => (z_kx (rs := []) B hH (k2 a ha).1 (k2 a ha).2).1) k1 (fun a ha hx => z_kx B hH hx (k2 a ha).2)
end JS7
