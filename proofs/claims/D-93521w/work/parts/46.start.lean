/-! THE LAW'S START: its facts, its first heap (own work, in part printed) -/
set_option maxRecDepth 100000
set_option maxHeartbeats 4000000
section START
variable {s : State} {b : Nat}
def stT : Cond := Cond.and given_1 narrow_1
theorem st_nr {w : Cond} (h : stT.before #[Value.ref b] s = true) (hw : w ∈ flatC stT) : w.before #[Value.ref b] s = true := flat_of_before stT h w hw
def stKn : List String := ["ADDRESS", "COPY", "LOAD", "STORE", "ALLOCATION", "OFFSET", "CALL"]
theorem st_kx : ∀ i, i < 7 → Cond.exactly (.static "PointerAnalyzer$Kind" (stKn.getD i "") "LPointerAnalyzer$Kind;") "PointerAnalyzer$Kind" ∈ flatC stT := by decide +kernel
theorem st_ko : ∀ i, i < 7 → Cond.eq (.field (.static "PointerAnalyzer$Kind" (stKn.getD i "") "LPointerAnalyzer$Kind;") "java/lang/Enum" "ordinal" "I") (.int (nI i)) ∈ flatC stT := by decide +kernel
def stKp : List (Nat × Nat × Nat) := [(0, 1, 265), (0, 2, 254), (2, 1, 266), (0, 3, 272), (1, 3, 275), (2, 3, 273), (4, 0, 248), (4, 1, 263), (4, 2, 252), (4, 3, 270), (0, 5, 259), (5, 1, 267), (2, 5, 260), (5, 3, 274), (4, 5, 257), (6, 0, 249), (6, 1, 264), (6, 2, 253), (6, 3, 271), (4, 6, 33), (6, 5, 258)]
theorem st_kp : ∀ q ∈ stKp, (flatC stT)[q.2.2]? = some (Cond.not (.eq (.static "PointerAnalyzer$Kind" (stKn.getD q.1 "") "LPointerAnalyzer$Kind;") (.static "PointerAnalyzer$Kind" (stKn.getD q.2.1 "") "LPointerAnalyzer$Kind;"))) := by decide +kernel
theorem st_kq : ∀ i, i < 7 → ∀ j, j < 7 → i ≠ j → (∃ k, (i, j, k) ∈ stKp) ∨ (∃ k, (j, i, k) ∈ stKp) := by
  have h : ∀ i, i < 7 → ∀ j, j < 7 → i ≠ j → (stKp.any (fun q => q.1 == i && q.2.1 == j) || stKp.any (fun q => q.1 == j && q.2.1 == i)) = true := by decide
  intro i hi j hj hij
  have h1 := h i hi j hj hij
  rw [Bool.or_eq_true, List.any_eq_true, List.any_eq_true] at h1
  rcases h1 with ⟨q, hq, e⟩ | ⟨q, hq, e⟩
  · obtain ⟨x, y, z⟩ := q
    simp only [Bool.and_eq_true, beq_iff_eq] at e
    obtain ⟨rfl, rfl⟩ := e
    exact Or.inl ⟨z, hq⟩
  · obtain ⟨x, y, z⟩ := q
    simp only [Bool.and_eq_true, beq_iff_eq] at e
    obtain ⟨rfl, rfl⟩ := e
    exact Or.inr ⟨z, hq⟩
theorem st_kl : ∀ i, i < 7 → Cond.laysStatic "PointerAnalyzer$Kind" (stKn.getD i "") "LPointerAnalyzer$Kind;" ∈ lw_tbl := fun i hi => match i, hi with
  | 0, _ => q2586
  | 1, _ => q2640
  | 2, _ => q2629
  | 3, _ => q2642
  | 4, _ => q1166
  | 5, _ => q2638
  | 6, _ => q1405
  | n + 7, h => absurd h (by omega)
theorem st_ki : Cond.initialized "PointerAnalyzer$Kind" ∈ lw_tbl := (lw_all_tbl q157)
theorem st_kind (hts : ∀ w ∈ lw_tbl, w.before #[Value.ref b] s = true) (hgv : stT.before #[Value.ref b] s = true) : ∃ ad : Nat → Nat, va_En "PointerAnalyzer$Kind" "LPointerAnalyzer$Kind;" stKn [("java/lang/Enum", "ordinal", "I", [0, 1, 2, 3, 4, 5, 6])] ad (fun a => s.heap.size ≤ a) s s.heap := by
  refine va_Enof (args := #[Value.ref b]) (fun i hi => hts _ (st_kl i hi)) (hts _ st_ki) (fun i hi => st_nr hgv (st_kx i hi)) (fun q hq i hi => ?_) (fun i j hi hj hij => ?_) (fun a h => Nat.not_le.mpr h)
  · cases List.mem_singleton.mp hq
    have h1 := st_nr hgv (st_ko i hi)
    have e : (([0, 1, 2, 3, 4, 5, 6] : List Int32).getD i 0) = nI i := by
      have : ∀ i, i < 7 → (([0, 1, 2, 3, 4, 5, 6] : List Int32).getD i 0) = nI i := by decide
      exact this i hi
    show (Cond.eq _ (.int (([0, 1, 2, 3, 4, 5, 6] : List Int32).getD i 0))).before _ s = true
    rw [e]
    exact h1
  · rcases st_kq i hi j hj hij with ⟨k, h⟩ | ⟨k, h⟩
    · exact Or.inl (st_nr hgv (List.mem_of_getElem? (st_kp _ h)))
    · exact Or.inr (st_nr hgv (List.mem_of_getElem? (st_kp _ h)))
theorem st_face (hts : ∀ w ∈ lw_tbl, w.before #[Value.ref b] s = true) : ∀ q ∈ jfcl, va_Fw q.1 q.2.1 q.2.2 s := List.forall_mem_cons.mpr ⟨va_Fw.of (hts _ q732) (hts _ q731) (hts _ q737) (hts _ q735) (hts _ q733), List.forall_mem_cons.mpr ⟨va_Fw.of (hts _ q743) (hts _ q742) (hts _ q748) (hts _ q746) (hts _ q744), List.forall_mem_cons.mpr ⟨va_Fw.of (hts _ q805) (hts _ q804) (hts _ q809) (hts _ q807) (hts _ q733), List.forall_mem_cons.mpr ⟨va_Fw.of (hts _ q827) (hts _ q826) (hts _ q832) (hts _ q830) (hts _ q828), List.forall_mem_cons.mpr ⟨va_Fw.of (hts _ q308) (hts _ q307) (hts _ q390) (hts _ q388) (hts _ q386), List.forall_mem_cons.mpr ⟨va_Fw.of (hts _ q308) (hts _ q307) (hts _ q313) (hts _ q311) (hts _ q309), List.forall_mem_cons.mpr ⟨va_Fw.of (hts _ q896) (hts _ q895) (hts _ q901) (hts _ q899) (hts _ q897), List.forall_mem_cons.mpr ⟨va_Fw.of (hts _ q916) (hts _ q915) (hts _ q864) (hts _ q862) (hts _ q917), List.forall_mem_cons.mpr ⟨va_Fw.of (hts _ q936) (hts _ q935) (hts _ q1042) (hts _ q1040) (hts _ q1038), List.forall_mem_cons.mpr ⟨va_Fw.of (hts _ q1072) (hts _ q1071) (hts _ q1077) (hts _ q1075) (hts _ q1073), List.forall_mem_cons.mpr ⟨va_Fw.of (hts _ q1082) (hts _ q1081) (hts _ q1086) (hts _ q1084) (hts _ q1073), List.forall_mem_cons.mpr ⟨va_Fw.of (hts _ q1417) (hts _ q1416) (hts _ q1435) (hts _ q1528) (hts _ q1526), List.forall_mem_cons.mpr ⟨va_Fw.of (hts _ q611) (hts _ q610) (hts _ q616) (hts _ q614) (hts _ q612), List.forall_mem_cons.mpr ⟨va_Fw.of (hts _ q1098) (hts _ q1097) (hts _ q1116) (hts _ q1119) (hts _ q1059), List.forall_mem_cons.mpr ⟨va_Fw.of (hts _ q936) (hts _ q935) (hts _ q1063) (hts _ q1061) (hts _ q1059), List.forall_mem_cons.mpr ⟨va_Fw.of (hts _ q1417) (hts _ q1416) (hts _ q1422) (hts _ q1420) (hts _ q1418), fun _ h => absurd h List.not_mem_nil⟩⟩⟩⟩⟩⟩⟩⟩⟩⟩⟩⟩⟩⟩⟩⟩
def stNc : List Nat := [499, 702, 539, 580, 620, 744, 684, 725, 562, 603, 643, 767, 653, 490, 531, 572, 613, 735, 657, 494, 697, 576, 617, 739, 658, 495, 698, 535, 618, 740, 660, 497, 700, 537, 578, 742, 685, 522, 726, 563, 604, 644]
theorem st_nc0 : ∀ i, i < 42 → ((flatC stT)[stNc.getD i 0]?) = (jncl[i]?).map (fun q => Cond.not (.castable q.1 q.2)) := by decide +kernel
theorem st_ncl : ∀ q ∈ jncl, Cond.not (.castable q.1 q.2) ∈ flatC stT := by
  intro q hq
  obtain ⟨i, hi⟩ := List.mem_iff_getElem?.mp hq
  have hl : i < 42 := (List.getElem?_eq_some_iff.mp hi).1
  have h := st_nc0 i hl
  rw [hi] at h
  exact List.mem_of_getElem? h
theorem st_navl : ∀ w ∈ jnavl, w ∈ flatC stT := by decide +kernel
theorem st_nav (hgv : stT.before #[Value.ref b] s = true) : jNav s :=
  List.forall_mem_cons.mpr ⟨va_any rfl (st_nr hgv (st_navl _ (List.mem_of_getElem? (i := 0) rfl))), List.forall_mem_cons.mpr ⟨va_any rfl (st_nr hgv (st_navl _ (List.mem_of_getElem? (i := 1) rfl))), List.forall_mem_cons.mpr ⟨va_any rfl (st_nr hgv (st_navl _ (List.mem_of_getElem? (i := 2) rfl))), List.forall_mem_cons.mpr ⟨va_any rfl (st_nr hgv (st_navl _ (List.mem_of_getElem? (i := 3) rfl))), List.forall_mem_nil _⟩⟩⟩⟩
theorem st_nw (hts : ∀ w ∈ lw_tbl, w.before #[Value.ref b] s = true) : jNw s := by
  intro w hw hok
  have h := hts w hw
  cases w <;> first | (cases hok; done) | exact va_any rfl h | skip
  case arrayOver ty => cases ty <;> first | (cases hok; done) | exact h
theorem st_nsp {args : Array Value} {first s : State} {o : Option Outcome} {idx : List Nat} {cls : String} (h : (Cond.noSuperclass cls).holds args first o s idx = true) : ∃ c k, s.vm.findClass cls = some c ∧ s.vm.classes[c]? = some k ∧ k.kind = .ordinary := by
  simp only [Cond.holds, Cond.value] at h
  cases hc : s.vm.findClass cls with
  | none => simp [hc] at h
  | some c =>
    cases hk : s.vm.classes[c]? with
    | none => simp [hc, hk] at h
    | some k =>
      simp [hc, hk] at h
      exact ⟨c, k, rfl, hk, h.1.2⟩
theorem st_osl (hO : jOrd s) : ∃ i : Nat, SlotIs s "java/lang/Enum" "ordinal" "I" i := by
  obtain ⟨cf, k, i, f, h1, h2⟩ := hO
  exact ⟨f.slot, cf, k, i, f, h1, rfl⟩
theorem st_obj (hts : ∀ w ∈ lw_tbl, w.before #[Value.ref b] s = true) : ∃ c : ClassId, ClassAt s "java/lang/Object" c := by
  have h := hts _ (lw_all_tbl q3503)
  unfold Cond.before at h
  obtain ⟨c, k, h1, h2, h3⟩ := st_nsp h
  exact ⟨c, h1, k, h2, h3⟩
theorem st_kn (hts : ∀ w ∈ lw_tbl, w.before #[Value.ref b] s = true) (hO : jOrd s) (c : Nat) : ∃ (cC : ClassId) (iS : Nat → Nat), ∀ q, jcls[c]? = some q → u_Kn s q.1 q.2.1 q.2.2 cC iS := by
  match c with
  | 0 =>
    exact ⟨(st_obj hts).choose, fun _ => 0, fun q hq => by cases hq; exact ⟨fun k hk => absurd hk (Nat.not_lt_zero k), (st_obj hts).choose_spec⟩⟩
  | 1 =>
    obtain ⟨c, i, h⟩ := u_known (C := RX1) (T := TX1) (N := 9) (n := 9) hts (fun w h => lw_all_tbl (in_X1 w h)) (hts _ (lw_all_tbl q191))
    exact ⟨c, i, fun q hq => by cases hq; exact h⟩
  | 2 =>
    obtain ⟨c, i, h⟩ := u_known (C := RX2) (T := TX2) (N := 3) (n := 3) hts (fun w h => lw_all_tbl (in_X2 w h)) (hts _ (lw_all_tbl q199))
    exact ⟨c, i, fun q hq => by cases hq; exact h⟩
  | 3 =>
    obtain ⟨c, i, h⟩ := u_known (C := RX3) (T := TX3) (N := 4) (n := 4) hts (fun w h => lw_all_tbl (in_X3 w h)) (hts _ (lw_all_tbl q1164))
    exact ⟨c, i, fun q hq => by cases hq; exact h⟩
  | 4 =>
    obtain ⟨c, i, h⟩ := u_known (C := RX4) (T := TX4) (N := 45) (n := 45) hts (fun w h => lw_all_tbl (in_X4 w h)) (hts _ (lw_all_tbl q2892))
    exact ⟨c, i, fun q hq => by cases hq; exact h⟩
  | 5 =>
    obtain ⟨c, i, h⟩ := u_known (C := RX5) (T := TX5) (N := 4) (n := 4) hts (fun w h => lw_all_tbl (in_X5 w h)) (hts _ (lw_all_tbl q2465))
    exact ⟨c, i, fun q hq => by cases hq; exact h⟩
  | 6 =>
    obtain ⟨c, i, h⟩ := u_known (C := RX6) (T := TX6) (N := 7) (n := 7) hts (fun w h => lw_all_tbl (in_X6 w h)) (hts _ (lw_all_tbl q2564))
    exact ⟨c, i, fun q hq => by cases hq; exact h⟩
  | 7 =>
    obtain ⟨c, i, h⟩ := u_known (C := RX7) (T := TX7) (N := 4) (n := 4) hts (fun w h => lw_all_tbl (in_X7 w h)) (hts _ (lw_all_tbl q2584))
    exact ⟨c, i, fun q hq => by cases hq; exact h⟩
  | 8 =>
    obtain ⟨c, i, h⟩ := u_known (C := RX8) (T := TX8) (N := 6) (n := 6) hts (fun w h => lw_all_tbl (in_X8 w h)) (hts _ (lw_all_tbl q1298))
    exact ⟨c, i, fun q hq => by cases hq; exact h⟩
  | 9 =>
    obtain ⟨c, i, h⟩ := u_known (C := RX9) (T := jTE) (N := 0) (n := 0) hts (fun w h => by cases h) (hts _ (lw_all_tbl q1308))
    exact ⟨c, i, fun q hq => by cases hq; exact h⟩
  | 10 =>
    obtain ⟨c, i, h⟩ := u_known (C := RX10) (T := TX10) (N := 1) (n := 1) hts (fun w h => lw_all_tbl (in_X10 w h)) (hts _ (lw_all_tbl q1355))
    exact ⟨c, i, fun q hq => by cases hq; exact h⟩
  | 11 =>
    obtain ⟨c, i, h⟩ := u_known (C := RX11) (T := TX11) (N := 1) (n := 1) hts (fun w h => lw_all_tbl (in_X11 w h)) (hts _ (lw_all_tbl q1380))
    exact ⟨c, i, fun q hq => by cases hq; exact h⟩
  | 12 =>
    obtain ⟨c, i, h⟩ := u_known (C := RX12) (T := TX12) (N := 9) (n := 9) hts (fun w h => lw_all_tbl (in_X12 w h)) (hts _ (lw_all_tbl q1565))
    exact ⟨c, i, fun q hq => by cases hq; exact h⟩
  | 13 =>
    obtain ⟨c, i, h⟩ := u_known (C := RX13) (T := TX13) (N := 2) (n := 2) hts (fun w h => lw_all_tbl (in_X13 w h)) (hts _ (lw_all_tbl q1917))
    exact ⟨c, i, fun q hq => by cases hq; exact h⟩
  | 14 =>
    obtain ⟨c, i, h⟩ := u_known (C := RX14) (T := TX14) (N := 6) (n := 6) hts (fun w h => lw_all_tbl (in_X14 w h)) (hts _ (lw_all_tbl q2149))
    exact ⟨c, i, fun q hq => by cases hq; exact h⟩
  | 15 =>
    obtain ⟨c, i, h⟩ := u_known (C := RX15) (T := TX15) (N := 1) (n := 1) hts (fun w h => lw_all_tbl (in_X15 w h)) (hts _ (lw_all_tbl q2205))
    exact ⟨c, i, fun q hq => by cases hq; exact h⟩
  | 16 =>
    obtain ⟨c, i, h⟩ := u_known (C := RX16) (T := TX16) (N := 2) (n := 2) hts (fun w h => lw_all_tbl (in_X16 w h)) (hts _ (lw_all_tbl q2212))
    exact ⟨c, i, fun q hq => by cases hq; exact h⟩
  | 17 =>
    obtain ⟨c, i, h⟩ := u_known (C := RX17) (T := TX17) (N := 7) (n := 7) hts (fun w h => lw_all_tbl (in_X17 w h)) (hts _ (lw_all_tbl q2264))
    exact ⟨c, i, fun q hq => by cases hq; exact h⟩
  | 18 =>
    obtain ⟨c, i, h⟩ := u_known (C := RX18) (T := TX18) (N := 3) (n := 3) hts (fun w h => lw_all_tbl (in_X18 w h)) (hts _ (lw_all_tbl q2272))
    exact ⟨c, i, fun q hq => by cases hq; exact h⟩
  | 19 =>
    obtain ⟨c, i, h⟩ := u_known (C := RX19) (T := TX19) (N := 6) (n := 6) hts (fun w h => lw_all_tbl (in_X19 w h)) (hts _ (lw_all_tbl q2311))
    exact ⟨c, i, fun q hq => by cases hq; exact h⟩
  | 20 =>
    obtain ⟨c, i, h⟩ := u_known (C := RJ1) (T := TJ1) (N := 9) (n := 9) hts (fun w h => lw_all_tbl (in_J1 w h)) (hts _ (lw_all_tbl q205))
    exact ⟨c, i, fun q hq => by cases hq; exact h⟩
  | 21 =>
    obtain ⟨c, i, h⟩ := u_known (C := RJ4) (T := TJ4) (N := 3) (n := 3) hts (fun w h => lw_all_tbl (in_J4 w h)) (hts _ (lw_all_tbl q240))
    exact ⟨c, i, fun q hq => by cases hq; exact h⟩
  | 22 =>
    obtain ⟨c, i, h⟩ := u_known (C := RJ6) (T := TJ6) (N := 1) (n := 1) hts (fun w h => lw_all_tbl (in_J6 w h)) (hts _ (lw_all_tbl q276))
    exact ⟨c, i, fun q hq => by cases hq; exact h⟩
  | 23 =>
    obtain ⟨c, i, h⟩ := u_known (C := RJ7) (T := TJ7) (N := 2) (n := 4) hts (fun w h => lw_all_tbl (in_J7b w h)) (hts _ (lw_all_tbl q1816))
    exact ⟨c, i, fun q hq => by cases hq; exact h⟩
  | 24 =>
    obtain ⟨c, i, h⟩ := u_known (C := RJ15) (T := TJ15) (N := 6) (n := 6) hts (fun w h => lw_all_tbl (in_J15 w h)) (hts _ (lw_all_tbl q635))
    exact ⟨c, i, fun q hq => by cases hq; exact h⟩
  | 25 =>
    obtain ⟨c, i, h⟩ := u_known (C := RJ18) (T := TJ18) (N := 1) (n := 1) hts (fun w h => lw_all_tbl (in_J18 w h)) (hts _ (lw_all_tbl q812))
    exact ⟨c, i, fun q hq => by cases hq; exact h⟩
  | 26 =>
    obtain ⟨c, i, h⟩ := u_known (C := RJ20) (T := TJ20) (N := 4) (n := 4) hts (fun w h => lw_all_tbl (in_J20 w h)) (hts _ (lw_all_tbl q835))
    exact ⟨c, i, fun q hq => by cases hq; exact h⟩
  | 27 =>
    obtain ⟨c, i, h⟩ := u_known (C := RJ21) (T := TJ21) (N := 4) (n := 4) hts (fun w h => lw_all_tbl (in_J21 w h)) (hts _ (lw_all_tbl q872))
    exact ⟨c, i, fun q hq => by cases hq; exact h⟩
  | 28 =>
    obtain ⟨c, i, h⟩ := u_known (C := RJ22) (T := TJ22) (N := 1) (n := 1) hts (fun w h => lw_all_tbl (in_J22 w h)) (hts _ (lw_all_tbl q904))
    exact ⟨c, i, fun q hq => by cases hq; exact h⟩
  | 29 =>
    obtain ⟨c, i, h⟩ := u_known (C := RJ26) (T := TJ26) (N := 0) (n := 6) hts (fun w h => by cases h) (hts _ (lw_all_tbl q948))
    exact ⟨c, i, fun q hq => by cases hq; exact h⟩
  | 30 =>
    obtain ⟨c, i, h⟩ := u_known (C := RJ30) (T := TJ30) (N := 0) (n := 6) hts (fun w h => by cases h) (hts _ (lw_all_tbl q1323))
    exact ⟨c, i, fun q hq => by cases hq; exact h⟩
  | 31 =>
    obtain ⟨c, i, h⟩ := u_known (C := RJ31) (T := TJ31) (N := 0) (n := 6) hts (fun w h => by cases h) (hts _ (lw_all_tbl q2411))
    exact ⟨c, i, fun q hq => by cases hq; exact h⟩
  | 32 =>
    obtain ⟨c, i, h⟩ := u_known (C := RJ32) (T := TJ32) (N := 0) (n := 6) hts (fun w h => by cases h) (hts _ (lw_all_tbl q1667))
    exact ⟨c, i, fun q hq => by cases hq; exact h⟩
  | 33 =>
    obtain ⟨c, i, h⟩ := u_known (C := RJ43) (T := TJ43) (N := 0) (n := 6) hts (fun w h => by cases h) (hts _ (lw_all_tbl q2854))
    exact ⟨c, i, fun q hq => by cases hq; exact h⟩
  | 34 =>
    obtain ⟨c, i, h⟩ := u_known (C := RJ36) (T := TJ36) (N := 4) (n := 4) hts (fun w h => lw_all_tbl (in_J36 w h)) (hts _ (lw_all_tbl q1306))
    exact ⟨c, i, fun q hq => by cases hq; exact h⟩
  | 35 =>
    obtain ⟨c, i, h⟩ := u_known (C := RJ37) (T := TJ37) (N := 1) (n := 1) hts (fun w h => lw_all_tbl (in_J37 w h)) (hts _ (lw_all_tbl q1363))
    exact ⟨c, i, fun q hq => by cases hq; exact h⟩
  | 36 =>
    obtain ⟨c, i, h⟩ := u_known (C := RJ40) (T := TJ40) (N := 3) (n := 3) hts (fun w h => lw_all_tbl (in_J40 w h)) (hts _ (lw_all_tbl q1572))
    exact ⟨c, i, fun q hq => by cases hq; exact h⟩
  | 37 =>
    exact ⟨(st_obj hts).choose, fun _ => 0, fun q hq => by cases hq; exact ⟨fun k hk => absurd hk (Nat.not_lt_zero k), (st_obj hts).choose_spec⟩⟩
  | 38 =>
    exact ⟨(st_obj hts).choose, fun _ => (st_osl hO).choose, fun q hq => by cases hq; exact ⟨fun k hk => by cases Nat.lt_one_iff.mp hk; exact (st_osl hO).choose_spec, (st_obj hts).choose_spec⟩⟩
  | n + 39 => exact ⟨0, fun _ => 0, fun q hq => by cases hq⟩
theorem st_arr {ty : FieldType} (h : (Cond.arrayClass ty).before #[Value.ref b] s = true) : ∃ c k comp, s.vm.findClass ("[" ++ ty.toString) = some c ∧ s.vm.classes[c]? = some k ∧ k.kind = .array comp ty := Cond.arrayClass_spec h
theorem st_arrK {c : ClassId} {k : Class} {comp : ClassId} {ty : FieldType} (h1 : s.vm.classes[c]? = some k) (h2 : k.kind = .array comp ty) : ArrOfT s c ty := fun n z => ⟨fun q h => (by cases h), k, h1, comp, h2⟩
theorem st_tys (hts : ∀ w ∈ lw_tbl, w.before #[Value.ref b] s = true) (c100 c104 c112 : ClassId) : ∃ dA : Nat → ClassId, dA 100 = c100 ∧ dA 104 = c104 ∧ dA 112 = c112 ∧ ∀ (k : Nat) (q : ClassId × FieldType), (jtys dA)[k]? = some q → ArrOfT s q.1 q.2 ∧ va_RA s q.1 q.2 := by
  obtain ⟨c101, k101, m101, f101, g101, e101⟩ := st_arr (hts _ (lw_all_tbl q1314))
  obtain ⟨c102, k102, m102, f102, g102, e102⟩ := st_arr (hts _ (lw_all_tbl q1275))
  obtain ⟨c103, k103, m103, f103, g103, e103⟩ := st_arr (hts _ (lw_all_tbl q2199))
  obtain ⟨c105, k105, m105, f105, g105, e105⟩ := st_arr (hts _ (lw_all_tbl q1594))
  obtain ⟨c106, k106, m106, f106, g106, e106⟩ := st_arr (hts _ (lw_all_tbl q3442))
  obtain ⟨m107, c107, k107, f107, -, g107, e107, n107⟩ := Cond.arrayOver_spec (hts _ q1237)
  obtain ⟨m108, c108, k108, f108, -, g108, e108, n108⟩ := Cond.arrayOver_spec (hts _ q2271)
  obtain ⟨m109, c109, k109, f109, -, g109, e109, n109⟩ := Cond.arrayOver_spec (hts _ q2211)
  obtain ⟨m110, c110, k110, f110, -, g110, e110, n110⟩ := Cond.arrayOver_spec (hts _ q1943)
  obtain ⟨m111, c111, k111, f111, g111, e111, n111⟩ := jAO_spec (hts _ q2155)
  refine ⟨fun k => if k = 100 then c100 else if k = 104 then c104 else if k = 112 then c112 else if k = 101 then c101 else if k = 102 then c102 else if k = 103 then c103 else if k = 105 then c105 else if k = 106 then c106 else if k = 107 then c107 else if k = 108 then c108 else if k = 109 then c109 else if k = 110 then c110 else if k = 111 then c111 else 0, rfl, rfl, rfl, ?_⟩
  intro k q hq
  match k, hq with
  | 0, hq => cases hq; exact ⟨st_arrK g101 e101, f101⟩
  | 1, hq => cases hq; exact ⟨st_arrK g102 e102, f102⟩
  | 2, hq => cases hq; exact ⟨st_arrK g103 e103, f103⟩
  | 3, hq => cases hq; exact ⟨st_arrK g101 e101, f101⟩
  | 4, hq => cases hq; exact ⟨st_arrK g105 e105, f105⟩
  | 5, hq => cases hq; exact ⟨st_arrK g106 e106, f106⟩
  | 6, hq => cases hq; exact ⟨st_arrK g107 e107, k107, m107, g107, e107, f107, n107⟩
  | 7, hq => cases hq; exact ⟨st_arrK g108 e108, k108, m108, g108, e108, f108, n108⟩
  | 8, hq => cases hq; exact ⟨st_arrK g109 e109, k109, m109, g109, e109, f109, n109⟩
  | 9, hq => cases hq; exact ⟨st_arrK g110 e110, k110, m110, g110, e110, f110, n110⟩
  | 10, hq => cases hq; exact ⟨st_arrK g111 e111, n111⟩
  | 11, hq => cases hq; exact ⟨st_arrK g101 e101, f101⟩
  | n + 12, hq => cases hq
end START
