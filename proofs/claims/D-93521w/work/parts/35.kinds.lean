/-! FACTS THE ROWS NAME (own work) -/
set_option maxRecDepth 100000
theorem kc_1 : jcls[1]? = some ((RX1, TX1, 9) : vw_C) := rfl
theorem kd_1 : ∀ j, j < 9 → defaultValue (tyX1 j) = vp_V (jdef (jlay 1)) j := by decide +kernel
theorem kc_2 : jcls[2]? = some ((RX2, TX2, 3) : vw_C) := rfl
theorem kd_2 : ∀ j, j < 3 → defaultValue (tyX2 j) = vp_V (jdef (jlay 2)) j := by decide +kernel
theorem kc_3 : jcls[3]? = some ((RX3, TX3, 4) : vw_C) := rfl
theorem kd_3 : ∀ j, j < 4 → defaultValue (tyX3 j) = vp_V (jdef (jlay 3)) j := by decide +kernel
theorem kc_4 : jcls[4]? = some ((RX4, TX4, 45) : vw_C) := rfl
theorem kd_4 : ∀ j, j < 45 → defaultValue (tyX4 j) = vp_V (jdef (jlay 4)) j := by decide +kernel
theorem kc_5 : jcls[5]? = some ((RX5, TX5, 4) : vw_C) := rfl
theorem kd_5 : ∀ j, j < 4 → defaultValue (tyX5 j) = vp_V (jdef (jlay 5)) j := by decide +kernel
theorem kc_6 : jcls[6]? = some ((RX6, TX6, 7) : vw_C) := rfl
def kr_6 : vw_C := (RX6, TX6, 7)
theorem kd_6 : ∀ j, j < 7 → defaultValue (tyX6 j) = vp_V (jdef (jlay 6)) j := by decide +kernel
theorem kc_7 : jcls[7]? = some ((RX7, TX7, 4) : vw_C) := rfl
theorem kd_7 : ∀ j, j < 4 → defaultValue (tyX7 j) = vp_V (jdef (jlay 7)) j := by decide +kernel
theorem kc_8 : jcls[8]? = some ((RX8, TX8, 6) : vw_C) := rfl
theorem kd_8 : ∀ j, j < 6 → defaultValue (tyX8 j) = vp_V (jdef (jlay 8)) j := by decide +kernel
theorem kc_9 : jcls[9]? = some ((RX9, jTE, 0) : vw_C) := rfl
theorem kc_10 : jcls[10]? = some ((RX10, TX10, 1) : vw_C) := rfl
theorem kd_10 : ∀ j, j < 1 → defaultValue (tyX10 j) = vp_V (jdef (jlay 10)) j := by decide +kernel
theorem kc_11 : jcls[11]? = some ((RX11, TX11, 1) : vw_C) := rfl
theorem kd_11 : ∀ j, j < 1 → defaultValue (tyX11 j) = vp_V (jdef (jlay 11)) j := by decide +kernel
theorem kc_12 : jcls[12]? = some ((RX12, TX12, 9) : vw_C) := rfl
theorem kd_12 : ∀ j, j < 9 → defaultValue (tyX12 j) = vp_V (jdef (jlay 12)) j := by decide +kernel
theorem kc_13 : jcls[13]? = some ((RX13, TX13, 2) : vw_C) := rfl
theorem kd_13 : ∀ j, j < 2 → defaultValue (tyX13 j) = vp_V (jdef (jlay 13)) j := by decide +kernel
theorem kc_14 : jcls[14]? = some ((RX14, TX14, 6) : vw_C) := rfl
theorem kd_14 : ∀ j, j < 6 → defaultValue (tyX14 j) = vp_V (jdef (jlay 14)) j := by decide +kernel
theorem kc_15 : jcls[15]? = some ((RX15, TX15, 1) : vw_C) := rfl
theorem kd_15 : ∀ j, j < 1 → defaultValue (tyX15 j) = vp_V (jdef (jlay 15)) j := by decide +kernel
theorem kc_16 : jcls[16]? = some ((RX16, TX16, 2) : vw_C) := rfl
theorem kd_16 : ∀ j, j < 2 → defaultValue (tyX16 j) = vp_V (jdef (jlay 16)) j := by decide +kernel
theorem kc_17 : jcls[17]? = some ((RX17, TX17, 7) : vw_C) := rfl
theorem kd_17 : ∀ j, j < 7 → defaultValue (tyX17 j) = vp_V (jdef (jlay 17)) j := by decide +kernel
theorem kc_18 : jcls[18]? = some ((RX18, TX18, 3) : vw_C) := rfl
theorem kd_18 : ∀ j, j < 3 → defaultValue (tyX18 j) = vp_V (jdef (jlay 18)) j := by decide +kernel
theorem kc_19 : jcls[19]? = some ((RX19, TX19, 6) : vw_C) := rfl
theorem kd_19 : ∀ j, j < 6 → defaultValue (tyX19 j) = vp_V (jdef (jlay 19)) j := by decide +kernel
theorem kc_20 : jcls[20]? = some ((RJ1, TJ1, 9) : vw_C) := rfl
theorem kd_20 : ∀ j, j < 9 → defaultValue (tyJ1 j) = vp_V (jdef (jlay 20)) j := by decide +kernel
theorem kc_21 : jcls[21]? = some ((RJ4, TJ4, 3) : vw_C) := rfl
theorem kd_21 : ∀ j, j < 3 → defaultValue (tyJ4 j) = vp_V (jdef (jlay 21)) j := by decide +kernel
theorem kc_22 : jcls[22]? = some ((RJ6, TJ6, 1) : vw_C) := rfl
theorem kd_22 : ∀ j, j < 1 → defaultValue (tyJ6 j) = vp_V (jdef (jlay 22)) j := by decide +kernel
theorem kc_23 : jcls[23]? = some ((RJ7, TJ7, 2) : vw_C) := rfl
theorem kd_23 : ∀ j, j < 2 → defaultValue (tyJ7 j) = vp_V (jdef (jlay 23)) j := by decide +kernel
theorem kc_24 : jcls[24]? = some ((RJ15, TJ15, 6) : vw_C) := rfl
theorem kd_24 : ∀ j, j < 6 → defaultValue (tyJ15 j) = vp_V (jdef (jlay 24)) j := by decide +kernel
theorem kc_25 : jcls[25]? = some ((RJ18, TJ18, 1) : vw_C) := rfl
theorem kd_25 : ∀ j, j < 1 → defaultValue (tyJ18 j) = vp_V (jdef (jlay 25)) j := by decide +kernel
theorem kc_26 : jcls[26]? = some ((RJ20, TJ20, 4) : vw_C) := rfl
theorem kd_26 : ∀ j, j < 4 → defaultValue (tyJ20 j) = vp_V (jdef (jlay 26)) j := by decide +kernel
theorem kc_27 : jcls[27]? = some ((RJ21, TJ21, 4) : vw_C) := rfl
theorem kd_27 : ∀ j, j < 4 → defaultValue (tyJ21 j) = vp_V (jdef (jlay 27)) j := by decide +kernel
theorem kc_28 : jcls[28]? = some ((RJ22, TJ22, 1) : vw_C) := rfl
theorem kd_28 : ∀ j, j < 1 → defaultValue (tyJ22 j) = vp_V (jdef (jlay 28)) j := by decide +kernel
theorem kc_29 : jcls[29]? = some ((RJ26, TJ26, 0) : vw_C) := rfl
theorem kc_30 : jcls[30]? = some ((RJ30, TJ30, 0) : vw_C) := rfl
theorem kc_31 : jcls[31]? = some ((RJ31, TJ31, 0) : vw_C) := rfl
theorem kc_32 : jcls[32]? = some ((RJ32, TJ32, 0) : vw_C) := rfl
theorem kc_33 : jcls[33]? = some ((RJ43, TJ43, 0) : vw_C) := rfl
theorem kc_34 : jcls[34]? = some ((RJ36, TJ36, 4) : vw_C) := rfl
theorem kd_34 : ∀ j, j < 4 → defaultValue (tyJ36 j) = vp_V (jdef (jlay 34)) j := by decide +kernel
theorem kc_35 : jcls[35]? = some ((RJ37, TJ37, 1) : vw_C) := rfl
theorem kd_35 : ∀ j, j < 1 → defaultValue (tyJ37 j) = vp_V (jdef (jlay 35)) j := by decide +kernel
theorem kc_36 : jcls[36]? = some ((RJ40, TJ40, 3) : vw_C) := rfl
theorem kd_36 : ∀ j, j < 3 → defaultValue (tyJ40 j) = vp_V (jdef (jlay 36)) j := by decide +kernel
theorem kc_37 : jcls[37]? = some (("java/lang/Object", jTE, 0) : vw_C) := rfl
theorem kc_38 : jcls[38]? = some (("java/lang/Object", jTE, 1) : vw_C) := rfl
theorem hc_101 {dA : Nat → ClassId} (h : jH) (n : Nat) : vp_cell (dA 101) (jarr 101 (jnewA h 101 n) (jsz h)) = arrV (dA 101) n (fun _ => defaultValue (.int : FieldType)) := by
  have e : jln (jnewA h 101 n) (jsz h) = n := by simp [jnewA_ln]
  have e2 : jAI (jnewA h 101 n) 101 (jsz h) = fun _ => 0 := by
    funext j
    simp [jnewA_AI, jnewA_AL, jnewA_AD]
  unfold jarr
  rw [if_pos (by decide), e, e2]
  rfl
theorem hc_102 {dA : Nat → ClassId} (h : jH) (n : Nat) : vp_cell (dA 102) (jarr 102 (jnewA h 102 n) (jsz h)) = arrV (dA 102) n (fun _ => defaultValue (.char : FieldType)) := by
  have e : jln (jnewA h 102 n) (jsz h) = n := by simp [jnewA_ln]
  have e2 : jAI (jnewA h 102 n) 102 (jsz h) = fun _ => 0 := by
    funext j
    simp [jnewA_AI, jnewA_AL, jnewA_AD]
  unfold jarr
  rw [if_pos (by decide), e, e2]
  rfl
theorem hc_103 {dA : Nat → ClassId} (h : jH) (n : Nat) : vp_cell (dA 103) (jarr 103 (jnewA h 103 n) (jsz h)) = arrV (dA 103) n (fun _ => defaultValue (.boolean : FieldType)) := by
  have e : jln (jnewA h 103 n) (jsz h) = n := by simp [jnewA_ln]
  have e2 : jAI (jnewA h 103 n) 103 (jsz h) = fun _ => 0 := by
    funext j
    simp [jnewA_AI, jnewA_AL, jnewA_AD]
  unfold jarr
  rw [if_pos (by decide), e, e2]
  rfl
theorem hc_105 {dA : Nat → ClassId} (h : jH) (n : Nat) : vp_cell (dA 105) (jarr 105 (jnewA h 105 n) (jsz h)) = arrV (dA 105) n (fun _ => defaultValue (.long : FieldType)) := by
  have e : jln (jnewA h 105 n) (jsz h) = n := by simp [jnewA_ln]
  have e2 : jAL (jnewA h 105 n) (jsz h) = fun _ => 0 := by
    funext j
    simp [jnewA_AI, jnewA_AL, jnewA_AD]
  unfold jarr
  rw [if_neg (by decide), if_pos rfl, e, e2]
  rfl
theorem hc_106 {dA : Nat → ClassId} (h : jH) (n : Nat) : vp_cell (dA 106) (jarr 106 (jnewA h 106 n) (jsz h)) = arrV (dA 106) n (fun _ => defaultValue (.double : FieldType)) := by
  have e : jln (jnewA h 106 n) (jsz h) = n := by simp [jnewA_ln]
  have e2 : jAD (jnewA h 106 n) (jsz h) = fun _ => 0 := by
    funext j
    simp [jnewA_AI, jnewA_AL, jnewA_AD]
  unfold jarr
  rw [if_neg (by decide), if_neg (by decide), if_pos rfl, e, e2]
  rfl
theorem in_J7b : ∀ w ∈ u_ws RJ7 TJ7 2, w ∈ lw_all := fun w h => by
  obtain ⟨k, hk, hw⟩ := List.mem_map.mp h
  exact in_J7 w (List.mem_map.mpr ⟨k, List.mem_range.mpr (Nat.lt_of_lt_of_le (List.mem_range.mp hk) (by decide)), hw⟩)
theorem nmA_105 {dA : Nat → ClassId} (U : State) (h : va_RA U (dA 105) .long) : U.vm.findClass "[J" = some (dA 105) := h
theorem nmA_107 {dA : Nat → ClassId} (U : State) (h : va_RA U (dA 107) (.object "java/lang/Object")) : U.vm.findClass "[Ljava/lang/Object;" = some (dA 107) := va_nmO h (by decide +kernel)
section HK
variable {s : State} {own : String} {pc : Nat} {ks : List Nat} {nm : String} {r hh : List (Nat × Nat × Nat × Nat)} {hs hs2 : List (Nat × List Nat)} {x : Nat × Nat × Nat × Nat} {k ct : Nat} {r0 : vw_C}
theorem jHok_no (h : ¬ (x.1 ≤ pc ∧ pc < x.2.1)) (kk : jHok s own pc r hs) : jHok s own pc (x :: r) hs := by
  unfold jHok
  rw [if_neg h]
  exact kk
theorem jHok_yes (h : x.1 ≤ pc ∧ pc < x.2.1) (hm : jHm s own x.2.2.2 ks) (kk : jHok s own pc r hs2) : jHok s own pc (x :: r) ((x.2.2.1, ks) :: hs2) := by
  unfold jHok
  rw [if_pos h]
  exact ⟨ks, hs2, rfl, hm, Or.inr kk⟩
theorem jHok_all (h : x.1 ≤ pc ∧ pc < x.2.1) (h0 : x.2.2.2 = 0) : jHok s own pc (x :: r) [(x.2.2.1, [6, 19, 29, 30, 31, 32, 33])] := by
  unfold jHok
  rw [if_pos h]
  refine ⟨_, [], rfl, ?_, Or.inl h0⟩
  unfold jHm
  rw [if_pos h0]
  exact fun k hk => hk
theorem jHm_of (h0 : ct ≠ 0) (q : Cond.classLink own ct nm ∈ lw_all) (h : ∀ k, jexk k → ∀ r9 : vw_C, jcls[k]? = some r9 → (k ∈ ks → Cond.castable r9.1 nm ∈ lw_tbl) ∧ (¬ k ∈ ks → va_Nc r9.1 nm s)) : jHm s own ct ks := by
  unfold jHm
  rw [if_neg h0]
  exact ⟨nm, q, fun k r9 hk hr => h k hk r9 hr⟩
theorem jex7 {P : Nat → Prop} (a : P 6) (b : P 19) (c : P 29) (d : P 30) (e : P 31) (f : P 32) (g : P 33) : ∀ k, jexk k → P k := by
  intro k hk
  unfold jexk at hk
  simp only [List.mem_cons, List.not_mem_nil, or_false] at hk
  rcases hk with rfl | rfl | rfl | rfl | rfl | rfl | rfl <;> assumption
theorem hm_y (hk : k ∈ ks) (kc : jcls[k]? = some r0) (q : Cond.castable r0.1 nm ∈ lw_tbl) : ∀ r9 : vw_C, jcls[k]? = some r9 → (k ∈ ks → Cond.castable r9.1 nm ∈ lw_tbl) ∧ (¬ k ∈ ks → va_Nc r9.1 nm s) := by
  intro r9 h
  cases Option.some.inj (kc.symm.trans h)
  exact ⟨fun _ => q, fun hn => absurd hk hn⟩
theorem hm_n (hk : ¬ k ∈ ks) (kc : jcls[k]? = some r0) (q : va_Nc r0.1 nm s) : ∀ r9 : vw_C, jcls[k]? = some r9 → (k ∈ ks → Cond.castable r9.1 nm ∈ lw_tbl) ∧ (¬ k ∈ ks → va_Nc r9.1 nm s) := by
  intro r9 h
  cases Option.some.inj (kc.symm.trans h)
  exact ⟨fun hn => absurd hn hk, fun _ => q⟩
end HK
theorem sw_hall {cs : List (Int32 × Nat)} {lo hi : Int} (n : Nat) (hn : lo + n = hi + 1) (hc : ∀ k : Nat, k < n → ∃ q ∈ cs, q.1.toInt = lo + k) (x : Int32) (hx : ∀ q ∈ cs, ¬ x = q.1) : x.toInt < lo ∨ hi < x.toInt := by
  by_cases h1 : x.toInt < lo
  · exact Or.inl h1
  · by_cases h2 : hi < x.toInt
    · exact Or.inr h2
    · obtain ⟨q, hq, e⟩ := hc (x.toInt - lo).toNat (by omega)
      exact absurd (Int32.toInt_inj.mp (by rw [e]; omega)) (hx q hq)
theorem at_in {own : String} {ic : Nat} {X : String} {names : List String} (ps : List Nat) (hp : vx_at0 own ic X names = ps.filterMap (fun i => lw_tbl[i]?)) (hg : (vx_at0 own ic X names).all (fun w => goodWord w || (jNok w && w.onTables)) = true) : ∀ w ∈ vx_at0 own ic X names, w ∈ lw_tbl ∧ (goodWord w = true ∨ (jNok w = true ∧ w.onTables = true)) := by
  intro w hw
  refine ⟨?_, ?_⟩
  · rw [hp] at hw
    obtain ⟨i, -, hi⟩ := List.mem_filterMap.mp hw
    exact List.mem_of_getElem? hi
  · have := List.all_eq_true.mp hg w hw
    simpa [Bool.or_eq_true, Bool.and_eq_true] using this
