/-! THE CONTRACTS AT EVERY DEPTH (own work) -/
set_option maxRecDepth 100000
set_option maxHeartbeats 4000000
section IND
variable {l : Launch} {D : va_G} {dA : Nat → ClassId} {lo : Nat} {cs0 : Nat → Option Nat} {d : Nat}
theorem getc {α : Type} {L : List α} {P : Nat → α → Prop} {a : α} (h0 : P 0 a) (h : ∀ (k : Nat) (q : α), L[k]? = some q → P (k + 1) q) : ∀ (k : Nat) (q : α), (a :: L)[k]? = some q → P k q := by
  intro k q hq
  cases k with
  | zero => cases hq; exact h0
  | succ k => exact h k q hq
theorem getn {α : Type} {P : Nat → α → Prop} : ∀ (k : Nat) (q : α), ([] : List α)[k]? = some q → P k q := by
  intro k q hq
  simp at hq
theorem geta {α : Type} {A B : List α} {P : Nat → α → Prop} (n : Nat) (hn : A.length = n) (ha : ∀ (k : Nat) (q : α), A[k]? = some q → P k q) (hb : ∀ (k : Nat) (q : α), B[k]? = some q → P (k + n) q) : ∀ (k : Nat) (q : α), (A ++ B)[k]? = some q → P k q := by
  intro k q hq
  subst hn
  by_cases hk : k < A.length
  · rw [List.getElem?_append_left hk] at hq
    exact ha k q hq
  · rw [List.getElem?_append_right (Nat.not_lt.mp hk)] at hq
    have := hb _ q hq
    rwa [Nat.sub_add_cancel (Nat.not_lt.mp hk)] at this
theorem vl_0 (hst : l.stackTraces = false) (hz : jEz (EV (d + 1))) (hI : jIH l D dA lo cs0 d) : ∀ (k : Nat) (q : MethodName × List Cond), jml_0[k]? = some q → Nat.beq (k + 2) 79 = false → jMe l D dA lo cs0 (EV (d + 1)) (k + 2) q.1 q.2 (d + 1) := by
  refine getc (fun _ => v_X1_init hst hz hI) ?_
  refine getc (fun _ => v_X4_init hst hz hI) ?_
  refine getc (fun _ => v_X0_appendCharacter hst hz hI) ?_
  refine getc (fun _ => v_X4_appendCharacter hst hz hI) ?_
  refine getc (fun _ => v_X4_thrown hst hz hI) ?_
  refine getc (fun _ => v_X0_setBody hst hz hI) ?_
  refine getc (fun _ => v_X4_setBody hst hz hI) ?_
  refine getc (fun _ => v_X1_faultPosition hst hz hI) ?_
  refine getc (fun _ => v_X4_faultPosition hst hz hI) ?_
  refine getc (fun _ => v_X1_statementCount hst hz hI) ?_
  refine getc (fun _ => v_X4_statementCount hst hz hI) ?_
  refine getc (fun _ => v_X0_kind hst hz hI) ?_
  refine getc (fun _ => v_X4_kind hst hz hI) ?_
  refine getc (fun _ => v_X0_functionOf hst hz hI) ?_
  refine getc (fun _ => v_X4_functionOf hst hz hI) ?_
  refine getc (fun _ => v_X1_siteCount hst hz hI) ?_
  refine getc (fun _ => v_X4_siteCount hst hz hI) ?_
  refine getc (fun _ => v_X0_setLimit hst hz hI) ?_
  refine getc (fun _ => v_X4_setLimit hst hz hI) ?_
  refine getc (fun _ => v_X0_contextCount hst hz hI) ?_
  refine getc (fun _ => v_X4_contextCount hst hz hI) ?_
  refine getc (fun _ => v_X0_contextLength hst hz hI) ?_
  refine getc (fun _ => v_X4_contextLength hst hz hI) ?_
  refine getc (fun _ => v_X0_contextCall hst hz hI) ?_
  refine getc (fun _ => v_X4_contextCall hst hz hI) ?_
  refine getc (fun _ => v_X0_pointsTo hst hz hI) ?_
  refine getc (fun _ => v_X4_pointsTo hst hz hI) ?_
  refine getc (fun _ => v_X0_pointsToIn hst hz hI) ?_
  refine getc (fun _ => v_X4_pointsToIn hst hz hI) ?_
  refine getc (fun _ => v_X0_fieldPointsTo hst hz hI) ?_
  refine getc (fun _ => v_X4_fieldPointsTo hst hz hI) ?_
  refine getc (fun _ => v_X1_factCount hst hz hI) ?_
  refine getc (fun _ => v_X4_factCount hst hz hI) ?_
  refine getc (fun _ => v_X0_mayAlias hst hz hI) ?_
  refine getc (fun _ => v_X4_mayAlias hst hz hI) ?_
  refine getc (fun _ => v_X0_reach hst hz hI) ?_
  refine getc (fun _ => v_X4_reach hst hz hI) ?_
  refine getc (fun _ => v_X1_escapingSites hst hz hI) ?_
  refine getc (fun _ => v_X4_escapingSites hst hz hI) ?_
  refine getc (fun _ => v_X0_rank hst hz hI) ?_
  refine getc (fun _ => v_X4_rank hst hz hI) ?_
  refine getc (fun _ => v_X0_reason hst hz hI) ?_
  refine getc (fun _ => v_X4_reason hst hz hI) ?_
  refine getc (fun _ => v_X1_roundCount hst hz hI) ?_
  refine getc (fun _ => v_X4_roundCount hst hz hI) ?_
  refine getc (fun _ => v_X0_unifiedTargets hst hz hI) ?_
  refine getc (fun _ => v_X4_unifiedTargets hst hz hI) ?_
  refine getc (fun _ => v_X0_areUnified hst hz hI) ?_
  refine getc (fun _ => v_X4_areUnified hst hz hI) ?_
  refine getc (fun _ => v_X1_unifiedClasses hst hz hI) ?_
  exact getn
theorem vl_1 (hst : l.stackTraces = false) (hz : jEz (EV (d + 1))) (hI : jIH l D dA lo cs0 d) : ∀ (k : Nat) (q : MethodName × List Cond), jml_1[k]? = some q → Nat.beq (k + 52) 79 = false → jMe l D dA lo cs0 (EV (d + 1)) (k + 52) q.1 q.2 (d + 1) := by
  refine getc (fun _ => v_X4_unifiedClasses hst hz hI) ?_
  refine getc (fun _ => v_X0_modifies hst hz hI) ?_
  refine getc (fun _ => v_X4_modifies hst hz hI) ?_
  refine getc (fun _ => v_X0_isReachable hst hz hI) ?_
  refine getc (fun _ => v_X4_isReachable hst hz hI) ?_
  refine getc (fun _ => v_X0_isRecursive hst hz hI) ?_
  refine getc (fun _ => v_X4_isRecursive hst hz hI) ?_
  refine getc (fun _ => v_X0_cycleOf hst hz hI) ?_
  refine getc (fun _ => v_X4_cycleOf hst hz hI) ?_
  refine getc (fun _ => v_X1_run hst hz hI) ?_
  refine getc (fun _ => v_X4_run hst hz hI) ?_
  refine getc (fun _ => v_X0_observed hst hz hI) ?_
  refine getc (fun _ => v_X4_observed hst hz hI) ?_
  refine getc (fun _ => v_X0_fieldObserved hst hz hI) ?_
  refine getc (fun _ => v_X4_fieldObserved hst hz hI) ?_
  refine getc (fun _ => v_X1_faults hst hz hI) ?_
  refine getc (fun _ => v_X4_faults hst hz hI) ?_
  refine getc (fun _ => v_X1_objects hst hz hI) ?_
  refine getc (fun _ => v_X4_objects hst hz hI) ?_
  refine getc (fun _ => v_X0_precision hst hz hI) ?_
  refine getc (fun _ => v_X4_precision hst hz hI) ?_
  refine getc (fun _ => v_X0_averageTargets hst hz hI) ?_
  refine getc (fun _ => v_X4_averageTargets hst hz hI) ?_
  refine getc (fun _ => v_X1_save hst hz hI) ?_
  refine getc (fun _ => v_X4_save hst hz hI) ?_
  refine getc (fun _ => v_X0_restore hst hz hI) ?_
  refine getc (fun _ => v_X4_restore hst hz hI) ?_
  refine getc (fun hne => by cases hne) ?_
  refine getc (fun _ => v_X2_init hst hz hI) ?_
  refine getc (fun _ => v_J4_init hst hz hI) ?_
  refine getc (fun _ => v_X2_with hst hz hI) ?_
  refine getc (fun _ => v_X1_appendCharacter hst hz hI) ?_
  refine getc (fun _ => v_X4_isBetween hst hz hI) ?_
  refine getc (fun _ => v_X4_fails hst hz hI) ?_
  refine getc (fun _ => v_X1_setBody hst hz hI) ?_
  refine getc (fun _ => v_X4_isFunction hst hz hI) ?_
  refine getc (fun _ => v_X4_takesText hst hz hI) ?_
  refine getc (fun _ => v_X4_many hst hz hI) ?_
  refine getc (fun _ => v_X4_copies hst hz hI) ?_
  refine getc (fun _ => v_X4_forgets hst hz hI) ?_
  refine getc (fun _ => v_J4_size hst hz hI) ?_
  refine getc (fun _ => v_X4_statements hst hz hI) ?_
  refine getc (fun _ => v_X1_kind hst hz hI) ?_
  refine getc (fun _ => v_X4_isStatement hst hz hI) ?_
  refine getc (fun _ => v_X4_placeOf hst hz hI) ?_
  refine getc (fun _ => v_X1_functionOf hst hz hI) ?_
  refine getc (fun _ => v_X4_sites hst hz hI) ?_
  refine getc (fun _ => v_X1_setLimit hst hz hI) ?_
  refine getc (fun _ => v_X1_contextCount hst hz hI) ?_
  refine getc (fun _ => v_X4_refreshes hst hz hI) ?_
  exact getn
theorem vl_2 (hst : l.stackTraces = false) (hz : jEz (EV (d + 1))) (hI : jIH l D dA lo cs0 d) : ∀ (k : Nat) (q : MethodName × List Cond), jml_2[k]? = some q → Nat.beq (k + 102) 79 = false → jMe l D dA lo cs0 (EV (d + 1)) (k + 102) q.1 q.2 (d + 1) := by
  refine getc (fun _ => v_X4_contextsOf hst hz hI) ?_
  refine getc (fun _ => v_X1_contextLength hst hz hI) ?_
  refine getc (fun _ => v_X4_codeOf hst hz hI) ?_
  refine getc (fun _ => v_X1_contextCall hst hz hI) ?_
  refine getc (fun _ => v_X1_pointsTo hst hz hI) ?_
  refine getc (fun _ => v_X4_isVariable hst hz hI) ?_
  refine getc (fun _ => v_X4_targetsBy hst hz hI) ?_
  refine getc (fun _ => v_X1_pointsToIn hst hz hI) ?_
  refine getc (fun _ => v_X4_firstOf hst hz hI) ?_
  refine getc (fun _ => v_X4_cellOf hst hz hI) ?_
  refine getc (fun _ => v_X4_targetsOf hst hz hI) ?_
  refine getc (fun _ => v_X1_fieldPointsTo hst hz hI) ?_
  refine getc (fun _ => v_X4_isField hst hz hI) ?_
  refine getc (fun _ => v_X1_analyze hst hz hI) ?_
  refine getc (fun _ => v_X8_countFacts hst hz hI) ?_
  refine getc (fun _ => v_X4_bits hst hz hI) ?_
  refine getc (fun _ => v_X1_mayAlias hst hz hI) ?_
  refine getc (fun _ => v_X4_refuses hst hz hI) ?_
  refine getc (fun _ => v_X1_reach hst hz hI) ?_
  refine getc (fun _ => v_X4_reached hst hz hI) ?_
  refine getc (fun _ => v_X1_reachFrom hst hz hI) ?_
  refine getc (fun _ => v_X1_fieldCode hst hz hI) ?_
  refine getc (fun _ => v_X1_rank hst hz hI) ?_
  refine getc (fun _ => v_X4_factAt hst hz hI) ?_
  refine getc (fun _ => v_X1_reason hst hz hI) ?_
  refine getc (fun _ => v_X1_findRanks hst hz hI) ?_
  refine getc (fun _ => v_X1_unifiedTargets hst hz hI) ?_
  refine getc (fun _ => v_X4_unified hst hz hI) ?_
  refine getc (fun _ => v_X1_areUnified hst hz hI) ?_
  refine getc (fun _ => v_X4_rootOf hst hz hI) ?_
  refine getc (fun _ => v_X15_init hst hz hI) ?_
  refine getc (fun _ => v_X15_countClasses hst hz hI) ?_
  refine getc (fun _ => v_X1_modifies hst hz hI) ?_
  refine getc (fun _ => v_X4_called hst hz hI) ?_
  refine getc (fun _ => v_X1_isReachable hst hz hI) ?_
  refine getc (fun _ => v_X1_isRecursive hst hz hI) ?_
  refine getc (fun _ => v_X1_cycleOf hst hz hI) ?_
  refine getc (fun _ => v_X4_led hst hz hI) ?_
  refine getc (fun _ => v_X17_init hst hz hI) ?_
  refine getc (fun _ => v_X4_opens hst hz hI) ?_
  refine getc (fun _ => v_X4_closes hst hz hI) ?_
  refine getc (fun _ => v_X4_executes hst hz hI) ?_
  refine getc (fun _ => v_X1_observed hst hz hI) ?_
  refine getc (fun _ => v_X1_fieldObserved hst hz hI) ?_
  refine getc (fun _ => v_X1_precision hst hz hI) ?_
  refine getc (fun _ => v_X1_averageTargets hst hz hI) ?_
  refine getc (fun _ => v_X4_passState hst hz hI) ?_
  refine getc (fun _ => v_X1_restore hst hz hI) ?_
  refine getc (fun _ => v_J1_init hst hz hI) ?_
  refine getc (fun _ => v_J6_valueOf hst hz hI) ?_
  exact getn
theorem vl_3 (hst : l.stackTraces = false) (hz : jEz (EV (d + 1))) (hI : jIH l D dA lo cs0 d) : ∀ (k : Nat) (q : MethodName × List Cond), jml_3[k]? = some q → Nat.beq (k + 152) 79 = false → jMe l D dA lo cs0 (EV (d + 1)) (k + 152) q.1 q.2 (d + 1) := by
  refine getc (fun _ => v_J1_put hst hz hI) ?_
  refine getc (fun _ => v_J3_init hst hz hI) ?_
  refine getc (fun _ => v_J1_putAll hst hz hI) ?_
  refine getc (fun _ => v_J1_get hst hz hI) ?_
  refine getc (fun _ => v_J4_get hst hz hI) ?_
  refine getc (fun _ => v_X3_init hst hz hI) ?_
  refine getc (fun _ => v_J4_add hst hz hI) ?_
  refine getc (fun _ => v_X1_isBetween hst hz hI) ?_
  refine getc (fun _ => v_X1_requireArgument hst hz hI) ?_
  refine getc (fun _ => v_X1_requireState hst hz hI) ?_
  refine getc (fun _ => v_X1_isFunction hst hz hI) ?_
  refine getc (fun _ => v_X1_requireIndex hst hz hI) ?_
  refine getc (fun _ => v_X1_readBody hst hz hI) ?_
  refine getc (fun _ => v_X2_countAll hst hz hI) ?_
  refine getc (fun _ => v_X1_setProgram hst hz hI) ?_
  refine getc (fun _ => v_X4_takesStatement hst hz hI) ?_
  refine getc (fun _ => v_X4_skips hst hz hI) ?_
  refine getc (fun _ => v_X1_statement hst hz hI) ?_
  refine getc (fun _ => v_J28_ordinal hst hz hI) ?_
  refine getc (fun _ => v_X10_count hst hz hI) ?_
  refine getc (fun _ => v_X4_findRanks hst hz hI) ?_
  refine getc (fun _ => v_X4_findContexts hst hz hI) ?_
  refine getc (fun _ => v_X4_clears hst hz hI) ?_
  refine getc (fun _ => v_X4_follows hst hz hI) ?_
  refine getc (fun _ => v_X4_findUnification hst hz hI) ?_
  refine getc (fun _ => v_X1_context hst hz hI) ?_
  refine getc (fun _ => v_X1_isVariable hst hz hI) ?_
  refine getc (fun _ => v_X8_pointsTo hst hz hI) ?_
  refine getc (fun _ => v_X1_ownerOf hst hz hI) ?_
  refine getc (fun _ => v_X8_cell hst hz hI) ?_
  refine getc (fun _ => v_X8_codes hst hz hI) ?_
  refine getc (fun _ => v_X4_isIn hst hz hI) ?_
  refine getc (fun _ => v_X4_targetOf hst hz hI) ?_
  refine getc (fun _ => v_X1_code hst hz hI) ?_
  refine getc (fun _ => v_X8_init hst hz hI) ?_
  refine getc (fun _ => v_X12_find hst hz hI) ?_
  refine getc (fun _ => v_J40_cardinality hst hz hI) ?_
  refine getc (fun _ => v_J12_numberOfTrailingZeros hst hz hI) ?_
  refine getc (fun _ => v_X1_requireFact hst hz hI) ?_
  refine getc (fun _ => v_X4_isTarget hst hz hI) ?_
  refine getc (fun _ => v_X2_callees hst hz hI) ?_
  refine getc (fun _ => v_X14_init hst hz hI) ?_
  refine getc (fun _ => v_X15_targets hst hz hI) ?_
  refine getc (fun _ => v_X4_pointed hst hz hI) ?_
  refine getc (fun _ => v_X16_find hst hz hI) ?_
  refine getc (fun _ => v_X16_init hst hz hI) ?_
  refine getc (fun _ => v_X15_unify hst hz hI) ?_
  refine getc (fun _ => v_X3_is hst hz hI) ?_
  refine getc (fun _ => v_X1_paths hst hz hI) ?_
  refine getc (fun _ => v_X4_edge hst hz hI) ?_
  exact getn
theorem vl_4 (hst : l.stackTraces = false) (hz : jEz (EV (d + 1))) (hI : jIH l D dA lo cs0 d) : ∀ (k : Nat) (q : MethodName × List Cond), jml_4[k]? = some q → Nat.beq (k + 202) 79 = false → jMe l D dA lo cs0 (EV (d + 1)) (k + 202) q.1 q.2 (d + 1) := by
  refine getc (fun _ => v_X18_init hst hz hI) ?_
  refine getc (fun _ => v_X17_activate hst hz hI) ?_
  refine getc (fun _ => v_X4_placeIn hst hz hI) ?_
  refine getc (fun _ => v_X4_assigns hst hz hI) ?_
  refine getc (fun _ => v_X4_siteOf hst hz hI) ?_
  refine getc (fun _ => v_X4_makesObject hst hz hI) ?_
  refine getc (fun _ => v_X4_offsets hst hz hI) ?_
  refine getc (fun _ => v_J12_bitCount hst hz hI) ?_
  refine getc (fun _ => v_X4_passes hst hz hI) ?_
  refine getc (fun _ => v_J0_init hst hz hI) ?_
  refine getc (fun _ => v_J1_put_2 hst hz hI) ?_
  refine getc (fun _ => v_J2_init hst hz hI) ?_
  refine getc (fun _ => v_J1_size hst hz hI) ?_
  refine getc (fun _ => v_J1_comparator hst hz hI) ?_
  refine getc (fun _ => v_J16_equals hst hz hI) ?_
  refine getc (fun _ => v_J1_entrySet hst hz hI) ?_
  refine getc (fun _ => v_J18_iterator hst hz hI) ?_
  refine getc (fun _ => v_J22_iterator hst hz hI) ?_
  refine getc (fun _ => v_J37_iterator hst hz hI) ?_
  refine getc (fun _ => v_J1_buildFromSorted hst hz hI) ?_
  refine getc (fun _ => v_J1_getEntry hst hz hI) ?_
  refine getc (fun _ => v_J16_checkIndex hst hz hI) ?_
  refine getc (fun _ => v_J4_elementData hst hz hI) ?_
  refine getc (fun _ => v_J4_add_2 hst hz hI) ?_
  refine getc (fun _ => v_X5_init hst hz hI) ?_
  refine getc (fun _ => v_X5_body hst hz hI) ?_
  refine getc (fun _ => v_X1_count hst hz hI) ?_
  refine getc (fun _ => v_X4_takesStore hst hz hI) ?_
  refine getc (fun _ => v_X4_name hst hz hI) ?_
  refine getc (fun _ => v_X4_puts hst hz hI) ?_
  refine getc (fun _ => v_X4_takesCall hst hz hI) ?_
  refine getc (fun _ => v_X4_digit hst hz hI) ?_
  refine getc (fun _ => v_X4_next hst hz hI) ?_
  refine getc (fun _ => v_X4_contextOf hst hz hI) ?_
  refine getc (fun _ => v_X4_notes hst hz hI) ?_
  refine getc (fun _ => v_X4_addsContext hst hz hI) ?_
  refine getc (fun _ => v_X4_numberOf hst hz hI) ?_
  refine getc (fun _ => v_X4_codeBehind hst hz hI) ?_
  refine getc (fun _ => v_X4_adds hst hz hI) ?_
  refine getc (fun _ => v_X4_addsAll hst hz hI) ?_
  refine getc (fun _ => v_X4_made hst hz hI) ?_
  refine getc (fun _ => v_X4_unifiesBy hst hz hI) ?_
  refine getc (fun _ => v_J40_nextSetBit hst hz hI) ?_
  refine getc (fun _ => v_X9_init hst hz hI) ?_
  refine getc (fun _ => v_J36_init hst hz hI) ?_
  refine getc (fun _ => v_X10_init hst hz hI) ?_
  refine getc (fun _ => v_X8_makeCells hst hz hI) ?_
  refine getc (fun _ => v_X8_constrain hst hz hI) ?_
  refine getc (fun _ => v_X8_collapse hst hz hI) ?_
  refine getc (fun _ => v_J40_isEmpty hst hz hI) ?_
  exact getn
theorem vl_5 (hst : l.stackTraces = false) (hz : jEz (EV (d + 1))) (hI : jIH l D dA lo cs0 d) : ∀ (k : Nat) (q : MethodName × List Cond), jml_5[k]? = some q → Nat.beq (k + 252) 79 = false → jMe l D dA lo cs0 (EV (d + 1)) (k + 252) q.1 q.2 (d + 1) := by
  refine getc (fun _ => v_X8_push hst hz hI) ?_
  refine getc (fun _ => v_J2_isEmpty hst hz hI) ?_
  refine getc (fun _ => v_J36_poll hst hz hI) ?_
  refine getc (fun _ => v_X8_flow hst hz hI) ?_
  refine getc (fun _ => v_J6_numberOfTrailingZeros hst hz hI) ?_
  refine getc (fun _ => v_J40_clone hst hz hI) ?_
  refine getc (fun _ => v_X14_derive hst hz hI) ?_
  refine getc (fun _ => v_X16_target hst hz hI) ?_
  refine getc (fun _ => v_X15_join hst hz hI) ?_
  refine getc (fun _ => v_X1_local hst hz hI) ?_
  refine getc (fun _ => v_X17_assign hst hz hI) ?_
  refine getc (fun _ => v_X17_execute hst hz hI) ?_
  refine getc (fun _ => v_J1_addEntryToEmptyMap hst hz hI) ?_
  refine getc (fun _ => v_X9_compare hst hz hI) ?_
  refine getc (fun _ => v_J16_requireNonNull hst hz hI) ?_
  refine getc (fun _ => v_J6_compareTo hst hz hI) ?_
  refine getc (fun _ => v_X11_compareTo hst hz hI) ?_
  refine getc (fun _ => v_J1_addEntry hst hz hI) ?_
  refine getc (fun _ => v_J44_equals hst hz hI) ?_
  refine getc (fun _ => v_J18_init hst hz hI) ?_
  refine getc (fun _ => v_J1_getFirstEntry hst hz hI) ?_
  refine getc (fun _ => v_J20_init hst hz hI) ?_
  refine getc (fun _ => v_J1_keyIterator hst hz hI) ?_
  refine getc (fun _ => v_J1_navigableKeySet hst hz hI) ?_
  refine getc (fun _ => v_J1_computeRedLevel hst hz hI) ?_
  refine getc (fun _ => v_J1_buildFromSorted_2 hst hz hI) ?_
  refine getc (fun _ => v_J19_hasNext hst hz hI) ?_
  refine getc (fun _ => v_J20_next hst hz hI) ?_
  refine getc (fun _ => v_J21_next hst hz hI) ?_
  refine getc (fun _ => v_J15_getKey hst hz hI) ?_
  refine getc (fun _ => v_J15_getValue hst hz hI) ?_
  refine getc (fun _ => v_J14_checkIndex hst hz hI) ?_
  refine getc (fun _ => v_J4_grow hst hz hI) ?_
  refine getc (fun _ => v_X5_statement hst hz hI) ?_
  refine getc (fun _ => v_X5_passes hst hz hI) ?_
  refine getc (fun _ => v_X5_must hst hz hI) ?_
  refine getc (fun _ => v_X4_unifies hst hz hI) ?_
  refine getc (fun _ => v_J40_checkInvariants hst hz hI) ?_
  refine getc (fun _ => v_J40_wordIndex hst hz hI) ?_
  refine getc (fun _ => v_J35_init hst hz hI) ?_
  refine getc (fun _ => v_J37_init hst hz hI) ?_
  refine getc (fun _ => v_X11_init hst hz hI) ?_
  refine getc (fun _ => v_J37_add hst hz hI) ?_
  refine getc (fun _ => v_J4_init_2 hst hz hI) ?_
  refine getc (fun _ => v_X11_with hst hz hI) ?_
  refine getc (fun _ => v_X8_add hst hz hI) ?_
  refine getc (fun _ => v_J40_set hst hz hI) ?_
  refine getc (fun _ => v_X13_init hst hz hI) ?_
  refine getc (fun _ => v_X10_indexOf hst hz hI) ?_
  refine getc (fun _ => v_X8_reachedFrom hst hz hI) ?_
  exact getn
theorem vl_6 (hst : l.stackTraces = false) (hz : jEz (EV (d + 1))) (hI : jIH l D dA lo cs0 d) : ∀ (k : Nat) (q : MethodName × List Cond), jml_6[k]? = some q → Nat.beq (k + 302) 79 = false → jMe l D dA lo cs0 (EV (d + 1)) (k + 302) q.1 q.2 (d + 1) := by
  refine getc (fun _ => v_J40_get hst hz hI) ?_
  refine getc (fun _ => v_X8_merge hst hz hI) ?_
  refine getc (fun _ => v_J36_add hst hz hI) ?_
  refine getc (fun _ => v_J36_size hst hz hI) ?_
  refine getc (fun _ => v_J37_size hst hz hI) ?_
  refine getc (fun _ => v_J36_siftDownUsingComparator hst hz hI) ?_
  refine getc (fun _ => v_X8_connect hst hz hI) ?_
  refine getc (fun _ => v_X8_moved hst hz hI) ?_
  refine getc (fun _ => v_X8_grow hst hz hI) ?_
  refine getc (fun _ => v_J40_trimToSize hst hz hI) ?_
  refine getc (fun _ => v_X14_add hst hz hI) ?_
  refine getc (fun _ => v_X14_moved hst hz hI) ?_
  refine getc (fun _ => v_X17_requireTime hst hz hI) ?_
  refine getc (fun _ => v_X17_place hst hz hI) ?_
  refine getc (fun _ => v_X17_load hst hz hI) ?_
  refine getc (fun _ => v_X17_store hst hz hI) ?_
  refine getc (fun _ => v_X17_allocate hst hz hI) ?_
  refine getc (fun _ => v_X17_move hst hz hI) ?_
  refine getc (fun _ => v_J1_compare hst hz hI) ?_
  refine getc (fun _ => v_J15_init hst hz hI) ?_
  refine getc (fun _ => v_X9_compare_2 hst hz hI) ?_
  refine getc (fun _ => v_J6_compareTo_2 hst hz hI) ?_
  refine getc (fun _ => v_X11_compareTo_2 hst hz hI) ?_
  refine getc (fun _ => v_J1_fixAfterInsertion hst hz hI) ?_
  refine getc (fun _ => v_J17_init hst hz hI) ?_
  refine getc (fun _ => v_J19_init hst hz hI) ?_
  refine getc (fun _ => v_J21_init hst hz hI) ?_
  refine getc (fun _ => v_J22_init hst hz hI) ?_
  refine getc (fun _ => v_J6_numberOfLeadingZeros hst hz hI) ?_
  refine getc (fun _ => v_J20_next_2 hst hz hI) ?_
  refine getc (fun _ => v_J19_nextEntry hst hz hI) ?_
  refine getc (fun _ => v_J4_grow_2 hst hz hI) ?_
  refine getc (fun _ => v_X5_assignment hst hz hI) ?_
  refine getc (fun _ => v_X5_variable hst hz hI) ?_
  refine getc (fun _ => v_X7_init hst hz hI) ?_
  refine getc (fun _ => v_X5_here hst hz hI) ?_
  refine getc (fun _ => v_X6_init hst hz hI) ?_
  refine getc (fun _ => v_J37_init_2 hst hz hI) ?_
  refine getc (fun _ => v_J2_toArray hst hz hI) ?_
  refine getc (fun _ => v_J4_toArray hst hz hI) ?_
  refine getc (fun _ => v_J29_copyOf_2 hst hz hI) ?_
  refine getc (fun _ => v_J9_min hst hz hI) ?_
  refine getc (fun _ => v_X12_init hst hz hI) ?_
  refine getc (fun _ => v_J40_expandTo hst hz hI) ?_
  refine getc (fun _ => v_J40_init hst hz hI) ?_
  refine getc (fun _ => v_J40_clear hst hz hI) ?_
  refine getc (fun _ => v_J40_or hst hz hI) ?_
  refine getc (fun _ => v_J40_andNot hst hz hI) ?_
  refine getc (fun _ => v_J4_addAll hst hz hI) ?_
  refine getc (fun _ => v_J36_offer hst hz hI) ?_
  exact getn
theorem vl_7 (hst : l.stackTraces = false) (hz : jEz (EV (d + 1))) (hI : jIH l D dA lo cs0 d) : ∀ (k : Nat) (q : MethodName × List Cond), jml_7[k]? = some q → Nat.beq (k + 352) 79 = false → jMe l D dA lo cs0 (EV (d + 1)) (k + 352) q.1 q.2 (d + 1) := by
  refine getc (fun _ => v_J36_remove hst hz hI) ?_
  refine getc (fun _ => v_J29_copyOf_4 hst hz hI) ?_
  refine getc (fun _ => v_X19_init hst hz hI) ?_
  refine getc (fun _ => v_J6_compare hst hz hI) ?_
  refine getc (fun _ => v_J1_parentOf hst hz hI) ?_
  refine getc (fun _ => v_J1_leftOf hst hz hI) ?_
  refine getc (fun _ => v_J1_rightOf hst hz hI) ?_
  refine getc (fun _ => v_J1_colorOf hst hz hI) ?_
  refine getc (fun _ => v_J1_setColor hst hz hI) ?_
  refine getc (fun _ => v_J1_rotateLeft hst hz hI) ?_
  refine getc (fun _ => v_J1_rotateRight hst hz hI) ?_
  refine getc (fun _ => v_J1_successor hst hz hI) ?_
  refine getc (fun _ => v_J10_newLength hst hz hI) ?_
  refine getc (fun _ => v_J29_copyOf hst hz hI) ?_
  refine getc (fun _ => v_J9_max hst hz hI) ?_
  refine getc (fun _ => v_X5_digit hst hz hI) ?_
  refine getc (fun _ => v_J7_indexOf hst hz hI) ?_
  refine getc (fun _ => v_J24_init_3 hst hz hI) ?_
  refine getc (fun _ => v_J40_ensureCapacity hst hz hI) ?_
  refine getc (fun _ => v_J40_initWords hst hz hI) ?_
  refine getc (fun _ => v_J40_recalculateWordsInUse hst hz hI) ?_
  refine getc (fun _ => v_J36_grow hst hz hI) ?_
  refine getc (fun _ => v_J36_siftUp hst hz hI) ?_
  refine getc (fun _ => v_J36_indexOf hst hz hI) ?_
  refine getc (fun _ => v_J36_removeAt hst hz hI) ?_
  refine getc (fun _ => v_J7_indexOf_2 hst hz hI) ?_
  refine getc (fun _ => v_J23_init_3 hst hz hI) ?_
  refine getc (fun _ => v_J36_siftUpUsingComparator hst hz hI) ?_
  refine getc (fun _ => v_J36_siftDown hst hz hI) ?_
  refine getc (fun _ => v_J7_isLatin1 hst hz hI) ?_
  refine getc (fun _ => v_J8_indexOf hst hz hI) ?_
  refine getc (fun _ => v_J8_canEncode hst hz hI) ?_
  refine getc (fun _ => v_J8_indexOfChar hst hz hI) ?_
  exact getn
theorem v_all (hst : l.stackTraces = false) (hz : jEz (EV (d + 1))) (hI : jIH l D dA lo cs0 d) : jIH l D dA lo cs0 (d + 1) := by
  intro n q h
  cases hb : Nat.beq n 79 with
  | true =>
    unfold jml at h
    rw [hb] at h
    cases h
  | false =>
    unfold jml at h
    rw [hb] at h
    match n, h, hb with
    | k + 2, h, hb =>
      exact (show ∀ (k : Nat) (q : MethodName × List Cond), (jml_0 ++ jml_1 ++ jml_2 ++ jml_3 ++ jml_4 ++ jml_5 ++ jml_6 ++ jml_7)[k]? = some q → (fun k q => Nat.beq (k + 2) 79 = false → jMe l D dA lo cs0 (EV (d + 1)) (k + 2) q.1 q.2 (d + 1)) k q from geta 350 rfl (geta 300 rfl (geta 250 rfl (geta 200 rfl (geta 150 rfl (geta 100 rfl (geta 50 rfl (vl_0 hst hz hI) (vl_1 hst hz hI)) (vl_2 hst hz hI)) (vl_3 hst hz hI)) (vl_4 hst hz hI)) (vl_5 hst hz hI)) (vl_6 hst hz hI)) (vl_7 hst hz hI)) k q h hb
theorem jIH_all (hst : l.stackTraces = false) : ∀ d, jIH l D dA lo cs0 d
  | 0 => fun _ _ _ _ _ _ _ hE => hE.elim
  | d + 1 => v_all hst (EV_z (d + 1)) (jIH_all hst d)
end IND
