/-! METHODS (own work) -/
set_option maxRecDepth 100000
def jml_0 : List (MethodName × List Cond) := [(yX1_init, (ws_ yX1_init cX1_init 1 (Option.none : Option Jvm.ClassFile.FieldType))), (yX4_init, (ws_ yX4_init cX4_init 1 (Option.none : Option Jvm.ClassFile.FieldType))), (yX0_appendCharacter, (wsW_ yX0_appendCharacter cX0_appendCharacter 4 (Option.some Jvm.ClassFile.FieldType.int) [((0 : Nat), (9 : Nat), (12 : Nat), (13 : Nat)), ((0 : Nat), (9 : Nat), (15 : Nat), (15 : Nat))])), (yX4_appendCharacter, (ws_ yX4_appendCharacter cX4_appendCharacter 2 (Option.some Jvm.ClassFile.FieldType.int))), (yX4_thrown, (ws_ yX4_thrown cX4_thrown 1 (Option.some Jvm.ClassFile.FieldType.int))), (yX0_setBody, (wsW_ yX0_setBody cX0_setBody 4 (Option.some Jvm.ClassFile.FieldType.int) [((0 : Nat), (9 : Nat), (12 : Nat), (20 : Nat)), ((0 : Nat), (9 : Nat), (15 : Nat), (13 : Nat)), ((0 : Nat), (9 : Nat), (18 : Nat), (15 : Nat))])), (yX4_setBody, (ws_ yX4_setBody cX4_setBody 3 (Option.some Jvm.ClassFile.FieldType.int))), (yX1_faultPosition, (ws_ yX1_faultPosition cX1_faultPosition 1 (Option.some Jvm.ClassFile.FieldType.int))), (yX4_faultPosition, (ws_ yX4_faultPosition cX4_faultPosition 1 (Option.some Jvm.ClassFile.FieldType.int))), (yX1_statementCount, (ws_ yX1_statementCount cX1_statementCount 1 (Option.some Jvm.ClassFile.FieldType.int))), (yX4_statementCount, (ws_ yX4_statementCount cX4_statementCount 1 (Option.some Jvm.ClassFile.FieldType.int))), (yX0_kind, (wsW_ yX0_kind cX0_kind 4 (Option.some Jvm.ClassFile.FieldType.int) [((0 : Nat), (9 : Nat), (12 : Nat), (20 : Nat))])), (yX4_kind, (ws_ yX4_kind cX4_kind 2 (Option.some Jvm.ClassFile.FieldType.int))), (yX0_functionOf, (wsW_ yX0_functionOf cX0_functionOf 4 (Option.some Jvm.ClassFile.FieldType.int) [((0 : Nat), (9 : Nat), (12 : Nat), (20 : Nat))])), (yX4_functionOf, (ws_ yX4_functionOf cX4_functionOf 2 (Option.some Jvm.ClassFile.FieldType.int))), (yX1_siteCount, (ws_ yX1_siteCount cX1_siteCount 1 (Option.some Jvm.ClassFile.FieldType.int))), (yX4_siteCount, (ws_ yX4_siteCount cX4_siteCount 1 (Option.some Jvm.ClassFile.FieldType.int))), (yX0_setLimit, (wsW_ yX0_setLimit cX0_setLimit 4 (Option.some Jvm.ClassFile.FieldType.int) [((0 : Nat), (9 : Nat), (12 : Nat), (13 : Nat))])), (yX4_setLimit, (ws_ yX4_setLimit cX4_setLimit 3 (Option.some Jvm.ClassFile.FieldType.int))), (yX0_contextCount, (wsW_ yX0_contextCount cX0_contextCount 4 (Option.some Jvm.ClassFile.FieldType.int) [((0 : Nat), (9 : Nat), (12 : Nat), (20 : Nat))])), (yX4_contextCount, (ws_ yX4_contextCount cX4_contextCount 2 (Option.some Jvm.ClassFile.FieldType.int))), (yX0_contextLength, (wsW_ yX0_contextLength cX0_contextLength 5 (Option.some Jvm.ClassFile.FieldType.int) [((0 : Nat), (10 : Nat), (13 : Nat), (20 : Nat))])), (yX4_contextLength, (ws_ yX4_contextLength cX4_contextLength 4 (Option.some Jvm.ClassFile.FieldType.int))), (yX0_contextCall, (wsW_ yX0_contextCall cX0_contextCall 6 (Option.some Jvm.ClassFile.FieldType.int) [((0 : Nat), (12 : Nat), (15 : Nat), (20 : Nat))])), (yX4_contextCall, (ws_ yX4_contextCall cX4_contextCall 5 (Option.some Jvm.ClassFile.FieldType.int))), (yX0_pointsTo, (wsW_ yX0_pointsTo cX0_pointsTo 4 (Option.some Jvm.ClassFile.FieldType.int) [((0 : Nat), (8 : Nat), (11 : Nat), (20 : Nat))])), (yX4_pointsTo, (ws_ yX4_pointsTo cX4_pointsTo 2 (Option.some Jvm.ClassFile.FieldType.long))), (yX0_pointsToIn, (wsW_ yX0_pointsToIn cX0_pointsToIn 5 (Option.some Jvm.ClassFile.FieldType.int) [((0 : Nat), (9 : Nat), (12 : Nat), (20 : Nat))])), (yX4_pointsToIn, (ws_ yX4_pointsToIn cX4_pointsToIn 4 (Option.some Jvm.ClassFile.FieldType.long))), (yX0_fieldPointsTo, (wsW_ yX0_fieldPointsTo cX0_fieldPointsTo 5 (Option.some Jvm.ClassFile.FieldType.int) [((0 : Nat), (9 : Nat), (12 : Nat), (20 : Nat))])), (yX4_fieldPointsTo, (ws_ yX4_fieldPointsTo cX4_fieldPointsTo 3 (Option.some Jvm.ClassFile.FieldType.long))), (yX1_factCount, (ws_ yX1_factCount cX1_factCount 1 (Option.some Jvm.ClassFile.FieldType.int))), (yX4_factCount, (ws_ yX4_factCount cX4_factCount 3 (Option.some Jvm.ClassFile.FieldType.int))), (yX0_mayAlias, (wsW_ yX0_mayAlias cX0_mayAlias 5 (Option.some Jvm.ClassFile.FieldType.int) [((0 : Nat), (17 : Nat), (20 : Nat), (20 : Nat))])), (yX4_mayAlias, (ws_ yX4_mayAlias cX4_mayAlias 3 (Option.some Jvm.ClassFile.FieldType.boolean))), (yX0_reach, (wsW_ yX0_reach cX0_reach 4 (Option.some Jvm.ClassFile.FieldType.int) [((0 : Nat), (8 : Nat), (11 : Nat), (20 : Nat))])), (yX4_reach, (ws_ yX4_reach cX4_reach 2 (Option.some Jvm.ClassFile.FieldType.long))), (yX1_escapingSites, (ws_ yX1_escapingSites cX1_escapingSites 5 (Option.some Jvm.ClassFile.FieldType.int))), (yX4_escapingSites, (ws_ yX4_escapingSites cX4_escapingSites 5 (Option.some Jvm.ClassFile.FieldType.int))), (yX0_rank, (wsW_ yX0_rank cX0_rank 5 (Option.some Jvm.ClassFile.FieldType.int) [((0 : Nat), (10 : Nat), (13 : Nat), (20 : Nat)), ((0 : Nat), (10 : Nat), (17 : Nat), (63 : Nat))])), (yX4_rank, (ws_ yX4_rank cX4_rank 4 (Option.some Jvm.ClassFile.FieldType.int))), (yX0_reason, (wsW_ yX0_reason cX0_reason 5 (Option.some Jvm.ClassFile.FieldType.int) [((0 : Nat), (10 : Nat), (13 : Nat), (20 : Nat)), ((0 : Nat), (10 : Nat), (17 : Nat), (63 : Nat))])), (yX4_reason, (ws_ yX4_reason cX4_reason 4 (Option.some Jvm.ClassFile.FieldType.int))), (yX1_roundCount, (ws_ yX1_roundCount cX1_roundCount 1 (Option.some Jvm.ClassFile.FieldType.int))), (yX4_roundCount, (ws_ yX4_roundCount cX4_roundCount 1 (Option.some Jvm.ClassFile.FieldType.int))), (yX0_unifiedTargets, (wsW_ yX0_unifiedTargets cX0_unifiedTargets 4 (Option.some Jvm.ClassFile.FieldType.int) [((0 : Nat), (8 : Nat), (11 : Nat), (20 : Nat))])), (yX4_unifiedTargets, (ws_ yX4_unifiedTargets cX4_unifiedTargets 2 (Option.some Jvm.ClassFile.FieldType.long))), (yX0_areUnified, (wsW_ yX0_areUnified cX0_areUnified 5 (Option.some Jvm.ClassFile.FieldType.int) [((0 : Nat), (17 : Nat), (20 : Nat), (20 : Nat))])), (yX4_areUnified, (ws_ yX4_areUnified cX4_areUnified 3 (Option.some Jvm.ClassFile.FieldType.boolean))), (yX1_unifiedClasses, (ws_ yX1_unifiedClasses cX1_unifiedClasses 1 (Option.some Jvm.ClassFile.FieldType.int)))]
def jml_1 : List (MethodName × List Cond) := [(yX4_unifiedClasses, (ws_ yX4_unifiedClasses cX4_unifiedClasses 5 (Option.some Jvm.ClassFile.FieldType.int))), (yX0_modifies, (wsW_ yX0_modifies cX0_modifies 4 (Option.some Jvm.ClassFile.FieldType.int) [((0 : Nat), (8 : Nat), (11 : Nat), (20 : Nat))])), (yX4_modifies, (ws_ yX4_modifies cX4_modifies 7 (Option.some Jvm.ClassFile.FieldType.long))), (yX0_isReachable, (wsW_ yX0_isReachable cX0_isReachable 4 (Option.some Jvm.ClassFile.FieldType.int) [((0 : Nat), (16 : Nat), (19 : Nat), (20 : Nat))])), (yX4_isReachable, (ws_ yX4_isReachable cX4_isReachable 2 (Option.some Jvm.ClassFile.FieldType.boolean))), (yX0_isRecursive, (wsW_ yX0_isRecursive cX0_isRecursive 4 (Option.some Jvm.ClassFile.FieldType.int) [((0 : Nat), (16 : Nat), (19 : Nat), (20 : Nat))])), (yX4_isRecursive, (ws_ yX4_isRecursive cX4_isRecursive 2 (Option.some Jvm.ClassFile.FieldType.boolean))), (yX0_cycleOf, (wsW_ yX0_cycleOf cX0_cycleOf 4 (Option.some Jvm.ClassFile.FieldType.int) [((0 : Nat), (9 : Nat), (12 : Nat), (20 : Nat))])), (yX4_cycleOf, (ws_ yX4_cycleOf cX4_cycleOf 2 (Option.some Jvm.ClassFile.FieldType.int))), (yX1_run, (ws_ yX1_run cX1_run 1 (Option.some Jvm.ClassFile.FieldType.int))), (yX4_run, (ws_ yX4_run cX4_run 3 (Option.some Jvm.ClassFile.FieldType.int))), (yX0_observed, (wsW_ yX0_observed cX0_observed 4 (Option.some Jvm.ClassFile.FieldType.int) [((0 : Nat), (8 : Nat), (11 : Nat), (20 : Nat))])), (yX4_observed, (ws_ yX4_observed cX4_observed 2 (Option.some Jvm.ClassFile.FieldType.long))), (yX0_fieldObserved, (wsW_ yX0_fieldObserved cX0_fieldObserved 5 (Option.some Jvm.ClassFile.FieldType.int) [((0 : Nat), (9 : Nat), (12 : Nat), (20 : Nat))])), (yX4_fieldObserved, (ws_ yX4_fieldObserved cX4_fieldObserved 3 (Option.some Jvm.ClassFile.FieldType.long))), (yX1_faults, (ws_ yX1_faults cX1_faults 1 (Option.some Jvm.ClassFile.FieldType.int))), (yX4_faults, (ws_ yX4_faults cX4_faults 1 (Option.some Jvm.ClassFile.FieldType.int))), (yX1_objects, (ws_ yX1_objects cX1_objects 1 (Option.some Jvm.ClassFile.FieldType.int))), (yX4_objects, (ws_ yX4_objects cX4_objects 1 (Option.some Jvm.ClassFile.FieldType.int))), (yX0_precision, (wsW_ yX0_precision cX0_precision 3 (Option.some Jvm.ClassFile.FieldType.int) [((0 : Nat), (7 : Nat), (10 : Nat), (97 : Nat))])), (yX4_precision, (ws_ yX4_precision cX4_precision 4 (Option.some Jvm.ClassFile.FieldType.double))), (yX0_averageTargets, (wsW_ yX0_averageTargets cX0_averageTargets 3 (Option.some Jvm.ClassFile.FieldType.int) [((0 : Nat), (8 : Nat), (11 : Nat), (97 : Nat))])), (yX4_averageTargets, (ws_ yX4_averageTargets cX4_averageTargets 4 (Option.some Jvm.ClassFile.FieldType.float))), (yX1_save, (ws_ yX1_save cX1_save 1 (Option.none : Option Jvm.ClassFile.FieldType))), (yX4_save, (ws_ yX4_save cX4_save 1 (Option.none : Option Jvm.ClassFile.FieldType))), (yX0_restore, (wsW_ yX0_restore cX0_restore 2 (Option.some Jvm.ClassFile.FieldType.int) [((0 : Nat), (4 : Nat), (7 : Nat), (15 : Nat))])), (yX4_restore, (ws_ yX4_restore cX4_restore 1 (Option.none : Option Jvm.ClassFile.FieldType))), (yJ44_init, (ws_ yJ44_init cJ44_init 1 (Option.none : Option Jvm.ClassFile.FieldType))), (yX2_init, (ws_ yX2_init cX2_init 2 (Option.none : Option Jvm.ClassFile.FieldType))), (yJ4_init, (ws_ yJ4_init cJ4_init 1 (Option.none : Option Jvm.ClassFile.FieldType))), (yX2_with, (ws_ yX2_with cX2_with 8 (Option.some (Jvm.ClassFile.FieldType.object "PointerAnalyzer$Program")))), (yX1_appendCharacter, (ws_ yX1_appendCharacter cX1_appendCharacter 2 (Option.some Jvm.ClassFile.FieldType.int))), (yX4_isBetween, (ws_ yX4_isBetween cX4_isBetween 3 (Option.some Jvm.ClassFile.FieldType.boolean))), (yX4_fails, (ws_ yX4_fails cX4_fails 2 (Option.some Jvm.ClassFile.FieldType.int))), (yX1_setBody, (ws_ yX1_setBody cX1_setBody 4 (Option.some Jvm.ClassFile.FieldType.int))), (yX4_isFunction, (ws_ yX4_isFunction cX4_isFunction 1 (Option.some Jvm.ClassFile.FieldType.boolean))), (yX4_takesText, (ws_ yX4_takesText cX4_takesText 3 (Option.some Jvm.ClassFile.FieldType.boolean))), (yX4_many, (ws_ yX4_many cX4_many 6 (Option.some Jvm.ClassFile.FieldType.int))), (yX4_copies, (ws_ yX4_copies cX4_copies 4 (Option.none : Option Jvm.ClassFile.FieldType))), (yX4_forgets, (ws_ yX4_forgets cX4_forgets 2 (Option.none : Option Jvm.ClassFile.FieldType))), (yJ4_size, (ws_ yJ4_size cJ4_size 1 (Option.some Jvm.ClassFile.FieldType.int))), (yX4_statements, (ws_ yX4_statements cX4_statements 1 (Option.some Jvm.ClassFile.FieldType.int))), (yX1_kind, (ws_ yX1_kind cX1_kind 2 (Option.some Jvm.ClassFile.FieldType.int))), (yX4_isStatement, (ws_ yX4_isStatement cX4_isStatement 2 (Option.some Jvm.ClassFile.FieldType.boolean))), (yX4_placeOf, (ws_ yX4_placeOf cX4_placeOf 4 (Option.some Jvm.ClassFile.FieldType.int))), (yX1_functionOf, (ws_ yX1_functionOf cX1_functionOf 2 (Option.some Jvm.ClassFile.FieldType.int))), (yX4_sites, (ws_ yX4_sites cX4_sites 1 (Option.some Jvm.ClassFile.FieldType.int))), (yX1_setLimit, (ws_ yX1_setLimit cX1_setLimit 3 (Option.some Jvm.ClassFile.FieldType.int))), (yX1_contextCount, (ws_ yX1_contextCount cX1_contextCount 2 (Option.some Jvm.ClassFile.FieldType.int))), (yX4_refreshes, (ws_ yX4_refreshes cX4_refreshes 4 (Option.none : Option Jvm.ClassFile.FieldType)))]
def jml_2 : List (MethodName × List Cond) := [(yX4_contextsOf, (ws_ yX4_contextsOf cX4_contextsOf 4 (Option.some Jvm.ClassFile.FieldType.int))), (yX1_contextLength, (ws_ yX1_contextLength cX1_contextLength 3 (Option.some Jvm.ClassFile.FieldType.int))), (yX4_codeOf, (ws_ yX4_codeOf cX4_codeOf 3 (Option.some Jvm.ClassFile.FieldType.int))), (yX1_contextCall, (ws_ yX1_contextCall cX1_contextCall 5 (Option.some Jvm.ClassFile.FieldType.int))), (yX1_pointsTo, (ws_ yX1_pointsTo cX1_pointsTo 2 (Option.some Jvm.ClassFile.FieldType.long))), (yX4_isVariable, (ws_ yX4_isVariable cX4_isVariable 1 (Option.some Jvm.ClassFile.FieldType.boolean))), (yX4_targetsBy, (ws_ yX4_targetsBy cX4_targetsBy 5 (Option.some Jvm.ClassFile.FieldType.long))), (yX1_pointsToIn, (ws_ yX1_pointsToIn cX1_pointsToIn 4 (Option.some Jvm.ClassFile.FieldType.long))), (yX4_firstOf, (ws_ yX4_firstOf cX4_firstOf 3 (Option.some Jvm.ClassFile.FieldType.int))), (yX4_cellOf, (ws_ yX4_cellOf cX4_cellOf 2 (Option.some Jvm.ClassFile.FieldType.int))), (yX4_targetsOf, (ws_ yX4_targetsOf cX4_targetsOf 5 (Option.some Jvm.ClassFile.FieldType.long))), (yX1_fieldPointsTo, (ws_ yX1_fieldPointsTo cX1_fieldPointsTo 3 (Option.some Jvm.ClassFile.FieldType.long))), (yX4_isField, (ws_ yX4_isField cX4_isField 3 (Option.some Jvm.ClassFile.FieldType.boolean))), (yX1_analyze, (ws_ yX1_analyze cX1_analyze 1 (Option.some (Jvm.ClassFile.FieldType.object "PointerAnalyzer$Analysis")))), (yX8_countFacts, (ws_ yX8_countFacts cX8_countFacts 3 (Option.some Jvm.ClassFile.FieldType.int))), (yX4_bits, (ws_ yX4_bits cX4_bits 4 (Option.some Jvm.ClassFile.FieldType.int))), (yX1_mayAlias, (ws_ yX1_mayAlias cX1_mayAlias 3 (Option.some Jvm.ClassFile.FieldType.boolean))), (yX4_refuses, (ws_ yX4_refuses cX4_refuses 2 (Option.some Jvm.ClassFile.FieldType.boolean))), (yX1_reach, (ws_ yX1_reach cX1_reach 2 (Option.some Jvm.ClassFile.FieldType.long))), (yX4_reached, (ws_ yX4_reached cX4_reached 7 (Option.some Jvm.ClassFile.FieldType.long))), (yX1_reachFrom, (ws_ yX1_reachFrom cX1_reachFrom 7 (Option.some Jvm.ClassFile.FieldType.long))), (yX1_fieldCode, (ws_ yX1_fieldCode cX1_fieldCode 2 (Option.some Jvm.ClassFile.FieldType.int))), (yX1_rank, (ws_ yX1_rank cX1_rank 3 (Option.some Jvm.ClassFile.FieldType.int))), (yX4_factAt, (ws_ yX4_factAt cX4_factAt 3 (Option.some Jvm.ClassFile.FieldType.int))), (yX1_reason, (ws_ yX1_reason cX1_reason 3 (Option.some Jvm.ClassFile.FieldType.int))), (yX1_findRanks, (ws_ yX1_findRanks cX1_findRanks 2 (Option.some (Jvm.ClassFile.FieldType.object "PointerAnalyzer$Ranks")))), (yX1_unifiedTargets, (ws_ yX1_unifiedTargets cX1_unifiedTargets 2 (Option.some Jvm.ClassFile.FieldType.long))), (yX4_unified, (ws_ yX4_unified cX4_unified 6 (Option.some Jvm.ClassFile.FieldType.long))), (yX1_areUnified, (ws_ yX1_areUnified cX1_areUnified 4 (Option.some Jvm.ClassFile.FieldType.boolean))), (yX4_rootOf, (ws_ yX4_rootOf cX4_rootOf 3 (Option.some Jvm.ClassFile.FieldType.int))), (yX15_init, (ws_ yX15_init cX15_init 3 (Option.none : Option Jvm.ClassFile.FieldType))), (yX15_countClasses, (ws_ yX15_countClasses cX15_countClasses 5 (Option.some Jvm.ClassFile.FieldType.int))), (yX1_modifies, (ws_ yX1_modifies cX1_modifies 8 (Option.some Jvm.ClassFile.FieldType.long))), (yX4_called, (ws_ yX4_called cX4_called 6 (Option.some Jvm.ClassFile.FieldType.int))), (yX1_isReachable, (ws_ yX1_isReachable cX1_isReachable 2 (Option.some Jvm.ClassFile.FieldType.boolean))), (yX1_isRecursive, (ws_ yX1_isRecursive cX1_isRecursive 2 (Option.some Jvm.ClassFile.FieldType.boolean))), (yX1_cycleOf, (ws_ yX1_cycleOf cX1_cycleOf 6 (Option.some Jvm.ClassFile.FieldType.int))), (yX4_led, (ws_ yX4_led cX4_led 8 (Option.some Jvm.ClassFile.FieldType.int))), (yX17_init, (wsW_ yX17_init cX17_init 3 (Option.none : Option Jvm.ClassFile.FieldType) [((53 : Nat), (60 : Nat), (63 : Nat), (32 : Nat))])), (yX4_opens, (ws_ yX4_opens cX4_opens 3 (Option.none : Option Jvm.ClassFile.FieldType))), (yX4_closes, (ws_ yX4_closes cX4_closes 3 (Option.none : Option Jvm.ClassFile.FieldType))), (yX4_executes, (ws_ yX4_executes cX4_executes 4 (Option.none : Option Jvm.ClassFile.FieldType))), (yX1_observed, (ws_ yX1_observed cX1_observed 2 (Option.some Jvm.ClassFile.FieldType.long))), (yX1_fieldObserved, (ws_ yX1_fieldObserved cX1_fieldObserved 4 (Option.some Jvm.ClassFile.FieldType.long))), (yX1_precision, (ws_ yX1_precision cX1_precision 5 (Option.some Jvm.ClassFile.FieldType.double))), (yX1_averageTargets, (ws_ yX1_averageTargets cX1_averageTargets 5 (Option.some Jvm.ClassFile.FieldType.float))), (yX4_passState, (ws_ yX4_passState cX4_passState 3 (Option.none : Option Jvm.ClassFile.FieldType))), (yX1_restore, (ws_ yX1_restore cX1_restore 1 (Option.none : Option Jvm.ClassFile.FieldType))), (yJ1_init, (ws_ yJ1_init cJ1_init 1 (Option.none : Option Jvm.ClassFile.FieldType))), (yJ6_valueOf, (ws_ yJ6_valueOf cJ6_valueOf 1 (Option.some (Jvm.ClassFile.FieldType.object "java/lang/Integer"))))]
def jml_3 : List (MethodName × List Cond) := [(yJ1_put, (ws_ yJ1_put cJ1_put 3 (Option.some (Jvm.ClassFile.FieldType.object "java/lang/Object")))), (yJ3_init, (ws_ yJ3_init cJ3_init 1 (Option.none : Option Jvm.ClassFile.FieldType))), (yJ1_putAll, (wsW_ yJ1_putAll cJ1_putAll 4 (Option.none : Option Jvm.ClassFile.FieldType) [((54 : Nat), (72 : Nat), (75 : Nat), (46 : Nat)), ((54 : Nat), (72 : Nat), (75 : Nat), (48 : Nat))])), (yJ1_get, (ws_ yJ1_get cJ1_get 3 (Option.some (Jvm.ClassFile.FieldType.object "java/lang/Object")))), (yJ4_get, (ws_ yJ4_get cJ4_get 2 (Option.some (Jvm.ClassFile.FieldType.object "java/lang/Object")))), (yX3_init, (ws_ yX3_init cX3_init 5 (Option.none : Option Jvm.ClassFile.FieldType))), (yJ4_add, (ws_ yJ4_add cJ4_add 2 (Option.some Jvm.ClassFile.FieldType.boolean))), (yX1_isBetween, (ws_ yX1_isBetween cX1_isBetween 3 (Option.some Jvm.ClassFile.FieldType.boolean))), (yX1_requireArgument, (ws_ yX1_requireArgument cX1_requireArgument 1 (Option.none : Option Jvm.ClassFile.FieldType))), (yX1_requireState, (ws_ yX1_requireState cX1_requireState 1 (Option.none : Option Jvm.ClassFile.FieldType))), (yX1_isFunction, (ws_ yX1_isFunction cX1_isFunction 1 (Option.some Jvm.ClassFile.FieldType.boolean))), (yX1_requireIndex, (ws_ yX1_requireIndex cX1_requireIndex 1 (Option.none : Option Jvm.ClassFile.FieldType))), (yX1_readBody, (wsW_ yX1_readBody cX1_readBody 5 (Option.some (Jvm.ClassFile.FieldType.object "java/util/ArrayList")) [((10 : Nat), (19 : Nat), (27 : Nat), (76 : Nat)), ((10 : Nat), (19 : Nat), (44 : Nat), (0 : Nat)), ((27 : Nat), (36 : Nat), (44 : Nat), (0 : Nat)), ((44 : Nat), (46 : Nat), (44 : Nat), (0 : Nat))])), (yX2_countAll, (ws_ yX2_countAll cX2_countAll 4 (Option.some Jvm.ClassFile.FieldType.int))), (yX1_setProgram, (ws_ yX1_setProgram cX1_setProgram 2 (Option.none : Option Jvm.ClassFile.FieldType))), (yX4_takesStatement, (ws_ yX4_takesStatement cX4_takesStatement 6 (Option.some Jvm.ClassFile.FieldType.boolean))), (yX4_skips, (ws_ yX4_skips cX4_skips 2 (Option.some Jvm.ClassFile.FieldType.boolean))), (yX1_statement, (ws_ yX1_statement cX1_statement 2 (Option.some (Jvm.ClassFile.FieldType.object "PointerAnalyzer$Statement")))), (yJ28_ordinal, (ws_ yJ28_ordinal cJ28_ordinal 1 (Option.some Jvm.ClassFile.FieldType.int))), (yX10_count, (ws_ yX10_count cX10_count 2 (Option.some Jvm.ClassFile.FieldType.int))), (yX4_findRanks, (ws_ yX4_findRanks cX4_findRanks 5 (Option.none : Option Jvm.ClassFile.FieldType))), (yX4_findContexts, (ws_ yX4_findContexts cX4_findContexts 9 (Option.none : Option Jvm.ClassFile.FieldType))), (yX4_clears, (ws_ yX4_clears cX4_clears 2 (Option.none : Option Jvm.ClassFile.FieldType))), (yX4_follows, (ws_ yX4_follows cX4_follows 9 (Option.none : Option Jvm.ClassFile.FieldType))), (yX4_findUnification, (ws_ yX4_findUnification cX4_findUnification 2 (Option.none : Option Jvm.ClassFile.FieldType))), (yX1_context, (ws_ yX1_context cX1_context 3 (Option.some (Jvm.ClassFile.FieldType.object "PointerAnalyzer$Context")))), (yX1_isVariable, (ws_ yX1_isVariable cX1_isVariable 1 (Option.some Jvm.ClassFile.FieldType.boolean))), (yX8_pointsTo, (ws_ yX8_pointsTo cX8_pointsTo 5 (Option.some Jvm.ClassFile.FieldType.long))), (yX1_ownerOf, (ws_ yX1_ownerOf cX1_ownerOf 1 (Option.some Jvm.ClassFile.FieldType.int))), (yX8_cell, (ws_ yX8_cell cX8_cell 4 (Option.some (Jvm.ClassFile.FieldType.object "PointerAnalyzer$Cell")))), (yX8_codes, (ws_ yX8_codes cX8_codes 6 (Option.some Jvm.ClassFile.FieldType.long))), (yX4_isIn, (ws_ yX4_isIn cX4_isIn 3 (Option.some Jvm.ClassFile.FieldType.boolean))), (yX4_targetOf, (ws_ yX4_targetOf cX4_targetOf 2 (Option.some Jvm.ClassFile.FieldType.int))), (yX1_code, (ws_ yX1_code cX1_code 3 (Option.some Jvm.ClassFile.FieldType.int))), (yX8_init, (ws_ yX8_init cX8_init 6 (Option.none : Option Jvm.ClassFile.FieldType))), (yX12_find, (ws_ yX12_find cX12_find 2 (Option.some (Jvm.ClassFile.FieldType.object "PointerAnalyzer$Cell")))), (yJ40_cardinality, (ws_ yJ40_cardinality cJ40_cardinality 3 (Option.some Jvm.ClassFile.FieldType.int))), (yJ12_numberOfTrailingZeros, (ws_ yJ12_numberOfTrailingZeros cJ12_numberOfTrailingZeros 3 (Option.some Jvm.ClassFile.FieldType.int))), (yX1_requireFact, (ws_ yX1_requireFact cX1_requireFact 4 (Option.some (Jvm.ClassFile.FieldType.object "PointerAnalyzer$Ranks")))), (yX4_isTarget, (ws_ yX4_isTarget cX4_isTarget 2 (Option.some Jvm.ClassFile.FieldType.boolean))), (yX2_callees, (ws_ yX2_callees cX2_callees 7 (Option.some (Jvm.ClassFile.FieldType.array Jvm.ClassFile.FieldType.boolean)))), (yX14_init, (ws_ yX14_init cX14_init 6 (Option.none : Option Jvm.ClassFile.FieldType))), (yX15_targets, (ws_ yX15_targets cX15_targets 7 (Option.some Jvm.ClassFile.FieldType.long))), (yX4_pointed, (ws_ yX4_pointed cX4_pointed 3 (Option.some Jvm.ClassFile.FieldType.int))), (yX16_find, (ws_ yX16_find cX16_find 2 (Option.some (Jvm.ClassFile.FieldType.object "PointerAnalyzer$Term")))), (yX16_init, (ws_ yX16_init cX16_init 1 (Option.none : Option Jvm.ClassFile.FieldType))), (yX15_unify, (ws_ yX15_unify cX15_unify 5 (Option.none : Option Jvm.ClassFile.FieldType))), (yX3_is, (ws_ yX3_is cX3_is 2 (Option.some Jvm.ClassFile.FieldType.boolean))), (yX1_paths, (ws_ yX1_paths cX1_paths 4 (Option.some (Jvm.ClassFile.FieldType.array Jvm.ClassFile.FieldType.int)))), (yX4_edge, (ws_ yX4_edge cX4_edge 4 (Option.some Jvm.ClassFile.FieldType.int)))]
def jml_4 : List (MethodName × List Cond) := [(yX18_init, (ws_ yX18_init cX18_init 3 (Option.none : Option Jvm.ClassFile.FieldType))), (yX17_activate, (ws_ yX17_activate cX17_activate 5 (Option.some (Jvm.ClassFile.FieldType.object "PointerAnalyzer$Place")))), (yX4_placeIn, (ws_ yX4_placeIn cX4_placeIn 2 (Option.some Jvm.ClassFile.FieldType.int))), (yX4_assigns, (ws_ yX4_assigns cX4_assigns 3 (Option.none : Option Jvm.ClassFile.FieldType))), (yX4_siteOf, (ws_ yX4_siteOf cX4_siteOf 4 (Option.some Jvm.ClassFile.FieldType.int))), (yX4_makesObject, (ws_ yX4_makesObject cX4_makesObject 4 (Option.some Jvm.ClassFile.FieldType.int))), (yX4_offsets, (ws_ yX4_offsets cX4_offsets 5 (Option.none : Option Jvm.ClassFile.FieldType))), (yJ12_bitCount, (ws_ yJ12_bitCount cJ12_bitCount 2 (Option.some Jvm.ClassFile.FieldType.int))), (yX4_passes, (ws_ yX4_passes cX4_passes 3 (Option.some Jvm.ClassFile.FieldType.int))), (yJ0_init, (ws_ yJ0_init cJ0_init 1 (Option.none : Option Jvm.ClassFile.FieldType))), (yJ1_put_2, (ws_ yJ1_put_2 cJ1_put_2 10 (Option.some (Jvm.ClassFile.FieldType.object "java/lang/Object")))), (yJ2_init, (ws_ yJ2_init cJ2_init 1 (Option.none : Option Jvm.ClassFile.FieldType))), (yJ1_size, (ws_ yJ1_size cJ1_size 1 (Option.some Jvm.ClassFile.FieldType.int))), (yJ1_comparator, (ws_ yJ1_comparator cJ1_comparator 1 (Option.some (Jvm.ClassFile.FieldType.object "java/util/Comparator")))), (yJ16_equals, (ws_ yJ16_equals cJ16_equals 2 (Option.some Jvm.ClassFile.FieldType.boolean))), (yJ1_entrySet, (ws_ yJ1_entrySet cJ1_entrySet 2 (Option.some (Jvm.ClassFile.FieldType.object "java/util/Set")))), (yJ18_iterator, (ws_ yJ18_iterator cJ18_iterator 1 (Option.some (Jvm.ClassFile.FieldType.object "java/util/Iterator")))), (yJ22_iterator, (ws_ yJ22_iterator cJ22_iterator 1 (Option.some (Jvm.ClassFile.FieldType.object "java/util/Iterator")))), (yJ37_iterator, (ws_ yJ37_iterator cJ37_iterator 1 (Option.some (Jvm.ClassFile.FieldType.object "java/util/Iterator")))), (yJ1_buildFromSorted, (ws_ yJ1_buildFromSorted cJ1_buildFromSorted 5 (Option.none : Option Jvm.ClassFile.FieldType))), (yJ1_getEntry, (ws_ yJ1_getEntry cJ1_getEntry 5 (Option.some (Jvm.ClassFile.FieldType.object "java/util/TreeMap$Entry")))), (yJ16_checkIndex, (ws_ yJ16_checkIndex cJ16_checkIndex 2 (Option.some Jvm.ClassFile.FieldType.int))), (yJ4_elementData, (ws_ yJ4_elementData cJ4_elementData 2 (Option.some (Jvm.ClassFile.FieldType.object "java/lang/Object")))), (yJ4_add_2, (ws_ yJ4_add_2 cJ4_add_2 4 (Option.none : Option Jvm.ClassFile.FieldType))), (yX5_init, (ws_ yX5_init cX5_init 3 (Option.none : Option Jvm.ClassFile.FieldType))), (yX5_body, (ws_ yX5_body cX5_body 1 (Option.none : Option Jvm.ClassFile.FieldType))), (yX1_count, (ws_ yX1_count cX1_count 4 (Option.some Jvm.ClassFile.FieldType.int))), (yX4_takesStore, (ws_ yX4_takesStore cX4_takesStore 4 (Option.some Jvm.ClassFile.FieldType.boolean))), (yX4_name, (ws_ yX4_name cX4_name 4 (Option.some Jvm.ClassFile.FieldType.int))), (yX4_puts, (ws_ yX4_puts cX4_puts 6 (Option.none : Option Jvm.ClassFile.FieldType))), (yX4_takesCall, (ws_ yX4_takesCall cX4_takesCall 5 (Option.some Jvm.ClassFile.FieldType.boolean))), (yX4_digit, (ws_ yX4_digit cX4_digit 2 (Option.some Jvm.ClassFile.FieldType.int))), (yX4_next, (ws_ yX4_next cX4_next 1 (Option.some Jvm.ClassFile.FieldType.int))), (yX4_contextOf, (ws_ yX4_contextOf cX4_contextOf 4 (Option.some Jvm.ClassFile.FieldType.int))), (yX4_notes, (ws_ yX4_notes cX4_notes 6 (Option.none : Option Jvm.ClassFile.FieldType))), (yX4_addsContext, (ws_ yX4_addsContext cX4_addsContext 4 (Option.none : Option Jvm.ClassFile.FieldType))), (yX4_numberOf, (ws_ yX4_numberOf cX4_numberOf 4 (Option.some Jvm.ClassFile.FieldType.int))), (yX4_codeBehind, (ws_ yX4_codeBehind cX4_codeBehind 3 (Option.some Jvm.ClassFile.FieldType.int))), (yX4_adds, (ws_ yX4_adds cX4_adds 3 (Option.none : Option Jvm.ClassFile.FieldType))), (yX4_addsAll, (ws_ yX4_addsAll cX4_addsAll 7 (Option.none : Option Jvm.ClassFile.FieldType))), (yX4_made, (ws_ yX4_made cX4_made 1 (Option.some Jvm.ClassFile.FieldType.int))), (yX4_unifiesBy, (ws_ yX4_unifiesBy cX4_unifiesBy 5 (Option.none : Option Jvm.ClassFile.FieldType))), (yJ40_nextSetBit, (ws_ yJ40_nextSetBit cJ40_nextSetBit 5 (Option.some Jvm.ClassFile.FieldType.int))), (yX9_init, (ws_ yX9_init cX9_init 1 (Option.none : Option Jvm.ClassFile.FieldType))), (yJ36_init, (ws_ yJ36_init cJ36_init 3 (Option.none : Option Jvm.ClassFile.FieldType))), (yX10_init, (ws_ yX10_init cX10_init 9 (Option.none : Option Jvm.ClassFile.FieldType))), (yX8_makeCells, (ws_ yX8_makeCells cX8_makeCells 4 (Option.none : Option Jvm.ClassFile.FieldType))), (yX8_constrain, (ws_ yX8_constrain cX8_constrain 9 (Option.none : Option Jvm.ClassFile.FieldType))), (yX8_collapse, (ws_ yX8_collapse cX8_collapse 6 (Option.none : Option Jvm.ClassFile.FieldType))), (yJ40_isEmpty, (ws_ yJ40_isEmpty cJ40_isEmpty 1 (Option.some Jvm.ClassFile.FieldType.boolean)))]
def jml_5 : List (MethodName × List Cond) := [(yX8_push, (ws_ yX8_push cX8_push 3 (Option.none : Option Jvm.ClassFile.FieldType))), (yJ2_isEmpty, (ws_ yJ2_isEmpty cJ2_isEmpty 1 (Option.some Jvm.ClassFile.FieldType.boolean))), (yJ36_poll, (ws_ yJ36_poll cJ36_poll 6 (Option.some (Jvm.ClassFile.FieldType.object "java/lang/Object")))), (yX8_flow, (ws_ yX8_flow cX8_flow 5 (Option.none : Option Jvm.ClassFile.FieldType))), (yJ6_numberOfTrailingZeros, (ws_ yJ6_numberOfTrailingZeros cJ6_numberOfTrailingZeros 2 (Option.some Jvm.ClassFile.FieldType.int))), (yJ40_clone, (wsW_ yJ40_clone cJ40_clone 2 (Option.some (Jvm.ClassFile.FieldType.object "java/lang/Object")) [((11 : Nat), (38 : Nat), (39 : Nat), (216 : Nat))])), (yX14_derive, (ws_ yX14_derive cX14_derive 7 (Option.none : Option Jvm.ClassFile.FieldType))), (yX16_target, (ws_ yX16_target cX16_target 2 (Option.some (Jvm.ClassFile.FieldType.object "PointerAnalyzer$Term")))), (yX15_join, (ws_ yX15_join cX15_join 5 (Option.none : Option Jvm.ClassFile.FieldType))), (yX1_local, (ws_ yX1_local cX1_local 2 (Option.some Jvm.ClassFile.FieldType.int))), (yX17_assign, (ws_ yX17_assign cX17_assign 3 (Option.none : Option Jvm.ClassFile.FieldType))), (yX17_execute, (ws_ yX17_execute cX17_execute 6 (Option.none : Option Jvm.ClassFile.FieldType))), (yJ1_addEntryToEmptyMap, (ws_ yJ1_addEntryToEmptyMap cJ1_addEntryToEmptyMap 3 (Option.none : Option Jvm.ClassFile.FieldType))), (yX9_compare, (ws_ yX9_compare cX9_compare 3 (Option.some Jvm.ClassFile.FieldType.int))), (yJ16_requireNonNull, (ws_ yJ16_requireNonNull cJ16_requireNonNull 1 (Option.some (Jvm.ClassFile.FieldType.object "java/lang/Object")))), (yJ6_compareTo, (ws_ yJ6_compareTo cJ6_compareTo 2 (Option.some Jvm.ClassFile.FieldType.int))), (yX11_compareTo, (ws_ yX11_compareTo cX11_compareTo 2 (Option.some Jvm.ClassFile.FieldType.int))), (yJ1_addEntry, (ws_ yJ1_addEntry cJ1_addEntry 6 (Option.none : Option Jvm.ClassFile.FieldType))), (yJ44_equals, (ws_ yJ44_equals cJ44_equals 2 (Option.some Jvm.ClassFile.FieldType.boolean))), (yJ18_init, (ws_ yJ18_init cJ18_init 2 (Option.none : Option Jvm.ClassFile.FieldType))), (yJ1_getFirstEntry, (ws_ yJ1_getFirstEntry cJ1_getFirstEntry 2 (Option.some (Jvm.ClassFile.FieldType.object "java/util/TreeMap$Entry")))), (yJ20_init, (ws_ yJ20_init cJ20_init 3 (Option.none : Option Jvm.ClassFile.FieldType))), (yJ1_keyIterator, (ws_ yJ1_keyIterator cJ1_keyIterator 1 (Option.some (Jvm.ClassFile.FieldType.object "java/util/Iterator")))), (yJ1_navigableKeySet, (ws_ yJ1_navigableKeySet cJ1_navigableKeySet 2 (Option.some (Jvm.ClassFile.FieldType.object "java/util/NavigableSet")))), (yJ1_computeRedLevel, (ws_ yJ1_computeRedLevel cJ1_computeRedLevel 1 (Option.some Jvm.ClassFile.FieldType.int))), (yJ1_buildFromSorted_2, (ws_ yJ1_buildFromSorted_2 cJ1_buildFromSorted_2 14 (Option.some (Jvm.ClassFile.FieldType.object "java/util/TreeMap$Entry")))), (yJ19_hasNext, (ws_ yJ19_hasNext cJ19_hasNext 1 (Option.some Jvm.ClassFile.FieldType.boolean))), (yJ20_next, (ws_ yJ20_next cJ20_next 1 (Option.some (Jvm.ClassFile.FieldType.object "java/lang/Object")))), (yJ21_next, (ws_ yJ21_next cJ21_next 1 (Option.some (Jvm.ClassFile.FieldType.object "java/lang/Object")))), (yJ15_getKey, (ws_ yJ15_getKey cJ15_getKey 1 (Option.some (Jvm.ClassFile.FieldType.object "java/lang/Object")))), (yJ15_getValue, (ws_ yJ15_getValue cJ15_getValue 1 (Option.some (Jvm.ClassFile.FieldType.object "java/lang/Object")))), (yJ14_checkIndex, (ws_ yJ14_checkIndex cJ14_checkIndex 3 (Option.some Jvm.ClassFile.FieldType.int))), (yJ4_grow, (ws_ yJ4_grow cJ4_grow 1 (Option.some (Jvm.ClassFile.FieldType.array (Jvm.ClassFile.FieldType.object "java/lang/Object"))))), (yX5_statement, (ws_ yX5_statement cX5_statement 2 (Option.some (Jvm.ClassFile.FieldType.object "PointerAnalyzer$Line")))), (yX5_passes, (ws_ yX5_passes cX5_passes 3 (Option.some Jvm.ClassFile.FieldType.boolean))), (yX5_must, (ws_ yX5_must cX5_must 2 (Option.none : Option Jvm.ClassFile.FieldType))), (yX4_unifies, (ws_ yX4_unifies cX4_unifies 5 (Option.none : Option Jvm.ClassFile.FieldType))), (yJ40_checkInvariants, (ws_ yJ40_checkInvariants cJ40_checkInvariants 1 (Option.none : Option Jvm.ClassFile.FieldType))), (yJ40_wordIndex, (ws_ yJ40_wordIndex cJ40_wordIndex 1 (Option.some Jvm.ClassFile.FieldType.int))), (yJ35_init, (ws_ yJ35_init cJ35_init 1 (Option.none : Option Jvm.ClassFile.FieldType))), (yJ37_init, (ws_ yJ37_init cJ37_init 1 (Option.none : Option Jvm.ClassFile.FieldType))), (yX11_init, (ws_ yX11_init cX11_init 2 (Option.none : Option Jvm.ClassFile.FieldType))), (yJ37_add, (ws_ yJ37_add cJ37_add 2 (Option.some Jvm.ClassFile.FieldType.boolean))), (yJ4_init_2, (ws_ yJ4_init_2 cJ4_init_2 3 (Option.none : Option Jvm.ClassFile.FieldType))), (yX11_with, (ws_ yX11_with cX11_with 7 (Option.some (Jvm.ClassFile.FieldType.object "PointerAnalyzer$Context")))), (yX8_add, (ws_ yX8_add cX8_add 2 (Option.none : Option Jvm.ClassFile.FieldType))), (yJ40_set, (ws_ yJ40_set cJ40_set 3 (Option.none : Option Jvm.ClassFile.FieldType))), (yX13_init, (ws_ yX13_init cX13_init 3 (Option.none : Option Jvm.ClassFile.FieldType))), (yX10_indexOf, (ws_ yX10_indexOf cX10_indexOf 4 (Option.some Jvm.ClassFile.FieldType.int))), (yX8_reachedFrom, (ws_ yX8_reachedFrom cX8_reachedFrom 5 (Option.some (Jvm.ClassFile.FieldType.object "java/util/BitSet"))))]
def jml_6 : List (MethodName × List Cond) := [(yJ40_get, (ws_ yJ40_get cJ40_get 3 (Option.some Jvm.ClassFile.FieldType.boolean))), (yX8_merge, (ws_ yX8_merge cX8_merge 2 (Option.none : Option Jvm.ClassFile.FieldType))), (yJ36_add, (ws_ yJ36_add cJ36_add 2 (Option.some Jvm.ClassFile.FieldType.boolean))), (yJ36_size, (ws_ yJ36_size cJ36_size 1 (Option.some Jvm.ClassFile.FieldType.int))), (yJ37_size, (ws_ yJ37_size cJ37_size 1 (Option.some Jvm.ClassFile.FieldType.int))), (yJ36_siftDownUsingComparator, (ws_ yJ36_siftDownUsingComparator cJ36_siftDownUsingComparator 9 (Option.none : Option Jvm.ClassFile.FieldType))), (yX8_connect, (ws_ yX8_connect cX8_connect 4 (Option.none : Option Jvm.ClassFile.FieldType))), (yX8_moved, (ws_ yX8_moved cX8_moved 6 (Option.some (Jvm.ClassFile.FieldType.object "java/util/BitSet")))), (yX8_grow, (ws_ yX8_grow cX8_grow 5 (Option.none : Option Jvm.ClassFile.FieldType))), (yJ40_trimToSize, (ws_ yJ40_trimToSize cJ40_trimToSize 1 (Option.none : Option Jvm.ClassFile.FieldType))), (yX14_add, (ws_ yX14_add cX14_add 7 (Option.none : Option Jvm.ClassFile.FieldType))), (yX14_moved, (ws_ yX14_moved cX14_moved 9 (Option.some Jvm.ClassFile.FieldType.long))), (yX17_requireTime, (ws_ yX17_requireTime cX17_requireTime 2 (Option.none : Option Jvm.ClassFile.FieldType))), (yX17_place, (ws_ yX17_place cX17_place 3 (Option.some (Jvm.ClassFile.FieldType.object "PointerAnalyzer$Place")))), (yX17_load, (ws_ yX17_load cX17_load 3 (Option.none : Option Jvm.ClassFile.FieldType))), (yX17_store, (ws_ yX17_store cX17_store 3 (Option.none : Option Jvm.ClassFile.FieldType))), (yX17_allocate, (ws_ yX17_allocate cX17_allocate 4 (Option.some (Jvm.ClassFile.FieldType.object "PointerAnalyzer$Place")))), (yX17_move, (ws_ yX17_move cX17_move 5 (Option.none : Option Jvm.ClassFile.FieldType))), (yJ1_compare, (ws_ yJ1_compare cJ1_compare 3 (Option.some Jvm.ClassFile.FieldType.int))), (yJ15_init, (ws_ yJ15_init cJ15_init 4 (Option.none : Option Jvm.ClassFile.FieldType))), (yX9_compare_2, (ws_ yX9_compare_2 cX9_compare_2 4 (Option.some Jvm.ClassFile.FieldType.int))), (yJ6_compareTo_2, (ws_ yJ6_compareTo_2 cJ6_compareTo_2 2 (Option.some Jvm.ClassFile.FieldType.int))), (yX11_compareTo_2, (ws_ yX11_compareTo_2 cX11_compareTo_2 4 (Option.some Jvm.ClassFile.FieldType.int))), (yJ1_fixAfterInsertion, (ws_ yJ1_fixAfterInsertion cJ1_fixAfterInsertion 3 (Option.none : Option Jvm.ClassFile.FieldType))), (yJ17_init, (ws_ yJ17_init cJ17_init 1 (Option.none : Option Jvm.ClassFile.FieldType))), (yJ19_init, (ws_ yJ19_init cJ19_init 3 (Option.none : Option Jvm.ClassFile.FieldType))), (yJ21_init, (ws_ yJ21_init cJ21_init 3 (Option.none : Option Jvm.ClassFile.FieldType))), (yJ22_init, (ws_ yJ22_init cJ22_init 2 (Option.none : Option Jvm.ClassFile.FieldType))), (yJ6_numberOfLeadingZeros, (ws_ yJ6_numberOfLeadingZeros cJ6_numberOfLeadingZeros 2 (Option.some Jvm.ClassFile.FieldType.int))), (yJ20_next_2, (ws_ yJ20_next_2 cJ20_next_2 1 (Option.some (Jvm.ClassFile.FieldType.object "java/util/Map$Entry")))), (yJ19_nextEntry, (ws_ yJ19_nextEntry cJ19_nextEntry 2 (Option.some (Jvm.ClassFile.FieldType.object "java/util/TreeMap$Entry")))), (yJ4_grow_2, (ws_ yJ4_grow_2 cJ4_grow_2 4 (Option.some (Jvm.ClassFile.FieldType.array (Jvm.ClassFile.FieldType.object "java/lang/Object"))))), (yX5_assignment, (ws_ yX5_assignment cX5_assignment 4 (Option.some (Jvm.ClassFile.FieldType.object "PointerAnalyzer$Line")))), (yX5_variable, (ws_ yX5_variable cX5_variable 2 (Option.some Jvm.ClassFile.FieldType.int))), (yX7_init, (ws_ yX7_init cX7_init 5 (Option.none : Option Jvm.ClassFile.FieldType))), (yX5_here, (ws_ yX5_here cX5_here 1 (Option.some Jvm.ClassFile.FieldType.char))), (yX6_init, (ws_ yX6_init cX6_init 2 (Option.none : Option Jvm.ClassFile.FieldType))), (yJ37_init_2, (ws_ yJ37_init_2 cJ37_init_2 2 (Option.none : Option Jvm.ClassFile.FieldType))), (yJ2_toArray, (ws_ yJ2_toArray cJ2_toArray 4 (Option.some (Jvm.ClassFile.FieldType.array (Jvm.ClassFile.FieldType.object "java/lang/Object"))))), (yJ4_toArray, (ws_ yJ4_toArray cJ4_toArray 1 (Option.some (Jvm.ClassFile.FieldType.array (Jvm.ClassFile.FieldType.object "java/lang/Object"))))), (yJ29_copyOf_2, (ws_ yJ29_copyOf_2 cJ29_copyOf_2 4 (Option.some (Jvm.ClassFile.FieldType.array (Jvm.ClassFile.FieldType.object "java/lang/Object"))))), (yJ9_min, (ws_ yJ9_min cJ9_min 2 (Option.some Jvm.ClassFile.FieldType.int))), (yX12_init, (ws_ yX12_init cX12_init 3 (Option.none : Option Jvm.ClassFile.FieldType))), (yJ40_expandTo, (ws_ yJ40_expandTo cJ40_expandTo 3 (Option.none : Option Jvm.ClassFile.FieldType))), (yJ40_init, (ws_ yJ40_init cJ40_init 1 (Option.none : Option Jvm.ClassFile.FieldType))), (yJ40_clear, (ws_ yJ40_clear cJ40_clear 3 (Option.none : Option Jvm.ClassFile.FieldType))), (yJ40_or, (ws_ yJ40_or cJ40_or 4 (Option.none : Option Jvm.ClassFile.FieldType))), (yJ40_andNot, (ws_ yJ40_andNot cJ40_andNot 3 (Option.none : Option Jvm.ClassFile.FieldType))), (yJ4_addAll, (ws_ yJ4_addAll cJ4_addAll 6 (Option.some Jvm.ClassFile.FieldType.boolean))), (yJ36_offer, (ws_ yJ36_offer cJ36_offer 3 (Option.some Jvm.ClassFile.FieldType.boolean)))]
def jml_7 : List (MethodName × List Cond) := [(yJ36_remove, (ws_ yJ36_remove cJ36_remove 3 (Option.some Jvm.ClassFile.FieldType.boolean))), (yJ29_copyOf_4, (ws_ yJ29_copyOf_4 cJ29_copyOf_4 3 (Option.some (Jvm.ClassFile.FieldType.array Jvm.ClassFile.FieldType.long)))), (yX19_init, (ws_ yX19_init cX19_init 1 (Option.none : Option Jvm.ClassFile.FieldType))), (yJ6_compare, (ws_ yJ6_compare cJ6_compare 2 (Option.some Jvm.ClassFile.FieldType.int))), (yJ1_parentOf, (ws_ yJ1_parentOf cJ1_parentOf 1 (Option.some (Jvm.ClassFile.FieldType.object "java/util/TreeMap$Entry")))), (yJ1_leftOf, (ws_ yJ1_leftOf cJ1_leftOf 1 (Option.some (Jvm.ClassFile.FieldType.object "java/util/TreeMap$Entry")))), (yJ1_rightOf, (ws_ yJ1_rightOf cJ1_rightOf 1 (Option.some (Jvm.ClassFile.FieldType.object "java/util/TreeMap$Entry")))), (yJ1_colorOf, (ws_ yJ1_colorOf cJ1_colorOf 1 (Option.some Jvm.ClassFile.FieldType.boolean))), (yJ1_setColor, (ws_ yJ1_setColor cJ1_setColor 2 (Option.none : Option Jvm.ClassFile.FieldType))), (yJ1_rotateLeft, (ws_ yJ1_rotateLeft cJ1_rotateLeft 3 (Option.none : Option Jvm.ClassFile.FieldType))), (yJ1_rotateRight, (ws_ yJ1_rotateRight cJ1_rotateRight 3 (Option.none : Option Jvm.ClassFile.FieldType))), (yJ1_successor, (ws_ yJ1_successor cJ1_successor 3 (Option.some (Jvm.ClassFile.FieldType.object "java/util/TreeMap$Entry")))), (yJ10_newLength, (ws_ yJ10_newLength cJ10_newLength 4 (Option.some Jvm.ClassFile.FieldType.int))), (yJ29_copyOf, (ws_ yJ29_copyOf cJ29_copyOf 2 (Option.some (Jvm.ClassFile.FieldType.array (Jvm.ClassFile.FieldType.object "java/lang/Object"))))), (yJ9_max, (ws_ yJ9_max cJ9_max 2 (Option.some Jvm.ClassFile.FieldType.int))), (yX5_digit, (ws_ yX5_digit cX5_digit 2 (Option.some Jvm.ClassFile.FieldType.int))), (yJ7_indexOf, (ws_ yJ7_indexOf cJ7_indexOf 2 (Option.some Jvm.ClassFile.FieldType.int))), (yJ24_init_3, (ws_ yJ24_init_3 cJ24_init_3 5 (Option.none : Option Jvm.ClassFile.FieldType))), (yJ40_ensureCapacity, (ws_ yJ40_ensureCapacity cJ40_ensureCapacity 3 (Option.none : Option Jvm.ClassFile.FieldType))), (yJ40_initWords, (ws_ yJ40_initWords cJ40_initWords 2 (Option.none : Option Jvm.ClassFile.FieldType))), (yJ40_recalculateWordsInUse, (ws_ yJ40_recalculateWordsInUse cJ40_recalculateWordsInUse 2 (Option.none : Option Jvm.ClassFile.FieldType))), (yJ36_grow, (ws_ yJ36_grow cJ36_grow 4 (Option.none : Option Jvm.ClassFile.FieldType))), (yJ36_siftUp, (ws_ yJ36_siftUp cJ36_siftUp 3 (Option.none : Option Jvm.ClassFile.FieldType))), (yJ36_indexOf, (ws_ yJ36_indexOf cJ36_indexOf 5 (Option.some Jvm.ClassFile.FieldType.int))), (yJ36_removeAt, (ws_ yJ36_removeAt cJ36_removeAt 5 (Option.some (Jvm.ClassFile.FieldType.object "java/lang/Object")))), (yJ7_indexOf_2, (ws_ yJ7_indexOf_2 cJ7_indexOf_2 3 (Option.some Jvm.ClassFile.FieldType.int))), (yJ23_init_3, (ws_ yJ23_init_3 cJ23_init_3 5 (Option.none : Option Jvm.ClassFile.FieldType))), (yJ36_siftUpUsingComparator, (ws_ yJ36_siftUpUsingComparator cJ36_siftUpUsingComparator 6 (Option.none : Option Jvm.ClassFile.FieldType))), (yJ36_siftDown, (ws_ yJ36_siftDown cJ36_siftDown 3 (Option.none : Option Jvm.ClassFile.FieldType))), (yJ7_isLatin1, (ws_ yJ7_isLatin1 cJ7_isLatin1 1 (Option.some Jvm.ClassFile.FieldType.boolean))), (yJ8_indexOf, (ws_ yJ8_indexOf cJ8_indexOf 4 (Option.some Jvm.ClassFile.FieldType.int))), (yJ8_canEncode, (ws_ yJ8_canEncode cJ8_canEncode 1 (Option.some Jvm.ClassFile.FieldType.boolean))), (yJ8_indexOfChar, (ws_ yJ8_indexOfChar cJ8_indexOfChar 6 (Option.some Jvm.ClassFile.FieldType.int)))]
def jml (n : Nat) : Option (MethodName × List Cond) := bif Nat.beq n 79 then none else match n with
  | 0 => none
  | 1 => none
  | k + 2 => (jml_0 ++ jml_1 ++ jml_2 ++ jml_3 ++ jml_4 ++ jml_5 ++ jml_6 ++ jml_7)[k]?
/-- the calls a level deeper answer to the small machine -/
def jIH (l : Launch) (D : va_G) (dA : Nat → ClassId) (lo : Nat) (cs0 : Nat → Option Nat) (d : Nat) : Prop := ∀ n q, jml n = some q → jMe l D dA lo cs0 (EV d) n q.1 q.2 d
theorem i_X1_init {l : Launch} {D : va_G} {dA : Nat → ClassId} {lo : Nat} {cs0 : Nat → Option Nat} {d : Nat} (hI : jIH l D dA lo cs0 d) : jMe l D dA lo cs0 (EV d) 2 yX1_init (ws_ yX1_init cX1_init 1 (Option.none : Option Jvm.ClassFile.FieldType)) d := hI 2 (yX1_init, (ws_ yX1_init cX1_init 1 (Option.none : Option Jvm.ClassFile.FieldType))) rfl
theorem w4_X1_init : Cond.code yX1_init cX1_init 1 (Option.none : Option Jvm.ClassFile.FieldType) ∈ lw_all := q194
theorem w6_X1_init : Cond.initialized yX1_init.cls ∈ lw_all := q123
theorem hy_X1_init : yX1_init.cls ≠ "java/lang/invoke/MethodHandle" ∧ yX1_init.cls ≠ "java/lang/invoke/VarHandle" := by decide +kernel
theorem hl_X1_init : (parseMethodDescriptor yX1_init.desc).map (fun q => q.parameters.length) = some 0 := by decide +kernel
theorem hp_X1_init : plainFor yX1_init = true := by decide +kernel
theorem i_X4_init {l : Launch} {D : va_G} {dA : Nat → ClassId} {lo : Nat} {cs0 : Nat → Option Nat} {d : Nat} (hI : jIH l D dA lo cs0 d) : jMe l D dA lo cs0 (EV d) 3 yX4_init (ws_ yX4_init cX4_init 1 (Option.none : Option Jvm.ClassFile.FieldType)) d := hI 3 (yX4_init, (ws_ yX4_init cX4_init 1 (Option.none : Option Jvm.ClassFile.FieldType))) rfl
theorem w4_X4_init : Cond.code yX4_init cX4_init 1 (Option.none : Option Jvm.ClassFile.FieldType) ∈ lw_all := q2895
theorem w6_X4_init : Cond.initialized yX4_init.cls ∈ lw_all := q160
theorem hy_X4_init : yX4_init.cls ≠ "java/lang/invoke/MethodHandle" ∧ yX4_init.cls ≠ "java/lang/invoke/VarHandle" := by decide +kernel
theorem hl_X4_init : (parseMethodDescriptor yX4_init.desc).map (fun q => q.parameters.length) = some 0 := by decide +kernel
theorem hp_X4_init : plainFor yX4_init = true := by decide +kernel
theorem i_X0_appendCharacter {l : Launch} {D : va_G} {dA : Nat → ClassId} {lo : Nat} {cs0 : Nat → Option Nat} {d : Nat} (hI : jIH l D dA lo cs0 d) : jMe l D dA lo cs0 (EV d) 4 yX0_appendCharacter (wsW_ yX0_appendCharacter cX0_appendCharacter 4 (Option.some Jvm.ClassFile.FieldType.int) [((0 : Nat), (9 : Nat), (12 : Nat), (13 : Nat)), ((0 : Nat), (9 : Nat), (15 : Nat), (15 : Nat))]) d := hI 4 (yX0_appendCharacter, (wsW_ yX0_appendCharacter cX0_appendCharacter 4 (Option.some Jvm.ClassFile.FieldType.int) [((0 : Nat), (9 : Nat), (12 : Nat), (13 : Nat)), ((0 : Nat), (9 : Nat), (15 : Nat), (15 : Nat))])) rfl
theorem w4_X0_appendCharacter : Cond.codeWith yX0_appendCharacter cX0_appendCharacter 4 (Option.some Jvm.ClassFile.FieldType.int) [((0 : Nat), (9 : Nat), (12 : Nat), (13 : Nat)), ((0 : Nat), (9 : Nat), (15 : Nat), (15 : Nat))] ∈ lw_all := q2392
theorem w6_X0_appendCharacter : Cond.initialized yX0_appendCharacter.cls ∈ lw_all := q122
theorem hy_X0_appendCharacter : yX0_appendCharacter.cls ≠ "java/lang/invoke/MethodHandle" ∧ yX0_appendCharacter.cls ≠ "java/lang/invoke/VarHandle" := by decide +kernel
theorem hl_X0_appendCharacter : (parseMethodDescriptor yX0_appendCharacter.desc).map (fun q => q.parameters.length) = some 3 := by decide +kernel
theorem hp_X0_appendCharacter : plainFor yX0_appendCharacter = true := by decide +kernel
theorem i_X4_appendCharacter {l : Launch} {D : va_G} {dA : Nat → ClassId} {lo : Nat} {cs0 : Nat → Option Nat} {d : Nat} (hI : jIH l D dA lo cs0 d) : jMe l D dA lo cs0 (EV d) 5 yX4_appendCharacter (ws_ yX4_appendCharacter cX4_appendCharacter 2 (Option.some Jvm.ClassFile.FieldType.int)) d := hI 5 (yX4_appendCharacter, (ws_ yX4_appendCharacter cX4_appendCharacter 2 (Option.some Jvm.ClassFile.FieldType.int))) rfl
theorem w4_X4_appendCharacter : Cond.code yX4_appendCharacter cX4_appendCharacter 2 (Option.some Jvm.ClassFile.FieldType.int) ∈ lw_all := q3039
theorem w6_X4_appendCharacter : Cond.initialized yX4_appendCharacter.cls ∈ lw_all := q160
theorem hy_X4_appendCharacter : yX4_appendCharacter.cls ≠ "java/lang/invoke/MethodHandle" ∧ yX4_appendCharacter.cls ≠ "java/lang/invoke/VarHandle" := by decide +kernel
theorem hl_X4_appendCharacter : (parseMethodDescriptor yX4_appendCharacter.desc).map (fun q => q.parameters.length) = some 1 := by decide +kernel
theorem hp_X4_appendCharacter : plainFor yX4_appendCharacter = true := by decide +kernel
theorem i_X4_thrown {l : Launch} {D : va_G} {dA : Nat → ClassId} {lo : Nat} {cs0 : Nat → Option Nat} {d : Nat} (hI : jIH l D dA lo cs0 d) : jMe l D dA lo cs0 (EV d) 6 yX4_thrown (ws_ yX4_thrown cX4_thrown 1 (Option.some Jvm.ClassFile.FieldType.int)) d := hI 6 (yX4_thrown, (ws_ yX4_thrown cX4_thrown 1 (Option.some Jvm.ClassFile.FieldType.int))) rfl
theorem w4_X4_thrown : Cond.code yX4_thrown cX4_thrown 1 (Option.some Jvm.ClassFile.FieldType.int) ∈ lw_all := q3035
theorem w6_X4_thrown : Cond.initialized yX4_thrown.cls ∈ lw_all := q160
theorem hy_X4_thrown : yX4_thrown.cls ≠ "java/lang/invoke/MethodHandle" ∧ yX4_thrown.cls ≠ "java/lang/invoke/VarHandle" := by decide +kernel
theorem hl_X4_thrown : (parseMethodDescriptor yX4_thrown.desc).map (fun q => q.parameters.length) = some 0 := by decide +kernel
theorem hp_X4_thrown : plainFor yX4_thrown = true := by decide +kernel
theorem i_X0_setBody {l : Launch} {D : va_G} {dA : Nat → ClassId} {lo : Nat} {cs0 : Nat → Option Nat} {d : Nat} (hI : jIH l D dA lo cs0 d) : jMe l D dA lo cs0 (EV d) 7 yX0_setBody (wsW_ yX0_setBody cX0_setBody 4 (Option.some Jvm.ClassFile.FieldType.int) [((0 : Nat), (9 : Nat), (12 : Nat), (20 : Nat)), ((0 : Nat), (9 : Nat), (15 : Nat), (13 : Nat)), ((0 : Nat), (9 : Nat), (18 : Nat), (15 : Nat))]) d := hI 7 (yX0_setBody, (wsW_ yX0_setBody cX0_setBody 4 (Option.some Jvm.ClassFile.FieldType.int) [((0 : Nat), (9 : Nat), (12 : Nat), (20 : Nat)), ((0 : Nat), (9 : Nat), (15 : Nat), (13 : Nat)), ((0 : Nat), (9 : Nat), (18 : Nat), (15 : Nat))])) rfl
theorem w4_X0_setBody : Cond.codeWith yX0_setBody cX0_setBody 4 (Option.some Jvm.ClassFile.FieldType.int) [((0 : Nat), (9 : Nat), (12 : Nat), (20 : Nat)), ((0 : Nat), (9 : Nat), (15 : Nat), (13 : Nat)), ((0 : Nat), (9 : Nat), (18 : Nat), (15 : Nat))] ∈ lw_all := q2427
theorem w6_X0_setBody : Cond.initialized yX0_setBody.cls ∈ lw_all := q122
theorem hy_X0_setBody : yX0_setBody.cls ≠ "java/lang/invoke/MethodHandle" ∧ yX0_setBody.cls ≠ "java/lang/invoke/VarHandle" := by decide +kernel
theorem hl_X0_setBody : (parseMethodDescriptor yX0_setBody.desc).map (fun q => q.parameters.length) = some 3 := by decide +kernel
theorem hp_X0_setBody : plainFor yX0_setBody = true := by decide +kernel
theorem i_X4_setBody {l : Launch} {D : va_G} {dA : Nat → ClassId} {lo : Nat} {cs0 : Nat → Option Nat} {d : Nat} (hI : jIH l D dA lo cs0 d) : jMe l D dA lo cs0 (EV d) 8 yX4_setBody (ws_ yX4_setBody cX4_setBody 3 (Option.some Jvm.ClassFile.FieldType.int)) d := hI 8 (yX4_setBody, (ws_ yX4_setBody cX4_setBody 3 (Option.some Jvm.ClassFile.FieldType.int))) rfl
theorem w4_X4_setBody : Cond.code yX4_setBody cX4_setBody 3 (Option.some Jvm.ClassFile.FieldType.int) ∈ lw_all := q3050
theorem w6_X4_setBody : Cond.initialized yX4_setBody.cls ∈ lw_all := q160
theorem hy_X4_setBody : yX4_setBody.cls ≠ "java/lang/invoke/MethodHandle" ∧ yX4_setBody.cls ≠ "java/lang/invoke/VarHandle" := by decide +kernel
theorem hl_X4_setBody : (parseMethodDescriptor yX4_setBody.desc).map (fun q => q.parameters.length) = some 1 := by decide +kernel
theorem hp_X4_setBody : plainFor yX4_setBody = true := by decide +kernel
theorem i_X1_faultPosition {l : Launch} {D : va_G} {dA : Nat → ClassId} {lo : Nat} {cs0 : Nat → Option Nat} {d : Nat} (hI : jIH l D dA lo cs0 d) : jMe l D dA lo cs0 (EV d) 9 yX1_faultPosition (ws_ yX1_faultPosition cX1_faultPosition 1 (Option.some Jvm.ClassFile.FieldType.int)) d := hI 9 (yX1_faultPosition, (ws_ yX1_faultPosition cX1_faultPosition 1 (Option.some Jvm.ClassFile.FieldType.int))) rfl
theorem w4_X1_faultPosition : Cond.code yX1_faultPosition cX1_faultPosition 1 (Option.some Jvm.ClassFile.FieldType.int) ∈ lw_all := q1279
theorem w6_X1_faultPosition : Cond.initialized yX1_faultPosition.cls ∈ lw_all := q123
theorem hy_X1_faultPosition : yX1_faultPosition.cls ≠ "java/lang/invoke/MethodHandle" ∧ yX1_faultPosition.cls ≠ "java/lang/invoke/VarHandle" := by decide +kernel
theorem hl_X1_faultPosition : (parseMethodDescriptor yX1_faultPosition.desc).map (fun q => q.parameters.length) = some 0 := by decide +kernel
theorem hp_X1_faultPosition : plainFor yX1_faultPosition = true := by decide +kernel
theorem i_X4_faultPosition {l : Launch} {D : va_G} {dA : Nat → ClassId} {lo : Nat} {cs0 : Nat → Option Nat} {d : Nat} (hI : jIH l D dA lo cs0 d) : jMe l D dA lo cs0 (EV d) 10 yX4_faultPosition (ws_ yX4_faultPosition cX4_faultPosition 1 (Option.some Jvm.ClassFile.FieldType.int)) d := hI 10 (yX4_faultPosition, (ws_ yX4_faultPosition cX4_faultPosition 1 (Option.some Jvm.ClassFile.FieldType.int))) rfl
theorem w4_X4_faultPosition : Cond.code yX4_faultPosition cX4_faultPosition 1 (Option.some Jvm.ClassFile.FieldType.int) ∈ lw_all := q3105
theorem w6_X4_faultPosition : Cond.initialized yX4_faultPosition.cls ∈ lw_all := q160
theorem hy_X4_faultPosition : yX4_faultPosition.cls ≠ "java/lang/invoke/MethodHandle" ∧ yX4_faultPosition.cls ≠ "java/lang/invoke/VarHandle" := by decide +kernel
theorem hl_X4_faultPosition : (parseMethodDescriptor yX4_faultPosition.desc).map (fun q => q.parameters.length) = some 0 := by decide +kernel
theorem hp_X4_faultPosition : plainFor yX4_faultPosition = true := by decide +kernel
theorem i_X1_statementCount {l : Launch} {D : va_G} {dA : Nat → ClassId} {lo : Nat} {cs0 : Nat → Option Nat} {d : Nat} (hI : jIH l D dA lo cs0 d) : jMe l D dA lo cs0 (EV d) 11 yX1_statementCount (ws_ yX1_statementCount cX1_statementCount 1 (Option.some Jvm.ClassFile.FieldType.int)) d := hI 11 (yX1_statementCount, (ws_ yX1_statementCount cX1_statementCount 1 (Option.some Jvm.ClassFile.FieldType.int))) rfl
theorem w4_X1_statementCount : Cond.code yX1_statementCount cX1_statementCount 1 (Option.some Jvm.ClassFile.FieldType.int) ∈ lw_all := q1283
theorem w6_X1_statementCount : Cond.initialized yX1_statementCount.cls ∈ lw_all := q123
theorem hy_X1_statementCount : yX1_statementCount.cls ≠ "java/lang/invoke/MethodHandle" ∧ yX1_statementCount.cls ≠ "java/lang/invoke/VarHandle" := by decide +kernel
theorem hl_X1_statementCount : (parseMethodDescriptor yX1_statementCount.desc).map (fun q => q.parameters.length) = some 0 := by decide +kernel
theorem hp_X1_statementCount : plainFor yX1_statementCount = true := by decide +kernel
theorem i_X4_statementCount {l : Launch} {D : va_G} {dA : Nat → ClassId} {lo : Nat} {cs0 : Nat → Option Nat} {d : Nat} (hI : jIH l D dA lo cs0 d) : jMe l D dA lo cs0 (EV d) 12 yX4_statementCount (ws_ yX4_statementCount cX4_statementCount 1 (Option.some Jvm.ClassFile.FieldType.int)) d := hI 12 (yX4_statementCount, (ws_ yX4_statementCount cX4_statementCount 1 (Option.some Jvm.ClassFile.FieldType.int))) rfl
theorem w4_X4_statementCount : Cond.code yX4_statementCount cX4_statementCount 1 (Option.some Jvm.ClassFile.FieldType.int) ∈ lw_all := q3109
theorem w6_X4_statementCount : Cond.initialized yX4_statementCount.cls ∈ lw_all := q160
theorem hy_X4_statementCount : yX4_statementCount.cls ≠ "java/lang/invoke/MethodHandle" ∧ yX4_statementCount.cls ≠ "java/lang/invoke/VarHandle" := by decide +kernel
theorem hl_X4_statementCount : (parseMethodDescriptor yX4_statementCount.desc).map (fun q => q.parameters.length) = some 0 := by decide +kernel
theorem hp_X4_statementCount : plainFor yX4_statementCount = true := by decide +kernel
theorem i_X0_kind {l : Launch} {D : va_G} {dA : Nat → ClassId} {lo : Nat} {cs0 : Nat → Option Nat} {d : Nat} (hI : jIH l D dA lo cs0 d) : jMe l D dA lo cs0 (EV d) 13 yX0_kind (wsW_ yX0_kind cX0_kind 4 (Option.some Jvm.ClassFile.FieldType.int) [((0 : Nat), (9 : Nat), (12 : Nat), (20 : Nat))]) d := hI 13 (yX0_kind, (wsW_ yX0_kind cX0_kind 4 (Option.some Jvm.ClassFile.FieldType.int) [((0 : Nat), (9 : Nat), (12 : Nat), (20 : Nat))])) rfl
theorem w4_X0_kind : Cond.codeWith yX0_kind cX0_kind 4 (Option.some Jvm.ClassFile.FieldType.int) [((0 : Nat), (9 : Nat), (12 : Nat), (20 : Nat))] ∈ lw_all := q2661
theorem w6_X0_kind : Cond.initialized yX0_kind.cls ∈ lw_all := q122
theorem hy_X0_kind : yX0_kind.cls ≠ "java/lang/invoke/MethodHandle" ∧ yX0_kind.cls ≠ "java/lang/invoke/VarHandle" := by decide +kernel
theorem hl_X0_kind : (parseMethodDescriptor yX0_kind.desc).map (fun q => q.parameters.length) = some 3 := by decide +kernel
theorem hp_X0_kind : plainFor yX0_kind = true := by decide +kernel
theorem i_X4_kind {l : Launch} {D : va_G} {dA : Nat → ClassId} {lo : Nat} {cs0 : Nat → Option Nat} {d : Nat} (hI : jIH l D dA lo cs0 d) : jMe l D dA lo cs0 (EV d) 14 yX4_kind (ws_ yX4_kind cX4_kind 2 (Option.some Jvm.ClassFile.FieldType.int)) d := hI 14 (yX4_kind, (ws_ yX4_kind cX4_kind 2 (Option.some Jvm.ClassFile.FieldType.int))) rfl
theorem w4_X4_kind : Cond.code yX4_kind cX4_kind 2 (Option.some Jvm.ClassFile.FieldType.int) ∈ lw_all := q3117
theorem w6_X4_kind : Cond.initialized yX4_kind.cls ∈ lw_all := q160
theorem hy_X4_kind : yX4_kind.cls ≠ "java/lang/invoke/MethodHandle" ∧ yX4_kind.cls ≠ "java/lang/invoke/VarHandle" := by decide +kernel
theorem hl_X4_kind : (parseMethodDescriptor yX4_kind.desc).map (fun q => q.parameters.length) = some 1 := by decide +kernel
theorem hp_X4_kind : plainFor yX4_kind = true := by decide +kernel
theorem i_X0_functionOf {l : Launch} {D : va_G} {dA : Nat → ClassId} {lo : Nat} {cs0 : Nat → Option Nat} {d : Nat} (hI : jIH l D dA lo cs0 d) : jMe l D dA lo cs0 (EV d) 15 yX0_functionOf (wsW_ yX0_functionOf cX0_functionOf 4 (Option.some Jvm.ClassFile.FieldType.int) [((0 : Nat), (9 : Nat), (12 : Nat), (20 : Nat))]) d := hI 15 (yX0_functionOf, (wsW_ yX0_functionOf cX0_functionOf 4 (Option.some Jvm.ClassFile.FieldType.int) [((0 : Nat), (9 : Nat), (12 : Nat), (20 : Nat))])) rfl
theorem w4_X0_functionOf : Cond.codeWith yX0_functionOf cX0_functionOf 4 (Option.some Jvm.ClassFile.FieldType.int) [((0 : Nat), (9 : Nat), (12 : Nat), (20 : Nat))] ∈ lw_all := q2674
theorem w6_X0_functionOf : Cond.initialized yX0_functionOf.cls ∈ lw_all := q122
theorem hy_X0_functionOf : yX0_functionOf.cls ≠ "java/lang/invoke/MethodHandle" ∧ yX0_functionOf.cls ≠ "java/lang/invoke/VarHandle" := by decide +kernel
theorem hl_X0_functionOf : (parseMethodDescriptor yX0_functionOf.desc).map (fun q => q.parameters.length) = some 3 := by decide +kernel
theorem hp_X0_functionOf : plainFor yX0_functionOf = true := by decide +kernel
theorem i_X4_functionOf {l : Launch} {D : va_G} {dA : Nat → ClassId} {lo : Nat} {cs0 : Nat → Option Nat} {d : Nat} (hI : jIH l D dA lo cs0 d) : jMe l D dA lo cs0 (EV d) 16 yX4_functionOf (ws_ yX4_functionOf cX4_functionOf 2 (Option.some Jvm.ClassFile.FieldType.int)) d := hI 16 (yX4_functionOf, (ws_ yX4_functionOf cX4_functionOf 2 (Option.some Jvm.ClassFile.FieldType.int))) rfl
theorem w4_X4_functionOf : Cond.code yX4_functionOf cX4_functionOf 2 (Option.some Jvm.ClassFile.FieldType.int) ∈ lw_all := q3129
theorem w6_X4_functionOf : Cond.initialized yX4_functionOf.cls ∈ lw_all := q160
theorem hy_X4_functionOf : yX4_functionOf.cls ≠ "java/lang/invoke/MethodHandle" ∧ yX4_functionOf.cls ≠ "java/lang/invoke/VarHandle" := by decide +kernel
theorem hl_X4_functionOf : (parseMethodDescriptor yX4_functionOf.desc).map (fun q => q.parameters.length) = some 1 := by decide +kernel
theorem hp_X4_functionOf : plainFor yX4_functionOf = true := by decide +kernel
theorem i_X1_siteCount {l : Launch} {D : va_G} {dA : Nat → ClassId} {lo : Nat} {cs0 : Nat → Option Nat} {d : Nat} (hI : jIH l D dA lo cs0 d) : jMe l D dA lo cs0 (EV d) 17 yX1_siteCount (ws_ yX1_siteCount cX1_siteCount 1 (Option.some Jvm.ClassFile.FieldType.int)) d := hI 17 (yX1_siteCount, (ws_ yX1_siteCount cX1_siteCount 1 (Option.some Jvm.ClassFile.FieldType.int))) rfl
theorem w4_X1_siteCount : Cond.code yX1_siteCount cX1_siteCount 1 (Option.some Jvm.ClassFile.FieldType.int) ∈ lw_all := q1288
theorem w6_X1_siteCount : Cond.initialized yX1_siteCount.cls ∈ lw_all := q123
theorem hy_X1_siteCount : yX1_siteCount.cls ≠ "java/lang/invoke/MethodHandle" ∧ yX1_siteCount.cls ≠ "java/lang/invoke/VarHandle" := by decide +kernel
theorem hl_X1_siteCount : (parseMethodDescriptor yX1_siteCount.desc).map (fun q => q.parameters.length) = some 0 := by decide +kernel
theorem hp_X1_siteCount : plainFor yX1_siteCount = true := by decide +kernel
theorem i_X4_siteCount {l : Launch} {D : va_G} {dA : Nat → ClassId} {lo : Nat} {cs0 : Nat → Option Nat} {d : Nat} (hI : jIH l D dA lo cs0 d) : jMe l D dA lo cs0 (EV d) 18 yX4_siteCount (ws_ yX4_siteCount cX4_siteCount 1 (Option.some Jvm.ClassFile.FieldType.int)) d := hI 18 (yX4_siteCount, (ws_ yX4_siteCount cX4_siteCount 1 (Option.some Jvm.ClassFile.FieldType.int))) rfl
theorem w4_X4_siteCount : Cond.code yX4_siteCount cX4_siteCount 1 (Option.some Jvm.ClassFile.FieldType.int) ∈ lw_all := q3133
theorem w6_X4_siteCount : Cond.initialized yX4_siteCount.cls ∈ lw_all := q160
theorem hy_X4_siteCount : yX4_siteCount.cls ≠ "java/lang/invoke/MethodHandle" ∧ yX4_siteCount.cls ≠ "java/lang/invoke/VarHandle" := by decide +kernel
theorem hl_X4_siteCount : (parseMethodDescriptor yX4_siteCount.desc).map (fun q => q.parameters.length) = some 0 := by decide +kernel
theorem hp_X4_siteCount : plainFor yX4_siteCount = true := by decide +kernel
theorem i_X0_setLimit {l : Launch} {D : va_G} {dA : Nat → ClassId} {lo : Nat} {cs0 : Nat → Option Nat} {d : Nat} (hI : jIH l D dA lo cs0 d) : jMe l D dA lo cs0 (EV d) 19 yX0_setLimit (wsW_ yX0_setLimit cX0_setLimit 4 (Option.some Jvm.ClassFile.FieldType.int) [((0 : Nat), (9 : Nat), (12 : Nat), (13 : Nat))]) d := hI 19 (yX0_setLimit, (wsW_ yX0_setLimit cX0_setLimit 4 (Option.some Jvm.ClassFile.FieldType.int) [((0 : Nat), (9 : Nat), (12 : Nat), (13 : Nat))])) rfl
theorem w4_X0_setLimit : Cond.codeWith yX0_setLimit cX0_setLimit 4 (Option.some Jvm.ClassFile.FieldType.int) [((0 : Nat), (9 : Nat), (12 : Nat), (13 : Nat))] ∈ lw_all := q2681
theorem w6_X0_setLimit : Cond.initialized yX0_setLimit.cls ∈ lw_all := q122
theorem hy_X0_setLimit : yX0_setLimit.cls ≠ "java/lang/invoke/MethodHandle" ∧ yX0_setLimit.cls ≠ "java/lang/invoke/VarHandle" := by decide +kernel
theorem hl_X0_setLimit : (parseMethodDescriptor yX0_setLimit.desc).map (fun q => q.parameters.length) = some 3 := by decide +kernel
theorem hp_X0_setLimit : plainFor yX0_setLimit = true := by decide +kernel
theorem i_X4_setLimit {l : Launch} {D : va_G} {dA : Nat → ClassId} {lo : Nat} {cs0 : Nat → Option Nat} {d : Nat} (hI : jIH l D dA lo cs0 d) : jMe l D dA lo cs0 (EV d) 20 yX4_setLimit (ws_ yX4_setLimit cX4_setLimit 3 (Option.some Jvm.ClassFile.FieldType.int)) d := hI 20 (yX4_setLimit, (ws_ yX4_setLimit cX4_setLimit 3 (Option.some Jvm.ClassFile.FieldType.int))) rfl
theorem w4_X4_setLimit : Cond.code yX4_setLimit cX4_setLimit 3 (Option.some Jvm.ClassFile.FieldType.int) ∈ lw_all := q3141
theorem w6_X4_setLimit : Cond.initialized yX4_setLimit.cls ∈ lw_all := q160
theorem hy_X4_setLimit : yX4_setLimit.cls ≠ "java/lang/invoke/MethodHandle" ∧ yX4_setLimit.cls ≠ "java/lang/invoke/VarHandle" := by decide +kernel
theorem hl_X4_setLimit : (parseMethodDescriptor yX4_setLimit.desc).map (fun q => q.parameters.length) = some 1 := by decide +kernel
theorem hp_X4_setLimit : plainFor yX4_setLimit = true := by decide +kernel
theorem i_X0_contextCount {l : Launch} {D : va_G} {dA : Nat → ClassId} {lo : Nat} {cs0 : Nat → Option Nat} {d : Nat} (hI : jIH l D dA lo cs0 d) : jMe l D dA lo cs0 (EV d) 21 yX0_contextCount (wsW_ yX0_contextCount cX0_contextCount 4 (Option.some Jvm.ClassFile.FieldType.int) [((0 : Nat), (9 : Nat), (12 : Nat), (20 : Nat))]) d := hI 21 (yX0_contextCount, (wsW_ yX0_contextCount cX0_contextCount 4 (Option.some Jvm.ClassFile.FieldType.int) [((0 : Nat), (9 : Nat), (12 : Nat), (20 : Nat))])) rfl
theorem w4_X0_contextCount : Cond.codeWith yX0_contextCount cX0_contextCount 4 (Option.some Jvm.ClassFile.FieldType.int) [((0 : Nat), (9 : Nat), (12 : Nat), (20 : Nat))] ∈ lw_all := q2688
theorem w6_X0_contextCount : Cond.initialized yX0_contextCount.cls ∈ lw_all := q122
theorem hy_X0_contextCount : yX0_contextCount.cls ≠ "java/lang/invoke/MethodHandle" ∧ yX0_contextCount.cls ≠ "java/lang/invoke/VarHandle" := by decide +kernel
theorem hl_X0_contextCount : (parseMethodDescriptor yX0_contextCount.desc).map (fun q => q.parameters.length) = some 3 := by decide +kernel
theorem hp_X0_contextCount : plainFor yX0_contextCount = true := by decide +kernel
theorem i_X4_contextCount {l : Launch} {D : va_G} {dA : Nat → ClassId} {lo : Nat} {cs0 : Nat → Option Nat} {d : Nat} (hI : jIH l D dA lo cs0 d) : jMe l D dA lo cs0 (EV d) 22 yX4_contextCount (ws_ yX4_contextCount cX4_contextCount 2 (Option.some Jvm.ClassFile.FieldType.int)) d := hI 22 (yX4_contextCount, (ws_ yX4_contextCount cX4_contextCount 2 (Option.some Jvm.ClassFile.FieldType.int))) rfl
theorem w4_X4_contextCount : Cond.code yX4_contextCount cX4_contextCount 2 (Option.some Jvm.ClassFile.FieldType.int) ∈ lw_all := q3145
theorem w6_X4_contextCount : Cond.initialized yX4_contextCount.cls ∈ lw_all := q160
theorem hy_X4_contextCount : yX4_contextCount.cls ≠ "java/lang/invoke/MethodHandle" ∧ yX4_contextCount.cls ≠ "java/lang/invoke/VarHandle" := by decide +kernel
theorem hl_X4_contextCount : (parseMethodDescriptor yX4_contextCount.desc).map (fun q => q.parameters.length) = some 1 := by decide +kernel
theorem hp_X4_contextCount : plainFor yX4_contextCount = true := by decide +kernel
theorem i_X0_contextLength {l : Launch} {D : va_G} {dA : Nat → ClassId} {lo : Nat} {cs0 : Nat → Option Nat} {d : Nat} (hI : jIH l D dA lo cs0 d) : jMe l D dA lo cs0 (EV d) 23 yX0_contextLength (wsW_ yX0_contextLength cX0_contextLength 5 (Option.some Jvm.ClassFile.FieldType.int) [((0 : Nat), (10 : Nat), (13 : Nat), (20 : Nat))]) d := hI 23 (yX0_contextLength, (wsW_ yX0_contextLength cX0_contextLength 5 (Option.some Jvm.ClassFile.FieldType.int) [((0 : Nat), (10 : Nat), (13 : Nat), (20 : Nat))])) rfl
theorem w4_X0_contextLength : Cond.codeWith yX0_contextLength cX0_contextLength 5 (Option.some Jvm.ClassFile.FieldType.int) [((0 : Nat), (10 : Nat), (13 : Nat), (20 : Nat))] ∈ lw_all := q2696
theorem w6_X0_contextLength : Cond.initialized yX0_contextLength.cls ∈ lw_all := q122
theorem hy_X0_contextLength : yX0_contextLength.cls ≠ "java/lang/invoke/MethodHandle" ∧ yX0_contextLength.cls ≠ "java/lang/invoke/VarHandle" := by decide +kernel
theorem hl_X0_contextLength : (parseMethodDescriptor yX0_contextLength.desc).map (fun q => q.parameters.length) = some 4 := by decide +kernel
theorem hp_X0_contextLength : plainFor yX0_contextLength = true := by decide +kernel
theorem i_X4_contextLength {l : Launch} {D : va_G} {dA : Nat → ClassId} {lo : Nat} {cs0 : Nat → Option Nat} {d : Nat} (hI : jIH l D dA lo cs0 d) : jMe l D dA lo cs0 (EV d) 24 yX4_contextLength (ws_ yX4_contextLength cX4_contextLength 4 (Option.some Jvm.ClassFile.FieldType.int)) d := hI 24 (yX4_contextLength, (ws_ yX4_contextLength cX4_contextLength 4 (Option.some Jvm.ClassFile.FieldType.int))) rfl
theorem w4_X4_contextLength : Cond.code yX4_contextLength cX4_contextLength 4 (Option.some Jvm.ClassFile.FieldType.int) ∈ lw_all := q3239
theorem w6_X4_contextLength : Cond.initialized yX4_contextLength.cls ∈ lw_all := q160
theorem hy_X4_contextLength : yX4_contextLength.cls ≠ "java/lang/invoke/MethodHandle" ∧ yX4_contextLength.cls ≠ "java/lang/invoke/VarHandle" := by decide +kernel
theorem hl_X4_contextLength : (parseMethodDescriptor yX4_contextLength.desc).map (fun q => q.parameters.length) = some 2 := by decide +kernel
theorem hp_X4_contextLength : plainFor yX4_contextLength = true := by decide +kernel
theorem i_X0_contextCall {l : Launch} {D : va_G} {dA : Nat → ClassId} {lo : Nat} {cs0 : Nat → Option Nat} {d : Nat} (hI : jIH l D dA lo cs0 d) : jMe l D dA lo cs0 (EV d) 25 yX0_contextCall (wsW_ yX0_contextCall cX0_contextCall 6 (Option.some Jvm.ClassFile.FieldType.int) [((0 : Nat), (12 : Nat), (15 : Nat), (20 : Nat))]) d := hI 25 (yX0_contextCall, (wsW_ yX0_contextCall cX0_contextCall 6 (Option.some Jvm.ClassFile.FieldType.int) [((0 : Nat), (12 : Nat), (15 : Nat), (20 : Nat))])) rfl
theorem w4_X0_contextCall : Cond.codeWith yX0_contextCall cX0_contextCall 6 (Option.some Jvm.ClassFile.FieldType.int) [((0 : Nat), (12 : Nat), (15 : Nat), (20 : Nat))] ∈ lw_all := q2708
theorem w6_X0_contextCall : Cond.initialized yX0_contextCall.cls ∈ lw_all := q122
theorem hy_X0_contextCall : yX0_contextCall.cls ≠ "java/lang/invoke/MethodHandle" ∧ yX0_contextCall.cls ≠ "java/lang/invoke/VarHandle" := by decide +kernel
theorem hl_X0_contextCall : (parseMethodDescriptor yX0_contextCall.desc).map (fun q => q.parameters.length) = some 5 := by decide +kernel
theorem hp_X0_contextCall : plainFor yX0_contextCall = true := by decide +kernel
theorem i_X4_contextCall {l : Launch} {D : va_G} {dA : Nat → ClassId} {lo : Nat} {cs0 : Nat → Option Nat} {d : Nat} (hI : jIH l D dA lo cs0 d) : jMe l D dA lo cs0 (EV d) 26 yX4_contextCall (ws_ yX4_contextCall cX4_contextCall 5 (Option.some Jvm.ClassFile.FieldType.int)) d := hI 26 (yX4_contextCall, (ws_ yX4_contextCall cX4_contextCall 5 (Option.some Jvm.ClassFile.FieldType.int))) rfl
theorem w4_X4_contextCall : Cond.code yX4_contextCall cX4_contextCall 5 (Option.some Jvm.ClassFile.FieldType.int) ∈ lw_all := q3251
theorem w6_X4_contextCall : Cond.initialized yX4_contextCall.cls ∈ lw_all := q160
theorem hy_X4_contextCall : yX4_contextCall.cls ≠ "java/lang/invoke/MethodHandle" ∧ yX4_contextCall.cls ≠ "java/lang/invoke/VarHandle" := by decide +kernel
theorem hl_X4_contextCall : (parseMethodDescriptor yX4_contextCall.desc).map (fun q => q.parameters.length) = some 3 := by decide +kernel
theorem hp_X4_contextCall : plainFor yX4_contextCall = true := by decide +kernel
theorem i_X0_pointsTo {l : Launch} {D : va_G} {dA : Nat → ClassId} {lo : Nat} {cs0 : Nat → Option Nat} {d : Nat} (hI : jIH l D dA lo cs0 d) : jMe l D dA lo cs0 (EV d) 27 yX0_pointsTo (wsW_ yX0_pointsTo cX0_pointsTo 4 (Option.some Jvm.ClassFile.FieldType.int) [((0 : Nat), (8 : Nat), (11 : Nat), (20 : Nat))]) d := hI 27 (yX0_pointsTo, (wsW_ yX0_pointsTo cX0_pointsTo 4 (Option.some Jvm.ClassFile.FieldType.int) [((0 : Nat), (8 : Nat), (11 : Nat), (20 : Nat))])) rfl
theorem w4_X0_pointsTo : Cond.codeWith yX0_pointsTo cX0_pointsTo 4 (Option.some Jvm.ClassFile.FieldType.int) [((0 : Nat), (8 : Nat), (11 : Nat), (20 : Nat))] ∈ lw_all := q2715
theorem w6_X0_pointsTo : Cond.initialized yX0_pointsTo.cls ∈ lw_all := q122
theorem hy_X0_pointsTo : yX0_pointsTo.cls ≠ "java/lang/invoke/MethodHandle" ∧ yX0_pointsTo.cls ≠ "java/lang/invoke/VarHandle" := by decide +kernel
theorem hl_X0_pointsTo : (parseMethodDescriptor yX0_pointsTo.desc).map (fun q => q.parameters.length) = some 3 := by decide +kernel
theorem hp_X0_pointsTo : plainFor yX0_pointsTo = true := by decide +kernel
theorem i_X4_pointsTo {l : Launch} {D : va_G} {dA : Nat → ClassId} {lo : Nat} {cs0 : Nat → Option Nat} {d : Nat} (hI : jIH l D dA lo cs0 d) : jMe l D dA lo cs0 (EV d) 28 yX4_pointsTo (ws_ yX4_pointsTo cX4_pointsTo 2 (Option.some Jvm.ClassFile.FieldType.long)) d := hI 28 (yX4_pointsTo, (ws_ yX4_pointsTo cX4_pointsTo 2 (Option.some Jvm.ClassFile.FieldType.long))) rfl
theorem w4_X4_pointsTo : Cond.code yX4_pointsTo cX4_pointsTo 2 (Option.some Jvm.ClassFile.FieldType.long) ∈ lw_all := q3255
theorem w6_X4_pointsTo : Cond.initialized yX4_pointsTo.cls ∈ lw_all := q160
theorem hy_X4_pointsTo : yX4_pointsTo.cls ≠ "java/lang/invoke/MethodHandle" ∧ yX4_pointsTo.cls ≠ "java/lang/invoke/VarHandle" := by decide +kernel
theorem hl_X4_pointsTo : (parseMethodDescriptor yX4_pointsTo.desc).map (fun q => q.parameters.length) = some 1 := by decide +kernel
theorem hp_X4_pointsTo : plainFor yX4_pointsTo = true := by decide +kernel
theorem i_X0_pointsToIn {l : Launch} {D : va_G} {dA : Nat → ClassId} {lo : Nat} {cs0 : Nat → Option Nat} {d : Nat} (hI : jIH l D dA lo cs0 d) : jMe l D dA lo cs0 (EV d) 29 yX0_pointsToIn (wsW_ yX0_pointsToIn cX0_pointsToIn 5 (Option.some Jvm.ClassFile.FieldType.int) [((0 : Nat), (9 : Nat), (12 : Nat), (20 : Nat))]) d := hI 29 (yX0_pointsToIn, (wsW_ yX0_pointsToIn cX0_pointsToIn 5 (Option.some Jvm.ClassFile.FieldType.int) [((0 : Nat), (9 : Nat), (12 : Nat), (20 : Nat))])) rfl
theorem w4_X0_pointsToIn : Cond.codeWith yX0_pointsToIn cX0_pointsToIn 5 (Option.some Jvm.ClassFile.FieldType.int) [((0 : Nat), (9 : Nat), (12 : Nat), (20 : Nat))] ∈ lw_all := q2725
theorem w6_X0_pointsToIn : Cond.initialized yX0_pointsToIn.cls ∈ lw_all := q122
theorem hy_X0_pointsToIn : yX0_pointsToIn.cls ≠ "java/lang/invoke/MethodHandle" ∧ yX0_pointsToIn.cls ≠ "java/lang/invoke/VarHandle" := by decide +kernel
theorem hl_X0_pointsToIn : (parseMethodDescriptor yX0_pointsToIn.desc).map (fun q => q.parameters.length) = some 4 := by decide +kernel
theorem hp_X0_pointsToIn : plainFor yX0_pointsToIn = true := by decide +kernel
theorem i_X4_pointsToIn {l : Launch} {D : va_G} {dA : Nat → ClassId} {lo : Nat} {cs0 : Nat → Option Nat} {d : Nat} (hI : jIH l D dA lo cs0 d) : jMe l D dA lo cs0 (EV d) 30 yX4_pointsToIn (ws_ yX4_pointsToIn cX4_pointsToIn 4 (Option.some Jvm.ClassFile.FieldType.long)) d := hI 30 (yX4_pointsToIn, (ws_ yX4_pointsToIn cX4_pointsToIn 4 (Option.some Jvm.ClassFile.FieldType.long))) rfl
theorem w4_X4_pointsToIn : Cond.code yX4_pointsToIn cX4_pointsToIn 4 (Option.some Jvm.ClassFile.FieldType.long) ∈ lw_all := q3270
theorem w6_X4_pointsToIn : Cond.initialized yX4_pointsToIn.cls ∈ lw_all := q160
theorem hy_X4_pointsToIn : yX4_pointsToIn.cls ≠ "java/lang/invoke/MethodHandle" ∧ yX4_pointsToIn.cls ≠ "java/lang/invoke/VarHandle" := by decide +kernel
theorem hl_X4_pointsToIn : (parseMethodDescriptor yX4_pointsToIn.desc).map (fun q => q.parameters.length) = some 2 := by decide +kernel
theorem hp_X4_pointsToIn : plainFor yX4_pointsToIn = true := by decide +kernel
theorem i_X0_fieldPointsTo {l : Launch} {D : va_G} {dA : Nat → ClassId} {lo : Nat} {cs0 : Nat → Option Nat} {d : Nat} (hI : jIH l D dA lo cs0 d) : jMe l D dA lo cs0 (EV d) 31 yX0_fieldPointsTo (wsW_ yX0_fieldPointsTo cX0_fieldPointsTo 5 (Option.some Jvm.ClassFile.FieldType.int) [((0 : Nat), (9 : Nat), (12 : Nat), (20 : Nat))]) d := hI 31 (yX0_fieldPointsTo, (wsW_ yX0_fieldPointsTo cX0_fieldPointsTo 5 (Option.some Jvm.ClassFile.FieldType.int) [((0 : Nat), (9 : Nat), (12 : Nat), (20 : Nat))])) rfl
theorem w4_X0_fieldPointsTo : Cond.codeWith yX0_fieldPointsTo cX0_fieldPointsTo 5 (Option.some Jvm.ClassFile.FieldType.int) [((0 : Nat), (9 : Nat), (12 : Nat), (20 : Nat))] ∈ lw_all := q2735
theorem w6_X0_fieldPointsTo : Cond.initialized yX0_fieldPointsTo.cls ∈ lw_all := q122
theorem hy_X0_fieldPointsTo : yX0_fieldPointsTo.cls ≠ "java/lang/invoke/MethodHandle" ∧ yX0_fieldPointsTo.cls ≠ "java/lang/invoke/VarHandle" := by decide +kernel
theorem hl_X0_fieldPointsTo : (parseMethodDescriptor yX0_fieldPointsTo.desc).map (fun q => q.parameters.length) = some 4 := by decide +kernel
theorem hp_X0_fieldPointsTo : plainFor yX0_fieldPointsTo = true := by decide +kernel
theorem i_X4_fieldPointsTo {l : Launch} {D : va_G} {dA : Nat → ClassId} {lo : Nat} {cs0 : Nat → Option Nat} {d : Nat} (hI : jIH l D dA lo cs0 d) : jMe l D dA lo cs0 (EV d) 32 yX4_fieldPointsTo (ws_ yX4_fieldPointsTo cX4_fieldPointsTo 3 (Option.some Jvm.ClassFile.FieldType.long)) d := hI 32 (yX4_fieldPointsTo, (ws_ yX4_fieldPointsTo cX4_fieldPointsTo 3 (Option.some Jvm.ClassFile.FieldType.long))) rfl
theorem w4_X4_fieldPointsTo : Cond.code yX4_fieldPointsTo cX4_fieldPointsTo 3 (Option.some Jvm.ClassFile.FieldType.long) ∈ lw_all := q3274
theorem w6_X4_fieldPointsTo : Cond.initialized yX4_fieldPointsTo.cls ∈ lw_all := q160
theorem hy_X4_fieldPointsTo : yX4_fieldPointsTo.cls ≠ "java/lang/invoke/MethodHandle" ∧ yX4_fieldPointsTo.cls ≠ "java/lang/invoke/VarHandle" := by decide +kernel
theorem hl_X4_fieldPointsTo : (parseMethodDescriptor yX4_fieldPointsTo.desc).map (fun q => q.parameters.length) = some 2 := by decide +kernel
theorem hp_X4_fieldPointsTo : plainFor yX4_fieldPointsTo = true := by decide +kernel
theorem i_X1_factCount {l : Launch} {D : va_G} {dA : Nat → ClassId} {lo : Nat} {cs0 : Nat → Option Nat} {d : Nat} (hI : jIH l D dA lo cs0 d) : jMe l D dA lo cs0 (EV d) 33 yX1_factCount (ws_ yX1_factCount cX1_factCount 1 (Option.some Jvm.ClassFile.FieldType.int)) d := hI 33 (yX1_factCount, (ws_ yX1_factCount cX1_factCount 1 (Option.some Jvm.ClassFile.FieldType.int))) rfl
theorem w4_X1_factCount : Cond.code yX1_factCount cX1_factCount 1 (Option.some Jvm.ClassFile.FieldType.int) ∈ lw_all := q1292
theorem w6_X1_factCount : Cond.initialized yX1_factCount.cls ∈ lw_all := q123
theorem hy_X1_factCount : yX1_factCount.cls ≠ "java/lang/invoke/MethodHandle" ∧ yX1_factCount.cls ≠ "java/lang/invoke/VarHandle" := by decide +kernel
theorem hl_X1_factCount : (parseMethodDescriptor yX1_factCount.desc).map (fun q => q.parameters.length) = some 0 := by decide +kernel
theorem hp_X1_factCount : plainFor yX1_factCount = true := by decide +kernel
theorem i_X4_factCount {l : Launch} {D : va_G} {dA : Nat → ClassId} {lo : Nat} {cs0 : Nat → Option Nat} {d : Nat} (hI : jIH l D dA lo cs0 d) : jMe l D dA lo cs0 (EV d) 34 yX4_factCount (ws_ yX4_factCount cX4_factCount 3 (Option.some Jvm.ClassFile.FieldType.int)) d := hI 34 (yX4_factCount, (ws_ yX4_factCount cX4_factCount 3 (Option.some Jvm.ClassFile.FieldType.int))) rfl
theorem w4_X4_factCount : Cond.code yX4_factCount cX4_factCount 3 (Option.some Jvm.ClassFile.FieldType.int) ∈ lw_all := q3282
theorem w6_X4_factCount : Cond.initialized yX4_factCount.cls ∈ lw_all := q160
theorem hy_X4_factCount : yX4_factCount.cls ≠ "java/lang/invoke/MethodHandle" ∧ yX4_factCount.cls ≠ "java/lang/invoke/VarHandle" := by decide +kernel
theorem hl_X4_factCount : (parseMethodDescriptor yX4_factCount.desc).map (fun q => q.parameters.length) = some 0 := by decide +kernel
theorem hp_X4_factCount : plainFor yX4_factCount = true := by decide +kernel
theorem i_X0_mayAlias {l : Launch} {D : va_G} {dA : Nat → ClassId} {lo : Nat} {cs0 : Nat → Option Nat} {d : Nat} (hI : jIH l D dA lo cs0 d) : jMe l D dA lo cs0 (EV d) 35 yX0_mayAlias (wsW_ yX0_mayAlias cX0_mayAlias 5 (Option.some Jvm.ClassFile.FieldType.int) [((0 : Nat), (17 : Nat), (20 : Nat), (20 : Nat))]) d := hI 35 (yX0_mayAlias, (wsW_ yX0_mayAlias cX0_mayAlias 5 (Option.some Jvm.ClassFile.FieldType.int) [((0 : Nat), (17 : Nat), (20 : Nat), (20 : Nat))])) rfl
theorem w4_X0_mayAlias : Cond.codeWith yX0_mayAlias cX0_mayAlias 5 (Option.some Jvm.ClassFile.FieldType.int) [((0 : Nat), (17 : Nat), (20 : Nat), (20 : Nat))] ∈ lw_all := q2746
theorem w6_X0_mayAlias : Cond.initialized yX0_mayAlias.cls ∈ lw_all := q122
theorem hy_X0_mayAlias : yX0_mayAlias.cls ≠ "java/lang/invoke/MethodHandle" ∧ yX0_mayAlias.cls ≠ "java/lang/invoke/VarHandle" := by decide +kernel
theorem hl_X0_mayAlias : (parseMethodDescriptor yX0_mayAlias.desc).map (fun q => q.parameters.length) = some 4 := by decide +kernel
theorem hp_X0_mayAlias : plainFor yX0_mayAlias = true := by decide +kernel
theorem i_X4_mayAlias {l : Launch} {D : va_G} {dA : Nat → ClassId} {lo : Nat} {cs0 : Nat → Option Nat} {d : Nat} (hI : jIH l D dA lo cs0 d) : jMe l D dA lo cs0 (EV d) 36 yX4_mayAlias (ws_ yX4_mayAlias cX4_mayAlias 3 (Option.some Jvm.ClassFile.FieldType.boolean)) d := hI 36 (yX4_mayAlias, (ws_ yX4_mayAlias cX4_mayAlias 3 (Option.some Jvm.ClassFile.FieldType.boolean))) rfl
theorem w4_X4_mayAlias : Cond.code yX4_mayAlias cX4_mayAlias 3 (Option.some Jvm.ClassFile.FieldType.boolean) ∈ lw_all := q3289
theorem w6_X4_mayAlias : Cond.initialized yX4_mayAlias.cls ∈ lw_all := q160
theorem hy_X4_mayAlias : yX4_mayAlias.cls ≠ "java/lang/invoke/MethodHandle" ∧ yX4_mayAlias.cls ≠ "java/lang/invoke/VarHandle" := by decide +kernel
theorem hl_X4_mayAlias : (parseMethodDescriptor yX4_mayAlias.desc).map (fun q => q.parameters.length) = some 2 := by decide +kernel
theorem hp_X4_mayAlias : plainFor yX4_mayAlias = true := by decide +kernel
theorem i_X0_reach {l : Launch} {D : va_G} {dA : Nat → ClassId} {lo : Nat} {cs0 : Nat → Option Nat} {d : Nat} (hI : jIH l D dA lo cs0 d) : jMe l D dA lo cs0 (EV d) 37 yX0_reach (wsW_ yX0_reach cX0_reach 4 (Option.some Jvm.ClassFile.FieldType.int) [((0 : Nat), (8 : Nat), (11 : Nat), (20 : Nat))]) d := hI 37 (yX0_reach, (wsW_ yX0_reach cX0_reach 4 (Option.some Jvm.ClassFile.FieldType.int) [((0 : Nat), (8 : Nat), (11 : Nat), (20 : Nat))])) rfl
theorem w4_X0_reach : Cond.codeWith yX0_reach cX0_reach 4 (Option.some Jvm.ClassFile.FieldType.int) [((0 : Nat), (8 : Nat), (11 : Nat), (20 : Nat))] ∈ lw_all := q2753
theorem w6_X0_reach : Cond.initialized yX0_reach.cls ∈ lw_all := q122
theorem hy_X0_reach : yX0_reach.cls ≠ "java/lang/invoke/MethodHandle" ∧ yX0_reach.cls ≠ "java/lang/invoke/VarHandle" := by decide +kernel
theorem hl_X0_reach : (parseMethodDescriptor yX0_reach.desc).map (fun q => q.parameters.length) = some 3 := by decide +kernel
theorem hp_X0_reach : plainFor yX0_reach = true := by decide +kernel
theorem i_X4_reach {l : Launch} {D : va_G} {dA : Nat → ClassId} {lo : Nat} {cs0 : Nat → Option Nat} {d : Nat} (hI : jIH l D dA lo cs0 d) : jMe l D dA lo cs0 (EV d) 38 yX4_reach (ws_ yX4_reach cX4_reach 2 (Option.some Jvm.ClassFile.FieldType.long)) d := hI 38 (yX4_reach, (ws_ yX4_reach cX4_reach 2 (Option.some Jvm.ClassFile.FieldType.long))) rfl
theorem w4_X4_reach : Cond.code yX4_reach cX4_reach 2 (Option.some Jvm.ClassFile.FieldType.long) ∈ lw_all := q3297
theorem w6_X4_reach : Cond.initialized yX4_reach.cls ∈ lw_all := q160
theorem hy_X4_reach : yX4_reach.cls ≠ "java/lang/invoke/MethodHandle" ∧ yX4_reach.cls ≠ "java/lang/invoke/VarHandle" := by decide +kernel
theorem hl_X4_reach : (parseMethodDescriptor yX4_reach.desc).map (fun q => q.parameters.length) = some 1 := by decide +kernel
theorem hp_X4_reach : plainFor yX4_reach = true := by decide +kernel
theorem i_X1_escapingSites {l : Launch} {D : va_G} {dA : Nat → ClassId} {lo : Nat} {cs0 : Nat → Option Nat} {d : Nat} (hI : jIH l D dA lo cs0 d) : jMe l D dA lo cs0 (EV d) 39 yX1_escapingSites (ws_ yX1_escapingSites cX1_escapingSites 5 (Option.some Jvm.ClassFile.FieldType.int)) d := hI 39 (yX1_escapingSites, (ws_ yX1_escapingSites cX1_escapingSites 5 (Option.some Jvm.ClassFile.FieldType.int))) rfl
theorem w4_X1_escapingSites : Cond.code yX1_escapingSites cX1_escapingSites 5 (Option.some Jvm.ClassFile.FieldType.int) ∈ lw_all := q2115
theorem w6_X1_escapingSites : Cond.initialized yX1_escapingSites.cls ∈ lw_all := q123
theorem hy_X1_escapingSites : yX1_escapingSites.cls ≠ "java/lang/invoke/MethodHandle" ∧ yX1_escapingSites.cls ≠ "java/lang/invoke/VarHandle" := by decide +kernel
theorem hl_X1_escapingSites : (parseMethodDescriptor yX1_escapingSites.desc).map (fun q => q.parameters.length) = some 0 := by decide +kernel
theorem hp_X1_escapingSites : plainFor yX1_escapingSites = true := by decide +kernel
theorem i_X4_escapingSites {l : Launch} {D : va_G} {dA : Nat → ClassId} {lo : Nat} {cs0 : Nat → Option Nat} {d : Nat} (hI : jIH l D dA lo cs0 d) : jMe l D dA lo cs0 (EV d) 40 yX4_escapingSites (ws_ yX4_escapingSites cX4_escapingSites 5 (Option.some Jvm.ClassFile.FieldType.int)) d := hI 40 (yX4_escapingSites, (ws_ yX4_escapingSites cX4_escapingSites 5 (Option.some Jvm.ClassFile.FieldType.int))) rfl
theorem w4_X4_escapingSites : Cond.code yX4_escapingSites cX4_escapingSites 5 (Option.some Jvm.ClassFile.FieldType.int) ∈ lw_all := q3305
theorem w6_X4_escapingSites : Cond.initialized yX4_escapingSites.cls ∈ lw_all := q160
theorem hy_X4_escapingSites : yX4_escapingSites.cls ≠ "java/lang/invoke/MethodHandle" ∧ yX4_escapingSites.cls ≠ "java/lang/invoke/VarHandle" := by decide +kernel
theorem hl_X4_escapingSites : (parseMethodDescriptor yX4_escapingSites.desc).map (fun q => q.parameters.length) = some 0 := by decide +kernel
theorem hp_X4_escapingSites : plainFor yX4_escapingSites = true := by decide +kernel
theorem i_X0_rank {l : Launch} {D : va_G} {dA : Nat → ClassId} {lo : Nat} {cs0 : Nat → Option Nat} {d : Nat} (hI : jIH l D dA lo cs0 d) : jMe l D dA lo cs0 (EV d) 41 yX0_rank (wsW_ yX0_rank cX0_rank 5 (Option.some Jvm.ClassFile.FieldType.int) [((0 : Nat), (10 : Nat), (13 : Nat), (20 : Nat)), ((0 : Nat), (10 : Nat), (17 : Nat), (63 : Nat))]) d := hI 41 (yX0_rank, (wsW_ yX0_rank cX0_rank 5 (Option.some Jvm.ClassFile.FieldType.int) [((0 : Nat), (10 : Nat), (13 : Nat), (20 : Nat)), ((0 : Nat), (10 : Nat), (17 : Nat), (63 : Nat))])) rfl
theorem w4_X0_rank : Cond.codeWith yX0_rank cX0_rank 5 (Option.some Jvm.ClassFile.FieldType.int) [((0 : Nat), (10 : Nat), (13 : Nat), (20 : Nat)), ((0 : Nat), (10 : Nat), (17 : Nat), (63 : Nat))] ∈ lw_all := q2760
theorem w6_X0_rank : Cond.initialized yX0_rank.cls ∈ lw_all := q122
theorem hy_X0_rank : yX0_rank.cls ≠ "java/lang/invoke/MethodHandle" ∧ yX0_rank.cls ≠ "java/lang/invoke/VarHandle" := by decide +kernel
theorem hl_X0_rank : (parseMethodDescriptor yX0_rank.desc).map (fun q => q.parameters.length) = some 4 := by decide +kernel
theorem hp_X0_rank : plainFor yX0_rank = true := by decide +kernel
theorem i_X4_rank {l : Launch} {D : va_G} {dA : Nat → ClassId} {lo : Nat} {cs0 : Nat → Option Nat} {d : Nat} (hI : jIH l D dA lo cs0 d) : jMe l D dA lo cs0 (EV d) 42 yX4_rank (ws_ yX4_rank cX4_rank 4 (Option.some Jvm.ClassFile.FieldType.int)) d := hI 42 (yX4_rank, (ws_ yX4_rank cX4_rank 4 (Option.some Jvm.ClassFile.FieldType.int))) rfl
theorem w4_X4_rank : Cond.code yX4_rank cX4_rank 4 (Option.some Jvm.ClassFile.FieldType.int) ∈ lw_all := q3310
theorem w6_X4_rank : Cond.initialized yX4_rank.cls ∈ lw_all := q160
theorem hy_X4_rank : yX4_rank.cls ≠ "java/lang/invoke/MethodHandle" ∧ yX4_rank.cls ≠ "java/lang/invoke/VarHandle" := by decide +kernel
theorem hl_X4_rank : (parseMethodDescriptor yX4_rank.desc).map (fun q => q.parameters.length) = some 2 := by decide +kernel
theorem hp_X4_rank : plainFor yX4_rank = true := by decide +kernel
theorem i_X0_reason {l : Launch} {D : va_G} {dA : Nat → ClassId} {lo : Nat} {cs0 : Nat → Option Nat} {d : Nat} (hI : jIH l D dA lo cs0 d) : jMe l D dA lo cs0 (EV d) 43 yX0_reason (wsW_ yX0_reason cX0_reason 5 (Option.some Jvm.ClassFile.FieldType.int) [((0 : Nat), (10 : Nat), (13 : Nat), (20 : Nat)), ((0 : Nat), (10 : Nat), (17 : Nat), (63 : Nat))]) d := hI 43 (yX0_reason, (wsW_ yX0_reason cX0_reason 5 (Option.some Jvm.ClassFile.FieldType.int) [((0 : Nat), (10 : Nat), (13 : Nat), (20 : Nat)), ((0 : Nat), (10 : Nat), (17 : Nat), (63 : Nat))])) rfl
theorem w4_X0_reason : Cond.codeWith yX0_reason cX0_reason 5 (Option.some Jvm.ClassFile.FieldType.int) [((0 : Nat), (10 : Nat), (13 : Nat), (20 : Nat)), ((0 : Nat), (10 : Nat), (17 : Nat), (63 : Nat))] ∈ lw_all := q2774
theorem w6_X0_reason : Cond.initialized yX0_reason.cls ∈ lw_all := q122
theorem hy_X0_reason : yX0_reason.cls ≠ "java/lang/invoke/MethodHandle" ∧ yX0_reason.cls ≠ "java/lang/invoke/VarHandle" := by decide +kernel
theorem hl_X0_reason : (parseMethodDescriptor yX0_reason.desc).map (fun q => q.parameters.length) = some 4 := by decide +kernel
theorem hp_X0_reason : plainFor yX0_reason = true := by decide +kernel
theorem i_X4_reason {l : Launch} {D : va_G} {dA : Nat → ClassId} {lo : Nat} {cs0 : Nat → Option Nat} {d : Nat} (hI : jIH l D dA lo cs0 d) : jMe l D dA lo cs0 (EV d) 44 yX4_reason (ws_ yX4_reason cX4_reason 4 (Option.some Jvm.ClassFile.FieldType.int)) d := hI 44 (yX4_reason, (ws_ yX4_reason cX4_reason 4 (Option.some Jvm.ClassFile.FieldType.int))) rfl
theorem w4_X4_reason : Cond.code yX4_reason cX4_reason 4 (Option.some Jvm.ClassFile.FieldType.int) ∈ lw_all := q3322
theorem w6_X4_reason : Cond.initialized yX4_reason.cls ∈ lw_all := q160
theorem hy_X4_reason : yX4_reason.cls ≠ "java/lang/invoke/MethodHandle" ∧ yX4_reason.cls ≠ "java/lang/invoke/VarHandle" := by decide +kernel
theorem hl_X4_reason : (parseMethodDescriptor yX4_reason.desc).map (fun q => q.parameters.length) = some 2 := by decide +kernel
theorem hp_X4_reason : plainFor yX4_reason = true := by decide +kernel
theorem i_X1_roundCount {l : Launch} {D : va_G} {dA : Nat → ClassId} {lo : Nat} {cs0 : Nat → Option Nat} {d : Nat} (hI : jIH l D dA lo cs0 d) : jMe l D dA lo cs0 (EV d) 45 yX1_roundCount (ws_ yX1_roundCount cX1_roundCount 1 (Option.some Jvm.ClassFile.FieldType.int)) d := hI 45 (yX1_roundCount, (ws_ yX1_roundCount cX1_roundCount 1 (Option.some Jvm.ClassFile.FieldType.int))) rfl
theorem w4_X1_roundCount : Cond.code yX1_roundCount cX1_roundCount 1 (Option.some Jvm.ClassFile.FieldType.int) ∈ lw_all := q2137
theorem w6_X1_roundCount : Cond.initialized yX1_roundCount.cls ∈ lw_all := q123
theorem hy_X1_roundCount : yX1_roundCount.cls ≠ "java/lang/invoke/MethodHandle" ∧ yX1_roundCount.cls ≠ "java/lang/invoke/VarHandle" := by decide +kernel
theorem hl_X1_roundCount : (parseMethodDescriptor yX1_roundCount.desc).map (fun q => q.parameters.length) = some 0 := by decide +kernel
theorem hp_X1_roundCount : plainFor yX1_roundCount = true := by decide +kernel
theorem i_X4_roundCount {l : Launch} {D : va_G} {dA : Nat → ClassId} {lo : Nat} {cs0 : Nat → Option Nat} {d : Nat} (hI : jIH l D dA lo cs0 d) : jMe l D dA lo cs0 (EV d) 46 yX4_roundCount (ws_ yX4_roundCount cX4_roundCount 1 (Option.some Jvm.ClassFile.FieldType.int)) d := hI 46 (yX4_roundCount, (ws_ yX4_roundCount cX4_roundCount 1 (Option.some Jvm.ClassFile.FieldType.int))) rfl
theorem w4_X4_roundCount : Cond.code yX4_roundCount cX4_roundCount 1 (Option.some Jvm.ClassFile.FieldType.int) ∈ lw_all := q3326
theorem w6_X4_roundCount : Cond.initialized yX4_roundCount.cls ∈ lw_all := q160
theorem hy_X4_roundCount : yX4_roundCount.cls ≠ "java/lang/invoke/MethodHandle" ∧ yX4_roundCount.cls ≠ "java/lang/invoke/VarHandle" := by decide +kernel
theorem hl_X4_roundCount : (parseMethodDescriptor yX4_roundCount.desc).map (fun q => q.parameters.length) = some 0 := by decide +kernel
theorem hp_X4_roundCount : plainFor yX4_roundCount = true := by decide +kernel
theorem i_X0_unifiedTargets {l : Launch} {D : va_G} {dA : Nat → ClassId} {lo : Nat} {cs0 : Nat → Option Nat} {d : Nat} (hI : jIH l D dA lo cs0 d) : jMe l D dA lo cs0 (EV d) 47 yX0_unifiedTargets (wsW_ yX0_unifiedTargets cX0_unifiedTargets 4 (Option.some Jvm.ClassFile.FieldType.int) [((0 : Nat), (8 : Nat), (11 : Nat), (20 : Nat))]) d := hI 47 (yX0_unifiedTargets, (wsW_ yX0_unifiedTargets cX0_unifiedTargets 4 (Option.some Jvm.ClassFile.FieldType.int) [((0 : Nat), (8 : Nat), (11 : Nat), (20 : Nat))])) rfl
theorem w4_X0_unifiedTargets : Cond.codeWith yX0_unifiedTargets cX0_unifiedTargets 4 (Option.some Jvm.ClassFile.FieldType.int) [((0 : Nat), (8 : Nat), (11 : Nat), (20 : Nat))] ∈ lw_all := q2781
theorem w6_X0_unifiedTargets : Cond.initialized yX0_unifiedTargets.cls ∈ lw_all := q122
theorem hy_X0_unifiedTargets : yX0_unifiedTargets.cls ≠ "java/lang/invoke/MethodHandle" ∧ yX0_unifiedTargets.cls ≠ "java/lang/invoke/VarHandle" := by decide +kernel
theorem hl_X0_unifiedTargets : (parseMethodDescriptor yX0_unifiedTargets.desc).map (fun q => q.parameters.length) = some 3 := by decide +kernel
theorem hp_X0_unifiedTargets : plainFor yX0_unifiedTargets = true := by decide +kernel
theorem i_X4_unifiedTargets {l : Launch} {D : va_G} {dA : Nat → ClassId} {lo : Nat} {cs0 : Nat → Option Nat} {d : Nat} (hI : jIH l D dA lo cs0 d) : jMe l D dA lo cs0 (EV d) 48 yX4_unifiedTargets (ws_ yX4_unifiedTargets cX4_unifiedTargets 2 (Option.some Jvm.ClassFile.FieldType.long)) d := hI 48 (yX4_unifiedTargets, (ws_ yX4_unifiedTargets cX4_unifiedTargets 2 (Option.some Jvm.ClassFile.FieldType.long))) rfl
theorem w4_X4_unifiedTargets : Cond.code yX4_unifiedTargets cX4_unifiedTargets 2 (Option.some Jvm.ClassFile.FieldType.long) ∈ lw_all := q3330
theorem w6_X4_unifiedTargets : Cond.initialized yX4_unifiedTargets.cls ∈ lw_all := q160
theorem hy_X4_unifiedTargets : yX4_unifiedTargets.cls ≠ "java/lang/invoke/MethodHandle" ∧ yX4_unifiedTargets.cls ≠ "java/lang/invoke/VarHandle" := by decide +kernel
theorem hl_X4_unifiedTargets : (parseMethodDescriptor yX4_unifiedTargets.desc).map (fun q => q.parameters.length) = some 1 := by decide +kernel
theorem hp_X4_unifiedTargets : plainFor yX4_unifiedTargets = true := by decide +kernel
theorem i_X0_areUnified {l : Launch} {D : va_G} {dA : Nat → ClassId} {lo : Nat} {cs0 : Nat → Option Nat} {d : Nat} (hI : jIH l D dA lo cs0 d) : jMe l D dA lo cs0 (EV d) 49 yX0_areUnified (wsW_ yX0_areUnified cX0_areUnified 5 (Option.some Jvm.ClassFile.FieldType.int) [((0 : Nat), (17 : Nat), (20 : Nat), (20 : Nat))]) d := hI 49 (yX0_areUnified, (wsW_ yX0_areUnified cX0_areUnified 5 (Option.some Jvm.ClassFile.FieldType.int) [((0 : Nat), (17 : Nat), (20 : Nat), (20 : Nat))])) rfl
theorem w4_X0_areUnified : Cond.codeWith yX0_areUnified cX0_areUnified 5 (Option.some Jvm.ClassFile.FieldType.int) [((0 : Nat), (17 : Nat), (20 : Nat), (20 : Nat))] ∈ lw_all := q2794
theorem w6_X0_areUnified : Cond.initialized yX0_areUnified.cls ∈ lw_all := q122
theorem hy_X0_areUnified : yX0_areUnified.cls ≠ "java/lang/invoke/MethodHandle" ∧ yX0_areUnified.cls ≠ "java/lang/invoke/VarHandle" := by decide +kernel
theorem hl_X0_areUnified : (parseMethodDescriptor yX0_areUnified.desc).map (fun q => q.parameters.length) = some 4 := by decide +kernel
theorem hp_X0_areUnified : plainFor yX0_areUnified = true := by decide +kernel
theorem i_X4_areUnified {l : Launch} {D : va_G} {dA : Nat → ClassId} {lo : Nat} {cs0 : Nat → Option Nat} {d : Nat} (hI : jIH l D dA lo cs0 d) : jMe l D dA lo cs0 (EV d) 50 yX4_areUnified (ws_ yX4_areUnified cX4_areUnified 3 (Option.some Jvm.ClassFile.FieldType.boolean)) d := hI 50 (yX4_areUnified, (ws_ yX4_areUnified cX4_areUnified 3 (Option.some Jvm.ClassFile.FieldType.boolean))) rfl
theorem w4_X4_areUnified : Cond.code yX4_areUnified cX4_areUnified 3 (Option.some Jvm.ClassFile.FieldType.boolean) ∈ lw_all := q3338
theorem w6_X4_areUnified : Cond.initialized yX4_areUnified.cls ∈ lw_all := q160
theorem hy_X4_areUnified : yX4_areUnified.cls ≠ "java/lang/invoke/MethodHandle" ∧ yX4_areUnified.cls ≠ "java/lang/invoke/VarHandle" := by decide +kernel
theorem hl_X4_areUnified : (parseMethodDescriptor yX4_areUnified.desc).map (fun q => q.parameters.length) = some 2 := by decide +kernel
theorem hp_X4_areUnified : plainFor yX4_areUnified = true := by decide +kernel
theorem i_X1_unifiedClasses {l : Launch} {D : va_G} {dA : Nat → ClassId} {lo : Nat} {cs0 : Nat → Option Nat} {d : Nat} (hI : jIH l D dA lo cs0 d) : jMe l D dA lo cs0 (EV d) 51 yX1_unifiedClasses (ws_ yX1_unifiedClasses cX1_unifiedClasses 1 (Option.some Jvm.ClassFile.FieldType.int)) d := hI 51 (yX1_unifiedClasses, (ws_ yX1_unifiedClasses cX1_unifiedClasses 1 (Option.some Jvm.ClassFile.FieldType.int))) rfl
theorem w4_X1_unifiedClasses : Cond.code yX1_unifiedClasses cX1_unifiedClasses 1 (Option.some Jvm.ClassFile.FieldType.int) ∈ lw_all := q2203
theorem w6_X1_unifiedClasses : Cond.initialized yX1_unifiedClasses.cls ∈ lw_all := q123
theorem hy_X1_unifiedClasses : yX1_unifiedClasses.cls ≠ "java/lang/invoke/MethodHandle" ∧ yX1_unifiedClasses.cls ≠ "java/lang/invoke/VarHandle" := by decide +kernel
theorem hl_X1_unifiedClasses : (parseMethodDescriptor yX1_unifiedClasses.desc).map (fun q => q.parameters.length) = some 0 := by decide +kernel
theorem hp_X1_unifiedClasses : plainFor yX1_unifiedClasses = true := by decide +kernel
theorem i_X4_unifiedClasses {l : Launch} {D : va_G} {dA : Nat → ClassId} {lo : Nat} {cs0 : Nat → Option Nat} {d : Nat} (hI : jIH l D dA lo cs0 d) : jMe l D dA lo cs0 (EV d) 52 yX4_unifiedClasses (ws_ yX4_unifiedClasses cX4_unifiedClasses 5 (Option.some Jvm.ClassFile.FieldType.int)) d := hI 52 (yX4_unifiedClasses, (ws_ yX4_unifiedClasses cX4_unifiedClasses 5 (Option.some Jvm.ClassFile.FieldType.int))) rfl
theorem w4_X4_unifiedClasses : Cond.code yX4_unifiedClasses cX4_unifiedClasses 5 (Option.some Jvm.ClassFile.FieldType.int) ∈ lw_all := q3342
theorem w6_X4_unifiedClasses : Cond.initialized yX4_unifiedClasses.cls ∈ lw_all := q160
theorem hy_X4_unifiedClasses : yX4_unifiedClasses.cls ≠ "java/lang/invoke/MethodHandle" ∧ yX4_unifiedClasses.cls ≠ "java/lang/invoke/VarHandle" := by decide +kernel
theorem hl_X4_unifiedClasses : (parseMethodDescriptor yX4_unifiedClasses.desc).map (fun q => q.parameters.length) = some 0 := by decide +kernel
theorem hp_X4_unifiedClasses : plainFor yX4_unifiedClasses = true := by decide +kernel
theorem i_X0_modifies {l : Launch} {D : va_G} {dA : Nat → ClassId} {lo : Nat} {cs0 : Nat → Option Nat} {d : Nat} (hI : jIH l D dA lo cs0 d) : jMe l D dA lo cs0 (EV d) 53 yX0_modifies (wsW_ yX0_modifies cX0_modifies 4 (Option.some Jvm.ClassFile.FieldType.int) [((0 : Nat), (8 : Nat), (11 : Nat), (20 : Nat))]) d := hI 53 (yX0_modifies, (wsW_ yX0_modifies cX0_modifies 4 (Option.some Jvm.ClassFile.FieldType.int) [((0 : Nat), (8 : Nat), (11 : Nat), (20 : Nat))])) rfl
theorem w4_X0_modifies : Cond.codeWith yX0_modifies cX0_modifies 4 (Option.some Jvm.ClassFile.FieldType.int) [((0 : Nat), (8 : Nat), (11 : Nat), (20 : Nat))] ∈ lw_all := q2802
theorem w6_X0_modifies : Cond.initialized yX0_modifies.cls ∈ lw_all := q122
theorem hy_X0_modifies : yX0_modifies.cls ≠ "java/lang/invoke/MethodHandle" ∧ yX0_modifies.cls ≠ "java/lang/invoke/VarHandle" := by decide +kernel
theorem hl_X0_modifies : (parseMethodDescriptor yX0_modifies.desc).map (fun q => q.parameters.length) = some 3 := by decide +kernel
theorem hp_X0_modifies : plainFor yX0_modifies = true := by decide +kernel
theorem i_X4_modifies {l : Launch} {D : va_G} {dA : Nat → ClassId} {lo : Nat} {cs0 : Nat → Option Nat} {d : Nat} (hI : jIH l D dA lo cs0 d) : jMe l D dA lo cs0 (EV d) 54 yX4_modifies (ws_ yX4_modifies cX4_modifies 7 (Option.some Jvm.ClassFile.FieldType.long)) d := hI 54 (yX4_modifies, (ws_ yX4_modifies cX4_modifies 7 (Option.some Jvm.ClassFile.FieldType.long))) rfl
theorem w4_X4_modifies : Cond.code yX4_modifies cX4_modifies 7 (Option.some Jvm.ClassFile.FieldType.long) ∈ lw_all := q3346
theorem w6_X4_modifies : Cond.initialized yX4_modifies.cls ∈ lw_all := q160
theorem hy_X4_modifies : yX4_modifies.cls ≠ "java/lang/invoke/MethodHandle" ∧ yX4_modifies.cls ≠ "java/lang/invoke/VarHandle" := by decide +kernel
theorem hl_X4_modifies : (parseMethodDescriptor yX4_modifies.desc).map (fun q => q.parameters.length) = some 1 := by decide +kernel
theorem hp_X4_modifies : plainFor yX4_modifies = true := by decide +kernel
theorem i_X0_isReachable {l : Launch} {D : va_G} {dA : Nat → ClassId} {lo : Nat} {cs0 : Nat → Option Nat} {d : Nat} (hI : jIH l D dA lo cs0 d) : jMe l D dA lo cs0 (EV d) 55 yX0_isReachable (wsW_ yX0_isReachable cX0_isReachable 4 (Option.some Jvm.ClassFile.FieldType.int) [((0 : Nat), (16 : Nat), (19 : Nat), (20 : Nat))]) d := hI 55 (yX0_isReachable, (wsW_ yX0_isReachable cX0_isReachable 4 (Option.some Jvm.ClassFile.FieldType.int) [((0 : Nat), (16 : Nat), (19 : Nat), (20 : Nat))])) rfl
theorem w4_X0_isReachable : Cond.codeWith yX0_isReachable cX0_isReachable 4 (Option.some Jvm.ClassFile.FieldType.int) [((0 : Nat), (16 : Nat), (19 : Nat), (20 : Nat))] ∈ lw_all := q2811
theorem w6_X0_isReachable : Cond.initialized yX0_isReachable.cls ∈ lw_all := q122
theorem hy_X0_isReachable : yX0_isReachable.cls ≠ "java/lang/invoke/MethodHandle" ∧ yX0_isReachable.cls ≠ "java/lang/invoke/VarHandle" := by decide +kernel
theorem hl_X0_isReachable : (parseMethodDescriptor yX0_isReachable.desc).map (fun q => q.parameters.length) = some 3 := by decide +kernel
theorem hp_X0_isReachable : plainFor yX0_isReachable = true := by decide +kernel
theorem i_X4_isReachable {l : Launch} {D : va_G} {dA : Nat → ClassId} {lo : Nat} {cs0 : Nat → Option Nat} {d : Nat} (hI : jIH l D dA lo cs0 d) : jMe l D dA lo cs0 (EV d) 56 yX4_isReachable (ws_ yX4_isReachable cX4_isReachable 2 (Option.some Jvm.ClassFile.FieldType.boolean)) d := hI 56 (yX4_isReachable, (ws_ yX4_isReachable cX4_isReachable 2 (Option.some Jvm.ClassFile.FieldType.boolean))) rfl
theorem w4_X4_isReachable : Cond.code yX4_isReachable cX4_isReachable 2 (Option.some Jvm.ClassFile.FieldType.boolean) ∈ lw_all := q3354
theorem w6_X4_isReachable : Cond.initialized yX4_isReachable.cls ∈ lw_all := q160
theorem hy_X4_isReachable : yX4_isReachable.cls ≠ "java/lang/invoke/MethodHandle" ∧ yX4_isReachable.cls ≠ "java/lang/invoke/VarHandle" := by decide +kernel
theorem hl_X4_isReachable : (parseMethodDescriptor yX4_isReachable.desc).map (fun q => q.parameters.length) = some 1 := by decide +kernel
theorem hp_X4_isReachable : plainFor yX4_isReachable = true := by decide +kernel
theorem i_X0_isRecursive {l : Launch} {D : va_G} {dA : Nat → ClassId} {lo : Nat} {cs0 : Nat → Option Nat} {d : Nat} (hI : jIH l D dA lo cs0 d) : jMe l D dA lo cs0 (EV d) 57 yX0_isRecursive (wsW_ yX0_isRecursive cX0_isRecursive 4 (Option.some Jvm.ClassFile.FieldType.int) [((0 : Nat), (16 : Nat), (19 : Nat), (20 : Nat))]) d := hI 57 (yX0_isRecursive, (wsW_ yX0_isRecursive cX0_isRecursive 4 (Option.some Jvm.ClassFile.FieldType.int) [((0 : Nat), (16 : Nat), (19 : Nat), (20 : Nat))])) rfl
theorem w4_X0_isRecursive : Cond.codeWith yX0_isRecursive cX0_isRecursive 4 (Option.some Jvm.ClassFile.FieldType.int) [((0 : Nat), (16 : Nat), (19 : Nat), (20 : Nat))] ∈ lw_all := q2818
theorem w6_X0_isRecursive : Cond.initialized yX0_isRecursive.cls ∈ lw_all := q122
theorem hy_X0_isRecursive : yX0_isRecursive.cls ≠ "java/lang/invoke/MethodHandle" ∧ yX0_isRecursive.cls ≠ "java/lang/invoke/VarHandle" := by decide +kernel
theorem hl_X0_isRecursive : (parseMethodDescriptor yX0_isRecursive.desc).map (fun q => q.parameters.length) = some 3 := by decide +kernel
theorem hp_X0_isRecursive : plainFor yX0_isRecursive = true := by decide +kernel
theorem i_X4_isRecursive {l : Launch} {D : va_G} {dA : Nat → ClassId} {lo : Nat} {cs0 : Nat → Option Nat} {d : Nat} (hI : jIH l D dA lo cs0 d) : jMe l D dA lo cs0 (EV d) 58 yX4_isRecursive (ws_ yX4_isRecursive cX4_isRecursive 2 (Option.some Jvm.ClassFile.FieldType.boolean)) d := hI 58 (yX4_isRecursive, (ws_ yX4_isRecursive cX4_isRecursive 2 (Option.some Jvm.ClassFile.FieldType.boolean))) rfl
theorem w4_X4_isRecursive : Cond.code yX4_isRecursive cX4_isRecursive 2 (Option.some Jvm.ClassFile.FieldType.boolean) ∈ lw_all := q3358
theorem w6_X4_isRecursive : Cond.initialized yX4_isRecursive.cls ∈ lw_all := q160
theorem hy_X4_isRecursive : yX4_isRecursive.cls ≠ "java/lang/invoke/MethodHandle" ∧ yX4_isRecursive.cls ≠ "java/lang/invoke/VarHandle" := by decide +kernel
theorem hl_X4_isRecursive : (parseMethodDescriptor yX4_isRecursive.desc).map (fun q => q.parameters.length) = some 1 := by decide +kernel
theorem hp_X4_isRecursive : plainFor yX4_isRecursive = true := by decide +kernel
theorem i_X0_cycleOf {l : Launch} {D : va_G} {dA : Nat → ClassId} {lo : Nat} {cs0 : Nat → Option Nat} {d : Nat} (hI : jIH l D dA lo cs0 d) : jMe l D dA lo cs0 (EV d) 59 yX0_cycleOf (wsW_ yX0_cycleOf cX0_cycleOf 4 (Option.some Jvm.ClassFile.FieldType.int) [((0 : Nat), (9 : Nat), (12 : Nat), (20 : Nat))]) d := hI 59 (yX0_cycleOf, (wsW_ yX0_cycleOf cX0_cycleOf 4 (Option.some Jvm.ClassFile.FieldType.int) [((0 : Nat), (9 : Nat), (12 : Nat), (20 : Nat))])) rfl
theorem w4_X0_cycleOf : Cond.codeWith yX0_cycleOf cX0_cycleOf 4 (Option.some Jvm.ClassFile.FieldType.int) [((0 : Nat), (9 : Nat), (12 : Nat), (20 : Nat))] ∈ lw_all := q2825
theorem w6_X0_cycleOf : Cond.initialized yX0_cycleOf.cls ∈ lw_all := q122
theorem hy_X0_cycleOf : yX0_cycleOf.cls ≠ "java/lang/invoke/MethodHandle" ∧ yX0_cycleOf.cls ≠ "java/lang/invoke/VarHandle" := by decide +kernel
theorem hl_X0_cycleOf : (parseMethodDescriptor yX0_cycleOf.desc).map (fun q => q.parameters.length) = some 3 := by decide +kernel
theorem hp_X0_cycleOf : plainFor yX0_cycleOf = true := by decide +kernel
theorem i_X4_cycleOf {l : Launch} {D : va_G} {dA : Nat → ClassId} {lo : Nat} {cs0 : Nat → Option Nat} {d : Nat} (hI : jIH l D dA lo cs0 d) : jMe l D dA lo cs0 (EV d) 60 yX4_cycleOf (ws_ yX4_cycleOf cX4_cycleOf 2 (Option.some Jvm.ClassFile.FieldType.int)) d := hI 60 (yX4_cycleOf, (ws_ yX4_cycleOf cX4_cycleOf 2 (Option.some Jvm.ClassFile.FieldType.int))) rfl
theorem w4_X4_cycleOf : Cond.code yX4_cycleOf cX4_cycleOf 2 (Option.some Jvm.ClassFile.FieldType.int) ∈ lw_all := q3362
theorem w6_X4_cycleOf : Cond.initialized yX4_cycleOf.cls ∈ lw_all := q160
theorem hy_X4_cycleOf : yX4_cycleOf.cls ≠ "java/lang/invoke/MethodHandle" ∧ yX4_cycleOf.cls ≠ "java/lang/invoke/VarHandle" := by decide +kernel
theorem hl_X4_cycleOf : (parseMethodDescriptor yX4_cycleOf.desc).map (fun q => q.parameters.length) = some 1 := by decide +kernel
theorem hp_X4_cycleOf : plainFor yX4_cycleOf = true := by decide +kernel
theorem i_X1_run {l : Launch} {D : va_G} {dA : Nat → ClassId} {lo : Nat} {cs0 : Nat → Option Nat} {d : Nat} (hI : jIH l D dA lo cs0 d) : jMe l D dA lo cs0 (EV d) 61 yX1_run (ws_ yX1_run cX1_run 1 (Option.some Jvm.ClassFile.FieldType.int)) d := hI 61 (yX1_run, (ws_ yX1_run cX1_run 1 (Option.some Jvm.ClassFile.FieldType.int))) rfl
theorem w4_X1_run : Cond.code yX1_run cX1_run 1 (Option.some Jvm.ClassFile.FieldType.int) ∈ lw_all := q2262
theorem w6_X1_run : Cond.initialized yX1_run.cls ∈ lw_all := q123
theorem hy_X1_run : yX1_run.cls ≠ "java/lang/invoke/MethodHandle" ∧ yX1_run.cls ≠ "java/lang/invoke/VarHandle" := by decide +kernel
theorem hl_X1_run : (parseMethodDescriptor yX1_run.desc).map (fun q => q.parameters.length) = some 0 := by decide +kernel
theorem hp_X1_run : plainFor yX1_run = true := by decide +kernel
theorem i_X4_run {l : Launch} {D : va_G} {dA : Nat → ClassId} {lo : Nat} {cs0 : Nat → Option Nat} {d : Nat} (hI : jIH l D dA lo cs0 d) : jMe l D dA lo cs0 (EV d) 62 yX4_run (ws_ yX4_run cX4_run 3 (Option.some Jvm.ClassFile.FieldType.int)) d := hI 62 (yX4_run, (ws_ yX4_run cX4_run 3 (Option.some Jvm.ClassFile.FieldType.int))) rfl
theorem w4_X4_run : Cond.code yX4_run cX4_run 3 (Option.some Jvm.ClassFile.FieldType.int) ∈ lw_all := q3373
theorem w6_X4_run : Cond.initialized yX4_run.cls ∈ lw_all := q160
theorem hy_X4_run : yX4_run.cls ≠ "java/lang/invoke/MethodHandle" ∧ yX4_run.cls ≠ "java/lang/invoke/VarHandle" := by decide +kernel
theorem hl_X4_run : (parseMethodDescriptor yX4_run.desc).map (fun q => q.parameters.length) = some 0 := by decide +kernel
theorem hp_X4_run : plainFor yX4_run = true := by decide +kernel
theorem i_X0_observed {l : Launch} {D : va_G} {dA : Nat → ClassId} {lo : Nat} {cs0 : Nat → Option Nat} {d : Nat} (hI : jIH l D dA lo cs0 d) : jMe l D dA lo cs0 (EV d) 63 yX0_observed (wsW_ yX0_observed cX0_observed 4 (Option.some Jvm.ClassFile.FieldType.int) [((0 : Nat), (8 : Nat), (11 : Nat), (20 : Nat))]) d := hI 63 (yX0_observed, (wsW_ yX0_observed cX0_observed 4 (Option.some Jvm.ClassFile.FieldType.int) [((0 : Nat), (8 : Nat), (11 : Nat), (20 : Nat))])) rfl
theorem w4_X0_observed : Cond.codeWith yX0_observed cX0_observed 4 (Option.some Jvm.ClassFile.FieldType.int) [((0 : Nat), (8 : Nat), (11 : Nat), (20 : Nat))] ∈ lw_all := q2838
theorem w6_X0_observed : Cond.initialized yX0_observed.cls ∈ lw_all := q122
theorem hy_X0_observed : yX0_observed.cls ≠ "java/lang/invoke/MethodHandle" ∧ yX0_observed.cls ≠ "java/lang/invoke/VarHandle" := by decide +kernel
theorem hl_X0_observed : (parseMethodDescriptor yX0_observed.desc).map (fun q => q.parameters.length) = some 3 := by decide +kernel
theorem hp_X0_observed : plainFor yX0_observed = true := by decide +kernel
theorem i_X4_observed {l : Launch} {D : va_G} {dA : Nat → ClassId} {lo : Nat} {cs0 : Nat → Option Nat} {d : Nat} (hI : jIH l D dA lo cs0 d) : jMe l D dA lo cs0 (EV d) 64 yX4_observed (ws_ yX4_observed cX4_observed 2 (Option.some Jvm.ClassFile.FieldType.long)) d := hI 64 (yX4_observed, (ws_ yX4_observed cX4_observed 2 (Option.some Jvm.ClassFile.FieldType.long))) rfl
theorem w4_X4_observed : Cond.code yX4_observed cX4_observed 2 (Option.some Jvm.ClassFile.FieldType.long) ∈ lw_all := q3405
theorem w6_X4_observed : Cond.initialized yX4_observed.cls ∈ lw_all := q160
theorem hy_X4_observed : yX4_observed.cls ≠ "java/lang/invoke/MethodHandle" ∧ yX4_observed.cls ≠ "java/lang/invoke/VarHandle" := by decide +kernel
theorem hl_X4_observed : (parseMethodDescriptor yX4_observed.desc).map (fun q => q.parameters.length) = some 1 := by decide +kernel
theorem hp_X4_observed : plainFor yX4_observed = true := by decide +kernel
theorem i_X0_fieldObserved {l : Launch} {D : va_G} {dA : Nat → ClassId} {lo : Nat} {cs0 : Nat → Option Nat} {d : Nat} (hI : jIH l D dA lo cs0 d) : jMe l D dA lo cs0 (EV d) 65 yX0_fieldObserved (wsW_ yX0_fieldObserved cX0_fieldObserved 5 (Option.some Jvm.ClassFile.FieldType.int) [((0 : Nat), (9 : Nat), (12 : Nat), (20 : Nat))]) d := hI 65 (yX0_fieldObserved, (wsW_ yX0_fieldObserved cX0_fieldObserved 5 (Option.some Jvm.ClassFile.FieldType.int) [((0 : Nat), (9 : Nat), (12 : Nat), (20 : Nat))])) rfl
theorem w4_X0_fieldObserved : Cond.codeWith yX0_fieldObserved cX0_fieldObserved 5 (Option.some Jvm.ClassFile.FieldType.int) [((0 : Nat), (9 : Nat), (12 : Nat), (20 : Nat))] ∈ lw_all := q2845
theorem w6_X0_fieldObserved : Cond.initialized yX0_fieldObserved.cls ∈ lw_all := q122
theorem hy_X0_fieldObserved : yX0_fieldObserved.cls ≠ "java/lang/invoke/MethodHandle" ∧ yX0_fieldObserved.cls ≠ "java/lang/invoke/VarHandle" := by decide +kernel
theorem hl_X0_fieldObserved : (parseMethodDescriptor yX0_fieldObserved.desc).map (fun q => q.parameters.length) = some 4 := by decide +kernel
theorem hp_X0_fieldObserved : plainFor yX0_fieldObserved = true := by decide +kernel
theorem i_X4_fieldObserved {l : Launch} {D : va_G} {dA : Nat → ClassId} {lo : Nat} {cs0 : Nat → Option Nat} {d : Nat} (hI : jIH l D dA lo cs0 d) : jMe l D dA lo cs0 (EV d) 66 yX4_fieldObserved (ws_ yX4_fieldObserved cX4_fieldObserved 3 (Option.some Jvm.ClassFile.FieldType.long)) d := hI 66 (yX4_fieldObserved, (ws_ yX4_fieldObserved cX4_fieldObserved 3 (Option.some Jvm.ClassFile.FieldType.long))) rfl
theorem w4_X4_fieldObserved : Cond.code yX4_fieldObserved cX4_fieldObserved 3 (Option.some Jvm.ClassFile.FieldType.long) ∈ lw_all := q3409
theorem w6_X4_fieldObserved : Cond.initialized yX4_fieldObserved.cls ∈ lw_all := q160
theorem hy_X4_fieldObserved : yX4_fieldObserved.cls ≠ "java/lang/invoke/MethodHandle" ∧ yX4_fieldObserved.cls ≠ "java/lang/invoke/VarHandle" := by decide +kernel
theorem hl_X4_fieldObserved : (parseMethodDescriptor yX4_fieldObserved.desc).map (fun q => q.parameters.length) = some 2 := by decide +kernel
theorem hp_X4_fieldObserved : plainFor yX4_fieldObserved = true := by decide +kernel
theorem i_X1_faults {l : Launch} {D : va_G} {dA : Nat → ClassId} {lo : Nat} {cs0 : Nat → Option Nat} {d : Nat} (hI : jIH l D dA lo cs0 d) : jMe l D dA lo cs0 (EV d) 67 yX1_faults (ws_ yX1_faults cX1_faults 1 (Option.some Jvm.ClassFile.FieldType.int)) d := hI 67 (yX1_faults, (ws_ yX1_faults cX1_faults 1 (Option.some Jvm.ClassFile.FieldType.int))) rfl
theorem w4_X1_faults : Cond.code yX1_faults cX1_faults 1 (Option.some Jvm.ClassFile.FieldType.int) ∈ lw_all := q2381
theorem w6_X1_faults : Cond.initialized yX1_faults.cls ∈ lw_all := q123
theorem hy_X1_faults : yX1_faults.cls ≠ "java/lang/invoke/MethodHandle" ∧ yX1_faults.cls ≠ "java/lang/invoke/VarHandle" := by decide +kernel
theorem hl_X1_faults : (parseMethodDescriptor yX1_faults.desc).map (fun q => q.parameters.length) = some 0 := by decide +kernel
theorem hp_X1_faults : plainFor yX1_faults = true := by decide +kernel
theorem i_X4_faults {l : Launch} {D : va_G} {dA : Nat → ClassId} {lo : Nat} {cs0 : Nat → Option Nat} {d : Nat} (hI : jIH l D dA lo cs0 d) : jMe l D dA lo cs0 (EV d) 68 yX4_faults (ws_ yX4_faults cX4_faults 1 (Option.some Jvm.ClassFile.FieldType.int)) d := hI 68 (yX4_faults, (ws_ yX4_faults cX4_faults 1 (Option.some Jvm.ClassFile.FieldType.int))) rfl
theorem w4_X4_faults : Cond.code yX4_faults cX4_faults 1 (Option.some Jvm.ClassFile.FieldType.int) ∈ lw_all := q3413
theorem w6_X4_faults : Cond.initialized yX4_faults.cls ∈ lw_all := q160
theorem hy_X4_faults : yX4_faults.cls ≠ "java/lang/invoke/MethodHandle" ∧ yX4_faults.cls ≠ "java/lang/invoke/VarHandle" := by decide +kernel
theorem hl_X4_faults : (parseMethodDescriptor yX4_faults.desc).map (fun q => q.parameters.length) = some 0 := by decide +kernel
theorem hp_X4_faults : plainFor yX4_faults = true := by decide +kernel
theorem i_X1_objects {l : Launch} {D : va_G} {dA : Nat → ClassId} {lo : Nat} {cs0 : Nat → Option Nat} {d : Nat} (hI : jIH l D dA lo cs0 d) : jMe l D dA lo cs0 (EV d) 69 yX1_objects (ws_ yX1_objects cX1_objects 1 (Option.some Jvm.ClassFile.FieldType.int)) d := hI 69 (yX1_objects, (ws_ yX1_objects cX1_objects 1 (Option.some Jvm.ClassFile.FieldType.int))) rfl
theorem w4_X1_objects : Cond.code yX1_objects cX1_objects 1 (Option.some Jvm.ClassFile.FieldType.int) ∈ lw_all := q2385
theorem w6_X1_objects : Cond.initialized yX1_objects.cls ∈ lw_all := q123
theorem hy_X1_objects : yX1_objects.cls ≠ "java/lang/invoke/MethodHandle" ∧ yX1_objects.cls ≠ "java/lang/invoke/VarHandle" := by decide +kernel
theorem hl_X1_objects : (parseMethodDescriptor yX1_objects.desc).map (fun q => q.parameters.length) = some 0 := by decide +kernel
theorem hp_X1_objects : plainFor yX1_objects = true := by decide +kernel
theorem i_X4_objects {l : Launch} {D : va_G} {dA : Nat → ClassId} {lo : Nat} {cs0 : Nat → Option Nat} {d : Nat} (hI : jIH l D dA lo cs0 d) : jMe l D dA lo cs0 (EV d) 70 yX4_objects (ws_ yX4_objects cX4_objects 1 (Option.some Jvm.ClassFile.FieldType.int)) d := hI 70 (yX4_objects, (ws_ yX4_objects cX4_objects 1 (Option.some Jvm.ClassFile.FieldType.int))) rfl
theorem w4_X4_objects : Cond.code yX4_objects cX4_objects 1 (Option.some Jvm.ClassFile.FieldType.int) ∈ lw_all := q3417
theorem w6_X4_objects : Cond.initialized yX4_objects.cls ∈ lw_all := q160
theorem hy_X4_objects : yX4_objects.cls ≠ "java/lang/invoke/MethodHandle" ∧ yX4_objects.cls ≠ "java/lang/invoke/VarHandle" := by decide +kernel
theorem hl_X4_objects : (parseMethodDescriptor yX4_objects.desc).map (fun q => q.parameters.length) = some 0 := by decide +kernel
theorem hp_X4_objects : plainFor yX4_objects = true := by decide +kernel
theorem i_X0_precision {l : Launch} {D : va_G} {dA : Nat → ClassId} {lo : Nat} {cs0 : Nat → Option Nat} {d : Nat} (hI : jIH l D dA lo cs0 d) : jMe l D dA lo cs0 (EV d) 71 yX0_precision (wsW_ yX0_precision cX0_precision 3 (Option.some Jvm.ClassFile.FieldType.int) [((0 : Nat), (7 : Nat), (10 : Nat), (97 : Nat))]) d := hI 71 (yX0_precision, (wsW_ yX0_precision cX0_precision 3 (Option.some Jvm.ClassFile.FieldType.int) [((0 : Nat), (7 : Nat), (10 : Nat), (97 : Nat))])) rfl
theorem w4_X0_precision : Cond.codeWith yX0_precision cX0_precision 3 (Option.some Jvm.ClassFile.FieldType.int) [((0 : Nat), (7 : Nat), (10 : Nat), (97 : Nat))] ∈ lw_all := q2852
theorem w6_X0_precision : Cond.initialized yX0_precision.cls ∈ lw_all := q122
theorem hy_X0_precision : yX0_precision.cls ≠ "java/lang/invoke/MethodHandle" ∧ yX0_precision.cls ≠ "java/lang/invoke/VarHandle" := by decide +kernel
theorem hl_X0_precision : (parseMethodDescriptor yX0_precision.desc).map (fun q => q.parameters.length) = some 2 := by decide +kernel
theorem hp_X0_precision : plainFor yX0_precision = true := by decide +kernel
theorem i_X4_precision {l : Launch} {D : va_G} {dA : Nat → ClassId} {lo : Nat} {cs0 : Nat → Option Nat} {d : Nat} (hI : jIH l D dA lo cs0 d) : jMe l D dA lo cs0 (EV d) 72 yX4_precision (ws_ yX4_precision cX4_precision 4 (Option.some Jvm.ClassFile.FieldType.double)) d := hI 72 (yX4_precision, (ws_ yX4_precision cX4_precision 4 (Option.some Jvm.ClassFile.FieldType.double))) rfl
theorem w4_X4_precision : Cond.code yX4_precision cX4_precision 4 (Option.some Jvm.ClassFile.FieldType.double) ∈ lw_all := q3421
theorem w6_X4_precision : Cond.initialized yX4_precision.cls ∈ lw_all := q160
theorem hy_X4_precision : yX4_precision.cls ≠ "java/lang/invoke/MethodHandle" ∧ yX4_precision.cls ≠ "java/lang/invoke/VarHandle" := by decide +kernel
theorem hl_X4_precision : (parseMethodDescriptor yX4_precision.desc).map (fun q => q.parameters.length) = some 0 := by decide +kernel
theorem hp_X4_precision : plainFor yX4_precision = true := by decide +kernel
theorem i_X0_averageTargets {l : Launch} {D : va_G} {dA : Nat → ClassId} {lo : Nat} {cs0 : Nat → Option Nat} {d : Nat} (hI : jIH l D dA lo cs0 d) : jMe l D dA lo cs0 (EV d) 73 yX0_averageTargets (wsW_ yX0_averageTargets cX0_averageTargets 3 (Option.some Jvm.ClassFile.FieldType.int) [((0 : Nat), (8 : Nat), (11 : Nat), (97 : Nat))]) d := hI 73 (yX0_averageTargets, (wsW_ yX0_averageTargets cX0_averageTargets 3 (Option.some Jvm.ClassFile.FieldType.int) [((0 : Nat), (8 : Nat), (11 : Nat), (97 : Nat))])) rfl
theorem w4_X0_averageTargets : Cond.codeWith yX0_averageTargets cX0_averageTargets 3 (Option.some Jvm.ClassFile.FieldType.int) [((0 : Nat), (8 : Nat), (11 : Nat), (97 : Nat))] ∈ lw_all := q2879
theorem w6_X0_averageTargets : Cond.initialized yX0_averageTargets.cls ∈ lw_all := q122
theorem hy_X0_averageTargets : yX0_averageTargets.cls ≠ "java/lang/invoke/MethodHandle" ∧ yX0_averageTargets.cls ≠ "java/lang/invoke/VarHandle" := by decide +kernel
theorem hl_X0_averageTargets : (parseMethodDescriptor yX0_averageTargets.desc).map (fun q => q.parameters.length) = some 2 := by decide +kernel
theorem hp_X0_averageTargets : plainFor yX0_averageTargets = true := by decide +kernel
theorem i_X4_averageTargets {l : Launch} {D : va_G} {dA : Nat → ClassId} {lo : Nat} {cs0 : Nat → Option Nat} {d : Nat} (hI : jIH l D dA lo cs0 d) : jMe l D dA lo cs0 (EV d) 74 yX4_averageTargets (ws_ yX4_averageTargets cX4_averageTargets 4 (Option.some Jvm.ClassFile.FieldType.float)) d := hI 74 (yX4_averageTargets, (ws_ yX4_averageTargets cX4_averageTargets 4 (Option.some Jvm.ClassFile.FieldType.float))) rfl
theorem w4_X4_averageTargets : Cond.code yX4_averageTargets cX4_averageTargets 4 (Option.some Jvm.ClassFile.FieldType.float) ∈ lw_all := q3425
theorem w6_X4_averageTargets : Cond.initialized yX4_averageTargets.cls ∈ lw_all := q160
theorem hy_X4_averageTargets : yX4_averageTargets.cls ≠ "java/lang/invoke/MethodHandle" ∧ yX4_averageTargets.cls ≠ "java/lang/invoke/VarHandle" := by decide +kernel
theorem hl_X4_averageTargets : (parseMethodDescriptor yX4_averageTargets.desc).map (fun q => q.parameters.length) = some 0 := by decide +kernel
theorem hp_X4_averageTargets : plainFor yX4_averageTargets = true := by decide +kernel
theorem i_X1_save {l : Launch} {D : va_G} {dA : Nat → ClassId} {lo : Nat} {cs0 : Nat → Option Nat} {d : Nat} (hI : jIH l D dA lo cs0 d) : jMe l D dA lo cs0 (EV d) 75 yX1_save (ws_ yX1_save cX1_save 1 (Option.none : Option Jvm.ClassFile.FieldType)) d := hI 75 (yX1_save, (ws_ yX1_save cX1_save 1 (Option.none : Option Jvm.ClassFile.FieldType))) rfl
theorem w4_X1_save : Cond.code yX1_save cX1_save 1 (Option.none : Option Jvm.ClassFile.FieldType) ∈ lw_all := q2389
theorem w6_X1_save : Cond.initialized yX1_save.cls ∈ lw_all := q123
theorem hy_X1_save : yX1_save.cls ≠ "java/lang/invoke/MethodHandle" ∧ yX1_save.cls ≠ "java/lang/invoke/VarHandle" := by decide +kernel
theorem hl_X1_save : (parseMethodDescriptor yX1_save.desc).map (fun q => q.parameters.length) = some 0 := by decide +kernel
theorem hp_X1_save : plainFor yX1_save = true := by decide +kernel
theorem i_X4_save {l : Launch} {D : va_G} {dA : Nat → ClassId} {lo : Nat} {cs0 : Nat → Option Nat} {d : Nat} (hI : jIH l D dA lo cs0 d) : jMe l D dA lo cs0 (EV d) 76 yX4_save (ws_ yX4_save cX4_save 1 (Option.none : Option Jvm.ClassFile.FieldType)) d := hI 76 (yX4_save, (ws_ yX4_save cX4_save 1 (Option.none : Option Jvm.ClassFile.FieldType))) rfl
theorem w4_X4_save : Cond.code yX4_save cX4_save 1 (Option.none : Option Jvm.ClassFile.FieldType) ∈ lw_all := q3429
theorem w6_X4_save : Cond.initialized yX4_save.cls ∈ lw_all := q160
theorem hy_X4_save : yX4_save.cls ≠ "java/lang/invoke/MethodHandle" ∧ yX4_save.cls ≠ "java/lang/invoke/VarHandle" := by decide +kernel
theorem hl_X4_save : (parseMethodDescriptor yX4_save.desc).map (fun q => q.parameters.length) = some 0 := by decide +kernel
theorem hp_X4_save : plainFor yX4_save = true := by decide +kernel
theorem i_X0_restore {l : Launch} {D : va_G} {dA : Nat → ClassId} {lo : Nat} {cs0 : Nat → Option Nat} {d : Nat} (hI : jIH l D dA lo cs0 d) : jMe l D dA lo cs0 (EV d) 77 yX0_restore (wsW_ yX0_restore cX0_restore 2 (Option.some Jvm.ClassFile.FieldType.int) [((0 : Nat), (4 : Nat), (7 : Nat), (15 : Nat))]) d := hI 77 (yX0_restore, (wsW_ yX0_restore cX0_restore 2 (Option.some Jvm.ClassFile.FieldType.int) [((0 : Nat), (4 : Nat), (7 : Nat), (15 : Nat))])) rfl
theorem w4_X0_restore : Cond.codeWith yX0_restore cX0_restore 2 (Option.some Jvm.ClassFile.FieldType.int) [((0 : Nat), (4 : Nat), (7 : Nat), (15 : Nat))] ∈ lw_all := q2886
theorem w6_X0_restore : Cond.initialized yX0_restore.cls ∈ lw_all := q122
theorem hy_X0_restore : yX0_restore.cls ≠ "java/lang/invoke/MethodHandle" ∧ yX0_restore.cls ≠ "java/lang/invoke/VarHandle" := by decide +kernel
theorem hl_X0_restore : (parseMethodDescriptor yX0_restore.desc).map (fun q => q.parameters.length) = some 1 := by decide +kernel
theorem hp_X0_restore : plainFor yX0_restore = true := by decide +kernel
theorem i_X4_restore {l : Launch} {D : va_G} {dA : Nat → ClassId} {lo : Nat} {cs0 : Nat → Option Nat} {d : Nat} (hI : jIH l D dA lo cs0 d) : jMe l D dA lo cs0 (EV d) 78 yX4_restore (ws_ yX4_restore cX4_restore 1 (Option.none : Option Jvm.ClassFile.FieldType)) d := hI 78 (yX4_restore, (ws_ yX4_restore cX4_restore 1 (Option.none : Option Jvm.ClassFile.FieldType))) rfl
theorem w4_X4_restore : Cond.code yX4_restore cX4_restore 1 (Option.none : Option Jvm.ClassFile.FieldType) ∈ lw_all := q3441
theorem w6_X4_restore : Cond.initialized yX4_restore.cls ∈ lw_all := q160
theorem hy_X4_restore : yX4_restore.cls ≠ "java/lang/invoke/MethodHandle" ∧ yX4_restore.cls ≠ "java/lang/invoke/VarHandle" := by decide +kernel
theorem hl_X4_restore : (parseMethodDescriptor yX4_restore.desc).map (fun q => q.parameters.length) = some 0 := by decide +kernel
theorem hp_X4_restore : plainFor yX4_restore = true := by decide +kernel
theorem i_X2_init {l : Launch} {D : va_G} {dA : Nat → ClassId} {lo : Nat} {cs0 : Nat → Option Nat} {d : Nat} (hI : jIH l D dA lo cs0 d) : jMe l D dA lo cs0 (EV d) 80 yX2_init (ws_ yX2_init cX2_init 2 (Option.none : Option Jvm.ClassFile.FieldType)) d := hI 80 (yX2_init, (ws_ yX2_init cX2_init 2 (Option.none : Option Jvm.ClassFile.FieldType))) rfl
theorem w4_X2_init : Cond.code yX2_init cX2_init 2 (Option.none : Option Jvm.ClassFile.FieldType) ∈ lw_all := q202
theorem w6_X2_init : Cond.initialized yX2_init.cls ∈ lw_all := q124
theorem hy_X2_init : yX2_init.cls ≠ "java/lang/invoke/MethodHandle" ∧ yX2_init.cls ≠ "java/lang/invoke/VarHandle" := by decide +kernel
theorem hl_X2_init : (parseMethodDescriptor yX2_init.desc).map (fun q => q.parameters.length) = some 0 := by decide +kernel
theorem hp_X2_init : plainFor yX2_init = true := by decide +kernel
theorem i_J4_init {l : Launch} {D : va_G} {dA : Nat → ClassId} {lo : Nat} {cs0 : Nat → Option Nat} {d : Nat} (hI : jIH l D dA lo cs0 d) : jMe l D dA lo cs0 (EV d) 81 yJ4_init (ws_ yJ4_init cJ4_init 1 (Option.none : Option Jvm.ClassFile.FieldType)) d := hI 81 (yJ4_init, (ws_ yJ4_init cJ4_init 1 (Option.none : Option Jvm.ClassFile.FieldType))) rfl
theorem w4_J4_init : Cond.code yJ4_init cJ4_init 1 (Option.none : Option Jvm.ClassFile.FieldType) ∈ lw_all := q243
theorem w6_J4_init : Cond.initialized yJ4_init.cls ∈ lw_all := q129
theorem hy_J4_init : yJ4_init.cls ≠ "java/lang/invoke/MethodHandle" ∧ yJ4_init.cls ≠ "java/lang/invoke/VarHandle" := by decide +kernel
theorem hl_J4_init : (parseMethodDescriptor yJ4_init.desc).map (fun q => q.parameters.length) = some 0 := by decide +kernel
theorem hp_J4_init : plainFor yJ4_init = true := by decide +kernel
theorem i_X2_with {l : Launch} {D : va_G} {dA : Nat → ClassId} {lo : Nat} {cs0 : Nat → Option Nat} {d : Nat} (hI : jIH l D dA lo cs0 d) : jMe l D dA lo cs0 (EV d) 82 yX2_with (ws_ yX2_with cX2_with 8 (Option.some (Jvm.ClassFile.FieldType.object "PointerAnalyzer$Program"))) d := hI 82 (yX2_with, (ws_ yX2_with cX2_with 8 (Option.some (Jvm.ClassFile.FieldType.object "PointerAnalyzer$Program")))) rfl
theorem w4_X2_with : Cond.code yX2_with cX2_with 8 (Option.some (Jvm.ClassFile.FieldType.object "PointerAnalyzer$Program")) ∈ lw_all := q722
theorem w6_X2_with : Cond.initialized yX2_with.cls ∈ lw_all := q124
theorem hy_X2_with : yX2_with.cls ≠ "java/lang/invoke/MethodHandle" ∧ yX2_with.cls ≠ "java/lang/invoke/VarHandle" := by decide +kernel
theorem hl_X2_with : (parseMethodDescriptor yX2_with.desc).map (fun q => q.parameters.length) = some 2 := by decide +kernel
theorem hp_X2_with : plainFor yX2_with = true := by decide +kernel
theorem i_X1_appendCharacter {l : Launch} {D : va_G} {dA : Nat → ClassId} {lo : Nat} {cs0 : Nat → Option Nat} {d : Nat} (hI : jIH l D dA lo cs0 d) : jMe l D dA lo cs0 (EV d) 83 yX1_appendCharacter (ws_ yX1_appendCharacter cX1_appendCharacter 2 (Option.some Jvm.ClassFile.FieldType.int)) d := hI 83 (yX1_appendCharacter, (ws_ yX1_appendCharacter cX1_appendCharacter 2 (Option.some Jvm.ClassFile.FieldType.int))) rfl
theorem w4_X1_appendCharacter : Cond.code yX1_appendCharacter cX1_appendCharacter 2 (Option.some Jvm.ClassFile.FieldType.int) ∈ lw_all := q2398
theorem w6_X1_appendCharacter : Cond.initialized yX1_appendCharacter.cls ∈ lw_all := q123
theorem hy_X1_appendCharacter : yX1_appendCharacter.cls ≠ "java/lang/invoke/MethodHandle" ∧ yX1_appendCharacter.cls ≠ "java/lang/invoke/VarHandle" := by decide +kernel
theorem hl_X1_appendCharacter : (parseMethodDescriptor yX1_appendCharacter.desc).map (fun q => q.parameters.length) = some 1 := by decide +kernel
theorem hp_X1_appendCharacter : plainFor yX1_appendCharacter = true := by decide +kernel
theorem i_X4_isBetween {l : Launch} {D : va_G} {dA : Nat → ClassId} {lo : Nat} {cs0 : Nat → Option Nat} {d : Nat} (hI : jIH l D dA lo cs0 d) : jMe l D dA lo cs0 (EV d) 84 yX4_isBetween (ws_ yX4_isBetween cX4_isBetween 3 (Option.some Jvm.ClassFile.FieldType.boolean)) d := hI 84 (yX4_isBetween, (ws_ yX4_isBetween cX4_isBetween 3 (Option.some Jvm.ClassFile.FieldType.boolean))) rfl
theorem w4_X4_isBetween : Cond.code yX4_isBetween cX4_isBetween 3 (Option.some Jvm.ClassFile.FieldType.boolean) ∈ lw_all := q3042
theorem w6_X4_isBetween : Cond.initialized yX4_isBetween.cls ∈ lw_all := q160
theorem hy_X4_isBetween : yX4_isBetween.cls ≠ "java/lang/invoke/MethodHandle" ∧ yX4_isBetween.cls ≠ "java/lang/invoke/VarHandle" := by decide +kernel
theorem hl_X4_isBetween : (parseMethodDescriptor yX4_isBetween.desc).map (fun q => q.parameters.length) = some 3 := by decide +kernel
theorem hp_X4_isBetween : plainFor yX4_isBetween = true := by decide +kernel
theorem i_X4_fails {l : Launch} {D : va_G} {dA : Nat → ClassId} {lo : Nat} {cs0 : Nat → Option Nat} {d : Nat} (hI : jIH l D dA lo cs0 d) : jMe l D dA lo cs0 (EV d) 85 yX4_fails (ws_ yX4_fails cX4_fails 2 (Option.some Jvm.ClassFile.FieldType.int)) d := hI 85 (yX4_fails, (ws_ yX4_fails cX4_fails 2 (Option.some Jvm.ClassFile.FieldType.int))) rfl
theorem w4_X4_fails : Cond.code yX4_fails cX4_fails 2 (Option.some Jvm.ClassFile.FieldType.int) ∈ lw_all := q3046
theorem w6_X4_fails : Cond.initialized yX4_fails.cls ∈ lw_all := q160
theorem hy_X4_fails : yX4_fails.cls ≠ "java/lang/invoke/MethodHandle" ∧ yX4_fails.cls ≠ "java/lang/invoke/VarHandle" := by decide +kernel
theorem hl_X4_fails : (parseMethodDescriptor yX4_fails.desc).map (fun q => q.parameters.length) = some 1 := by decide +kernel
theorem hp_X4_fails : plainFor yX4_fails = true := by decide +kernel
theorem i_X1_setBody {l : Launch} {D : va_G} {dA : Nat → ClassId} {lo : Nat} {cs0 : Nat → Option Nat} {d : Nat} (hI : jIH l D dA lo cs0 d) : jMe l D dA lo cs0 (EV d) 86 yX1_setBody (ws_ yX1_setBody cX1_setBody 4 (Option.some Jvm.ClassFile.FieldType.int)) d := hI 86 (yX1_setBody, (ws_ yX1_setBody cX1_setBody 4 (Option.some Jvm.ClassFile.FieldType.int))) rfl
theorem w4_X1_setBody : Cond.code yX1_setBody cX1_setBody 4 (Option.some Jvm.ClassFile.FieldType.int) ∈ lw_all := q2447
theorem w6_X1_setBody : Cond.initialized yX1_setBody.cls ∈ lw_all := q123
theorem hy_X1_setBody : yX1_setBody.cls ≠ "java/lang/invoke/MethodHandle" ∧ yX1_setBody.cls ≠ "java/lang/invoke/VarHandle" := by decide +kernel
theorem hl_X1_setBody : (parseMethodDescriptor yX1_setBody.desc).map (fun q => q.parameters.length) = some 1 := by decide +kernel
theorem hp_X1_setBody : plainFor yX1_setBody = true := by decide +kernel
theorem i_X4_isFunction {l : Launch} {D : va_G} {dA : Nat → ClassId} {lo : Nat} {cs0 : Nat → Option Nat} {d : Nat} (hI : jIH l D dA lo cs0 d) : jMe l D dA lo cs0 (EV d) 87 yX4_isFunction (ws_ yX4_isFunction cX4_isFunction 1 (Option.some Jvm.ClassFile.FieldType.boolean)) d := hI 87 (yX4_isFunction, (ws_ yX4_isFunction cX4_isFunction 1 (Option.some Jvm.ClassFile.FieldType.boolean))) rfl
theorem w4_X4_isFunction : Cond.code yX4_isFunction cX4_isFunction 1 (Option.some Jvm.ClassFile.FieldType.boolean) ∈ lw_all := q3053
theorem w6_X4_isFunction : Cond.initialized yX4_isFunction.cls ∈ lw_all := q160
theorem hy_X4_isFunction : yX4_isFunction.cls ≠ "java/lang/invoke/MethodHandle" ∧ yX4_isFunction.cls ≠ "java/lang/invoke/VarHandle" := by decide +kernel
theorem hl_X4_isFunction : (parseMethodDescriptor yX4_isFunction.desc).map (fun q => q.parameters.length) = some 1 := by decide +kernel
theorem hp_X4_isFunction : plainFor yX4_isFunction = true := by decide +kernel
theorem i_X4_takesText {l : Launch} {D : va_G} {dA : Nat → ClassId} {lo : Nat} {cs0 : Nat → Option Nat} {d : Nat} (hI : jIH l D dA lo cs0 d) : jMe l D dA lo cs0 (EV d) 88 yX4_takesText (ws_ yX4_takesText cX4_takesText 3 (Option.some Jvm.ClassFile.FieldType.boolean)) d := hI 88 (yX4_takesText, (ws_ yX4_takesText cX4_takesText 3 (Option.some Jvm.ClassFile.FieldType.boolean))) rfl
theorem w4_X4_takesText : Cond.code yX4_takesText cX4_takesText 3 (Option.some Jvm.ClassFile.FieldType.boolean) ∈ lw_all := q3057
theorem w6_X4_takesText : Cond.initialized yX4_takesText.cls ∈ lw_all := q160
theorem hy_X4_takesText : yX4_takesText.cls ≠ "java/lang/invoke/MethodHandle" ∧ yX4_takesText.cls ≠ "java/lang/invoke/VarHandle" := by decide +kernel
theorem hl_X4_takesText : (parseMethodDescriptor yX4_takesText.desc).map (fun q => q.parameters.length) = some 1 := by decide +kernel
theorem hp_X4_takesText : plainFor yX4_takesText = true := by decide +kernel
theorem i_X4_many {l : Launch} {D : va_G} {dA : Nat → ClassId} {lo : Nat} {cs0 : Nat → Option Nat} {d : Nat} (hI : jIH l D dA lo cs0 d) : jMe l D dA lo cs0 (EV d) 89 yX4_many (ws_ yX4_many cX4_many 6 (Option.some Jvm.ClassFile.FieldType.int)) d := hI 89 (yX4_many, (ws_ yX4_many cX4_many 6 (Option.some Jvm.ClassFile.FieldType.int))) rfl
theorem w4_X4_many : Cond.code yX4_many cX4_many 6 (Option.some Jvm.ClassFile.FieldType.int) ∈ lw_all := q3093
theorem w6_X4_many : Cond.initialized yX4_many.cls ∈ lw_all := q160
theorem hy_X4_many : yX4_many.cls ≠ "java/lang/invoke/MethodHandle" ∧ yX4_many.cls ≠ "java/lang/invoke/VarHandle" := by decide +kernel
theorem hl_X4_many : (parseMethodDescriptor yX4_many.desc).map (fun q => q.parameters.length) = some 2 := by decide +kernel
theorem hp_X4_many : plainFor yX4_many = true := by decide +kernel
theorem i_X4_copies {l : Launch} {D : va_G} {dA : Nat → ClassId} {lo : Nat} {cs0 : Nat → Option Nat} {d : Nat} (hI : jIH l D dA lo cs0 d) : jMe l D dA lo cs0 (EV d) 90 yX4_copies (ws_ yX4_copies cX4_copies 4 (Option.none : Option Jvm.ClassFile.FieldType)) d := hI 90 (yX4_copies, (ws_ yX4_copies cX4_copies 4 (Option.none : Option Jvm.ClassFile.FieldType))) rfl
theorem w4_X4_copies : Cond.code yX4_copies cX4_copies 4 (Option.none : Option Jvm.ClassFile.FieldType) ∈ lw_all := q3097
theorem w6_X4_copies : Cond.initialized yX4_copies.cls ∈ lw_all := q160
theorem hy_X4_copies : yX4_copies.cls ≠ "java/lang/invoke/MethodHandle" ∧ yX4_copies.cls ≠ "java/lang/invoke/VarHandle" := by decide +kernel
theorem hl_X4_copies : (parseMethodDescriptor yX4_copies.desc).map (fun q => q.parameters.length) = some 2 := by decide +kernel
theorem hp_X4_copies : plainFor yX4_copies = true := by decide +kernel
theorem i_X4_forgets {l : Launch} {D : va_G} {dA : Nat → ClassId} {lo : Nat} {cs0 : Nat → Option Nat} {d : Nat} (hI : jIH l D dA lo cs0 d) : jMe l D dA lo cs0 (EV d) 91 yX4_forgets (ws_ yX4_forgets cX4_forgets 2 (Option.none : Option Jvm.ClassFile.FieldType)) d := hI 91 (yX4_forgets, (ws_ yX4_forgets cX4_forgets 2 (Option.none : Option Jvm.ClassFile.FieldType))) rfl
theorem w4_X4_forgets : Cond.code yX4_forgets cX4_forgets 2 (Option.none : Option Jvm.ClassFile.FieldType) ∈ lw_all := q3101
theorem w6_X4_forgets : Cond.initialized yX4_forgets.cls ∈ lw_all := q160
theorem hy_X4_forgets : yX4_forgets.cls ≠ "java/lang/invoke/MethodHandle" ∧ yX4_forgets.cls ≠ "java/lang/invoke/VarHandle" := by decide +kernel
theorem hl_X4_forgets : (parseMethodDescriptor yX4_forgets.desc).map (fun q => q.parameters.length) = some 0 := by decide +kernel
theorem hp_X4_forgets : plainFor yX4_forgets = true := by decide +kernel
theorem i_J4_size {l : Launch} {D : va_G} {dA : Nat → ClassId} {lo : Nat} {cs0 : Nat → Option Nat} {d : Nat} (hI : jIH l D dA lo cs0 d) : jMe l D dA lo cs0 (EV d) 92 yJ4_size (ws_ yJ4_size cJ4_size 1 (Option.some Jvm.ClassFile.FieldType.int)) d := hI 92 (yJ4_size, (ws_ yJ4_size cJ4_size 1 (Option.some Jvm.ClassFile.FieldType.int))) rfl
theorem w4_J4_size : Cond.code yJ4_size cJ4_size 1 (Option.some Jvm.ClassFile.FieldType.int) ∈ lw_all := q1147
theorem w6_J4_size : Cond.initialized yJ4_size.cls ∈ lw_all := q129
theorem hy_J4_size : yJ4_size.cls ≠ "java/lang/invoke/MethodHandle" ∧ yJ4_size.cls ≠ "java/lang/invoke/VarHandle" := by decide +kernel
theorem hl_J4_size : (parseMethodDescriptor yJ4_size.desc).map (fun q => q.parameters.length) = some 0 := by decide +kernel
theorem hp_J4_size : plainFor yJ4_size = true := by decide +kernel
theorem i_X4_statements {l : Launch} {D : va_G} {dA : Nat → ClassId} {lo : Nat} {cs0 : Nat → Option Nat} {d : Nat} (hI : jIH l D dA lo cs0 d) : jMe l D dA lo cs0 (EV d) 93 yX4_statements (ws_ yX4_statements cX4_statements 1 (Option.some Jvm.ClassFile.FieldType.int)) d := hI 93 (yX4_statements, (ws_ yX4_statements cX4_statements 1 (Option.some Jvm.ClassFile.FieldType.int))) rfl
theorem w4_X4_statements : Cond.code yX4_statements cX4_statements 1 (Option.some Jvm.ClassFile.FieldType.int) ∈ lw_all := q3113
theorem w6_X4_statements : Cond.initialized yX4_statements.cls ∈ lw_all := q160
theorem hy_X4_statements : yX4_statements.cls ≠ "java/lang/invoke/MethodHandle" ∧ yX4_statements.cls ≠ "java/lang/invoke/VarHandle" := by decide +kernel
theorem hl_X4_statements : (parseMethodDescriptor yX4_statements.desc).map (fun q => q.parameters.length) = some 0 := by decide +kernel
theorem hp_X4_statements : plainFor yX4_statements = true := by decide +kernel
theorem i_X1_kind {l : Launch} {D : va_G} {dA : Nat → ClassId} {lo : Nat} {cs0 : Nat → Option Nat} {d : Nat} (hI : jIH l D dA lo cs0 d) : jMe l D dA lo cs0 (EV d) 94 yX1_kind (ws_ yX1_kind cX1_kind 2 (Option.some Jvm.ClassFile.FieldType.int)) d := hI 94 (yX1_kind, (ws_ yX1_kind cX1_kind 2 (Option.some Jvm.ClassFile.FieldType.int))) rfl
theorem w4_X1_kind : Cond.code yX1_kind cX1_kind 2 (Option.some Jvm.ClassFile.FieldType.int) ∈ lw_all := q2665
theorem w6_X1_kind : Cond.initialized yX1_kind.cls ∈ lw_all := q123
theorem hy_X1_kind : yX1_kind.cls ≠ "java/lang/invoke/MethodHandle" ∧ yX1_kind.cls ≠ "java/lang/invoke/VarHandle" := by decide +kernel
theorem hl_X1_kind : (parseMethodDescriptor yX1_kind.desc).map (fun q => q.parameters.length) = some 1 := by decide +kernel
theorem hp_X1_kind : plainFor yX1_kind = true := by decide +kernel
theorem i_X4_isStatement {l : Launch} {D : va_G} {dA : Nat → ClassId} {lo : Nat} {cs0 : Nat → Option Nat} {d : Nat} (hI : jIH l D dA lo cs0 d) : jMe l D dA lo cs0 (EV d) 95 yX4_isStatement (ws_ yX4_isStatement cX4_isStatement 2 (Option.some Jvm.ClassFile.FieldType.boolean)) d := hI 95 (yX4_isStatement, (ws_ yX4_isStatement cX4_isStatement 2 (Option.some Jvm.ClassFile.FieldType.boolean))) rfl
theorem w4_X4_isStatement : Cond.code yX4_isStatement cX4_isStatement 2 (Option.some Jvm.ClassFile.FieldType.boolean) ∈ lw_all := q3121
theorem w6_X4_isStatement : Cond.initialized yX4_isStatement.cls ∈ lw_all := q160
theorem hy_X4_isStatement : yX4_isStatement.cls ≠ "java/lang/invoke/MethodHandle" ∧ yX4_isStatement.cls ≠ "java/lang/invoke/VarHandle" := by decide +kernel
theorem hl_X4_isStatement : (parseMethodDescriptor yX4_isStatement.desc).map (fun q => q.parameters.length) = some 1 := by decide +kernel
theorem hp_X4_isStatement : plainFor yX4_isStatement = true := by decide +kernel
theorem i_X4_placeOf {l : Launch} {D : va_G} {dA : Nat → ClassId} {lo : Nat} {cs0 : Nat → Option Nat} {d : Nat} (hI : jIH l D dA lo cs0 d) : jMe l D dA lo cs0 (EV d) 96 yX4_placeOf (ws_ yX4_placeOf cX4_placeOf 4 (Option.some Jvm.ClassFile.FieldType.int)) d := hI 96 (yX4_placeOf, (ws_ yX4_placeOf cX4_placeOf 4 (Option.some Jvm.ClassFile.FieldType.int))) rfl
theorem w4_X4_placeOf : Cond.code yX4_placeOf cX4_placeOf 4 (Option.some Jvm.ClassFile.FieldType.int) ∈ lw_all := q3125
theorem w6_X4_placeOf : Cond.initialized yX4_placeOf.cls ∈ lw_all := q160
theorem hy_X4_placeOf : yX4_placeOf.cls ≠ "java/lang/invoke/MethodHandle" ∧ yX4_placeOf.cls ≠ "java/lang/invoke/VarHandle" := by decide +kernel
theorem hl_X4_placeOf : (parseMethodDescriptor yX4_placeOf.desc).map (fun q => q.parameters.length) = some 1 := by decide +kernel
theorem hp_X4_placeOf : plainFor yX4_placeOf = true := by decide +kernel
theorem i_X1_functionOf {l : Launch} {D : va_G} {dA : Nat → ClassId} {lo : Nat} {cs0 : Nat → Option Nat} {d : Nat} (hI : jIH l D dA lo cs0 d) : jMe l D dA lo cs0 (EV d) 97 yX1_functionOf (ws_ yX1_functionOf cX1_functionOf 2 (Option.some Jvm.ClassFile.FieldType.int)) d := hI 97 (yX1_functionOf, (ws_ yX1_functionOf cX1_functionOf 2 (Option.some Jvm.ClassFile.FieldType.int))) rfl
theorem w4_X1_functionOf : Cond.code yX1_functionOf cX1_functionOf 2 (Option.some Jvm.ClassFile.FieldType.int) ∈ lw_all := q2678
theorem w6_X1_functionOf : Cond.initialized yX1_functionOf.cls ∈ lw_all := q123
theorem hy_X1_functionOf : yX1_functionOf.cls ≠ "java/lang/invoke/MethodHandle" ∧ yX1_functionOf.cls ≠ "java/lang/invoke/VarHandle" := by decide +kernel
theorem hl_X1_functionOf : (parseMethodDescriptor yX1_functionOf.desc).map (fun q => q.parameters.length) = some 1 := by decide +kernel
theorem hp_X1_functionOf : plainFor yX1_functionOf = true := by decide +kernel
theorem i_X4_sites {l : Launch} {D : va_G} {dA : Nat → ClassId} {lo : Nat} {cs0 : Nat → Option Nat} {d : Nat} (hI : jIH l D dA lo cs0 d) : jMe l D dA lo cs0 (EV d) 98 yX4_sites (ws_ yX4_sites cX4_sites 1 (Option.some Jvm.ClassFile.FieldType.int)) d := hI 98 (yX4_sites, (ws_ yX4_sites cX4_sites 1 (Option.some Jvm.ClassFile.FieldType.int))) rfl
theorem w4_X4_sites : Cond.code yX4_sites cX4_sites 1 (Option.some Jvm.ClassFile.FieldType.int) ∈ lw_all := q3137
theorem w6_X4_sites : Cond.initialized yX4_sites.cls ∈ lw_all := q160
theorem hy_X4_sites : yX4_sites.cls ≠ "java/lang/invoke/MethodHandle" ∧ yX4_sites.cls ≠ "java/lang/invoke/VarHandle" := by decide +kernel
theorem hl_X4_sites : (parseMethodDescriptor yX4_sites.desc).map (fun q => q.parameters.length) = some 0 := by decide +kernel
theorem hp_X4_sites : plainFor yX4_sites = true := by decide +kernel
theorem i_X1_setLimit {l : Launch} {D : va_G} {dA : Nat → ClassId} {lo : Nat} {cs0 : Nat → Option Nat} {d : Nat} (hI : jIH l D dA lo cs0 d) : jMe l D dA lo cs0 (EV d) 99 yX1_setLimit (ws_ yX1_setLimit cX1_setLimit 3 (Option.some Jvm.ClassFile.FieldType.int)) d := hI 99 (yX1_setLimit, (ws_ yX1_setLimit cX1_setLimit 3 (Option.some Jvm.ClassFile.FieldType.int))) rfl
theorem w4_X1_setLimit : Cond.code yX1_setLimit cX1_setLimit 3 (Option.some Jvm.ClassFile.FieldType.int) ∈ lw_all := q2685
theorem w6_X1_setLimit : Cond.initialized yX1_setLimit.cls ∈ lw_all := q123
theorem hy_X1_setLimit : yX1_setLimit.cls ≠ "java/lang/invoke/MethodHandle" ∧ yX1_setLimit.cls ≠ "java/lang/invoke/VarHandle" := by decide +kernel
theorem hl_X1_setLimit : (parseMethodDescriptor yX1_setLimit.desc).map (fun q => q.parameters.length) = some 1 := by decide +kernel
theorem hp_X1_setLimit : plainFor yX1_setLimit = true := by decide +kernel
theorem i_X1_contextCount {l : Launch} {D : va_G} {dA : Nat → ClassId} {lo : Nat} {cs0 : Nat → Option Nat} {d : Nat} (hI : jIH l D dA lo cs0 d) : jMe l D dA lo cs0 (EV d) 100 yX1_contextCount (ws_ yX1_contextCount cX1_contextCount 2 (Option.some Jvm.ClassFile.FieldType.int)) d := hI 100 (yX1_contextCount, (ws_ yX1_contextCount cX1_contextCount 2 (Option.some Jvm.ClassFile.FieldType.int))) rfl
theorem w4_X1_contextCount : Cond.code yX1_contextCount cX1_contextCount 2 (Option.some Jvm.ClassFile.FieldType.int) ∈ lw_all := q2692
theorem w6_X1_contextCount : Cond.initialized yX1_contextCount.cls ∈ lw_all := q123
theorem hy_X1_contextCount : yX1_contextCount.cls ≠ "java/lang/invoke/MethodHandle" ∧ yX1_contextCount.cls ≠ "java/lang/invoke/VarHandle" := by decide +kernel
theorem hl_X1_contextCount : (parseMethodDescriptor yX1_contextCount.desc).map (fun q => q.parameters.length) = some 1 := by decide +kernel
theorem hp_X1_contextCount : plainFor yX1_contextCount = true := by decide +kernel
theorem i_X4_refreshes {l : Launch} {D : va_G} {dA : Nat → ClassId} {lo : Nat} {cs0 : Nat → Option Nat} {d : Nat} (hI : jIH l D dA lo cs0 d) : jMe l D dA lo cs0 (EV d) 101 yX4_refreshes (ws_ yX4_refreshes cX4_refreshes 4 (Option.none : Option Jvm.ClassFile.FieldType)) d := hI 101 (yX4_refreshes, (ws_ yX4_refreshes cX4_refreshes 4 (Option.none : Option Jvm.ClassFile.FieldType))) rfl
theorem w4_X4_refreshes : Cond.code yX4_refreshes cX4_refreshes 4 (Option.none : Option Jvm.ClassFile.FieldType) ∈ lw_all := q3149
theorem w6_X4_refreshes : Cond.initialized yX4_refreshes.cls ∈ lw_all := q160
theorem hy_X4_refreshes : yX4_refreshes.cls ≠ "java/lang/invoke/MethodHandle" ∧ yX4_refreshes.cls ≠ "java/lang/invoke/VarHandle" := by decide +kernel
theorem hl_X4_refreshes : (parseMethodDescriptor yX4_refreshes.desc).map (fun q => q.parameters.length) = some 0 := by decide +kernel
theorem hp_X4_refreshes : plainFor yX4_refreshes = true := by decide +kernel
theorem i_X4_contextsOf {l : Launch} {D : va_G} {dA : Nat → ClassId} {lo : Nat} {cs0 : Nat → Option Nat} {d : Nat} (hI : jIH l D dA lo cs0 d) : jMe l D dA lo cs0 (EV d) 102 yX4_contextsOf (ws_ yX4_contextsOf cX4_contextsOf 4 (Option.some Jvm.ClassFile.FieldType.int)) d := hI 102 (yX4_contextsOf, (ws_ yX4_contextsOf cX4_contextsOf 4 (Option.some Jvm.ClassFile.FieldType.int))) rfl
theorem w4_X4_contextsOf : Cond.code yX4_contextsOf cX4_contextsOf 4 (Option.some Jvm.ClassFile.FieldType.int) ∈ lw_all := q3235
theorem w6_X4_contextsOf : Cond.initialized yX4_contextsOf.cls ∈ lw_all := q160
theorem hy_X4_contextsOf : yX4_contextsOf.cls ≠ "java/lang/invoke/MethodHandle" ∧ yX4_contextsOf.cls ≠ "java/lang/invoke/VarHandle" := by decide +kernel
theorem hl_X4_contextsOf : (parseMethodDescriptor yX4_contextsOf.desc).map (fun q => q.parameters.length) = some 1 := by decide +kernel
theorem hp_X4_contextsOf : plainFor yX4_contextsOf = true := by decide +kernel
theorem i_X1_contextLength {l : Launch} {D : va_G} {dA : Nat → ClassId} {lo : Nat} {cs0 : Nat → Option Nat} {d : Nat} (hI : jIH l D dA lo cs0 d) : jMe l D dA lo cs0 (EV d) 103 yX1_contextLength (ws_ yX1_contextLength cX1_contextLength 3 (Option.some Jvm.ClassFile.FieldType.int)) d := hI 103 (yX1_contextLength, (ws_ yX1_contextLength cX1_contextLength 3 (Option.some Jvm.ClassFile.FieldType.int))) rfl
theorem w4_X1_contextLength : Cond.code yX1_contextLength cX1_contextLength 3 (Option.some Jvm.ClassFile.FieldType.int) ∈ lw_all := q2700
theorem w6_X1_contextLength : Cond.initialized yX1_contextLength.cls ∈ lw_all := q123
theorem hy_X1_contextLength : yX1_contextLength.cls ≠ "java/lang/invoke/MethodHandle" ∧ yX1_contextLength.cls ≠ "java/lang/invoke/VarHandle" := by decide +kernel
theorem hl_X1_contextLength : (parseMethodDescriptor yX1_contextLength.desc).map (fun q => q.parameters.length) = some 2 := by decide +kernel
theorem hp_X1_contextLength : plainFor yX1_contextLength = true := by decide +kernel
theorem i_X4_codeOf {l : Launch} {D : va_G} {dA : Nat → ClassId} {lo : Nat} {cs0 : Nat → Option Nat} {d : Nat} (hI : jIH l D dA lo cs0 d) : jMe l D dA lo cs0 (EV d) 104 yX4_codeOf (ws_ yX4_codeOf cX4_codeOf 3 (Option.some Jvm.ClassFile.FieldType.int)) d := hI 104 (yX4_codeOf, (ws_ yX4_codeOf cX4_codeOf 3 (Option.some Jvm.ClassFile.FieldType.int))) rfl
theorem w4_X4_codeOf : Cond.code yX4_codeOf cX4_codeOf 3 (Option.some Jvm.ClassFile.FieldType.int) ∈ lw_all := q3243
theorem w6_X4_codeOf : Cond.initialized yX4_codeOf.cls ∈ lw_all := q160
theorem hy_X4_codeOf : yX4_codeOf.cls ≠ "java/lang/invoke/MethodHandle" ∧ yX4_codeOf.cls ≠ "java/lang/invoke/VarHandle" := by decide +kernel
theorem hl_X4_codeOf : (parseMethodDescriptor yX4_codeOf.desc).map (fun q => q.parameters.length) = some 2 := by decide +kernel
theorem hp_X4_codeOf : plainFor yX4_codeOf = true := by decide +kernel
theorem i_X1_contextCall {l : Launch} {D : va_G} {dA : Nat → ClassId} {lo : Nat} {cs0 : Nat → Option Nat} {d : Nat} (hI : jIH l D dA lo cs0 d) : jMe l D dA lo cs0 (EV d) 105 yX1_contextCall (ws_ yX1_contextCall cX1_contextCall 5 (Option.some Jvm.ClassFile.FieldType.int)) d := hI 105 (yX1_contextCall, (ws_ yX1_contextCall cX1_contextCall 5 (Option.some Jvm.ClassFile.FieldType.int))) rfl
theorem w4_X1_contextCall : Cond.code yX1_contextCall cX1_contextCall 5 (Option.some Jvm.ClassFile.FieldType.int) ∈ lw_all := q2712
theorem w6_X1_contextCall : Cond.initialized yX1_contextCall.cls ∈ lw_all := q123
theorem hy_X1_contextCall : yX1_contextCall.cls ≠ "java/lang/invoke/MethodHandle" ∧ yX1_contextCall.cls ≠ "java/lang/invoke/VarHandle" := by decide +kernel
theorem hl_X1_contextCall : (parseMethodDescriptor yX1_contextCall.desc).map (fun q => q.parameters.length) = some 3 := by decide +kernel
theorem hp_X1_contextCall : plainFor yX1_contextCall = true := by decide +kernel
theorem i_X1_pointsTo {l : Launch} {D : va_G} {dA : Nat → ClassId} {lo : Nat} {cs0 : Nat → Option Nat} {d : Nat} (hI : jIH l D dA lo cs0 d) : jMe l D dA lo cs0 (EV d) 106 yX1_pointsTo (ws_ yX1_pointsTo cX1_pointsTo 2 (Option.some Jvm.ClassFile.FieldType.long)) d := hI 106 (yX1_pointsTo, (ws_ yX1_pointsTo cX1_pointsTo 2 (Option.some Jvm.ClassFile.FieldType.long))) rfl
theorem w4_X1_pointsTo : Cond.code yX1_pointsTo cX1_pointsTo 2 (Option.some Jvm.ClassFile.FieldType.long) ∈ lw_all := q2719
theorem w6_X1_pointsTo : Cond.initialized yX1_pointsTo.cls ∈ lw_all := q123
theorem hy_X1_pointsTo : yX1_pointsTo.cls ≠ "java/lang/invoke/MethodHandle" ∧ yX1_pointsTo.cls ≠ "java/lang/invoke/VarHandle" := by decide +kernel
theorem hl_X1_pointsTo : (parseMethodDescriptor yX1_pointsTo.desc).map (fun q => q.parameters.length) = some 1 := by decide +kernel
theorem hp_X1_pointsTo : plainFor yX1_pointsTo = true := by decide +kernel
theorem i_X4_isVariable {l : Launch} {D : va_G} {dA : Nat → ClassId} {lo : Nat} {cs0 : Nat → Option Nat} {d : Nat} (hI : jIH l D dA lo cs0 d) : jMe l D dA lo cs0 (EV d) 107 yX4_isVariable (ws_ yX4_isVariable cX4_isVariable 1 (Option.some Jvm.ClassFile.FieldType.boolean)) d := hI 107 (yX4_isVariable, (ws_ yX4_isVariable cX4_isVariable 1 (Option.some Jvm.ClassFile.FieldType.boolean))) rfl
theorem w4_X4_isVariable : Cond.code yX4_isVariable cX4_isVariable 1 (Option.some Jvm.ClassFile.FieldType.boolean) ∈ lw_all := q3258
theorem w6_X4_isVariable : Cond.initialized yX4_isVariable.cls ∈ lw_all := q160
theorem hy_X4_isVariable : yX4_isVariable.cls ≠ "java/lang/invoke/MethodHandle" ∧ yX4_isVariable.cls ≠ "java/lang/invoke/VarHandle" := by decide +kernel
theorem hl_X4_isVariable : (parseMethodDescriptor yX4_isVariable.desc).map (fun q => q.parameters.length) = some 1 := by decide +kernel
theorem hp_X4_isVariable : plainFor yX4_isVariable = true := by decide +kernel
theorem i_X4_targetsBy {l : Launch} {D : va_G} {dA : Nat → ClassId} {lo : Nat} {cs0 : Nat → Option Nat} {d : Nat} (hI : jIH l D dA lo cs0 d) : jMe l D dA lo cs0 (EV d) 108 yX4_targetsBy (ws_ yX4_targetsBy cX4_targetsBy 5 (Option.some Jvm.ClassFile.FieldType.long)) d := hI 108 (yX4_targetsBy, (ws_ yX4_targetsBy cX4_targetsBy 5 (Option.some Jvm.ClassFile.FieldType.long))) rfl
theorem w4_X4_targetsBy : Cond.code yX4_targetsBy cX4_targetsBy 5 (Option.some Jvm.ClassFile.FieldType.long) ∈ lw_all := q3262
theorem w6_X4_targetsBy : Cond.initialized yX4_targetsBy.cls ∈ lw_all := q160
theorem hy_X4_targetsBy : yX4_targetsBy.cls ≠ "java/lang/invoke/MethodHandle" ∧ yX4_targetsBy.cls ≠ "java/lang/invoke/VarHandle" := by decide +kernel
theorem hl_X4_targetsBy : (parseMethodDescriptor yX4_targetsBy.desc).map (fun q => q.parameters.length) = some 1 := by decide +kernel
theorem hp_X4_targetsBy : plainFor yX4_targetsBy = true := by decide +kernel
theorem i_X1_pointsToIn {l : Launch} {D : va_G} {dA : Nat → ClassId} {lo : Nat} {cs0 : Nat → Option Nat} {d : Nat} (hI : jIH l D dA lo cs0 d) : jMe l D dA lo cs0 (EV d) 109 yX1_pointsToIn (ws_ yX1_pointsToIn cX1_pointsToIn 4 (Option.some Jvm.ClassFile.FieldType.long)) d := hI 109 (yX1_pointsToIn, (ws_ yX1_pointsToIn cX1_pointsToIn 4 (Option.some Jvm.ClassFile.FieldType.long))) rfl
theorem w4_X1_pointsToIn : Cond.code yX1_pointsToIn cX1_pointsToIn 4 (Option.some Jvm.ClassFile.FieldType.long) ∈ lw_all := q2729
theorem w6_X1_pointsToIn : Cond.initialized yX1_pointsToIn.cls ∈ lw_all := q123
theorem hy_X1_pointsToIn : yX1_pointsToIn.cls ≠ "java/lang/invoke/MethodHandle" ∧ yX1_pointsToIn.cls ≠ "java/lang/invoke/VarHandle" := by decide +kernel
theorem hl_X1_pointsToIn : (parseMethodDescriptor yX1_pointsToIn.desc).map (fun q => q.parameters.length) = some 2 := by decide +kernel
theorem hp_X1_pointsToIn : plainFor yX1_pointsToIn = true := by decide +kernel
theorem i_X4_firstOf {l : Launch} {D : va_G} {dA : Nat → ClassId} {lo : Nat} {cs0 : Nat → Option Nat} {d : Nat} (hI : jIH l D dA lo cs0 d) : jMe l D dA lo cs0 (EV d) 110 yX4_firstOf (ws_ yX4_firstOf cX4_firstOf 3 (Option.some Jvm.ClassFile.FieldType.int)) d := hI 110 (yX4_firstOf, (ws_ yX4_firstOf cX4_firstOf 3 (Option.some Jvm.ClassFile.FieldType.int))) rfl
theorem w4_X4_firstOf : Cond.code yX4_firstOf cX4_firstOf 3 (Option.some Jvm.ClassFile.FieldType.int) ∈ lw_all := q3247
theorem w6_X4_firstOf : Cond.initialized yX4_firstOf.cls ∈ lw_all := q160
theorem hy_X4_firstOf : yX4_firstOf.cls ≠ "java/lang/invoke/MethodHandle" ∧ yX4_firstOf.cls ≠ "java/lang/invoke/VarHandle" := by decide +kernel
theorem hl_X4_firstOf : (parseMethodDescriptor yX4_firstOf.desc).map (fun q => q.parameters.length) = some 1 := by decide +kernel
theorem hp_X4_firstOf : plainFor yX4_firstOf = true := by decide +kernel
theorem i_X4_cellOf {l : Launch} {D : va_G} {dA : Nat → ClassId} {lo : Nat} {cs0 : Nat → Option Nat} {d : Nat} (hI : jIH l D dA lo cs0 d) : jMe l D dA lo cs0 (EV d) 111 yX4_cellOf (ws_ yX4_cellOf cX4_cellOf 2 (Option.some Jvm.ClassFile.FieldType.int)) d := hI 111 (yX4_cellOf, (ws_ yX4_cellOf cX4_cellOf 2 (Option.some Jvm.ClassFile.FieldType.int))) rfl
theorem w4_X4_cellOf : Cond.code yX4_cellOf cX4_cellOf 2 (Option.some Jvm.ClassFile.FieldType.int) ∈ lw_all := q3183
theorem w6_X4_cellOf : Cond.initialized yX4_cellOf.cls ∈ lw_all := q160
theorem hy_X4_cellOf : yX4_cellOf.cls ≠ "java/lang/invoke/MethodHandle" ∧ yX4_cellOf.cls ≠ "java/lang/invoke/VarHandle" := by decide +kernel
theorem hl_X4_cellOf : (parseMethodDescriptor yX4_cellOf.desc).map (fun q => q.parameters.length) = some 2 := by decide +kernel
theorem hp_X4_cellOf : plainFor yX4_cellOf = true := by decide +kernel
theorem i_X4_targetsOf {l : Launch} {D : va_G} {dA : Nat → ClassId} {lo : Nat} {cs0 : Nat → Option Nat} {d : Nat} (hI : jIH l D dA lo cs0 d) : jMe l D dA lo cs0 (EV d) 112 yX4_targetsOf (ws_ yX4_targetsOf cX4_targetsOf 5 (Option.some Jvm.ClassFile.FieldType.long)) d := hI 112 (yX4_targetsOf, (ws_ yX4_targetsOf cX4_targetsOf 5 (Option.some Jvm.ClassFile.FieldType.long))) rfl
theorem w4_X4_targetsOf : Cond.code yX4_targetsOf cX4_targetsOf 5 (Option.some Jvm.ClassFile.FieldType.long) ∈ lw_all := q3266
theorem w6_X4_targetsOf : Cond.initialized yX4_targetsOf.cls ∈ lw_all := q160
theorem hy_X4_targetsOf : yX4_targetsOf.cls ≠ "java/lang/invoke/MethodHandle" ∧ yX4_targetsOf.cls ≠ "java/lang/invoke/VarHandle" := by decide +kernel
theorem hl_X4_targetsOf : (parseMethodDescriptor yX4_targetsOf.desc).map (fun q => q.parameters.length) = some 1 := by decide +kernel
theorem hp_X4_targetsOf : plainFor yX4_targetsOf = true := by decide +kernel
theorem i_X1_fieldPointsTo {l : Launch} {D : va_G} {dA : Nat → ClassId} {lo : Nat} {cs0 : Nat → Option Nat} {d : Nat} (hI : jIH l D dA lo cs0 d) : jMe l D dA lo cs0 (EV d) 113 yX1_fieldPointsTo (ws_ yX1_fieldPointsTo cX1_fieldPointsTo 3 (Option.some Jvm.ClassFile.FieldType.long)) d := hI 113 (yX1_fieldPointsTo, (ws_ yX1_fieldPointsTo cX1_fieldPointsTo 3 (Option.some Jvm.ClassFile.FieldType.long))) rfl
theorem w4_X1_fieldPointsTo : Cond.code yX1_fieldPointsTo cX1_fieldPointsTo 3 (Option.some Jvm.ClassFile.FieldType.long) ∈ lw_all := q2739
theorem w6_X1_fieldPointsTo : Cond.initialized yX1_fieldPointsTo.cls ∈ lw_all := q123
theorem hy_X1_fieldPointsTo : yX1_fieldPointsTo.cls ≠ "java/lang/invoke/MethodHandle" ∧ yX1_fieldPointsTo.cls ≠ "java/lang/invoke/VarHandle" := by decide +kernel
theorem hl_X1_fieldPointsTo : (parseMethodDescriptor yX1_fieldPointsTo.desc).map (fun q => q.parameters.length) = some 2 := by decide +kernel
theorem hp_X1_fieldPointsTo : plainFor yX1_fieldPointsTo = true := by decide +kernel
theorem i_X4_isField {l : Launch} {D : va_G} {dA : Nat → ClassId} {lo : Nat} {cs0 : Nat → Option Nat} {d : Nat} (hI : jIH l D dA lo cs0 d) : jMe l D dA lo cs0 (EV d) 114 yX4_isField (ws_ yX4_isField cX4_isField 3 (Option.some Jvm.ClassFile.FieldType.boolean)) d := hI 114 (yX4_isField, (ws_ yX4_isField cX4_isField 3 (Option.some Jvm.ClassFile.FieldType.boolean))) rfl
theorem w4_X4_isField : Cond.code yX4_isField cX4_isField 3 (Option.some Jvm.ClassFile.FieldType.boolean) ∈ lw_all := q3278
theorem w6_X4_isField : Cond.initialized yX4_isField.cls ∈ lw_all := q160
theorem hy_X4_isField : yX4_isField.cls ≠ "java/lang/invoke/MethodHandle" ∧ yX4_isField.cls ≠ "java/lang/invoke/VarHandle" := by decide +kernel
theorem hl_X4_isField : (parseMethodDescriptor yX4_isField.desc).map (fun q => q.parameters.length) = some 2 := by decide +kernel
theorem hp_X4_isField : plainFor yX4_isField = true := by decide +kernel
theorem i_X1_analyze {l : Launch} {D : va_G} {dA : Nat → ClassId} {lo : Nat} {cs0 : Nat → Option Nat} {d : Nat} (hI : jIH l D dA lo cs0 d) : jMe l D dA lo cs0 (EV d) 115 yX1_analyze (ws_ yX1_analyze cX1_analyze 1 (Option.some (Jvm.ClassFile.FieldType.object "PointerAnalyzer$Analysis"))) d := hI 115 (yX1_analyze, (ws_ yX1_analyze cX1_analyze 1 (Option.some (Jvm.ClassFile.FieldType.object "PointerAnalyzer$Analysis")))) rfl
theorem w4_X1_analyze : Cond.code yX1_analyze cX1_analyze 1 (Option.some (Jvm.ClassFile.FieldType.object "PointerAnalyzer$Analysis")) ∈ lw_all := q1296
theorem w6_X1_analyze : Cond.initialized yX1_analyze.cls ∈ lw_all := q123
theorem hy_X1_analyze : yX1_analyze.cls ≠ "java/lang/invoke/MethodHandle" ∧ yX1_analyze.cls ≠ "java/lang/invoke/VarHandle" := by decide +kernel
theorem hl_X1_analyze : (parseMethodDescriptor yX1_analyze.desc).map (fun q => q.parameters.length) = some 0 := by decide +kernel
theorem hp_X1_analyze : plainFor yX1_analyze = true := by decide +kernel
theorem i_X8_countFacts {l : Launch} {D : va_G} {dA : Nat → ClassId} {lo : Nat} {cs0 : Nat → Option Nat} {d : Nat} (hI : jIH l D dA lo cs0 d) : jMe l D dA lo cs0 (EV d) 116 yX8_countFacts (ws_ yX8_countFacts cX8_countFacts 3 (Option.some Jvm.ClassFile.FieldType.int)) d := hI 116 (yX8_countFacts, (ws_ yX8_countFacts cX8_countFacts 3 (Option.some Jvm.ClassFile.FieldType.int))) rfl
theorem w4_X8_countFacts : Cond.code yX8_countFacts cX8_countFacts 3 (Option.some Jvm.ClassFile.FieldType.int) ∈ lw_all := q2110
theorem w6_X8_countFacts : Cond.initialized yX8_countFacts.cls ∈ lw_all := q169
theorem hy_X8_countFacts : yX8_countFacts.cls ≠ "java/lang/invoke/MethodHandle" ∧ yX8_countFacts.cls ≠ "java/lang/invoke/VarHandle" := by decide +kernel
theorem hl_X8_countFacts : (parseMethodDescriptor yX8_countFacts.desc).map (fun q => q.parameters.length) = some 0 := by decide +kernel
theorem hp_X8_countFacts : plainFor yX8_countFacts = true := by decide +kernel
theorem i_X4_bits {l : Launch} {D : va_G} {dA : Nat → ClassId} {lo : Nat} {cs0 : Nat → Option Nat} {d : Nat} (hI : jIH l D dA lo cs0 d) : jMe l D dA lo cs0 (EV d) 117 yX4_bits (ws_ yX4_bits cX4_bits 4 (Option.some Jvm.ClassFile.FieldType.int)) d := hI 117 (yX4_bits, (ws_ yX4_bits cX4_bits 4 (Option.some Jvm.ClassFile.FieldType.int))) rfl
theorem w4_X4_bits : Cond.code yX4_bits cX4_bits 4 (Option.some Jvm.ClassFile.FieldType.int) ∈ lw_all := q3285
theorem w6_X4_bits : Cond.initialized yX4_bits.cls ∈ lw_all := q160
theorem hy_X4_bits : yX4_bits.cls ≠ "java/lang/invoke/MethodHandle" ∧ yX4_bits.cls ≠ "java/lang/invoke/VarHandle" := by decide +kernel
theorem hl_X4_bits : (parseMethodDescriptor yX4_bits.desc).map (fun q => q.parameters.length) = some 1 := by decide +kernel
theorem hp_X4_bits : plainFor yX4_bits = true := by decide +kernel
theorem i_X1_mayAlias {l : Launch} {D : va_G} {dA : Nat → ClassId} {lo : Nat} {cs0 : Nat → Option Nat} {d : Nat} (hI : jIH l D dA lo cs0 d) : jMe l D dA lo cs0 (EV d) 118 yX1_mayAlias (ws_ yX1_mayAlias cX1_mayAlias 3 (Option.some Jvm.ClassFile.FieldType.boolean)) d := hI 118 (yX1_mayAlias, (ws_ yX1_mayAlias cX1_mayAlias 3 (Option.some Jvm.ClassFile.FieldType.boolean))) rfl
theorem w4_X1_mayAlias : Cond.code yX1_mayAlias cX1_mayAlias 3 (Option.some Jvm.ClassFile.FieldType.boolean) ∈ lw_all := q2750
theorem w6_X1_mayAlias : Cond.initialized yX1_mayAlias.cls ∈ lw_all := q123
theorem hy_X1_mayAlias : yX1_mayAlias.cls ≠ "java/lang/invoke/MethodHandle" ∧ yX1_mayAlias.cls ≠ "java/lang/invoke/VarHandle" := by decide +kernel
theorem hl_X1_mayAlias : (parseMethodDescriptor yX1_mayAlias.desc).map (fun q => q.parameters.length) = some 2 := by decide +kernel
theorem hp_X1_mayAlias : plainFor yX1_mayAlias = true := by decide +kernel
theorem i_X4_refuses {l : Launch} {D : va_G} {dA : Nat → ClassId} {lo : Nat} {cs0 : Nat → Option Nat} {d : Nat} (hI : jIH l D dA lo cs0 d) : jMe l D dA lo cs0 (EV d) 119 yX4_refuses (ws_ yX4_refuses cX4_refuses 2 (Option.some Jvm.ClassFile.FieldType.boolean)) d := hI 119 (yX4_refuses, (ws_ yX4_refuses cX4_refuses 2 (Option.some Jvm.ClassFile.FieldType.boolean))) rfl
theorem w4_X4_refuses : Cond.code yX4_refuses cX4_refuses 2 (Option.some Jvm.ClassFile.FieldType.boolean) ∈ lw_all := q3293
theorem w6_X4_refuses : Cond.initialized yX4_refuses.cls ∈ lw_all := q160
theorem hy_X4_refuses : yX4_refuses.cls ≠ "java/lang/invoke/MethodHandle" ∧ yX4_refuses.cls ≠ "java/lang/invoke/VarHandle" := by decide +kernel
theorem hl_X4_refuses : (parseMethodDescriptor yX4_refuses.desc).map (fun q => q.parameters.length) = some 1 := by decide +kernel
theorem hp_X4_refuses : plainFor yX4_refuses = true := by decide +kernel
theorem i_X1_reach {l : Launch} {D : va_G} {dA : Nat → ClassId} {lo : Nat} {cs0 : Nat → Option Nat} {d : Nat} (hI : jIH l D dA lo cs0 d) : jMe l D dA lo cs0 (EV d) 120 yX1_reach (ws_ yX1_reach cX1_reach 2 (Option.some Jvm.ClassFile.FieldType.long)) d := hI 120 (yX1_reach, (ws_ yX1_reach cX1_reach 2 (Option.some Jvm.ClassFile.FieldType.long))) rfl
theorem w4_X1_reach : Cond.code yX1_reach cX1_reach 2 (Option.some Jvm.ClassFile.FieldType.long) ∈ lw_all := q2757
theorem w6_X1_reach : Cond.initialized yX1_reach.cls ∈ lw_all := q123
theorem hy_X1_reach : yX1_reach.cls ≠ "java/lang/invoke/MethodHandle" ∧ yX1_reach.cls ≠ "java/lang/invoke/VarHandle" := by decide +kernel
theorem hl_X1_reach : (parseMethodDescriptor yX1_reach.desc).map (fun q => q.parameters.length) = some 1 := by decide +kernel
theorem hp_X1_reach : plainFor yX1_reach = true := by decide +kernel
theorem i_X4_reached {l : Launch} {D : va_G} {dA : Nat → ClassId} {lo : Nat} {cs0 : Nat → Option Nat} {d : Nat} (hI : jIH l D dA lo cs0 d) : jMe l D dA lo cs0 (EV d) 121 yX4_reached (ws_ yX4_reached cX4_reached 7 (Option.some Jvm.ClassFile.FieldType.long)) d := hI 121 (yX4_reached, (ws_ yX4_reached cX4_reached 7 (Option.some Jvm.ClassFile.FieldType.long))) rfl
theorem w4_X4_reached : Cond.code yX4_reached cX4_reached 7 (Option.some Jvm.ClassFile.FieldType.long) ∈ lw_all := q3301
theorem w6_X4_reached : Cond.initialized yX4_reached.cls ∈ lw_all := q160
theorem hy_X4_reached : yX4_reached.cls ≠ "java/lang/invoke/MethodHandle" ∧ yX4_reached.cls ≠ "java/lang/invoke/VarHandle" := by decide +kernel
theorem hl_X4_reached : (parseMethodDescriptor yX4_reached.desc).map (fun q => q.parameters.length) = some 1 := by decide +kernel
theorem hp_X4_reached : plainFor yX4_reached = true := by decide +kernel
theorem i_X1_reachFrom {l : Launch} {D : va_G} {dA : Nat → ClassId} {lo : Nat} {cs0 : Nat → Option Nat} {d : Nat} (hI : jIH l D dA lo cs0 d) : jMe l D dA lo cs0 (EV d) 122 yX1_reachFrom (ws_ yX1_reachFrom cX1_reachFrom 7 (Option.some Jvm.ClassFile.FieldType.long)) d := hI 122 (yX1_reachFrom, (ws_ yX1_reachFrom cX1_reachFrom 7 (Option.some Jvm.ClassFile.FieldType.long))) rfl
theorem w4_X1_reachFrom : Cond.code yX1_reachFrom cX1_reachFrom 7 (Option.some Jvm.ClassFile.FieldType.long) ∈ lw_all := q2119
theorem w6_X1_reachFrom : Cond.initialized yX1_reachFrom.cls ∈ lw_all := q123
theorem hy_X1_reachFrom : yX1_reachFrom.cls ≠ "java/lang/invoke/MethodHandle" ∧ yX1_reachFrom.cls ≠ "java/lang/invoke/VarHandle" := by decide +kernel
theorem hl_X1_reachFrom : (parseMethodDescriptor yX1_reachFrom.desc).map (fun q => q.parameters.length) = some 1 := by decide +kernel
theorem hp_X1_reachFrom : plainFor yX1_reachFrom = true := by decide +kernel
theorem i_X1_fieldCode {l : Launch} {D : va_G} {dA : Nat → ClassId} {lo : Nat} {cs0 : Nat → Option Nat} {d : Nat} (hI : jIH l D dA lo cs0 d) : jMe l D dA lo cs0 (EV d) 123 yX1_fieldCode (ws_ yX1_fieldCode cX1_fieldCode 2 (Option.some Jvm.ClassFile.FieldType.int)) d := hI 123 (yX1_fieldCode, (ws_ yX1_fieldCode cX1_fieldCode 2 (Option.some Jvm.ClassFile.FieldType.int))) rfl
theorem w4_X1_fieldCode : Cond.code yX1_fieldCode cX1_fieldCode 2 (Option.some Jvm.ClassFile.FieldType.int) ∈ lw_all := q2132
theorem w6_X1_fieldCode : Cond.initialized yX1_fieldCode.cls ∈ lw_all := q123
theorem hy_X1_fieldCode : yX1_fieldCode.cls ≠ "java/lang/invoke/MethodHandle" ∧ yX1_fieldCode.cls ≠ "java/lang/invoke/VarHandle" := by decide +kernel
theorem hl_X1_fieldCode : (parseMethodDescriptor yX1_fieldCode.desc).map (fun q => q.parameters.length) = some 2 := by decide +kernel
theorem hp_X1_fieldCode : plainFor yX1_fieldCode = true := by decide +kernel
theorem i_X1_rank {l : Launch} {D : va_G} {dA : Nat → ClassId} {lo : Nat} {cs0 : Nat → Option Nat} {d : Nat} (hI : jIH l D dA lo cs0 d) : jMe l D dA lo cs0 (EV d) 124 yX1_rank (ws_ yX1_rank cX1_rank 3 (Option.some Jvm.ClassFile.FieldType.int)) d := hI 124 (yX1_rank, (ws_ yX1_rank cX1_rank 3 (Option.some Jvm.ClassFile.FieldType.int))) rfl
theorem w4_X1_rank : Cond.code yX1_rank cX1_rank 3 (Option.some Jvm.ClassFile.FieldType.int) ∈ lw_all := q2765
theorem w6_X1_rank : Cond.initialized yX1_rank.cls ∈ lw_all := q123
theorem hy_X1_rank : yX1_rank.cls ≠ "java/lang/invoke/MethodHandle" ∧ yX1_rank.cls ≠ "java/lang/invoke/VarHandle" := by decide +kernel
theorem hl_X1_rank : (parseMethodDescriptor yX1_rank.desc).map (fun q => q.parameters.length) = some 2 := by decide +kernel
theorem hp_X1_rank : plainFor yX1_rank = true := by decide +kernel
theorem i_X4_factAt {l : Launch} {D : va_G} {dA : Nat → ClassId} {lo : Nat} {cs0 : Nat → Option Nat} {d : Nat} (hI : jIH l D dA lo cs0 d) : jMe l D dA lo cs0 (EV d) 125 yX4_factAt (ws_ yX4_factAt cX4_factAt 3 (Option.some Jvm.ClassFile.FieldType.int)) d := hI 125 (yX4_factAt, (ws_ yX4_factAt cX4_factAt 3 (Option.some Jvm.ClassFile.FieldType.int))) rfl
theorem w4_X4_factAt : Cond.code yX4_factAt cX4_factAt 3 (Option.some Jvm.ClassFile.FieldType.int) ∈ lw_all := q3314
theorem w6_X4_factAt : Cond.initialized yX4_factAt.cls ∈ lw_all := q160
theorem hy_X4_factAt : yX4_factAt.cls ≠ "java/lang/invoke/MethodHandle" ∧ yX4_factAt.cls ≠ "java/lang/invoke/VarHandle" := by decide +kernel
theorem hl_X4_factAt : (parseMethodDescriptor yX4_factAt.desc).map (fun q => q.parameters.length) = some 2 := by decide +kernel
theorem hp_X4_factAt : plainFor yX4_factAt = true := by decide +kernel
theorem i_X1_reason {l : Launch} {D : va_G} {dA : Nat → ClassId} {lo : Nat} {cs0 : Nat → Option Nat} {d : Nat} (hI : jIH l D dA lo cs0 d) : jMe l D dA lo cs0 (EV d) 126 yX1_reason (ws_ yX1_reason cX1_reason 3 (Option.some Jvm.ClassFile.FieldType.int)) d := hI 126 (yX1_reason, (ws_ yX1_reason cX1_reason 3 (Option.some Jvm.ClassFile.FieldType.int))) rfl
theorem w4_X1_reason : Cond.code yX1_reason cX1_reason 3 (Option.some Jvm.ClassFile.FieldType.int) ∈ lw_all := q2778
theorem w6_X1_reason : Cond.initialized yX1_reason.cls ∈ lw_all := q123
theorem hy_X1_reason : yX1_reason.cls ≠ "java/lang/invoke/MethodHandle" ∧ yX1_reason.cls ≠ "java/lang/invoke/VarHandle" := by decide +kernel
theorem hl_X1_reason : (parseMethodDescriptor yX1_reason.desc).map (fun q => q.parameters.length) = some 2 := by decide +kernel
theorem hp_X1_reason : plainFor yX1_reason = true := by decide +kernel
theorem i_X1_findRanks {l : Launch} {D : va_G} {dA : Nat → ClassId} {lo : Nat} {cs0 : Nat → Option Nat} {d : Nat} (hI : jIH l D dA lo cs0 d) : jMe l D dA lo cs0 (EV d) 127 yX1_findRanks (ws_ yX1_findRanks cX1_findRanks 2 (Option.some (Jvm.ClassFile.FieldType.object "PointerAnalyzer$Ranks"))) d := hI 127 (yX1_findRanks, (ws_ yX1_findRanks cX1_findRanks 2 (Option.some (Jvm.ClassFile.FieldType.object "PointerAnalyzer$Ranks")))) rfl
theorem w4_X1_findRanks : Cond.code yX1_findRanks cX1_findRanks 2 (Option.some (Jvm.ClassFile.FieldType.object "PointerAnalyzer$Ranks")) ∈ lw_all := q2141
theorem w6_X1_findRanks : Cond.initialized yX1_findRanks.cls ∈ lw_all := q123
theorem hy_X1_findRanks : yX1_findRanks.cls ≠ "java/lang/invoke/MethodHandle" ∧ yX1_findRanks.cls ≠ "java/lang/invoke/VarHandle" := by decide +kernel
theorem hl_X1_findRanks : (parseMethodDescriptor yX1_findRanks.desc).map (fun q => q.parameters.length) = some 0 := by decide +kernel
theorem hp_X1_findRanks : plainFor yX1_findRanks = true := by decide +kernel
theorem i_X1_unifiedTargets {l : Launch} {D : va_G} {dA : Nat → ClassId} {lo : Nat} {cs0 : Nat → Option Nat} {d : Nat} (hI : jIH l D dA lo cs0 d) : jMe l D dA lo cs0 (EV d) 128 yX1_unifiedTargets (ws_ yX1_unifiedTargets cX1_unifiedTargets 2 (Option.some Jvm.ClassFile.FieldType.long)) d := hI 128 (yX1_unifiedTargets, (ws_ yX1_unifiedTargets cX1_unifiedTargets 2 (Option.some Jvm.ClassFile.FieldType.long))) rfl
theorem w4_X1_unifiedTargets : Cond.code yX1_unifiedTargets cX1_unifiedTargets 2 (Option.some Jvm.ClassFile.FieldType.long) ∈ lw_all := q2785
theorem w6_X1_unifiedTargets : Cond.initialized yX1_unifiedTargets.cls ∈ lw_all := q123
theorem hy_X1_unifiedTargets : yX1_unifiedTargets.cls ≠ "java/lang/invoke/MethodHandle" ∧ yX1_unifiedTargets.cls ≠ "java/lang/invoke/VarHandle" := by decide +kernel
theorem hl_X1_unifiedTargets : (parseMethodDescriptor yX1_unifiedTargets.desc).map (fun q => q.parameters.length) = some 1 := by decide +kernel
theorem hp_X1_unifiedTargets : plainFor yX1_unifiedTargets = true := by decide +kernel
theorem i_X4_unified {l : Launch} {D : va_G} {dA : Nat → ClassId} {lo : Nat} {cs0 : Nat → Option Nat} {d : Nat} (hI : jIH l D dA lo cs0 d) : jMe l D dA lo cs0 (EV d) 129 yX4_unified (ws_ yX4_unified cX4_unified 6 (Option.some Jvm.ClassFile.FieldType.long)) d := hI 129 (yX4_unified, (ws_ yX4_unified cX4_unified 6 (Option.some Jvm.ClassFile.FieldType.long))) rfl
theorem w4_X4_unified : Cond.code yX4_unified cX4_unified 6 (Option.some Jvm.ClassFile.FieldType.long) ∈ lw_all := q3334
theorem w6_X4_unified : Cond.initialized yX4_unified.cls ∈ lw_all := q160
theorem hy_X4_unified : yX4_unified.cls ≠ "java/lang/invoke/MethodHandle" ∧ yX4_unified.cls ≠ "java/lang/invoke/VarHandle" := by decide +kernel
theorem hl_X4_unified : (parseMethodDescriptor yX4_unified.desc).map (fun q => q.parameters.length) = some 1 := by decide +kernel
theorem hp_X4_unified : plainFor yX4_unified = true := by decide +kernel
theorem i_X1_areUnified {l : Launch} {D : va_G} {dA : Nat → ClassId} {lo : Nat} {cs0 : Nat → Option Nat} {d : Nat} (hI : jIH l D dA lo cs0 d) : jMe l D dA lo cs0 (EV d) 130 yX1_areUnified (ws_ yX1_areUnified cX1_areUnified 4 (Option.some Jvm.ClassFile.FieldType.boolean)) d := hI 130 (yX1_areUnified, (ws_ yX1_areUnified cX1_areUnified 4 (Option.some Jvm.ClassFile.FieldType.boolean))) rfl
theorem w4_X1_areUnified : Cond.code yX1_areUnified cX1_areUnified 4 (Option.some Jvm.ClassFile.FieldType.boolean) ∈ lw_all := q2798
theorem w6_X1_areUnified : Cond.initialized yX1_areUnified.cls ∈ lw_all := q123
theorem hy_X1_areUnified : yX1_areUnified.cls ≠ "java/lang/invoke/MethodHandle" ∧ yX1_areUnified.cls ≠ "java/lang/invoke/VarHandle" := by decide +kernel
theorem hl_X1_areUnified : (parseMethodDescriptor yX1_areUnified.desc).map (fun q => q.parameters.length) = some 2 := by decide +kernel
theorem hp_X1_areUnified : plainFor yX1_areUnified = true := by decide +kernel
theorem i_X4_rootOf {l : Launch} {D : va_G} {dA : Nat → ClassId} {lo : Nat} {cs0 : Nat → Option Nat} {d : Nat} (hI : jIH l D dA lo cs0 d) : jMe l D dA lo cs0 (EV d) 131 yX4_rootOf (ws_ yX4_rootOf cX4_rootOf 3 (Option.some Jvm.ClassFile.FieldType.int)) d := hI 131 (yX4_rootOf, (ws_ yX4_rootOf cX4_rootOf 3 (Option.some Jvm.ClassFile.FieldType.int))) rfl
theorem w4_X4_rootOf : Cond.code yX4_rootOf cX4_rootOf 3 (Option.some Jvm.ClassFile.FieldType.int) ∈ lw_all := q3223
theorem w6_X4_rootOf : Cond.initialized yX4_rootOf.cls ∈ lw_all := q160
theorem hy_X4_rootOf : yX4_rootOf.cls ≠ "java/lang/invoke/MethodHandle" ∧ yX4_rootOf.cls ≠ "java/lang/invoke/VarHandle" := by decide +kernel
theorem hl_X4_rootOf : (parseMethodDescriptor yX4_rootOf.desc).map (fun q => q.parameters.length) = some 1 := by decide +kernel
theorem hp_X4_rootOf : plainFor yX4_rootOf = true := by decide +kernel
theorem i_X15_init {l : Launch} {D : va_G} {dA : Nat → ClassId} {lo : Nat} {cs0 : Nat → Option Nat} {d : Nat} (hI : jIH l D dA lo cs0 d) : jMe l D dA lo cs0 (EV d) 132 yX15_init (ws_ yX15_init cX15_init 3 (Option.none : Option Jvm.ClassFile.FieldType)) d := hI 132 (yX15_init, (ws_ yX15_init cX15_init 3 (Option.none : Option Jvm.ClassFile.FieldType))) rfl
theorem w4_X15_init : Cond.code yX15_init cX15_init 3 (Option.none : Option Jvm.ClassFile.FieldType) ∈ lw_all := q2208
theorem w6_X15_init : Cond.initialized yX15_init.cls ∈ lw_all := q184
theorem hy_X15_init : yX15_init.cls ≠ "java/lang/invoke/MethodHandle" ∧ yX15_init.cls ≠ "java/lang/invoke/VarHandle" := by decide +kernel
theorem hl_X15_init : (parseMethodDescriptor yX15_init.desc).map (fun q => q.parameters.length) = some 1 := by decide +kernel
theorem hp_X15_init : plainFor yX15_init = true := by decide +kernel
theorem i_X15_countClasses {l : Launch} {D : va_G} {dA : Nat → ClassId} {lo : Nat} {cs0 : Nat → Option Nat} {d : Nat} (hI : jIH l D dA lo cs0 d) : jMe l D dA lo cs0 (EV d) 133 yX15_countClasses (ws_ yX15_countClasses cX15_countClasses 5 (Option.some Jvm.ClassFile.FieldType.int)) d := hI 133 (yX15_countClasses, (ws_ yX15_countClasses cX15_countClasses 5 (Option.some Jvm.ClassFile.FieldType.int))) rfl
theorem w4_X15_countClasses : Cond.code yX15_countClasses cX15_countClasses 5 (Option.some Jvm.ClassFile.FieldType.int) ∈ lw_all := q2258
theorem w6_X15_countClasses : Cond.initialized yX15_countClasses.cls ∈ lw_all := q184
theorem hy_X15_countClasses : yX15_countClasses.cls ≠ "java/lang/invoke/MethodHandle" ∧ yX15_countClasses.cls ≠ "java/lang/invoke/VarHandle" := by decide +kernel
theorem hl_X15_countClasses : (parseMethodDescriptor yX15_countClasses.desc).map (fun q => q.parameters.length) = some 0 := by decide +kernel
theorem hp_X15_countClasses : plainFor yX15_countClasses = true := by decide +kernel
theorem i_X1_modifies {l : Launch} {D : va_G} {dA : Nat → ClassId} {lo : Nat} {cs0 : Nat → Option Nat} {d : Nat} (hI : jIH l D dA lo cs0 d) : jMe l D dA lo cs0 (EV d) 134 yX1_modifies (ws_ yX1_modifies cX1_modifies 8 (Option.some Jvm.ClassFile.FieldType.long)) d := hI 134 (yX1_modifies, (ws_ yX1_modifies cX1_modifies 8 (Option.some Jvm.ClassFile.FieldType.long))) rfl
theorem w4_X1_modifies : Cond.code yX1_modifies cX1_modifies 8 (Option.some Jvm.ClassFile.FieldType.long) ∈ lw_all := q2806
theorem w6_X1_modifies : Cond.initialized yX1_modifies.cls ∈ lw_all := q123
theorem hy_X1_modifies : yX1_modifies.cls ≠ "java/lang/invoke/MethodHandle" ∧ yX1_modifies.cls ≠ "java/lang/invoke/VarHandle" := by decide +kernel
theorem hl_X1_modifies : (parseMethodDescriptor yX1_modifies.desc).map (fun q => q.parameters.length) = some 1 := by decide +kernel
theorem hp_X1_modifies : plainFor yX1_modifies = true := by decide +kernel
theorem i_X4_called {l : Launch} {D : va_G} {dA : Nat → ClassId} {lo : Nat} {cs0 : Nat → Option Nat} {d : Nat} (hI : jIH l D dA lo cs0 d) : jMe l D dA lo cs0 (EV d) 135 yX4_called (ws_ yX4_called cX4_called 6 (Option.some Jvm.ClassFile.FieldType.int)) d := hI 135 (yX4_called, (ws_ yX4_called cX4_called 6 (Option.some Jvm.ClassFile.FieldType.int))) rfl
theorem w4_X4_called : Cond.code yX4_called cX4_called 6 (Option.some Jvm.ClassFile.FieldType.int) ∈ lw_all := q3350
theorem w6_X4_called : Cond.initialized yX4_called.cls ∈ lw_all := q160
theorem hy_X4_called : yX4_called.cls ≠ "java/lang/invoke/MethodHandle" ∧ yX4_called.cls ≠ "java/lang/invoke/VarHandle" := by decide +kernel
theorem hl_X4_called : (parseMethodDescriptor yX4_called.desc).map (fun q => q.parameters.length) = some 1 := by decide +kernel
theorem hp_X4_called : plainFor yX4_called = true := by decide +kernel
theorem i_X1_isReachable {l : Launch} {D : va_G} {dA : Nat → ClassId} {lo : Nat} {cs0 : Nat → Option Nat} {d : Nat} (hI : jIH l D dA lo cs0 d) : jMe l D dA lo cs0 (EV d) 136 yX1_isReachable (ws_ yX1_isReachable cX1_isReachable 2 (Option.some Jvm.ClassFile.FieldType.boolean)) d := hI 136 (yX1_isReachable, (ws_ yX1_isReachable cX1_isReachable 2 (Option.some Jvm.ClassFile.FieldType.boolean))) rfl
theorem w4_X1_isReachable : Cond.code yX1_isReachable cX1_isReachable 2 (Option.some Jvm.ClassFile.FieldType.boolean) ∈ lw_all := q2815
theorem w6_X1_isReachable : Cond.initialized yX1_isReachable.cls ∈ lw_all := q123
theorem hy_X1_isReachable : yX1_isReachable.cls ≠ "java/lang/invoke/MethodHandle" ∧ yX1_isReachable.cls ≠ "java/lang/invoke/VarHandle" := by decide +kernel
theorem hl_X1_isReachable : (parseMethodDescriptor yX1_isReachable.desc).map (fun q => q.parameters.length) = some 1 := by decide +kernel
theorem hp_X1_isReachable : plainFor yX1_isReachable = true := by decide +kernel
theorem i_X1_isRecursive {l : Launch} {D : va_G} {dA : Nat → ClassId} {lo : Nat} {cs0 : Nat → Option Nat} {d : Nat} (hI : jIH l D dA lo cs0 d) : jMe l D dA lo cs0 (EV d) 137 yX1_isRecursive (ws_ yX1_isRecursive cX1_isRecursive 2 (Option.some Jvm.ClassFile.FieldType.boolean)) d := hI 137 (yX1_isRecursive, (ws_ yX1_isRecursive cX1_isRecursive 2 (Option.some Jvm.ClassFile.FieldType.boolean))) rfl
theorem w4_X1_isRecursive : Cond.code yX1_isRecursive cX1_isRecursive 2 (Option.some Jvm.ClassFile.FieldType.boolean) ∈ lw_all := q2822
theorem w6_X1_isRecursive : Cond.initialized yX1_isRecursive.cls ∈ lw_all := q123
theorem hy_X1_isRecursive : yX1_isRecursive.cls ≠ "java/lang/invoke/MethodHandle" ∧ yX1_isRecursive.cls ≠ "java/lang/invoke/VarHandle" := by decide +kernel
theorem hl_X1_isRecursive : (parseMethodDescriptor yX1_isRecursive.desc).map (fun q => q.parameters.length) = some 1 := by decide +kernel
theorem hp_X1_isRecursive : plainFor yX1_isRecursive = true := by decide +kernel
theorem i_X1_cycleOf {l : Launch} {D : va_G} {dA : Nat → ClassId} {lo : Nat} {cs0 : Nat → Option Nat} {d : Nat} (hI : jIH l D dA lo cs0 d) : jMe l D dA lo cs0 (EV d) 138 yX1_cycleOf (ws_ yX1_cycleOf cX1_cycleOf 6 (Option.some Jvm.ClassFile.FieldType.int)) d := hI 138 (yX1_cycleOf, (ws_ yX1_cycleOf cX1_cycleOf 6 (Option.some Jvm.ClassFile.FieldType.int))) rfl
theorem w4_X1_cycleOf : Cond.code yX1_cycleOf cX1_cycleOf 6 (Option.some Jvm.ClassFile.FieldType.int) ∈ lw_all := q2829
theorem w6_X1_cycleOf : Cond.initialized yX1_cycleOf.cls ∈ lw_all := q123
theorem hy_X1_cycleOf : yX1_cycleOf.cls ≠ "java/lang/invoke/MethodHandle" ∧ yX1_cycleOf.cls ≠ "java/lang/invoke/VarHandle" := by decide +kernel
theorem hl_X1_cycleOf : (parseMethodDescriptor yX1_cycleOf.desc).map (fun q => q.parameters.length) = some 1 := by decide +kernel
theorem hp_X1_cycleOf : plainFor yX1_cycleOf = true := by decide +kernel
theorem i_X4_led {l : Launch} {D : va_G} {dA : Nat → ClassId} {lo : Nat} {cs0 : Nat → Option Nat} {d : Nat} (hI : jIH l D dA lo cs0 d) : jMe l D dA lo cs0 (EV d) 139 yX4_led (ws_ yX4_led cX4_led 8 (Option.some Jvm.ClassFile.FieldType.int)) d := hI 139 (yX4_led, (ws_ yX4_led cX4_led 8 (Option.some Jvm.ClassFile.FieldType.int))) rfl
theorem w4_X4_led : Cond.code yX4_led cX4_led 8 (Option.some Jvm.ClassFile.FieldType.int) ∈ lw_all := q3366
theorem w6_X4_led : Cond.initialized yX4_led.cls ∈ lw_all := q160
theorem hy_X4_led : yX4_led.cls ≠ "java/lang/invoke/MethodHandle" ∧ yX4_led.cls ≠ "java/lang/invoke/VarHandle" := by decide +kernel
theorem hl_X4_led : (parseMethodDescriptor yX4_led.desc).map (fun q => q.parameters.length) = some 2 := by decide +kernel
theorem hp_X4_led : plainFor yX4_led = true := by decide +kernel
theorem i_X17_init {l : Launch} {D : va_G} {dA : Nat → ClassId} {lo : Nat} {cs0 : Nat → Option Nat} {d : Nat} (hI : jIH l D dA lo cs0 d) : jMe l D dA lo cs0 (EV d) 140 yX17_init (wsW_ yX17_init cX17_init 3 (Option.none : Option Jvm.ClassFile.FieldType) [((53 : Nat), (60 : Nat), (63 : Nat), (32 : Nat))]) d := hI 140 (yX17_init, (wsW_ yX17_init cX17_init 3 (Option.none : Option Jvm.ClassFile.FieldType) [((53 : Nat), (60 : Nat), (63 : Nat), (32 : Nat))])) rfl
theorem w4_X17_init : Cond.codeWith yX17_init cX17_init 3 (Option.none : Option Jvm.ClassFile.FieldType) [((53 : Nat), (60 : Nat), (63 : Nat), (32 : Nat))] ∈ lw_all := q2267
theorem w6_X17_init : Cond.initialized yX17_init.cls ∈ lw_all := q186
theorem hy_X17_init : yX17_init.cls ≠ "java/lang/invoke/MethodHandle" ∧ yX17_init.cls ≠ "java/lang/invoke/VarHandle" := by decide +kernel
theorem hl_X17_init : (parseMethodDescriptor yX17_init.desc).map (fun q => q.parameters.length) = some 1 := by decide +kernel
theorem hp_X17_init : plainFor yX17_init = true := by decide +kernel
theorem i_X4_opens {l : Launch} {D : va_G} {dA : Nat → ClassId} {lo : Nat} {cs0 : Nat → Option Nat} {d : Nat} (hI : jIH l D dA lo cs0 d) : jMe l D dA lo cs0 (EV d) 141 yX4_opens (ws_ yX4_opens cX4_opens 3 (Option.none : Option Jvm.ClassFile.FieldType)) d := hI 141 (yX4_opens, (ws_ yX4_opens cX4_opens 3 (Option.none : Option Jvm.ClassFile.FieldType))) rfl
theorem w4_X4_opens : Cond.code yX4_opens cX4_opens 3 (Option.none : Option Jvm.ClassFile.FieldType) ∈ lw_all := q3377
theorem w6_X4_opens : Cond.initialized yX4_opens.cls ∈ lw_all := q160
theorem hy_X4_opens : yX4_opens.cls ≠ "java/lang/invoke/MethodHandle" ∧ yX4_opens.cls ≠ "java/lang/invoke/VarHandle" := by decide +kernel
theorem hl_X4_opens : (parseMethodDescriptor yX4_opens.desc).map (fun q => q.parameters.length) = some 1 := by decide +kernel
theorem hp_X4_opens : plainFor yX4_opens = true := by decide +kernel
theorem i_X4_closes {l : Launch} {D : va_G} {dA : Nat → ClassId} {lo : Nat} {cs0 : Nat → Option Nat} {d : Nat} (hI : jIH l D dA lo cs0 d) : jMe l D dA lo cs0 (EV d) 142 yX4_closes (ws_ yX4_closes cX4_closes 3 (Option.none : Option Jvm.ClassFile.FieldType)) d := hI 142 (yX4_closes, (ws_ yX4_closes cX4_closes 3 (Option.none : Option Jvm.ClassFile.FieldType))) rfl
theorem w4_X4_closes : Cond.code yX4_closes cX4_closes 3 (Option.none : Option Jvm.ClassFile.FieldType) ∈ lw_all := q3381
theorem w6_X4_closes : Cond.initialized yX4_closes.cls ∈ lw_all := q160
theorem hy_X4_closes : yX4_closes.cls ≠ "java/lang/invoke/MethodHandle" ∧ yX4_closes.cls ≠ "java/lang/invoke/VarHandle" := by decide +kernel
theorem hl_X4_closes : (parseMethodDescriptor yX4_closes.desc).map (fun q => q.parameters.length) = some 0 := by decide +kernel
theorem hp_X4_closes : plainFor yX4_closes = true := by decide +kernel
theorem i_X4_executes {l : Launch} {D : va_G} {dA : Nat → ClassId} {lo : Nat} {cs0 : Nat → Option Nat} {d : Nat} (hI : jIH l D dA lo cs0 d) : jMe l D dA lo cs0 (EV d) 143 yX4_executes (ws_ yX4_executes cX4_executes 4 (Option.none : Option Jvm.ClassFile.FieldType)) d := hI 143 (yX4_executes, (ws_ yX4_executes cX4_executes 4 (Option.none : Option Jvm.ClassFile.FieldType))) rfl
theorem w4_X4_executes : Cond.code yX4_executes cX4_executes 4 (Option.none : Option Jvm.ClassFile.FieldType) ∈ lw_all := q3393
theorem w6_X4_executes : Cond.initialized yX4_executes.cls ∈ lw_all := q160
theorem hy_X4_executes : yX4_executes.cls ≠ "java/lang/invoke/MethodHandle" ∧ yX4_executes.cls ≠ "java/lang/invoke/VarHandle" := by decide +kernel
theorem hl_X4_executes : (parseMethodDescriptor yX4_executes.desc).map (fun q => q.parameters.length) = some 1 := by decide +kernel
theorem hp_X4_executes : plainFor yX4_executes = true := by decide +kernel
theorem i_X1_observed {l : Launch} {D : va_G} {dA : Nat → ClassId} {lo : Nat} {cs0 : Nat → Option Nat} {d : Nat} (hI : jIH l D dA lo cs0 d) : jMe l D dA lo cs0 (EV d) 144 yX1_observed (ws_ yX1_observed cX1_observed 2 (Option.some Jvm.ClassFile.FieldType.long)) d := hI 144 (yX1_observed, (ws_ yX1_observed cX1_observed 2 (Option.some Jvm.ClassFile.FieldType.long))) rfl
theorem w4_X1_observed : Cond.code yX1_observed cX1_observed 2 (Option.some Jvm.ClassFile.FieldType.long) ∈ lw_all := q2842
theorem w6_X1_observed : Cond.initialized yX1_observed.cls ∈ lw_all := q123
theorem hy_X1_observed : yX1_observed.cls ≠ "java/lang/invoke/MethodHandle" ∧ yX1_observed.cls ≠ "java/lang/invoke/VarHandle" := by decide +kernel
theorem hl_X1_observed : (parseMethodDescriptor yX1_observed.desc).map (fun q => q.parameters.length) = some 1 := by decide +kernel
theorem hp_X1_observed : plainFor yX1_observed = true := by decide +kernel
theorem i_X1_fieldObserved {l : Launch} {D : va_G} {dA : Nat → ClassId} {lo : Nat} {cs0 : Nat → Option Nat} {d : Nat} (hI : jIH l D dA lo cs0 d) : jMe l D dA lo cs0 (EV d) 145 yX1_fieldObserved (ws_ yX1_fieldObserved cX1_fieldObserved 4 (Option.some Jvm.ClassFile.FieldType.long)) d := hI 145 (yX1_fieldObserved, (ws_ yX1_fieldObserved cX1_fieldObserved 4 (Option.some Jvm.ClassFile.FieldType.long))) rfl
theorem w4_X1_fieldObserved : Cond.code yX1_fieldObserved cX1_fieldObserved 4 (Option.some Jvm.ClassFile.FieldType.long) ∈ lw_all := q2849
theorem w6_X1_fieldObserved : Cond.initialized yX1_fieldObserved.cls ∈ lw_all := q123
theorem hy_X1_fieldObserved : yX1_fieldObserved.cls ≠ "java/lang/invoke/MethodHandle" ∧ yX1_fieldObserved.cls ≠ "java/lang/invoke/VarHandle" := by decide +kernel
theorem hl_X1_fieldObserved : (parseMethodDescriptor yX1_fieldObserved.desc).map (fun q => q.parameters.length) = some 2 := by decide +kernel
theorem hp_X1_fieldObserved : plainFor yX1_fieldObserved = true := by decide +kernel
theorem i_X1_precision {l : Launch} {D : va_G} {dA : Nat → ClassId} {lo : Nat} {cs0 : Nat → Option Nat} {d : Nat} (hI : jIH l D dA lo cs0 d) : jMe l D dA lo cs0 (EV d) 146 yX1_precision (ws_ yX1_precision cX1_precision 5 (Option.some Jvm.ClassFile.FieldType.double)) d := hI 146 (yX1_precision, (ws_ yX1_precision cX1_precision 5 (Option.some Jvm.ClassFile.FieldType.double))) rfl
theorem w4_X1_precision : Cond.code yX1_precision cX1_precision 5 (Option.some Jvm.ClassFile.FieldType.double) ∈ lw_all := q2870
theorem w6_X1_precision : Cond.initialized yX1_precision.cls ∈ lw_all := q123
theorem hy_X1_precision : yX1_precision.cls ≠ "java/lang/invoke/MethodHandle" ∧ yX1_precision.cls ≠ "java/lang/invoke/VarHandle" := by decide +kernel
theorem hl_X1_precision : (parseMethodDescriptor yX1_precision.desc).map (fun q => q.parameters.length) = some 0 := by decide +kernel
theorem hp_X1_precision : plainFor yX1_precision = true := by decide +kernel
theorem i_X1_averageTargets {l : Launch} {D : va_G} {dA : Nat → ClassId} {lo : Nat} {cs0 : Nat → Option Nat} {d : Nat} (hI : jIH l D dA lo cs0 d) : jMe l D dA lo cs0 (EV d) 147 yX1_averageTargets (ws_ yX1_averageTargets cX1_averageTargets 5 (Option.some Jvm.ClassFile.FieldType.float)) d := hI 147 (yX1_averageTargets, (ws_ yX1_averageTargets cX1_averageTargets 5 (Option.some Jvm.ClassFile.FieldType.float))) rfl
theorem w4_X1_averageTargets : Cond.code yX1_averageTargets cX1_averageTargets 5 (Option.some Jvm.ClassFile.FieldType.float) ∈ lw_all := q2883
theorem w6_X1_averageTargets : Cond.initialized yX1_averageTargets.cls ∈ lw_all := q123
theorem hy_X1_averageTargets : yX1_averageTargets.cls ≠ "java/lang/invoke/MethodHandle" ∧ yX1_averageTargets.cls ≠ "java/lang/invoke/VarHandle" := by decide +kernel
theorem hl_X1_averageTargets : (parseMethodDescriptor yX1_averageTargets.desc).map (fun q => q.parameters.length) = some 0 := by decide +kernel
theorem hp_X1_averageTargets : plainFor yX1_averageTargets = true := by decide +kernel
theorem i_X4_passState {l : Launch} {D : va_G} {dA : Nat → ClassId} {lo : Nat} {cs0 : Nat → Option Nat} {d : Nat} (hI : jIH l D dA lo cs0 d) : jMe l D dA lo cs0 (EV d) 148 yX4_passState (ws_ yX4_passState cX4_passState 3 (Option.none : Option Jvm.ClassFile.FieldType)) d := hI 148 (yX4_passState, (ws_ yX4_passState cX4_passState 3 (Option.none : Option Jvm.ClassFile.FieldType))) rfl
theorem w4_X4_passState : Cond.code yX4_passState cX4_passState 3 (Option.none : Option Jvm.ClassFile.FieldType) ∈ lw_all := q3433
theorem w6_X4_passState : Cond.initialized yX4_passState.cls ∈ lw_all := q160
theorem hy_X4_passState : yX4_passState.cls ≠ "java/lang/invoke/MethodHandle" ∧ yX4_passState.cls ≠ "java/lang/invoke/VarHandle" := by decide +kernel
theorem hl_X4_passState : (parseMethodDescriptor yX4_passState.desc).map (fun q => q.parameters.length) = some 1 := by decide +kernel
theorem hp_X4_passState : plainFor yX4_passState = true := by decide +kernel
theorem i_X1_restore {l : Launch} {D : va_G} {dA : Nat → ClassId} {lo : Nat} {cs0 : Nat → Option Nat} {d : Nat} (hI : jIH l D dA lo cs0 d) : jMe l D dA lo cs0 (EV d) 149 yX1_restore (ws_ yX1_restore cX1_restore 1 (Option.none : Option Jvm.ClassFile.FieldType)) d := hI 149 (yX1_restore, (ws_ yX1_restore cX1_restore 1 (Option.none : Option Jvm.ClassFile.FieldType))) rfl
theorem w4_X1_restore : Cond.code yX1_restore cX1_restore 1 (Option.none : Option Jvm.ClassFile.FieldType) ∈ lw_all := q2890
theorem w6_X1_restore : Cond.initialized yX1_restore.cls ∈ lw_all := q123
theorem hy_X1_restore : yX1_restore.cls ≠ "java/lang/invoke/MethodHandle" ∧ yX1_restore.cls ≠ "java/lang/invoke/VarHandle" := by decide +kernel
theorem hl_X1_restore : (parseMethodDescriptor yX1_restore.desc).map (fun q => q.parameters.length) = some 0 := by decide +kernel
theorem hp_X1_restore : plainFor yX1_restore = true := by decide +kernel
theorem i_J1_init {l : Launch} {D : va_G} {dA : Nat → ClassId} {lo : Nat} {cs0 : Nat → Option Nat} {d : Nat} (hI : jIH l D dA lo cs0 d) : jMe l D dA lo cs0 (EV d) 150 yJ1_init (ws_ yJ1_init cJ1_init 1 (Option.none : Option Jvm.ClassFile.FieldType)) d := hI 150 (yJ1_init, (ws_ yJ1_init cJ1_init 1 (Option.none : Option Jvm.ClassFile.FieldType))) rfl
theorem w4_J1_init : Cond.code yJ1_init cJ1_init 1 (Option.none : Option Jvm.ClassFile.FieldType) ∈ lw_all := q208
theorem w6_J1_init : Cond.initialized yJ1_init.cls ∈ lw_all := q126
theorem hy_J1_init : yJ1_init.cls ≠ "java/lang/invoke/MethodHandle" ∧ yJ1_init.cls ≠ "java/lang/invoke/VarHandle" := by decide +kernel
theorem hl_J1_init : (parseMethodDescriptor yJ1_init.desc).map (fun q => q.parameters.length) = some 0 := by decide +kernel
theorem hp_J1_init : plainFor yJ1_init = true := by decide +kernel
theorem i_J6_valueOf {l : Launch} {D : va_G} {dA : Nat → ClassId} {lo : Nat} {cs0 : Nat → Option Nat} {d : Nat} (hI : jIH l D dA lo cs0 d) : jMe l D dA lo cs0 (EV d) 151 yJ6_valueOf (ws_ yJ6_valueOf cJ6_valueOf 1 (Option.some (Jvm.ClassFile.FieldType.object "java/lang/Integer"))) d := hI 151 (yJ6_valueOf, (ws_ yJ6_valueOf cJ6_valueOf 1 (Option.some (Jvm.ClassFile.FieldType.object "java/lang/Integer")))) rfl
theorem w4_J6_valueOf : Cond.code yJ6_valueOf cJ6_valueOf 1 (Option.some (Jvm.ClassFile.FieldType.object "java/lang/Integer")) ∈ lw_all := q270
theorem w6_J6_valueOf : Cond.initialized yJ6_valueOf.cls ∈ lw_all := q131
theorem hy_J6_valueOf : yJ6_valueOf.cls ≠ "java/lang/invoke/MethodHandle" ∧ yJ6_valueOf.cls ≠ "java/lang/invoke/VarHandle" := by decide +kernel
theorem hl_J6_valueOf : (parseMethodDescriptor yJ6_valueOf.desc).map (fun q => q.parameters.length) = some 1 := by decide +kernel
theorem hp_J6_valueOf : plainFor yJ6_valueOf = true := by decide +kernel
theorem i_J1_put {l : Launch} {D : va_G} {dA : Nat → ClassId} {lo : Nat} {cs0 : Nat → Option Nat} {d : Nat} (hI : jIH l D dA lo cs0 d) : jMe l D dA lo cs0 (EV d) 152 yJ1_put (ws_ yJ1_put cJ1_put 3 (Option.some (Jvm.ClassFile.FieldType.object "java/lang/Object"))) d := hI 152 (yJ1_put, (ws_ yJ1_put cJ1_put 3 (Option.some (Jvm.ClassFile.FieldType.object "java/lang/Object")))) rfl
theorem w4_J1_put : Cond.code yJ1_put cJ1_put 3 (Option.some (Jvm.ClassFile.FieldType.object "java/lang/Object")) ∈ lw_all := q291
theorem w6_J1_put : Cond.initialized yJ1_put.cls ∈ lw_all := q126
theorem hy_J1_put : yJ1_put.cls ≠ "java/lang/invoke/MethodHandle" ∧ yJ1_put.cls ≠ "java/lang/invoke/VarHandle" := by decide +kernel
theorem hl_J1_put : (parseMethodDescriptor yJ1_put.desc).map (fun q => q.parameters.length) = some 2 := by decide +kernel
theorem hp_J1_put : plainFor yJ1_put = true := by decide +kernel
theorem i_J3_init {l : Launch} {D : va_G} {dA : Nat → ClassId} {lo : Nat} {cs0 : Nat → Option Nat} {d : Nat} (hI : jIH l D dA lo cs0 d) : jMe l D dA lo cs0 (EV d) 153 yJ3_init (ws_ yJ3_init cJ3_init 1 (Option.none : Option Jvm.ClassFile.FieldType)) d := hI 153 (yJ3_init, (ws_ yJ3_init cJ3_init 1 (Option.none : Option Jvm.ClassFile.FieldType))) rfl
theorem w4_J3_init : Cond.code yJ3_init cJ3_init 1 (Option.none : Option Jvm.ClassFile.FieldType) ∈ lw_all := q246
theorem w6_J3_init : Cond.initialized yJ3_init.cls ∈ lw_all := q128
theorem hy_J3_init : yJ3_init.cls ≠ "java/lang/invoke/MethodHandle" ∧ yJ3_init.cls ≠ "java/lang/invoke/VarHandle" := by decide +kernel
theorem hl_J3_init : (parseMethodDescriptor yJ3_init.desc).map (fun q => q.parameters.length) = some 0 := by decide +kernel
theorem hp_J3_init : plainFor yJ3_init = true := by decide +kernel
theorem i_J1_putAll {l : Launch} {D : va_G} {dA : Nat → ClassId} {lo : Nat} {cs0 : Nat → Option Nat} {d : Nat} (hI : jIH l D dA lo cs0 d) : jMe l D dA lo cs0 (EV d) 154 yJ1_putAll (wsW_ yJ1_putAll cJ1_putAll 4 (Option.none : Option Jvm.ClassFile.FieldType) [((54 : Nat), (72 : Nat), (75 : Nat), (46 : Nat)), ((54 : Nat), (72 : Nat), (75 : Nat), (48 : Nat))]) d := hI 154 (yJ1_putAll, (wsW_ yJ1_putAll cJ1_putAll 4 (Option.none : Option Jvm.ClassFile.FieldType) [((54 : Nat), (72 : Nat), (75 : Nat), (46 : Nat)), ((54 : Nat), (72 : Nat), (75 : Nat), (48 : Nat))])) rfl
theorem w4_J1_putAll : Cond.codeWith yJ1_putAll cJ1_putAll 4 (Option.none : Option Jvm.ClassFile.FieldType) [((54 : Nat), (72 : Nat), (75 : Nat), (46 : Nat)), ((54 : Nat), (72 : Nat), (75 : Nat), (48 : Nat))] ∈ lw_all := q728
theorem w6_J1_putAll : Cond.initialized yJ1_putAll.cls ∈ lw_all := q126
theorem hy_J1_putAll : yJ1_putAll.cls ≠ "java/lang/invoke/MethodHandle" ∧ yJ1_putAll.cls ≠ "java/lang/invoke/VarHandle" := by decide +kernel
theorem hl_J1_putAll : (parseMethodDescriptor yJ1_putAll.desc).map (fun q => q.parameters.length) = some 1 := by decide +kernel
theorem hp_J1_putAll : plainFor yJ1_putAll = true := by decide +kernel
theorem i_J1_get {l : Launch} {D : va_G} {dA : Nat → ClassId} {lo : Nat} {cs0 : Nat → Option Nat} {d : Nat} (hI : jIH l D dA lo cs0 d) : jMe l D dA lo cs0 (EV d) 155 yJ1_get (ws_ yJ1_get cJ1_get 3 (Option.some (Jvm.ClassFile.FieldType.object "java/lang/Object"))) d := hI 155 (yJ1_get, (ws_ yJ1_get cJ1_get 3 (Option.some (Jvm.ClassFile.FieldType.object "java/lang/Object")))) rfl
theorem w4_J1_get : Cond.code yJ1_get cJ1_get 3 (Option.some (Jvm.ClassFile.FieldType.object "java/lang/Object")) ∈ lw_all := q1135
theorem w6_J1_get : Cond.initialized yJ1_get.cls ∈ lw_all := q126
theorem hy_J1_get : yJ1_get.cls ≠ "java/lang/invoke/MethodHandle" ∧ yJ1_get.cls ≠ "java/lang/invoke/VarHandle" := by decide +kernel
theorem hl_J1_get : (parseMethodDescriptor yJ1_get.desc).map (fun q => q.parameters.length) = some 1 := by decide +kernel
theorem hp_J1_get : plainFor yJ1_get = true := by decide +kernel
theorem i_J4_get {l : Launch} {D : va_G} {dA : Nat → ClassId} {lo : Nat} {cs0 : Nat → Option Nat} {d : Nat} (hI : jIH l D dA lo cs0 d) : jMe l D dA lo cs0 (EV d) 156 yJ4_get (ws_ yJ4_get cJ4_get 2 (Option.some (Jvm.ClassFile.FieldType.object "java/lang/Object"))) d := hI 156 (yJ4_get, (ws_ yJ4_get cJ4_get 2 (Option.some (Jvm.ClassFile.FieldType.object "java/lang/Object")))) rfl
theorem w4_J4_get : Cond.code yJ4_get cJ4_get 2 (Option.some (Jvm.ClassFile.FieldType.object "java/lang/Object")) ∈ lw_all := q1151
theorem w6_J4_get : Cond.initialized yJ4_get.cls ∈ lw_all := q129
theorem hy_J4_get : yJ4_get.cls ≠ "java/lang/invoke/MethodHandle" ∧ yJ4_get.cls ≠ "java/lang/invoke/VarHandle" := by decide +kernel
theorem hl_J4_get : (parseMethodDescriptor yJ4_get.desc).map (fun q => q.parameters.length) = some 1 := by decide +kernel
theorem hp_J4_get : plainFor yJ4_get = true := by decide +kernel
theorem i_X3_init {l : Launch} {D : va_G} {dA : Nat → ClassId} {lo : Nat} {cs0 : Nat → Option Nat} {d : Nat} (hI : jIH l D dA lo cs0 d) : jMe l D dA lo cs0 (EV d) 157 yX3_init (ws_ yX3_init cX3_init 5 (Option.none : Option Jvm.ClassFile.FieldType)) d := hI 157 (yX3_init, (ws_ yX3_init cX3_init 5 (Option.none : Option Jvm.ClassFile.FieldType))) rfl
theorem w4_X3_init : Cond.code yX3_init cX3_init 5 (Option.none : Option Jvm.ClassFile.FieldType) ∈ lw_all := q1169
theorem w6_X3_init : Cond.initialized yX3_init.cls ∈ lw_all := q155
theorem hy_X3_init : yX3_init.cls ≠ "java/lang/invoke/MethodHandle" ∧ yX3_init.cls ≠ "java/lang/invoke/VarHandle" := by decide +kernel
theorem hl_X3_init : (parseMethodDescriptor yX3_init.desc).map (fun q => q.parameters.length) = some 4 := by decide +kernel
theorem hp_X3_init : plainFor yX3_init = true := by decide +kernel
theorem i_J4_add {l : Launch} {D : va_G} {dA : Nat → ClassId} {lo : Nat} {cs0 : Nat → Option Nat} {d : Nat} (hI : jIH l D dA lo cs0 d) : jMe l D dA lo cs0 (EV d) 158 yJ4_add (ws_ yJ4_add cJ4_add 2 (Option.some Jvm.ClassFile.FieldType.boolean)) d := hI 158 (yJ4_add, (ws_ yJ4_add cJ4_add 2 (Option.some Jvm.ClassFile.FieldType.boolean))) rfl
theorem w4_J4_add : Cond.code yJ4_add cJ4_add 2 (Option.some Jvm.ClassFile.FieldType.boolean) ∈ lw_all := q1206
theorem w6_J4_add : Cond.initialized yJ4_add.cls ∈ lw_all := q129
theorem hy_J4_add : yJ4_add.cls ≠ "java/lang/invoke/MethodHandle" ∧ yJ4_add.cls ≠ "java/lang/invoke/VarHandle" := by decide +kernel
theorem hl_J4_add : (parseMethodDescriptor yJ4_add.desc).map (fun q => q.parameters.length) = some 1 := by decide +kernel
theorem hp_J4_add : plainFor yJ4_add = true := by decide +kernel
theorem i_X1_isBetween {l : Launch} {D : va_G} {dA : Nat → ClassId} {lo : Nat} {cs0 : Nat → Option Nat} {d : Nat} (hI : jIH l D dA lo cs0 d) : jMe l D dA lo cs0 (EV d) 159 yX1_isBetween (ws_ yX1_isBetween cX1_isBetween 3 (Option.some Jvm.ClassFile.FieldType.boolean)) d := hI 159 (yX1_isBetween, (ws_ yX1_isBetween cX1_isBetween 3 (Option.some Jvm.ClassFile.FieldType.boolean))) rfl
theorem w4_X1_isBetween : Cond.code yX1_isBetween cX1_isBetween 3 (Option.some Jvm.ClassFile.FieldType.boolean) ∈ lw_all := q2401
theorem w6_X1_isBetween : Cond.initialized yX1_isBetween.cls ∈ lw_all := q123
theorem hy_X1_isBetween : yX1_isBetween.cls ≠ "java/lang/invoke/MethodHandle" ∧ yX1_isBetween.cls ≠ "java/lang/invoke/VarHandle" := by decide +kernel
theorem hl_X1_isBetween : (parseMethodDescriptor yX1_isBetween.desc).map (fun q => q.parameters.length) = some 3 := by decide +kernel
theorem hp_X1_isBetween : plainFor yX1_isBetween = true := by decide +kernel
theorem i_X1_requireArgument {l : Launch} {D : va_G} {dA : Nat → ClassId} {lo : Nat} {cs0 : Nat → Option Nat} {d : Nat} (hI : jIH l D dA lo cs0 d) : jMe l D dA lo cs0 (EV d) 160 yX1_requireArgument (ws_ yX1_requireArgument cX1_requireArgument 1 (Option.none : Option Jvm.ClassFile.FieldType)) d := hI 160 (yX1_requireArgument, (ws_ yX1_requireArgument cX1_requireArgument 1 (Option.none : Option Jvm.ClassFile.FieldType))) rfl
theorem w4_X1_requireArgument : Cond.code yX1_requireArgument cX1_requireArgument 1 (Option.none : Option Jvm.ClassFile.FieldType) ∈ lw_all := q2404
theorem w6_X1_requireArgument : Cond.initialized yX1_requireArgument.cls ∈ lw_all := q123
theorem hy_X1_requireArgument : yX1_requireArgument.cls ≠ "java/lang/invoke/MethodHandle" ∧ yX1_requireArgument.cls ≠ "java/lang/invoke/VarHandle" := by decide +kernel
theorem hl_X1_requireArgument : (parseMethodDescriptor yX1_requireArgument.desc).map (fun q => q.parameters.length) = some 1 := by decide +kernel
theorem hp_X1_requireArgument : plainFor yX1_requireArgument = true := by decide +kernel
theorem i_X1_requireState {l : Launch} {D : va_G} {dA : Nat → ClassId} {lo : Nat} {cs0 : Nat → Option Nat} {d : Nat} (hI : jIH l D dA lo cs0 d) : jMe l D dA lo cs0 (EV d) 161 yX1_requireState (ws_ yX1_requireState cX1_requireState 1 (Option.none : Option Jvm.ClassFile.FieldType)) d := hI 161 (yX1_requireState, (ws_ yX1_requireState cX1_requireState 1 (Option.none : Option Jvm.ClassFile.FieldType))) rfl
theorem w4_X1_requireState : Cond.code yX1_requireState cX1_requireState 1 (Option.none : Option Jvm.ClassFile.FieldType) ∈ lw_all := q2409
theorem w6_X1_requireState : Cond.initialized yX1_requireState.cls ∈ lw_all := q123
theorem hy_X1_requireState : yX1_requireState.cls ≠ "java/lang/invoke/MethodHandle" ∧ yX1_requireState.cls ≠ "java/lang/invoke/VarHandle" := by decide +kernel
theorem hl_X1_requireState : (parseMethodDescriptor yX1_requireState.desc).map (fun q => q.parameters.length) = some 1 := by decide +kernel
theorem hp_X1_requireState : plainFor yX1_requireState = true := by decide +kernel
theorem i_X1_isFunction {l : Launch} {D : va_G} {dA : Nat → ClassId} {lo : Nat} {cs0 : Nat → Option Nat} {d : Nat} (hI : jIH l D dA lo cs0 d) : jMe l D dA lo cs0 (EV d) 162 yX1_isFunction (ws_ yX1_isFunction cX1_isFunction 1 (Option.some Jvm.ClassFile.FieldType.boolean)) d := hI 162 (yX1_isFunction, (ws_ yX1_isFunction cX1_isFunction 1 (Option.some Jvm.ClassFile.FieldType.boolean))) rfl
theorem w4_X1_isFunction : Cond.code yX1_isFunction cX1_isFunction 1 (Option.some Jvm.ClassFile.FieldType.boolean) ∈ lw_all := q2450
theorem w6_X1_isFunction : Cond.initialized yX1_isFunction.cls ∈ lw_all := q123
theorem hy_X1_isFunction : yX1_isFunction.cls ≠ "java/lang/invoke/MethodHandle" ∧ yX1_isFunction.cls ≠ "java/lang/invoke/VarHandle" := by decide +kernel
theorem hl_X1_isFunction : (parseMethodDescriptor yX1_isFunction.desc).map (fun q => q.parameters.length) = some 1 := by decide +kernel
theorem hp_X1_isFunction : plainFor yX1_isFunction = true := by decide +kernel
theorem i_X1_requireIndex {l : Launch} {D : va_G} {dA : Nat → ClassId} {lo : Nat} {cs0 : Nat → Option Nat} {d : Nat} (hI : jIH l D dA lo cs0 d) : jMe l D dA lo cs0 (EV d) 163 yX1_requireIndex (ws_ yX1_requireIndex cX1_requireIndex 1 (Option.none : Option Jvm.ClassFile.FieldType)) d := hI 163 (yX1_requireIndex, (ws_ yX1_requireIndex cX1_requireIndex 1 (Option.none : Option Jvm.ClassFile.FieldType))) rfl
theorem w4_X1_requireIndex : Cond.code yX1_requireIndex cX1_requireIndex 1 (Option.none : Option Jvm.ClassFile.FieldType) ∈ lw_all := q2453
theorem w6_X1_requireIndex : Cond.initialized yX1_requireIndex.cls ∈ lw_all := q123
theorem hy_X1_requireIndex : yX1_requireIndex.cls ≠ "java/lang/invoke/MethodHandle" ∧ yX1_requireIndex.cls ≠ "java/lang/invoke/VarHandle" := by decide +kernel
theorem hl_X1_requireIndex : (parseMethodDescriptor yX1_requireIndex.desc).map (fun q => q.parameters.length) = some 1 := by decide +kernel
theorem hp_X1_requireIndex : plainFor yX1_requireIndex = true := by decide +kernel
theorem i_X1_readBody {l : Launch} {D : va_G} {dA : Nat → ClassId} {lo : Nat} {cs0 : Nat → Option Nat} {d : Nat} (hI : jIH l D dA lo cs0 d) : jMe l D dA lo cs0 (EV d) 164 yX1_readBody (wsW_ yX1_readBody cX1_readBody 5 (Option.some (Jvm.ClassFile.FieldType.object "java/util/ArrayList")) [((10 : Nat), (19 : Nat), (27 : Nat), (76 : Nat)), ((10 : Nat), (19 : Nat), (44 : Nat), (0 : Nat)), ((27 : Nat), (36 : Nat), (44 : Nat), (0 : Nat)), ((44 : Nat), (46 : Nat), (44 : Nat), (0 : Nat))]) d := hI 164 (yX1_readBody, (wsW_ yX1_readBody cX1_readBody 5 (Option.some (Jvm.ClassFile.FieldType.object "java/util/ArrayList")) [((10 : Nat), (19 : Nat), (27 : Nat), (76 : Nat)), ((10 : Nat), (19 : Nat), (44 : Nat), (0 : Nat)), ((27 : Nat), (36 : Nat), (44 : Nat), (0 : Nat)), ((44 : Nat), (46 : Nat), (44 : Nat), (0 : Nat))])) rfl
theorem w4_X1_readBody : Cond.codeWith yX1_readBody cX1_readBody 5 (Option.some (Jvm.ClassFile.FieldType.object "java/util/ArrayList")) [((10 : Nat), (19 : Nat), (27 : Nat), (76 : Nat)), ((10 : Nat), (19 : Nat), (44 : Nat), (0 : Nat)), ((27 : Nat), (36 : Nat), (44 : Nat), (0 : Nat)), ((44 : Nat), (46 : Nat), (44 : Nat), (0 : Nat))] ∈ lw_all := q2462
theorem w6_X1_readBody : Cond.initialized yX1_readBody.cls ∈ lw_all := q123
theorem hy_X1_readBody : yX1_readBody.cls ≠ "java/lang/invoke/MethodHandle" ∧ yX1_readBody.cls ≠ "java/lang/invoke/VarHandle" := by decide +kernel
theorem hl_X1_readBody : (parseMethodDescriptor yX1_readBody.desc).map (fun q => q.parameters.length) = some 1 := by decide +kernel
theorem hp_X1_readBody : plainFor yX1_readBody = true := by decide +kernel
theorem i_X2_countAll {l : Launch} {D : va_G} {dA : Nat → ClassId} {lo : Nat} {cs0 : Nat → Option Nat} {d : Nat} (hI : jIH l D dA lo cs0 d) : jMe l D dA lo cs0 (EV d) 165 yX2_countAll (ws_ yX2_countAll cX2_countAll 4 (Option.some Jvm.ClassFile.FieldType.int)) d := hI 165 (yX2_countAll, (ws_ yX2_countAll cX2_countAll 4 (Option.some Jvm.ClassFile.FieldType.int))) rfl
theorem w4_X2_countAll : Cond.code yX2_countAll cX2_countAll 4 (Option.some Jvm.ClassFile.FieldType.int) ∈ lw_all := q2648
theorem w6_X2_countAll : Cond.initialized yX2_countAll.cls ∈ lw_all := q124
theorem hy_X2_countAll : yX2_countAll.cls ≠ "java/lang/invoke/MethodHandle" ∧ yX2_countAll.cls ≠ "java/lang/invoke/VarHandle" := by decide +kernel
theorem hl_X2_countAll : (parseMethodDescriptor yX2_countAll.desc).map (fun q => q.parameters.length) = some 1 := by decide +kernel
theorem hp_X2_countAll : plainFor yX2_countAll = true := by decide +kernel
theorem i_X1_setProgram {l : Launch} {D : va_G} {dA : Nat → ClassId} {lo : Nat} {cs0 : Nat → Option Nat} {d : Nat} (hI : jIH l D dA lo cs0 d) : jMe l D dA lo cs0 (EV d) 166 yX1_setProgram (ws_ yX1_setProgram cX1_setProgram 2 (Option.none : Option Jvm.ClassFile.FieldType)) d := hI 166 (yX1_setProgram, (ws_ yX1_setProgram cX1_setProgram 2 (Option.none : Option Jvm.ClassFile.FieldType))) rfl
theorem w4_X1_setProgram : Cond.code yX1_setProgram cX1_setProgram 2 (Option.none : Option Jvm.ClassFile.FieldType) ∈ lw_all := q2658
theorem w6_X1_setProgram : Cond.initialized yX1_setProgram.cls ∈ lw_all := q123
theorem hy_X1_setProgram : yX1_setProgram.cls ≠ "java/lang/invoke/MethodHandle" ∧ yX1_setProgram.cls ≠ "java/lang/invoke/VarHandle" := by decide +kernel
theorem hl_X1_setProgram : (parseMethodDescriptor yX1_setProgram.desc).map (fun q => q.parameters.length) = some 1 := by decide +kernel
theorem hp_X1_setProgram : plainFor yX1_setProgram = true := by decide +kernel
theorem i_X4_takesStatement {l : Launch} {D : va_G} {dA : Nat → ClassId} {lo : Nat} {cs0 : Nat → Option Nat} {d : Nat} (hI : jIH l D dA lo cs0 d) : jMe l D dA lo cs0 (EV d) 167 yX4_takesStatement (ws_ yX4_takesStatement cX4_takesStatement 6 (Option.some Jvm.ClassFile.FieldType.boolean)) d := hI 167 (yX4_takesStatement, (ws_ yX4_takesStatement cX4_takesStatement 6 (Option.some Jvm.ClassFile.FieldType.boolean))) rfl
theorem w4_X4_takesStatement : Cond.code yX4_takesStatement cX4_takesStatement 6 (Option.some Jvm.ClassFile.FieldType.boolean) ∈ lw_all := q3061
theorem w6_X4_takesStatement : Cond.initialized yX4_takesStatement.cls ∈ lw_all := q160
theorem hy_X4_takesStatement : yX4_takesStatement.cls ≠ "java/lang/invoke/MethodHandle" ∧ yX4_takesStatement.cls ≠ "java/lang/invoke/VarHandle" := by decide +kernel
theorem hl_X4_takesStatement : (parseMethodDescriptor yX4_takesStatement.desc).map (fun q => q.parameters.length) = some 1 := by decide +kernel
theorem hp_X4_takesStatement : plainFor yX4_takesStatement = true := by decide +kernel
theorem i_X4_skips {l : Launch} {D : va_G} {dA : Nat → ClassId} {lo : Nat} {cs0 : Nat → Option Nat} {d : Nat} (hI : jIH l D dA lo cs0 d) : jMe l D dA lo cs0 (EV d) 168 yX4_skips (ws_ yX4_skips cX4_skips 2 (Option.some Jvm.ClassFile.FieldType.boolean)) d := hI 168 (yX4_skips, (ws_ yX4_skips cX4_skips 2 (Option.some Jvm.ClassFile.FieldType.boolean))) rfl
theorem w4_X4_skips : Cond.code yX4_skips cX4_skips 2 (Option.some Jvm.ClassFile.FieldType.boolean) ∈ lw_all := q3065
theorem w6_X4_skips : Cond.initialized yX4_skips.cls ∈ lw_all := q160
theorem hy_X4_skips : yX4_skips.cls ≠ "java/lang/invoke/MethodHandle" ∧ yX4_skips.cls ≠ "java/lang/invoke/VarHandle" := by decide +kernel
theorem hl_X4_skips : (parseMethodDescriptor yX4_skips.desc).map (fun q => q.parameters.length) = some 1 := by decide +kernel
theorem hp_X4_skips : plainFor yX4_skips = true := by decide +kernel
theorem i_X1_statement {l : Launch} {D : va_G} {dA : Nat → ClassId} {lo : Nat} {cs0 : Nat → Option Nat} {d : Nat} (hI : jIH l D dA lo cs0 d) : jMe l D dA lo cs0 (EV d) 169 yX1_statement (ws_ yX1_statement cX1_statement 2 (Option.some (Jvm.ClassFile.FieldType.object "PointerAnalyzer$Statement"))) d := hI 169 (yX1_statement, (ws_ yX1_statement cX1_statement 2 (Option.some (Jvm.ClassFile.FieldType.object "PointerAnalyzer$Statement")))) rfl
theorem w4_X1_statement : Cond.code yX1_statement cX1_statement 2 (Option.some (Jvm.ClassFile.FieldType.object "PointerAnalyzer$Statement")) ∈ lw_all := q2669
theorem w6_X1_statement : Cond.initialized yX1_statement.cls ∈ lw_all := q123
theorem hy_X1_statement : yX1_statement.cls ≠ "java/lang/invoke/MethodHandle" ∧ yX1_statement.cls ≠ "java/lang/invoke/VarHandle" := by decide +kernel
theorem hl_X1_statement : (parseMethodDescriptor yX1_statement.desc).map (fun q => q.parameters.length) = some 1 := by decide +kernel
theorem hp_X1_statement : plainFor yX1_statement = true := by decide +kernel
theorem i_J28_ordinal {l : Launch} {D : va_G} {dA : Nat → ClassId} {lo : Nat} {cs0 : Nat → Option Nat} {d : Nat} (hI : jIH l D dA lo cs0 d) : jMe l D dA lo cs0 (EV d) 170 yJ28_ordinal (ws_ yJ28_ordinal cJ28_ordinal 1 (Option.some Jvm.ClassFile.FieldType.int)) d := hI 170 (yJ28_ordinal, (ws_ yJ28_ordinal cJ28_ordinal 1 (Option.some Jvm.ClassFile.FieldType.int))) rfl
theorem w4_J28_ordinal : Cond.code yJ28_ordinal cJ28_ordinal 1 (Option.some Jvm.ClassFile.FieldType.int) ∈ lw_all := q1661
theorem w6_J28_ordinal : Cond.initialized yJ28_ordinal.cls ∈ lw_all := q156
theorem hy_J28_ordinal : yJ28_ordinal.cls ≠ "java/lang/invoke/MethodHandle" ∧ yJ28_ordinal.cls ≠ "java/lang/invoke/VarHandle" := by decide +kernel
theorem hl_J28_ordinal : (parseMethodDescriptor yJ28_ordinal.desc).map (fun q => q.parameters.length) = some 0 := by decide +kernel
theorem hp_J28_ordinal : plainFor yJ28_ordinal = true := by decide +kernel
theorem i_X10_count {l : Launch} {D : va_G} {dA : Nat → ClassId} {lo : Nat} {cs0 : Nat → Option Nat} {d : Nat} (hI : jIH l D dA lo cs0 d) : jMe l D dA lo cs0 (EV d) 171 yX10_count (ws_ yX10_count cX10_count 2 (Option.some Jvm.ClassFile.FieldType.int)) d := hI 171 (yX10_count, (ws_ yX10_count cX10_count 2 (Option.some Jvm.ClassFile.FieldType.int))) rfl
theorem w4_X10_count : Cond.code yX10_count cX10_count 2 (Option.some Jvm.ClassFile.FieldType.int) ∈ lw_all := q1639
theorem w6_X10_count : Cond.initialized yX10_count.cls ∈ lw_all := q173
theorem hy_X10_count : yX10_count.cls ≠ "java/lang/invoke/MethodHandle" ∧ yX10_count.cls ≠ "java/lang/invoke/VarHandle" := by decide +kernel
theorem hl_X10_count : (parseMethodDescriptor yX10_count.desc).map (fun q => q.parameters.length) = some 1 := by decide +kernel
theorem hp_X10_count : plainFor yX10_count = true := by decide +kernel
theorem i_X4_findRanks {l : Launch} {D : va_G} {dA : Nat → ClassId} {lo : Nat} {cs0 : Nat → Option Nat} {d : Nat} (hI : jIH l D dA lo cs0 d) : jMe l D dA lo cs0 (EV d) 172 yX4_findRanks (ws_ yX4_findRanks cX4_findRanks 5 (Option.none : Option Jvm.ClassFile.FieldType)) d := hI 172 (yX4_findRanks, (ws_ yX4_findRanks cX4_findRanks 5 (Option.none : Option Jvm.ClassFile.FieldType))) rfl
theorem w4_X4_findRanks : Cond.code yX4_findRanks cX4_findRanks 5 (Option.none : Option Jvm.ClassFile.FieldType) ∈ lw_all := q3153
theorem w6_X4_findRanks : Cond.initialized yX4_findRanks.cls ∈ lw_all := q160
theorem hy_X4_findRanks : yX4_findRanks.cls ≠ "java/lang/invoke/MethodHandle" ∧ yX4_findRanks.cls ≠ "java/lang/invoke/VarHandle" := by decide +kernel
theorem hl_X4_findRanks : (parseMethodDescriptor yX4_findRanks.desc).map (fun q => q.parameters.length) = some 0 := by decide +kernel
theorem hp_X4_findRanks : plainFor yX4_findRanks = true := by decide +kernel
theorem i_X4_findContexts {l : Launch} {D : va_G} {dA : Nat → ClassId} {lo : Nat} {cs0 : Nat → Option Nat} {d : Nat} (hI : jIH l D dA lo cs0 d) : jMe l D dA lo cs0 (EV d) 173 yX4_findContexts (ws_ yX4_findContexts cX4_findContexts 9 (Option.none : Option Jvm.ClassFile.FieldType)) d := hI 173 (yX4_findContexts, (ws_ yX4_findContexts cX4_findContexts 9 (Option.none : Option Jvm.ClassFile.FieldType))) rfl
theorem w4_X4_findContexts : Cond.code yX4_findContexts cX4_findContexts 9 (Option.none : Option Jvm.ClassFile.FieldType) ∈ lw_all := q3157
theorem w6_X4_findContexts : Cond.initialized yX4_findContexts.cls ∈ lw_all := q160
theorem hy_X4_findContexts : yX4_findContexts.cls ≠ "java/lang/invoke/MethodHandle" ∧ yX4_findContexts.cls ≠ "java/lang/invoke/VarHandle" := by decide +kernel
theorem hl_X4_findContexts : (parseMethodDescriptor yX4_findContexts.desc).map (fun q => q.parameters.length) = some 1 := by decide +kernel
theorem hp_X4_findContexts : plainFor yX4_findContexts = true := by decide +kernel
theorem i_X4_clears {l : Launch} {D : va_G} {dA : Nat → ClassId} {lo : Nat} {cs0 : Nat → Option Nat} {d : Nat} (hI : jIH l D dA lo cs0 d) : jMe l D dA lo cs0 (EV d) 174 yX4_clears (ws_ yX4_clears cX4_clears 2 (Option.none : Option Jvm.ClassFile.FieldType)) d := hI 174 (yX4_clears, (ws_ yX4_clears cX4_clears 2 (Option.none : Option Jvm.ClassFile.FieldType))) rfl
theorem w4_X4_clears : Cond.code yX4_clears cX4_clears 2 (Option.none : Option Jvm.ClassFile.FieldType) ∈ lw_all := q3176
theorem w6_X4_clears : Cond.initialized yX4_clears.cls ∈ lw_all := q160
theorem hy_X4_clears : yX4_clears.cls ≠ "java/lang/invoke/MethodHandle" ∧ yX4_clears.cls ≠ "java/lang/invoke/VarHandle" := by decide +kernel
theorem hl_X4_clears : (parseMethodDescriptor yX4_clears.desc).map (fun q => q.parameters.length) = some 0 := by decide +kernel
theorem hp_X4_clears : plainFor yX4_clears = true := by decide +kernel
theorem i_X4_follows {l : Launch} {D : va_G} {dA : Nat → ClassId} {lo : Nat} {cs0 : Nat → Option Nat} {d : Nat} (hI : jIH l D dA lo cs0 d) : jMe l D dA lo cs0 (EV d) 175 yX4_follows (ws_ yX4_follows cX4_follows 9 (Option.none : Option Jvm.ClassFile.FieldType)) d := hI 175 (yX4_follows, (ws_ yX4_follows cX4_follows 9 (Option.none : Option Jvm.ClassFile.FieldType))) rfl
theorem w4_X4_follows : Cond.code yX4_follows cX4_follows 9 (Option.none : Option Jvm.ClassFile.FieldType) ∈ lw_all := q3180
theorem w6_X4_follows : Cond.initialized yX4_follows.cls ∈ lw_all := q160
theorem hy_X4_follows : yX4_follows.cls ≠ "java/lang/invoke/MethodHandle" ∧ yX4_follows.cls ≠ "java/lang/invoke/VarHandle" := by decide +kernel
theorem hl_X4_follows : (parseMethodDescriptor yX4_follows.desc).map (fun q => q.parameters.length) = some 4 := by decide +kernel
theorem hp_X4_follows : plainFor yX4_follows = true := by decide +kernel
theorem i_X4_findUnification {l : Launch} {D : va_G} {dA : Nat → ClassId} {lo : Nat} {cs0 : Nat → Option Nat} {d : Nat} (hI : jIH l D dA lo cs0 d) : jMe l D dA lo cs0 (EV d) 176 yX4_findUnification (ws_ yX4_findUnification cX4_findUnification 2 (Option.none : Option Jvm.ClassFile.FieldType)) d := hI 176 (yX4_findUnification, (ws_ yX4_findUnification cX4_findUnification 2 (Option.none : Option Jvm.ClassFile.FieldType))) rfl
theorem w4_X4_findUnification : Cond.code yX4_findUnification cX4_findUnification 2 (Option.none : Option Jvm.ClassFile.FieldType) ∈ lw_all := q3211
theorem w6_X4_findUnification : Cond.initialized yX4_findUnification.cls ∈ lw_all := q160
theorem hy_X4_findUnification : yX4_findUnification.cls ≠ "java/lang/invoke/MethodHandle" ∧ yX4_findUnification.cls ≠ "java/lang/invoke/VarHandle" := by decide +kernel
theorem hl_X4_findUnification : (parseMethodDescriptor yX4_findUnification.desc).map (fun q => q.parameters.length) = some 0 := by decide +kernel
theorem hp_X4_findUnification : plainFor yX4_findUnification = true := by decide +kernel
theorem i_X1_context {l : Launch} {D : va_G} {dA : Nat → ClassId} {lo : Nat} {cs0 : Nat → Option Nat} {d : Nat} (hI : jIH l D dA lo cs0 d) : jMe l D dA lo cs0 (EV d) 177 yX1_context (ws_ yX1_context cX1_context 3 (Option.some (Jvm.ClassFile.FieldType.object "PointerAnalyzer$Context"))) d := hI 177 (yX1_context, (ws_ yX1_context cX1_context 3 (Option.some (Jvm.ClassFile.FieldType.object "PointerAnalyzer$Context")))) rfl
theorem w4_X1_context : Cond.code yX1_context cX1_context 3 (Option.some (Jvm.ClassFile.FieldType.object "PointerAnalyzer$Context")) ∈ lw_all := q2704
theorem w6_X1_context : Cond.initialized yX1_context.cls ∈ lw_all := q123
theorem hy_X1_context : yX1_context.cls ≠ "java/lang/invoke/MethodHandle" ∧ yX1_context.cls ≠ "java/lang/invoke/VarHandle" := by decide +kernel
theorem hl_X1_context : (parseMethodDescriptor yX1_context.desc).map (fun q => q.parameters.length) = some 2 := by decide +kernel
theorem hp_X1_context : plainFor yX1_context = true := by decide +kernel
theorem i_X1_isVariable {l : Launch} {D : va_G} {dA : Nat → ClassId} {lo : Nat} {cs0 : Nat → Option Nat} {d : Nat} (hI : jIH l D dA lo cs0 d) : jMe l D dA lo cs0 (EV d) 178 yX1_isVariable (ws_ yX1_isVariable cX1_isVariable 1 (Option.some Jvm.ClassFile.FieldType.boolean)) d := hI 178 (yX1_isVariable, (ws_ yX1_isVariable cX1_isVariable 1 (Option.some Jvm.ClassFile.FieldType.boolean))) rfl
theorem w4_X1_isVariable : Cond.code yX1_isVariable cX1_isVariable 1 (Option.some Jvm.ClassFile.FieldType.boolean) ∈ lw_all := q2722
theorem w6_X1_isVariable : Cond.initialized yX1_isVariable.cls ∈ lw_all := q123
theorem hy_X1_isVariable : yX1_isVariable.cls ≠ "java/lang/invoke/MethodHandle" ∧ yX1_isVariable.cls ≠ "java/lang/invoke/VarHandle" := by decide +kernel
theorem hl_X1_isVariable : (parseMethodDescriptor yX1_isVariable.desc).map (fun q => q.parameters.length) = some 1 := by decide +kernel
theorem hp_X1_isVariable : plainFor yX1_isVariable = true := by decide +kernel
theorem i_X8_pointsTo {l : Launch} {D : va_G} {dA : Nat → ClassId} {lo : Nat} {cs0 : Nat → Option Nat} {d : Nat} (hI : jIH l D dA lo cs0 d) : jMe l D dA lo cs0 (EV d) 179 yX8_pointsTo (ws_ yX8_pointsTo cX8_pointsTo 5 (Option.some Jvm.ClassFile.FieldType.long)) d := hI 179 (yX8_pointsTo, (ws_ yX8_pointsTo cX8_pointsTo 5 (Option.some Jvm.ClassFile.FieldType.long))) rfl
theorem w4_X8_pointsTo : Cond.code yX8_pointsTo cX8_pointsTo 5 (Option.some Jvm.ClassFile.FieldType.long) ∈ lw_all := q2123
theorem w6_X8_pointsTo : Cond.initialized yX8_pointsTo.cls ∈ lw_all := q169
theorem hy_X8_pointsTo : yX8_pointsTo.cls ≠ "java/lang/invoke/MethodHandle" ∧ yX8_pointsTo.cls ≠ "java/lang/invoke/VarHandle" := by decide +kernel
theorem hl_X8_pointsTo : (parseMethodDescriptor yX8_pointsTo.desc).map (fun q => q.parameters.length) = some 1 := by decide +kernel
theorem hp_X8_pointsTo : plainFor yX8_pointsTo = true := by decide +kernel
theorem i_X1_ownerOf {l : Launch} {D : va_G} {dA : Nat → ClassId} {lo : Nat} {cs0 : Nat → Option Nat} {d : Nat} (hI : jIH l D dA lo cs0 d) : jMe l D dA lo cs0 (EV d) 180 yX1_ownerOf (ws_ yX1_ownerOf cX1_ownerOf 1 (Option.some Jvm.ClassFile.FieldType.int)) d := hI 180 (yX1_ownerOf, (ws_ yX1_ownerOf cX1_ownerOf 1 (Option.some Jvm.ClassFile.FieldType.int))) rfl
theorem w4_X1_ownerOf : Cond.code yX1_ownerOf cX1_ownerOf 1 (Option.some Jvm.ClassFile.FieldType.int) ∈ lw_all := q1655
theorem w6_X1_ownerOf : Cond.initialized yX1_ownerOf.cls ∈ lw_all := q123
theorem hy_X1_ownerOf : yX1_ownerOf.cls ≠ "java/lang/invoke/MethodHandle" ∧ yX1_ownerOf.cls ≠ "java/lang/invoke/VarHandle" := by decide +kernel
theorem hl_X1_ownerOf : (parseMethodDescriptor yX1_ownerOf.desc).map (fun q => q.parameters.length) = some 1 := by decide +kernel
theorem hp_X1_ownerOf : plainFor yX1_ownerOf = true := by decide +kernel
theorem i_X8_cell {l : Launch} {D : va_G} {dA : Nat → ClassId} {lo : Nat} {cs0 : Nat → Option Nat} {d : Nat} (hI : jIH l D dA lo cs0 d) : jMe l D dA lo cs0 (EV d) 181 yX8_cell (ws_ yX8_cell cX8_cell 4 (Option.some (Jvm.ClassFile.FieldType.object "PointerAnalyzer$Cell"))) d := hI 181 (yX8_cell, (ws_ yX8_cell cX8_cell 4 (Option.some (Jvm.ClassFile.FieldType.object "PointerAnalyzer$Cell")))) rfl
theorem w4_X8_cell : Cond.code yX8_cell cX8_cell 4 (Option.some (Jvm.ClassFile.FieldType.object "PointerAnalyzer$Cell")) ∈ lw_all := q1652
theorem w6_X8_cell : Cond.initialized yX8_cell.cls ∈ lw_all := q169
theorem hy_X8_cell : yX8_cell.cls ≠ "java/lang/invoke/MethodHandle" ∧ yX8_cell.cls ≠ "java/lang/invoke/VarHandle" := by decide +kernel
theorem hl_X8_cell : (parseMethodDescriptor yX8_cell.desc).map (fun q => q.parameters.length) = some 2 := by decide +kernel
theorem hp_X8_cell : plainFor yX8_cell = true := by decide +kernel
theorem i_X8_codes {l : Launch} {D : va_G} {dA : Nat → ClassId} {lo : Nat} {cs0 : Nat → Option Nat} {d : Nat} (hI : jIH l D dA lo cs0 d) : jMe l D dA lo cs0 (EV d) 182 yX8_codes (ws_ yX8_codes cX8_codes 6 (Option.some Jvm.ClassFile.FieldType.long)) d := hI 182 (yX8_codes, (ws_ yX8_codes cX8_codes 6 (Option.some Jvm.ClassFile.FieldType.long))) rfl
theorem w4_X8_codes : Cond.code yX8_codes cX8_codes 6 (Option.some Jvm.ClassFile.FieldType.long) ∈ lw_all := q2127
theorem w6_X8_codes : Cond.initialized yX8_codes.cls ∈ lw_all := q169
theorem hy_X8_codes : yX8_codes.cls ≠ "java/lang/invoke/MethodHandle" ∧ yX8_codes.cls ≠ "java/lang/invoke/VarHandle" := by decide +kernel
theorem hl_X8_codes : (parseMethodDescriptor yX8_codes.desc).map (fun q => q.parameters.length) = some 1 := by decide +kernel
theorem hp_X8_codes : plainFor yX8_codes = true := by decide +kernel
theorem i_X4_isIn {l : Launch} {D : va_G} {dA : Nat → ClassId} {lo : Nat} {cs0 : Nat → Option Nat} {d : Nat} (hI : jIH l D dA lo cs0 d) : jMe l D dA lo cs0 (EV d) 183 yX4_isIn (ws_ yX4_isIn cX4_isIn 3 (Option.some Jvm.ClassFile.FieldType.boolean)) d := hI 183 (yX4_isIn, (ws_ yX4_isIn cX4_isIn 3 (Option.some Jvm.ClassFile.FieldType.boolean))) rfl
theorem w4_X4_isIn : Cond.code yX4_isIn cX4_isIn 3 (Option.some Jvm.ClassFile.FieldType.boolean) ∈ lw_all := q3190
theorem w6_X4_isIn : Cond.initialized yX4_isIn.cls ∈ lw_all := q160
theorem hy_X4_isIn : yX4_isIn.cls ≠ "java/lang/invoke/MethodHandle" ∧ yX4_isIn.cls ≠ "java/lang/invoke/VarHandle" := by decide +kernel
theorem hl_X4_isIn : (parseMethodDescriptor yX4_isIn.desc).map (fun q => q.parameters.length) = some 3 := by decide +kernel
theorem hp_X4_isIn : plainFor yX4_isIn = true := by decide +kernel
theorem i_X4_targetOf {l : Launch} {D : va_G} {dA : Nat → ClassId} {lo : Nat} {cs0 : Nat → Option Nat} {d : Nat} (hI : jIH l D dA lo cs0 d) : jMe l D dA lo cs0 (EV d) 184 yX4_targetOf (ws_ yX4_targetOf cX4_targetOf 2 (Option.some Jvm.ClassFile.FieldType.int)) d := hI 184 (yX4_targetOf, (ws_ yX4_targetOf cX4_targetOf 2 (Option.some Jvm.ClassFile.FieldType.int))) rfl
theorem w4_X4_targetOf : Cond.code yX4_targetOf cX4_targetOf 2 (Option.some Jvm.ClassFile.FieldType.int) ∈ lw_all := q3207
theorem w6_X4_targetOf : Cond.initialized yX4_targetOf.cls ∈ lw_all := q160
theorem hy_X4_targetOf : yX4_targetOf.cls ≠ "java/lang/invoke/MethodHandle" ∧ yX4_targetOf.cls ≠ "java/lang/invoke/VarHandle" := by decide +kernel
theorem hl_X4_targetOf : (parseMethodDescriptor yX4_targetOf.desc).map (fun q => q.parameters.length) = some 1 := by decide +kernel
theorem hp_X4_targetOf : plainFor yX4_targetOf = true := by decide +kernel
theorem i_X1_code {l : Launch} {D : va_G} {dA : Nat → ClassId} {lo : Nat} {cs0 : Nat → Option Nat} {d : Nat} (hI : jIH l D dA lo cs0 d) : jMe l D dA lo cs0 (EV d) 185 yX1_code (ws_ yX1_code cX1_code 3 (Option.some Jvm.ClassFile.FieldType.int)) d := hI 185 (yX1_code, (ws_ yX1_code cX1_code 3 (Option.some Jvm.ClassFile.FieldType.int))) rfl
theorem w4_X1_code : Cond.code yX1_code cX1_code 3 (Option.some Jvm.ClassFile.FieldType.int) ∈ lw_all := q2743
theorem w6_X1_code : Cond.initialized yX1_code.cls ∈ lw_all := q123
theorem hy_X1_code : yX1_code.cls ≠ "java/lang/invoke/MethodHandle" ∧ yX1_code.cls ≠ "java/lang/invoke/VarHandle" := by decide +kernel
theorem hl_X1_code : (parseMethodDescriptor yX1_code.desc).map (fun q => q.parameters.length) = some 2 := by decide +kernel
theorem hp_X1_code : plainFor yX1_code = true := by decide +kernel
theorem i_X8_init {l : Launch} {D : va_G} {dA : Nat → ClassId} {lo : Nat} {cs0 : Nat → Option Nat} {d : Nat} (hI : jIH l D dA lo cs0 d) : jMe l D dA lo cs0 (EV d) 186 yX8_init (ws_ yX8_init cX8_init 6 (Option.none : Option Jvm.ClassFile.FieldType)) d := hI 186 (yX8_init, (ws_ yX8_init cX8_init 6 (Option.none : Option Jvm.ClassFile.FieldType))) rfl
theorem w4_X8_init : Cond.code yX8_init cX8_init 6 (Option.none : Option Jvm.ClassFile.FieldType) ∈ lw_all := q1301
theorem w6_X8_init : Cond.initialized yX8_init.cls ∈ lw_all := q169
theorem hy_X8_init : yX8_init.cls ≠ "java/lang/invoke/MethodHandle" ∧ yX8_init.cls ≠ "java/lang/invoke/VarHandle" := by decide +kernel
theorem hl_X8_init : (parseMethodDescriptor yX8_init.desc).map (fun q => q.parameters.length) = some 2 := by decide +kernel
theorem hp_X8_init : plainFor yX8_init = true := by decide +kernel
theorem i_X12_find {l : Launch} {D : va_G} {dA : Nat → ClassId} {lo : Nat} {cs0 : Nat → Option Nat} {d : Nat} (hI : jIH l D dA lo cs0 d) : jMe l D dA lo cs0 (EV d) 187 yX12_find (ws_ yX12_find cX12_find 2 (Option.some (Jvm.ClassFile.FieldType.object "PointerAnalyzer$Cell"))) d := hI 187 (yX12_find, (ws_ yX12_find cX12_find 2 (Option.some (Jvm.ClassFile.FieldType.object "PointerAnalyzer$Cell")))) rfl
theorem w4_X12_find : Cond.code yX12_find cX12_find 2 (Option.some (Jvm.ClassFile.FieldType.object "PointerAnalyzer$Cell")) ∈ lw_all := q1997
theorem w6_X12_find : Cond.initialized yX12_find.cls ∈ lw_all := q178
theorem hy_X12_find : yX12_find.cls ≠ "java/lang/invoke/MethodHandle" ∧ yX12_find.cls ≠ "java/lang/invoke/VarHandle" := by decide +kernel
theorem hl_X12_find : (parseMethodDescriptor yX12_find.desc).map (fun q => q.parameters.length) = some 0 := by decide +kernel
theorem hp_X12_find : plainFor yX12_find = true := by decide +kernel
theorem i_J40_cardinality {l : Launch} {D : va_G} {dA : Nat → ClassId} {lo : Nat} {cs0 : Nat → Option Nat} {d : Nat} (hI : jIH l D dA lo cs0 d) : jMe l D dA lo cs0 (EV d) 188 yJ40_cardinality (ws_ yJ40_cardinality cJ40_cardinality 3 (Option.some Jvm.ClassFile.FieldType.int)) d := hI 188 (yJ40_cardinality, (ws_ yJ40_cardinality cJ40_cardinality 3 (Option.some Jvm.ClassFile.FieldType.int))) rfl
theorem w4_J40_cardinality : Cond.code yJ40_cardinality cJ40_cardinality 3 (Option.some Jvm.ClassFile.FieldType.int) ∈ lw_all := q626
theorem w6_J40_cardinality : Cond.initialized yJ40_cardinality.cls ∈ lw_all := q179
theorem hy_J40_cardinality : yJ40_cardinality.cls ≠ "java/lang/invoke/MethodHandle" ∧ yJ40_cardinality.cls ≠ "java/lang/invoke/VarHandle" := by decide +kernel
theorem hl_J40_cardinality : (parseMethodDescriptor yJ40_cardinality.desc).map (fun q => q.parameters.length) = some 0 := by decide +kernel
theorem hp_J40_cardinality : plainFor yJ40_cardinality = true := by decide +kernel
theorem i_J12_numberOfTrailingZeros {l : Launch} {D : va_G} {dA : Nat → ClassId} {lo : Nat} {cs0 : Nat → Option Nat} {d : Nat} (hI : jIH l D dA lo cs0 d) : jMe l D dA lo cs0 (EV d) 189 yJ12_numberOfTrailingZeros (ws_ yJ12_numberOfTrailingZeros cJ12_numberOfTrailingZeros 3 (Option.some Jvm.ClassFile.FieldType.int)) d := hI 189 (yJ12_numberOfTrailingZeros, (ws_ yJ12_numberOfTrailingZeros cJ12_numberOfTrailingZeros 3 (Option.some Jvm.ClassFile.FieldType.int))) rfl
theorem w4_J12_numberOfTrailingZeros : Cond.code yJ12_numberOfTrailingZeros cJ12_numberOfTrailingZeros 3 (Option.some Jvm.ClassFile.FieldType.int) ∈ lw_all := q502
theorem w6_J12_numberOfTrailingZeros : Cond.initialized yJ12_numberOfTrailingZeros.cls ∈ lw_all := q139
theorem hy_J12_numberOfTrailingZeros : yJ12_numberOfTrailingZeros.cls ≠ "java/lang/invoke/MethodHandle" ∧ yJ12_numberOfTrailingZeros.cls ≠ "java/lang/invoke/VarHandle" := by decide +kernel
theorem hl_J12_numberOfTrailingZeros : (parseMethodDescriptor yJ12_numberOfTrailingZeros.desc).map (fun q => q.parameters.length) = some 1 := by decide +kernel
theorem hp_J12_numberOfTrailingZeros : plainFor yJ12_numberOfTrailingZeros = true := by decide +kernel
theorem i_X1_requireFact {l : Launch} {D : va_G} {dA : Nat → ClassId} {lo : Nat} {cs0 : Nat → Option Nat} {d : Nat} (hI : jIH l D dA lo cs0 d) : jMe l D dA lo cs0 (EV d) 190 yX1_requireFact (ws_ yX1_requireFact cX1_requireFact 4 (Option.some (Jvm.ClassFile.FieldType.object "PointerAnalyzer$Ranks"))) d := hI 190 (yX1_requireFact, (ws_ yX1_requireFact cX1_requireFact 4 (Option.some (Jvm.ClassFile.FieldType.object "PointerAnalyzer$Ranks")))) rfl
theorem w4_X1_requireFact : Cond.code yX1_requireFact cX1_requireFact 4 (Option.some (Jvm.ClassFile.FieldType.object "PointerAnalyzer$Ranks")) ∈ lw_all := q2769
theorem w6_X1_requireFact : Cond.initialized yX1_requireFact.cls ∈ lw_all := q123
theorem hy_X1_requireFact : yX1_requireFact.cls ≠ "java/lang/invoke/MethodHandle" ∧ yX1_requireFact.cls ≠ "java/lang/invoke/VarHandle" := by decide +kernel
theorem hl_X1_requireFact : (parseMethodDescriptor yX1_requireFact.desc).map (fun q => q.parameters.length) = some 2 := by decide +kernel
theorem hp_X1_requireFact : plainFor yX1_requireFact = true := by decide +kernel
theorem i_X4_isTarget {l : Launch} {D : va_G} {dA : Nat → ClassId} {lo : Nat} {cs0 : Nat → Option Nat} {d : Nat} (hI : jIH l D dA lo cs0 d) : jMe l D dA lo cs0 (EV d) 191 yX4_isTarget (ws_ yX4_isTarget cX4_isTarget 2 (Option.some Jvm.ClassFile.FieldType.boolean)) d := hI 191 (yX4_isTarget, (ws_ yX4_isTarget cX4_isTarget 2 (Option.some Jvm.ClassFile.FieldType.boolean))) rfl
theorem w4_X4_isTarget : Cond.code yX4_isTarget cX4_isTarget 2 (Option.some Jvm.ClassFile.FieldType.boolean) ∈ lw_all := q3318
theorem w6_X4_isTarget : Cond.initialized yX4_isTarget.cls ∈ lw_all := q160
theorem hy_X4_isTarget : yX4_isTarget.cls ≠ "java/lang/invoke/MethodHandle" ∧ yX4_isTarget.cls ≠ "java/lang/invoke/VarHandle" := by decide +kernel
theorem hl_X4_isTarget : (parseMethodDescriptor yX4_isTarget.desc).map (fun q => q.parameters.length) = some 1 := by decide +kernel
theorem hp_X4_isTarget : plainFor yX4_isTarget = true := by decide +kernel
theorem i_X2_callees {l : Launch} {D : va_G} {dA : Nat → ClassId} {lo : Nat} {cs0 : Nat → Option Nat} {d : Nat} (hI : jIH l D dA lo cs0 d) : jMe l D dA lo cs0 (EV d) 192 yX2_callees (ws_ yX2_callees cX2_callees 7 (Option.some (Jvm.ClassFile.FieldType.array Jvm.ClassFile.FieldType.boolean))) d := hI 192 (yX2_callees, (ws_ yX2_callees cX2_callees 7 (Option.some (Jvm.ClassFile.FieldType.array Jvm.ClassFile.FieldType.boolean)))) rfl
theorem w4_X2_callees : Cond.code yX2_callees cX2_callees 7 (Option.some (Jvm.ClassFile.FieldType.array Jvm.ClassFile.FieldType.boolean)) ∈ lw_all := q2145
theorem w6_X2_callees : Cond.initialized yX2_callees.cls ∈ lw_all := q124
theorem hy_X2_callees : yX2_callees.cls ≠ "java/lang/invoke/MethodHandle" ∧ yX2_callees.cls ≠ "java/lang/invoke/VarHandle" := by decide +kernel
theorem hl_X2_callees : (parseMethodDescriptor yX2_callees.desc).map (fun q => q.parameters.length) = some 1 := by decide +kernel
theorem hp_X2_callees : plainFor yX2_callees = true := by decide +kernel
theorem i_X14_init {l : Launch} {D : va_G} {dA : Nat → ClassId} {lo : Nat} {cs0 : Nat → Option Nat} {d : Nat} (hI : jIH l D dA lo cs0 d) : jMe l D dA lo cs0 (EV d) 193 yX14_init (ws_ yX14_init cX14_init 6 (Option.none : Option Jvm.ClassFile.FieldType)) d := hI 193 (yX14_init, (ws_ yX14_init cX14_init 6 (Option.none : Option Jvm.ClassFile.FieldType))) rfl
theorem w4_X14_init : Cond.code yX14_init cX14_init 6 (Option.none : Option Jvm.ClassFile.FieldType) ∈ lw_all := q2152
theorem w6_X14_init : Cond.initialized yX14_init.cls ∈ lw_all := q183
theorem hy_X14_init : yX14_init.cls ≠ "java/lang/invoke/MethodHandle" ∧ yX14_init.cls ≠ "java/lang/invoke/VarHandle" := by decide +kernel
theorem hl_X14_init : (parseMethodDescriptor yX14_init.desc).map (fun q => q.parameters.length) = some 2 := by decide +kernel
theorem hp_X14_init : plainFor yX14_init = true := by decide +kernel
theorem i_X15_targets {l : Launch} {D : va_G} {dA : Nat → ClassId} {lo : Nat} {cs0 : Nat → Option Nat} {d : Nat} (hI : jIH l D dA lo cs0 d) : jMe l D dA lo cs0 (EV d) 194 yX15_targets (ws_ yX15_targets cX15_targets 7 (Option.some Jvm.ClassFile.FieldType.long)) d := hI 194 (yX15_targets, (ws_ yX15_targets cX15_targets 7 (Option.some Jvm.ClassFile.FieldType.long))) rfl
theorem w4_X15_targets : Cond.code yX15_targets cX15_targets 7 (Option.some Jvm.ClassFile.FieldType.long) ∈ lw_all := q2789
theorem w6_X15_targets : Cond.initialized yX15_targets.cls ∈ lw_all := q184
theorem hy_X15_targets : yX15_targets.cls ≠ "java/lang/invoke/MethodHandle" ∧ yX15_targets.cls ≠ "java/lang/invoke/VarHandle" := by decide +kernel
theorem hl_X15_targets : (parseMethodDescriptor yX15_targets.desc).map (fun q => q.parameters.length) = some 1 := by decide +kernel
theorem hp_X15_targets : plainFor yX15_targets = true := by decide +kernel
theorem i_X4_pointed {l : Launch} {D : va_G} {dA : Nat → ClassId} {lo : Nat} {cs0 : Nat → Option Nat} {d : Nat} (hI : jIH l D dA lo cs0 d) : jMe l D dA lo cs0 (EV d) 195 yX4_pointed (ws_ yX4_pointed cX4_pointed 3 (Option.some Jvm.ClassFile.FieldType.int)) d := hI 195 (yX4_pointed, (ws_ yX4_pointed cX4_pointed 3 (Option.some Jvm.ClassFile.FieldType.int))) rfl
theorem w4_X4_pointed : Cond.code yX4_pointed cX4_pointed 3 (Option.some Jvm.ClassFile.FieldType.int) ∈ lw_all := q3219
theorem w6_X4_pointed : Cond.initialized yX4_pointed.cls ∈ lw_all := q160
theorem hy_X4_pointed : yX4_pointed.cls ≠ "java/lang/invoke/MethodHandle" ∧ yX4_pointed.cls ≠ "java/lang/invoke/VarHandle" := by decide +kernel
theorem hl_X4_pointed : (parseMethodDescriptor yX4_pointed.desc).map (fun q => q.parameters.length) = some 1 := by decide +kernel
theorem hp_X4_pointed : plainFor yX4_pointed = true := by decide +kernel
theorem i_X16_find {l : Launch} {D : va_G} {dA : Nat → ClassId} {lo : Nat} {cs0 : Nat → Option Nat} {d : Nat} (hI : jIH l D dA lo cs0 d) : jMe l D dA lo cs0 (EV d) 196 yX16_find (ws_ yX16_find cX16_find 2 (Option.some (Jvm.ClassFile.FieldType.object "PointerAnalyzer$Term"))) d := hI 196 (yX16_find, (ws_ yX16_find cX16_find 2 (Option.some (Jvm.ClassFile.FieldType.object "PointerAnalyzer$Term")))) rfl
theorem w4_X16_find : Cond.code yX16_find cX16_find 2 (Option.some (Jvm.ClassFile.FieldType.object "PointerAnalyzer$Term")) ∈ lw_all := q2241
theorem w6_X16_find : Cond.initialized yX16_find.cls ∈ lw_all := q185
theorem hy_X16_find : yX16_find.cls ≠ "java/lang/invoke/MethodHandle" ∧ yX16_find.cls ≠ "java/lang/invoke/VarHandle" := by decide +kernel
theorem hl_X16_find : (parseMethodDescriptor yX16_find.desc).map (fun q => q.parameters.length) = some 0 := by decide +kernel
theorem hp_X16_find : plainFor yX16_find = true := by decide +kernel
theorem i_X16_init {l : Launch} {D : va_G} {dA : Nat → ClassId} {lo : Nat} {cs0 : Nat → Option Nat} {d : Nat} (hI : jIH l D dA lo cs0 d) : jMe l D dA lo cs0 (EV d) 197 yX16_init (ws_ yX16_init cX16_init 1 (Option.none : Option Jvm.ClassFile.FieldType)) d := hI 197 (yX16_init, (ws_ yX16_init cX16_init 1 (Option.none : Option Jvm.ClassFile.FieldType))) rfl
theorem w4_X16_init : Cond.code yX16_init cX16_init 1 (Option.none : Option Jvm.ClassFile.FieldType) ∈ lw_all := q2215
theorem w6_X16_init : Cond.initialized yX16_init.cls ∈ lw_all := q185
theorem hy_X16_init : yX16_init.cls ≠ "java/lang/invoke/MethodHandle" ∧ yX16_init.cls ≠ "java/lang/invoke/VarHandle" := by decide +kernel
theorem hl_X16_init : (parseMethodDescriptor yX16_init.desc).map (fun q => q.parameters.length) = some 0 := by decide +kernel
theorem hp_X16_init : plainFor yX16_init = true := by decide +kernel
theorem i_X15_unify {l : Launch} {D : va_G} {dA : Nat → ClassId} {lo : Nat} {cs0 : Nat → Option Nat} {d : Nat} (hI : jIH l D dA lo cs0 d) : jMe l D dA lo cs0 (EV d) 198 yX15_unify (ws_ yX15_unify cX15_unify 5 (Option.none : Option Jvm.ClassFile.FieldType)) d := hI 198 (yX15_unify, (ws_ yX15_unify cX15_unify 5 (Option.none : Option Jvm.ClassFile.FieldType))) rfl
theorem w4_X15_unify : Cond.code yX15_unify cX15_unify 5 (Option.none : Option Jvm.ClassFile.FieldType) ∈ lw_all := q2232
theorem w6_X15_unify : Cond.initialized yX15_unify.cls ∈ lw_all := q184
theorem hy_X15_unify : yX15_unify.cls ≠ "java/lang/invoke/MethodHandle" ∧ yX15_unify.cls ≠ "java/lang/invoke/VarHandle" := by decide +kernel
theorem hl_X15_unify : (parseMethodDescriptor yX15_unify.desc).map (fun q => q.parameters.length) = some 1 := by decide +kernel
theorem hp_X15_unify : plainFor yX15_unify = true := by decide +kernel
theorem i_X3_is {l : Launch} {D : va_G} {dA : Nat → ClassId} {lo : Nat} {cs0 : Nat → Option Nat} {d : Nat} (hI : jIH l D dA lo cs0 d) : jMe l D dA lo cs0 (EV d) 199 yX3_is (ws_ yX3_is cX3_is 2 (Option.some Jvm.ClassFile.FieldType.boolean)) d := hI 199 (yX3_is, (ws_ yX3_is cX3_is 2 (Option.some Jvm.ClassFile.FieldType.boolean))) rfl
theorem w4_X3_is : Cond.code yX3_is cX3_is 2 (Option.some Jvm.ClassFile.FieldType.boolean) ∈ lw_all := q1409
theorem w6_X3_is : Cond.initialized yX3_is.cls ∈ lw_all := q155
theorem hy_X3_is : yX3_is.cls ≠ "java/lang/invoke/MethodHandle" ∧ yX3_is.cls ≠ "java/lang/invoke/VarHandle" := by decide +kernel
theorem hl_X3_is : (parseMethodDescriptor yX3_is.desc).map (fun q => q.parameters.length) = some 1 := by decide +kernel
theorem hp_X3_is : plainFor yX3_is = true := by decide +kernel
theorem i_X1_paths {l : Launch} {D : va_G} {dA : Nat → ClassId} {lo : Nat} {cs0 : Nat → Option Nat} {d : Nat} (hI : jIH l D dA lo cs0 d) : jMe l D dA lo cs0 (EV d) 200 yX1_paths (ws_ yX1_paths cX1_paths 4 (Option.some (Jvm.ClassFile.FieldType.array Jvm.ClassFile.FieldType.int))) d := hI 200 (yX1_paths, (ws_ yX1_paths cX1_paths 4 (Option.some (Jvm.ClassFile.FieldType.array Jvm.ClassFile.FieldType.int)))) rfl
theorem w4_X1_paths : Cond.code yX1_paths cX1_paths 4 (Option.some (Jvm.ClassFile.FieldType.array Jvm.ClassFile.FieldType.int)) ∈ lw_all := q2833
theorem w6_X1_paths : Cond.initialized yX1_paths.cls ∈ lw_all := q123
theorem hy_X1_paths : yX1_paths.cls ≠ "java/lang/invoke/MethodHandle" ∧ yX1_paths.cls ≠ "java/lang/invoke/VarHandle" := by decide +kernel
theorem hl_X1_paths : (parseMethodDescriptor yX1_paths.desc).map (fun q => q.parameters.length) = some 0 := by decide +kernel
theorem hp_X1_paths : plainFor yX1_paths = true := by decide +kernel
theorem i_X4_edge {l : Launch} {D : va_G} {dA : Nat → ClassId} {lo : Nat} {cs0 : Nat → Option Nat} {d : Nat} (hI : jIH l D dA lo cs0 d) : jMe l D dA lo cs0 (EV d) 201 yX4_edge (ws_ yX4_edge cX4_edge 4 (Option.some Jvm.ClassFile.FieldType.int)) d := hI 201 (yX4_edge, (ws_ yX4_edge cX4_edge 4 (Option.some Jvm.ClassFile.FieldType.int))) rfl
theorem w4_X4_edge : Cond.code yX4_edge cX4_edge 4 (Option.some Jvm.ClassFile.FieldType.int) ∈ lw_all := q3369
theorem w6_X4_edge : Cond.initialized yX4_edge.cls ∈ lw_all := q160
theorem hy_X4_edge : yX4_edge.cls ≠ "java/lang/invoke/MethodHandle" ∧ yX4_edge.cls ≠ "java/lang/invoke/VarHandle" := by decide +kernel
theorem hl_X4_edge : (parseMethodDescriptor yX4_edge.desc).map (fun q => q.parameters.length) = some 4 := by decide +kernel
theorem hp_X4_edge : plainFor yX4_edge = true := by decide +kernel
theorem i_X18_init {l : Launch} {D : va_G} {dA : Nat → ClassId} {lo : Nat} {cs0 : Nat → Option Nat} {d : Nat} (hI : jIH l D dA lo cs0 d) : jMe l D dA lo cs0 (EV d) 202 yX18_init (ws_ yX18_init cX18_init 3 (Option.none : Option Jvm.ClassFile.FieldType)) d := hI 202 (yX18_init, (ws_ yX18_init cX18_init 3 (Option.none : Option Jvm.ClassFile.FieldType))) rfl
theorem w4_X18_init : Cond.code yX18_init cX18_init 3 (Option.none : Option Jvm.ClassFile.FieldType) ∈ lw_all := q2275
theorem w6_X18_init : Cond.initialized yX18_init.cls ∈ lw_all := q187
theorem hy_X18_init : yX18_init.cls ≠ "java/lang/invoke/MethodHandle" ∧ yX18_init.cls ≠ "java/lang/invoke/VarHandle" := by decide +kernel
theorem hl_X18_init : (parseMethodDescriptor yX18_init.desc).map (fun q => q.parameters.length) = some 2 := by decide +kernel
theorem hp_X18_init : plainFor yX18_init = true := by decide +kernel
theorem i_X17_activate {l : Launch} {D : va_G} {dA : Nat → ClassId} {lo : Nat} {cs0 : Nat → Option Nat} {d : Nat} (hI : jIH l D dA lo cs0 d) : jMe l D dA lo cs0 (EV d) 203 yX17_activate (ws_ yX17_activate cX17_activate 5 (Option.some (Jvm.ClassFile.FieldType.object "PointerAnalyzer$Place"))) d := hI 203 (yX17_activate, (ws_ yX17_activate cX17_activate 5 (Option.some (Jvm.ClassFile.FieldType.object "PointerAnalyzer$Place")))) rfl
theorem w4_X17_activate : Cond.code yX17_activate cX17_activate 5 (Option.some (Jvm.ClassFile.FieldType.object "PointerAnalyzer$Place")) ∈ lw_all := q2292
theorem w6_X17_activate : Cond.initialized yX17_activate.cls ∈ lw_all := q186
theorem hy_X17_activate : yX17_activate.cls ≠ "java/lang/invoke/MethodHandle" ∧ yX17_activate.cls ≠ "java/lang/invoke/VarHandle" := by decide +kernel
theorem hl_X17_activate : (parseMethodDescriptor yX17_activate.desc).map (fun q => q.parameters.length) = some 2 := by decide +kernel
theorem hp_X17_activate : plainFor yX17_activate = true := by decide +kernel
theorem i_X4_placeIn {l : Launch} {D : va_G} {dA : Nat → ClassId} {lo : Nat} {cs0 : Nat → Option Nat} {d : Nat} (hI : jIH l D dA lo cs0 d) : jMe l D dA lo cs0 (EV d) 204 yX4_placeIn (ws_ yX4_placeIn cX4_placeIn 2 (Option.some Jvm.ClassFile.FieldType.int)) d := hI 204 (yX4_placeIn, (ws_ yX4_placeIn cX4_placeIn 2 (Option.some Jvm.ClassFile.FieldType.int))) rfl
theorem w4_X4_placeIn : Cond.code yX4_placeIn cX4_placeIn 2 (Option.some Jvm.ClassFile.FieldType.int) ∈ lw_all := q3385
theorem w6_X4_placeIn : Cond.initialized yX4_placeIn.cls ∈ lw_all := q160
theorem hy_X4_placeIn : yX4_placeIn.cls ≠ "java/lang/invoke/MethodHandle" ∧ yX4_placeIn.cls ≠ "java/lang/invoke/VarHandle" := by decide +kernel
theorem hl_X4_placeIn : (parseMethodDescriptor yX4_placeIn.desc).map (fun q => q.parameters.length) = some 1 := by decide +kernel
theorem hp_X4_placeIn : plainFor yX4_placeIn = true := by decide +kernel
theorem i_X4_assigns {l : Launch} {D : va_G} {dA : Nat → ClassId} {lo : Nat} {cs0 : Nat → Option Nat} {d : Nat} (hI : jIH l D dA lo cs0 d) : jMe l D dA lo cs0 (EV d) 205 yX4_assigns (ws_ yX4_assigns cX4_assigns 3 (Option.none : Option Jvm.ClassFile.FieldType)) d := hI 205 (yX4_assigns, (ws_ yX4_assigns cX4_assigns 3 (Option.none : Option Jvm.ClassFile.FieldType))) rfl
theorem w4_X4_assigns : Cond.code yX4_assigns cX4_assigns 3 (Option.none : Option Jvm.ClassFile.FieldType) ∈ lw_all := q3389
theorem w6_X4_assigns : Cond.initialized yX4_assigns.cls ∈ lw_all := q160
theorem hy_X4_assigns : yX4_assigns.cls ≠ "java/lang/invoke/MethodHandle" ∧ yX4_assigns.cls ≠ "java/lang/invoke/VarHandle" := by decide +kernel
theorem hl_X4_assigns : (parseMethodDescriptor yX4_assigns.desc).map (fun q => q.parameters.length) = some 2 := by decide +kernel
theorem hp_X4_assigns : plainFor yX4_assigns = true := by decide +kernel
theorem i_X4_siteOf {l : Launch} {D : va_G} {dA : Nat → ClassId} {lo : Nat} {cs0 : Nat → Option Nat} {d : Nat} (hI : jIH l D dA lo cs0 d) : jMe l D dA lo cs0 (EV d) 206 yX4_siteOf (ws_ yX4_siteOf cX4_siteOf 4 (Option.some Jvm.ClassFile.FieldType.int)) d := hI 206 (yX4_siteOf, (ws_ yX4_siteOf cX4_siteOf 4 (Option.some Jvm.ClassFile.FieldType.int))) rfl
theorem w4_X4_siteOf : Cond.code yX4_siteOf cX4_siteOf 4 (Option.some Jvm.ClassFile.FieldType.int) ∈ lw_all := q3199
theorem w6_X4_siteOf : Cond.initialized yX4_siteOf.cls ∈ lw_all := q160
theorem hy_X4_siteOf : yX4_siteOf.cls ≠ "java/lang/invoke/MethodHandle" ∧ yX4_siteOf.cls ≠ "java/lang/invoke/VarHandle" := by decide +kernel
theorem hl_X4_siteOf : (parseMethodDescriptor yX4_siteOf.desc).map (fun q => q.parameters.length) = some 1 := by decide +kernel
theorem hp_X4_siteOf : plainFor yX4_siteOf = true := by decide +kernel
theorem i_X4_makesObject {l : Launch} {D : va_G} {dA : Nat → ClassId} {lo : Nat} {cs0 : Nat → Option Nat} {d : Nat} (hI : jIH l D dA lo cs0 d) : jMe l D dA lo cs0 (EV d) 207 yX4_makesObject (ws_ yX4_makesObject cX4_makesObject 4 (Option.some Jvm.ClassFile.FieldType.int)) d := hI 207 (yX4_makesObject, (ws_ yX4_makesObject cX4_makesObject 4 (Option.some Jvm.ClassFile.FieldType.int))) rfl
theorem w4_X4_makesObject : Cond.code yX4_makesObject cX4_makesObject 4 (Option.some Jvm.ClassFile.FieldType.int) ∈ lw_all := q3397
theorem w6_X4_makesObject : Cond.initialized yX4_makesObject.cls ∈ lw_all := q160
theorem hy_X4_makesObject : yX4_makesObject.cls ≠ "java/lang/invoke/MethodHandle" ∧ yX4_makesObject.cls ≠ "java/lang/invoke/VarHandle" := by decide +kernel
theorem hl_X4_makesObject : (parseMethodDescriptor yX4_makesObject.desc).map (fun q => q.parameters.length) = some 1 := by decide +kernel
theorem hp_X4_makesObject : plainFor yX4_makesObject = true := by decide +kernel
theorem i_X4_offsets {l : Launch} {D : va_G} {dA : Nat → ClassId} {lo : Nat} {cs0 : Nat → Option Nat} {d : Nat} (hI : jIH l D dA lo cs0 d) : jMe l D dA lo cs0 (EV d) 208 yX4_offsets (ws_ yX4_offsets cX4_offsets 5 (Option.none : Option Jvm.ClassFile.FieldType)) d := hI 208 (yX4_offsets, (ws_ yX4_offsets cX4_offsets 5 (Option.none : Option Jvm.ClassFile.FieldType))) rfl
theorem w4_X4_offsets : Cond.code yX4_offsets cX4_offsets 5 (Option.none : Option Jvm.ClassFile.FieldType) ∈ lw_all := q3401
theorem w6_X4_offsets : Cond.initialized yX4_offsets.cls ∈ lw_all := q160
theorem hy_X4_offsets : yX4_offsets.cls ≠ "java/lang/invoke/MethodHandle" ∧ yX4_offsets.cls ≠ "java/lang/invoke/VarHandle" := by decide +kernel
theorem hl_X4_offsets : (parseMethodDescriptor yX4_offsets.desc).map (fun q => q.parameters.length) = some 3 := by decide +kernel
theorem hp_X4_offsets : plainFor yX4_offsets = true := by decide +kernel
theorem i_J12_bitCount {l : Launch} {D : va_G} {dA : Nat → ClassId} {lo : Nat} {cs0 : Nat → Option Nat} {d : Nat} (hI : jIH l D dA lo cs0 d) : jMe l D dA lo cs0 (EV d) 209 yJ12_bitCount (ws_ yJ12_bitCount cJ12_bitCount 2 (Option.some Jvm.ClassFile.FieldType.int)) d := hI 209 (yJ12_bitCount, (ws_ yJ12_bitCount cJ12_bitCount 2 (Option.some Jvm.ClassFile.FieldType.int))) rfl
theorem w4_J12_bitCount : Cond.code yJ12_bitCount cJ12_bitCount 2 (Option.some Jvm.ClassFile.FieldType.int) ∈ lw_all := q629
theorem w6_J12_bitCount : Cond.initialized yJ12_bitCount.cls ∈ lw_all := q139
theorem hy_J12_bitCount : yJ12_bitCount.cls ≠ "java/lang/invoke/MethodHandle" ∧ yJ12_bitCount.cls ≠ "java/lang/invoke/VarHandle" := by decide +kernel
theorem hl_J12_bitCount : (parseMethodDescriptor yJ12_bitCount.desc).map (fun q => q.parameters.length) = some 1 := by decide +kernel
theorem hp_J12_bitCount : plainFor yJ12_bitCount = true := by decide +kernel
theorem i_X4_passes {l : Launch} {D : va_G} {dA : Nat → ClassId} {lo : Nat} {cs0 : Nat → Option Nat} {d : Nat} (hI : jIH l D dA lo cs0 d) : jMe l D dA lo cs0 (EV d) 210 yX4_passes (ws_ yX4_passes cX4_passes 3 (Option.some Jvm.ClassFile.FieldType.int)) d := hI 210 (yX4_passes, (ws_ yX4_passes cX4_passes 3 (Option.some Jvm.ClassFile.FieldType.int))) rfl
theorem w4_X4_passes : Cond.code yX4_passes cX4_passes 3 (Option.some Jvm.ClassFile.FieldType.int) ∈ lw_all := q3437
theorem w6_X4_passes : Cond.initialized yX4_passes.cls ∈ lw_all := q160
theorem hy_X4_passes : yX4_passes.cls ≠ "java/lang/invoke/MethodHandle" ∧ yX4_passes.cls ≠ "java/lang/invoke/VarHandle" := by decide +kernel
theorem hl_X4_passes : (parseMethodDescriptor yX4_passes.desc).map (fun q => q.parameters.length) = some 1 := by decide +kernel
theorem hp_X4_passes : plainFor yX4_passes = true := by decide +kernel
theorem i_J0_init {l : Launch} {D : va_G} {dA : Nat → ClassId} {lo : Nat} {cs0 : Nat → Option Nat} {d : Nat} (hI : jIH l D dA lo cs0 d) : jMe l D dA lo cs0 (EV d) 211 yJ0_init (ws_ yJ0_init cJ0_init 1 (Option.none : Option Jvm.ClassFile.FieldType)) d := hI 211 (yJ0_init, (ws_ yJ0_init cJ0_init 1 (Option.none : Option Jvm.ClassFile.FieldType))) rfl
theorem w4_J0_init : Cond.code yJ0_init cJ0_init 1 (Option.none : Option Jvm.ClassFile.FieldType) ∈ lw_all := q211
theorem w6_J0_init : Cond.initialized yJ0_init.cls ∈ lw_all := q125
theorem hy_J0_init : yJ0_init.cls ≠ "java/lang/invoke/MethodHandle" ∧ yJ0_init.cls ≠ "java/lang/invoke/VarHandle" := by decide +kernel
theorem hl_J0_init : (parseMethodDescriptor yJ0_init.desc).map (fun q => q.parameters.length) = some 0 := by decide +kernel
theorem hp_J0_init : plainFor yJ0_init = true := by decide +kernel
theorem i_J1_put_2 {l : Launch} {D : va_G} {dA : Nat → ClassId} {lo : Nat} {cs0 : Nat → Option Nat} {d : Nat} (hI : jIH l D dA lo cs0 d) : jMe l D dA lo cs0 (EV d) 212 yJ1_put_2 (ws_ yJ1_put_2 cJ1_put_2 10 (Option.some (Jvm.ClassFile.FieldType.object "java/lang/Object"))) d := hI 212 (yJ1_put_2, (ws_ yJ1_put_2 cJ1_put_2 10 (Option.some (Jvm.ClassFile.FieldType.object "java/lang/Object")))) rfl
theorem w4_J1_put_2 : Cond.code yJ1_put_2 cJ1_put_2 10 (Option.some (Jvm.ClassFile.FieldType.object "java/lang/Object")) ∈ lw_all := q295
theorem w6_J1_put_2 : Cond.initialized yJ1_put_2.cls ∈ lw_all := q126
theorem hy_J1_put_2 : yJ1_put_2.cls ≠ "java/lang/invoke/MethodHandle" ∧ yJ1_put_2.cls ≠ "java/lang/invoke/VarHandle" := by decide +kernel
theorem hl_J1_put_2 : (parseMethodDescriptor yJ1_put_2.desc).map (fun q => q.parameters.length) = some 3 := by decide +kernel
theorem hp_J1_put_2 : plainFor yJ1_put_2 = true := by decide +kernel
theorem i_J2_init {l : Launch} {D : va_G} {dA : Nat → ClassId} {lo : Nat} {cs0 : Nat → Option Nat} {d : Nat} (hI : jIH l D dA lo cs0 d) : jMe l D dA lo cs0 (EV d) 213 yJ2_init (ws_ yJ2_init cJ2_init 1 (Option.none : Option Jvm.ClassFile.FieldType)) d := hI 213 (yJ2_init, (ws_ yJ2_init cJ2_init 1 (Option.none : Option Jvm.ClassFile.FieldType))) rfl
theorem w4_J2_init : Cond.code yJ2_init cJ2_init 1 (Option.none : Option Jvm.ClassFile.FieldType) ∈ lw_all := q249
theorem w6_J2_init : Cond.initialized yJ2_init.cls ∈ lw_all := q127
theorem hy_J2_init : yJ2_init.cls ≠ "java/lang/invoke/MethodHandle" ∧ yJ2_init.cls ≠ "java/lang/invoke/VarHandle" := by decide +kernel
theorem hl_J2_init : (parseMethodDescriptor yJ2_init.desc).map (fun q => q.parameters.length) = some 0 := by decide +kernel
theorem hp_J2_init : plainFor yJ2_init = true := by decide +kernel
theorem i_J1_size {l : Launch} {D : va_G} {dA : Nat → ClassId} {lo : Nat} {cs0 : Nat → Option Nat} {d : Nat} (hI : jIH l D dA lo cs0 d) : jMe l D dA lo cs0 (EV d) 214 yJ1_size (ws_ yJ1_size cJ1_size 1 (Option.some Jvm.ClassFile.FieldType.int)) d := hI 214 (yJ1_size, (ws_ yJ1_size cJ1_size 1 (Option.some Jvm.ClassFile.FieldType.int))) rfl
theorem w4_J1_size : Cond.code yJ1_size cJ1_size 1 (Option.some Jvm.ClassFile.FieldType.int) ∈ lw_all := q738
theorem w6_J1_size : Cond.initialized yJ1_size.cls ∈ lw_all := q126
theorem hy_J1_size : yJ1_size.cls ≠ "java/lang/invoke/MethodHandle" ∧ yJ1_size.cls ≠ "java/lang/invoke/VarHandle" := by decide +kernel
theorem hl_J1_size : (parseMethodDescriptor yJ1_size.desc).map (fun q => q.parameters.length) = some 0 := by decide +kernel
theorem hp_J1_size : plainFor yJ1_size = true := by decide +kernel
theorem i_J1_comparator {l : Launch} {D : va_G} {dA : Nat → ClassId} {lo : Nat} {cs0 : Nat → Option Nat} {d : Nat} (hI : jIH l D dA lo cs0 d) : jMe l D dA lo cs0 (EV d) 215 yJ1_comparator (ws_ yJ1_comparator cJ1_comparator 1 (Option.some (Jvm.ClassFile.FieldType.object "java/util/Comparator"))) d := hI 215 (yJ1_comparator, (ws_ yJ1_comparator cJ1_comparator 1 (Option.some (Jvm.ClassFile.FieldType.object "java/util/Comparator")))) rfl
theorem w4_J1_comparator : Cond.code yJ1_comparator cJ1_comparator 1 (Option.some (Jvm.ClassFile.FieldType.object "java/util/Comparator")) ∈ lw_all := q749
theorem w6_J1_comparator : Cond.initialized yJ1_comparator.cls ∈ lw_all := q126
theorem hy_J1_comparator : yJ1_comparator.cls ≠ "java/lang/invoke/MethodHandle" ∧ yJ1_comparator.cls ≠ "java/lang/invoke/VarHandle" := by decide +kernel
theorem hl_J1_comparator : (parseMethodDescriptor yJ1_comparator.desc).map (fun q => q.parameters.length) = some 0 := by decide +kernel
theorem hp_J1_comparator : plainFor yJ1_comparator = true := by decide +kernel
theorem i_J16_equals {l : Launch} {D : va_G} {dA : Nat → ClassId} {lo : Nat} {cs0 : Nat → Option Nat} {d : Nat} (hI : jIH l D dA lo cs0 d) : jMe l D dA lo cs0 (EV d) 216 yJ16_equals (ws_ yJ16_equals cJ16_equals 2 (Option.some Jvm.ClassFile.FieldType.boolean)) d := hI 216 (yJ16_equals, (ws_ yJ16_equals cJ16_equals 2 (Option.some Jvm.ClassFile.FieldType.boolean))) rfl
theorem w4_J16_equals : Cond.code yJ16_equals cJ16_equals 2 (Option.some Jvm.ClassFile.FieldType.boolean) ∈ lw_all := q752
theorem w6_J16_equals : Cond.initialized yJ16_equals.cls ∈ lw_all := q143
theorem hy_J16_equals : yJ16_equals.cls ≠ "java/lang/invoke/MethodHandle" ∧ yJ16_equals.cls ≠ "java/lang/invoke/VarHandle" := by decide +kernel
theorem hl_J16_equals : (parseMethodDescriptor yJ16_equals.desc).map (fun q => q.parameters.length) = some 2 := by decide +kernel
theorem hp_J16_equals : plainFor yJ16_equals = true := by decide +kernel
theorem i_J1_entrySet {l : Launch} {D : va_G} {dA : Nat → ClassId} {lo : Nat} {cs0 : Nat → Option Nat} {d : Nat} (hI : jIH l D dA lo cs0 d) : jMe l D dA lo cs0 (EV d) 217 yJ1_entrySet (ws_ yJ1_entrySet cJ1_entrySet 2 (Option.some (Jvm.ClassFile.FieldType.object "java/util/Set"))) d := hI 217 (yJ1_entrySet, (ws_ yJ1_entrySet cJ1_entrySet 2 (Option.some (Jvm.ClassFile.FieldType.object "java/util/Set")))) rfl
theorem w4_J1_entrySet : Cond.code yJ1_entrySet cJ1_entrySet 2 (Option.some (Jvm.ClassFile.FieldType.object "java/util/Set")) ∈ lw_all := q810
theorem w6_J1_entrySet : Cond.initialized yJ1_entrySet.cls ∈ lw_all := q126
theorem hy_J1_entrySet : yJ1_entrySet.cls ≠ "java/lang/invoke/MethodHandle" ∧ yJ1_entrySet.cls ≠ "java/lang/invoke/VarHandle" := by decide +kernel
theorem hl_J1_entrySet : (parseMethodDescriptor yJ1_entrySet.desc).map (fun q => q.parameters.length) = some 0 := by decide +kernel
theorem hp_J1_entrySet : plainFor yJ1_entrySet = true := by decide +kernel
theorem i_J18_iterator {l : Launch} {D : va_G} {dA : Nat → ClassId} {lo : Nat} {cs0 : Nat → Option Nat} {d : Nat} (hI : jIH l D dA lo cs0 d) : jMe l D dA lo cs0 (EV d) 218 yJ18_iterator (ws_ yJ18_iterator cJ18_iterator 1 (Option.some (Jvm.ClassFile.FieldType.object "java/util/Iterator"))) d := hI 218 (yJ18_iterator, (ws_ yJ18_iterator cJ18_iterator 1 (Option.some (Jvm.ClassFile.FieldType.object "java/util/Iterator")))) rfl
theorem w4_J18_iterator : Cond.code yJ18_iterator cJ18_iterator 1 (Option.some (Jvm.ClassFile.FieldType.object "java/util/Iterator")) ∈ lw_all := q833
theorem w6_J18_iterator : Cond.initialized yJ18_iterator.cls ∈ lw_all := q145
theorem hy_J18_iterator : yJ18_iterator.cls ≠ "java/lang/invoke/MethodHandle" ∧ yJ18_iterator.cls ≠ "java/lang/invoke/VarHandle" := by decide +kernel
theorem hl_J18_iterator : (parseMethodDescriptor yJ18_iterator.desc).map (fun q => q.parameters.length) = some 0 := by decide +kernel
theorem hp_J18_iterator : plainFor yJ18_iterator = true := by decide +kernel
theorem i_J22_iterator {l : Launch} {D : va_G} {dA : Nat → ClassId} {lo : Nat} {cs0 : Nat → Option Nat} {d : Nat} (hI : jIH l D dA lo cs0 d) : jMe l D dA lo cs0 (EV d) 219 yJ22_iterator (ws_ yJ22_iterator cJ22_iterator 1 (Option.some (Jvm.ClassFile.FieldType.object "java/util/Iterator"))) d := hI 219 (yJ22_iterator, (ws_ yJ22_iterator cJ22_iterator 1 (Option.some (Jvm.ClassFile.FieldType.object "java/util/Iterator")))) rfl
theorem w4_J22_iterator : Cond.code yJ22_iterator cJ22_iterator 1 (Option.some (Jvm.ClassFile.FieldType.object "java/util/Iterator")) ∈ lw_all := q865
theorem w6_J22_iterator : Cond.initialized yJ22_iterator.cls ∈ lw_all := q149
theorem hy_J22_iterator : yJ22_iterator.cls ≠ "java/lang/invoke/MethodHandle" ∧ yJ22_iterator.cls ≠ "java/lang/invoke/VarHandle" := by decide +kernel
theorem hl_J22_iterator : (parseMethodDescriptor yJ22_iterator.desc).map (fun q => q.parameters.length) = some 0 := by decide +kernel
theorem hp_J22_iterator : plainFor yJ22_iterator = true := by decide +kernel
theorem i_J37_iterator {l : Launch} {D : va_G} {dA : Nat → ClassId} {lo : Nat} {cs0 : Nat → Option Nat} {d : Nat} (hI : jIH l D dA lo cs0 d) : jMe l D dA lo cs0 (EV d) 220 yJ37_iterator (ws_ yJ37_iterator cJ37_iterator 1 (Option.some (Jvm.ClassFile.FieldType.object "java/util/Iterator"))) d := hI 220 (yJ37_iterator, (ws_ yJ37_iterator cJ37_iterator 1 (Option.some (Jvm.ClassFile.FieldType.object "java/util/Iterator")))) rfl
theorem w4_J37_iterator : Cond.code yJ37_iterator cJ37_iterator 1 (Option.some (Jvm.ClassFile.FieldType.object "java/util/Iterator")) ∈ lw_all := q892
theorem w6_J37_iterator : Cond.initialized yJ37_iterator.cls ∈ lw_all := q174
theorem hy_J37_iterator : yJ37_iterator.cls ≠ "java/lang/invoke/MethodHandle" ∧ yJ37_iterator.cls ≠ "java/lang/invoke/VarHandle" := by decide +kernel
theorem hl_J37_iterator : (parseMethodDescriptor yJ37_iterator.desc).map (fun q => q.parameters.length) = some 0 := by decide +kernel
theorem hp_J37_iterator : plainFor yJ37_iterator = true := by decide +kernel
theorem i_J1_buildFromSorted {l : Launch} {D : va_G} {dA : Nat → ClassId} {lo : Nat} {cs0 : Nat → Option Nat} {d : Nat} (hI : jIH l D dA lo cs0 d) : jMe l D dA lo cs0 (EV d) 221 yJ1_buildFromSorted (ws_ yJ1_buildFromSorted cJ1_buildFromSorted 5 (Option.none : Option Jvm.ClassFile.FieldType)) d := hI 221 (yJ1_buildFromSorted, (ws_ yJ1_buildFromSorted cJ1_buildFromSorted 5 (Option.none : Option Jvm.ClassFile.FieldType))) rfl
theorem w4_J1_buildFromSorted : Cond.code yJ1_buildFromSorted cJ1_buildFromSorted 5 (Option.none : Option Jvm.ClassFile.FieldType) ∈ lw_all := q924
theorem w6_J1_buildFromSorted : Cond.initialized yJ1_buildFromSorted.cls ∈ lw_all := q126
theorem hy_J1_buildFromSorted : yJ1_buildFromSorted.cls ≠ "java/lang/invoke/MethodHandle" ∧ yJ1_buildFromSorted.cls ≠ "java/lang/invoke/VarHandle" := by decide +kernel
theorem hl_J1_buildFromSorted : (parseMethodDescriptor yJ1_buildFromSorted.desc).map (fun q => q.parameters.length) = some 4 := by decide +kernel
theorem hp_J1_buildFromSorted : plainFor yJ1_buildFromSorted = true := by decide +kernel
theorem i_J1_getEntry {l : Launch} {D : va_G} {dA : Nat → ClassId} {lo : Nat} {cs0 : Nat → Option Nat} {d : Nat} (hI : jIH l D dA lo cs0 d) : jMe l D dA lo cs0 (EV d) 222 yJ1_getEntry (ws_ yJ1_getEntry cJ1_getEntry 5 (Option.some (Jvm.ClassFile.FieldType.object "java/util/TreeMap$Entry"))) d := hI 222 (yJ1_getEntry, (ws_ yJ1_getEntry cJ1_getEntry 5 (Option.some (Jvm.ClassFile.FieldType.object "java/util/TreeMap$Entry")))) rfl
theorem w4_J1_getEntry : Cond.code yJ1_getEntry cJ1_getEntry 5 (Option.some (Jvm.ClassFile.FieldType.object "java/util/TreeMap$Entry")) ∈ lw_all := q1139
theorem w6_J1_getEntry : Cond.initialized yJ1_getEntry.cls ∈ lw_all := q126
theorem hy_J1_getEntry : yJ1_getEntry.cls ≠ "java/lang/invoke/MethodHandle" ∧ yJ1_getEntry.cls ≠ "java/lang/invoke/VarHandle" := by decide +kernel
theorem hl_J1_getEntry : (parseMethodDescriptor yJ1_getEntry.desc).map (fun q => q.parameters.length) = some 1 := by decide +kernel
theorem hp_J1_getEntry : plainFor yJ1_getEntry = true := by decide +kernel
theorem i_J16_checkIndex {l : Launch} {D : va_G} {dA : Nat → ClassId} {lo : Nat} {cs0 : Nat → Option Nat} {d : Nat} (hI : jIH l D dA lo cs0 d) : jMe l D dA lo cs0 (EV d) 223 yJ16_checkIndex (ws_ yJ16_checkIndex cJ16_checkIndex 2 (Option.some Jvm.ClassFile.FieldType.int)) d := hI 223 (yJ16_checkIndex, (ws_ yJ16_checkIndex cJ16_checkIndex 2 (Option.some Jvm.ClassFile.FieldType.int))) rfl
theorem w4_J16_checkIndex : Cond.code yJ16_checkIndex cJ16_checkIndex 2 (Option.some Jvm.ClassFile.FieldType.int) ∈ lw_all := q1154
theorem w6_J16_checkIndex : Cond.initialized yJ16_checkIndex.cls ∈ lw_all := q143
theorem hy_J16_checkIndex : yJ16_checkIndex.cls ≠ "java/lang/invoke/MethodHandle" ∧ yJ16_checkIndex.cls ≠ "java/lang/invoke/VarHandle" := by decide +kernel
theorem hl_J16_checkIndex : (parseMethodDescriptor yJ16_checkIndex.desc).map (fun q => q.parameters.length) = some 2 := by decide +kernel
theorem hp_J16_checkIndex : plainFor yJ16_checkIndex = true := by decide +kernel
theorem i_J4_elementData {l : Launch} {D : va_G} {dA : Nat → ClassId} {lo : Nat} {cs0 : Nat → Option Nat} {d : Nat} (hI : jIH l D dA lo cs0 d) : jMe l D dA lo cs0 (EV d) 224 yJ4_elementData (ws_ yJ4_elementData cJ4_elementData 2 (Option.some (Jvm.ClassFile.FieldType.object "java/lang/Object"))) d := hI 224 (yJ4_elementData, (ws_ yJ4_elementData cJ4_elementData 2 (Option.some (Jvm.ClassFile.FieldType.object "java/lang/Object")))) rfl
theorem w4_J4_elementData : Cond.code yJ4_elementData cJ4_elementData 2 (Option.some (Jvm.ClassFile.FieldType.object "java/lang/Object")) ∈ lw_all := q1161
theorem w6_J4_elementData : Cond.initialized yJ4_elementData.cls ∈ lw_all := q129
theorem hy_J4_elementData : yJ4_elementData.cls ≠ "java/lang/invoke/MethodHandle" ∧ yJ4_elementData.cls ≠ "java/lang/invoke/VarHandle" := by decide +kernel
theorem hl_J4_elementData : (parseMethodDescriptor yJ4_elementData.desc).map (fun q => q.parameters.length) = some 1 := by decide +kernel
theorem hp_J4_elementData : plainFor yJ4_elementData = true := by decide +kernel
theorem i_J4_add_2 {l : Launch} {D : va_G} {dA : Nat → ClassId} {lo : Nat} {cs0 : Nat → Option Nat} {d : Nat} (hI : jIH l D dA lo cs0 d) : jMe l D dA lo cs0 (EV d) 225 yJ4_add_2 (ws_ yJ4_add_2 cJ4_add_2 4 (Option.none : Option Jvm.ClassFile.FieldType)) d := hI 225 (yJ4_add_2, (ws_ yJ4_add_2 cJ4_add_2 4 (Option.none : Option Jvm.ClassFile.FieldType))) rfl
theorem w4_J4_add_2 : Cond.code yJ4_add_2 cJ4_add_2 4 (Option.none : Option Jvm.ClassFile.FieldType) ∈ lw_all := q1210
theorem w6_J4_add_2 : Cond.initialized yJ4_add_2.cls ∈ lw_all := q129
theorem hy_J4_add_2 : yJ4_add_2.cls ≠ "java/lang/invoke/MethodHandle" ∧ yJ4_add_2.cls ≠ "java/lang/invoke/VarHandle" := by decide +kernel
theorem hl_J4_add_2 : (parseMethodDescriptor yJ4_add_2.desc).map (fun q => q.parameters.length) = some 3 := by decide +kernel
theorem hp_J4_add_2 : plainFor yJ4_add_2 = true := by decide +kernel
theorem i_X5_init {l : Launch} {D : va_G} {dA : Nat → ClassId} {lo : Nat} {cs0 : Nat → Option Nat} {d : Nat} (hI : jIH l D dA lo cs0 d) : jMe l D dA lo cs0 (EV d) 226 yX5_init (ws_ yX5_init cX5_init 3 (Option.none : Option Jvm.ClassFile.FieldType)) d := hI 226 (yX5_init, (ws_ yX5_init cX5_init 3 (Option.none : Option Jvm.ClassFile.FieldType))) rfl
theorem w4_X5_init : Cond.code yX5_init cX5_init 3 (Option.none : Option Jvm.ClassFile.FieldType) ∈ lw_all := q2468
theorem w6_X5_init : Cond.initialized yX5_init.cls ∈ lw_all := q165
theorem hy_X5_init : yX5_init.cls ≠ "java/lang/invoke/MethodHandle" ∧ yX5_init.cls ≠ "java/lang/invoke/VarHandle" := by decide +kernel
theorem hl_X5_init : (parseMethodDescriptor yX5_init.desc).map (fun q => q.parameters.length) = some 2 := by decide +kernel
theorem hp_X5_init : plainFor yX5_init = true := by decide +kernel
theorem i_X5_body {l : Launch} {D : va_G} {dA : Nat → ClassId} {lo : Nat} {cs0 : Nat → Option Nat} {d : Nat} (hI : jIH l D dA lo cs0 d) : jMe l D dA lo cs0 (EV d) 227 yX5_body (ws_ yX5_body cX5_body 1 (Option.none : Option Jvm.ClassFile.FieldType)) d := hI 227 (yX5_body, (ws_ yX5_body cX5_body 1 (Option.none : Option Jvm.ClassFile.FieldType))) rfl
theorem w4_X5_body : Cond.code yX5_body cX5_body 1 (Option.none : Option Jvm.ClassFile.FieldType) ∈ lw_all := q2489
theorem w6_X5_body : Cond.initialized yX5_body.cls ∈ lw_all := q165
theorem hy_X5_body : yX5_body.cls ≠ "java/lang/invoke/MethodHandle" ∧ yX5_body.cls ≠ "java/lang/invoke/VarHandle" := by decide +kernel
theorem hl_X5_body : (parseMethodDescriptor yX5_body.desc).map (fun q => q.parameters.length) = some 0 := by decide +kernel
theorem hp_X5_body : plainFor yX5_body = true := by decide +kernel
theorem i_X1_count {l : Launch} {D : va_G} {dA : Nat → ClassId} {lo : Nat} {cs0 : Nat → Option Nat} {d : Nat} (hI : jIH l D dA lo cs0 d) : jMe l D dA lo cs0 (EV d) 228 yX1_count (ws_ yX1_count cX1_count 4 (Option.some Jvm.ClassFile.FieldType.int)) d := hI 228 (yX1_count, (ws_ yX1_count cX1_count 4 (Option.some Jvm.ClassFile.FieldType.int))) rfl
theorem w4_X1_count : Cond.code yX1_count cX1_count 4 (Option.some Jvm.ClassFile.FieldType.int) ∈ lw_all := q2651
theorem w6_X1_count : Cond.initialized yX1_count.cls ∈ lw_all := q123
theorem hy_X1_count : yX1_count.cls ≠ "java/lang/invoke/MethodHandle" ∧ yX1_count.cls ≠ "java/lang/invoke/VarHandle" := by decide +kernel
theorem hl_X1_count : (parseMethodDescriptor yX1_count.desc).map (fun q => q.parameters.length) = some 2 := by decide +kernel
theorem hp_X1_count : plainFor yX1_count = true := by decide +kernel
theorem i_X4_takesStore {l : Launch} {D : va_G} {dA : Nat → ClassId} {lo : Nat} {cs0 : Nat → Option Nat} {d : Nat} (hI : jIH l D dA lo cs0 d) : jMe l D dA lo cs0 (EV d) 229 yX4_takesStore (ws_ yX4_takesStore cX4_takesStore 4 (Option.some Jvm.ClassFile.FieldType.boolean)) d := hI 229 (yX4_takesStore, (ws_ yX4_takesStore cX4_takesStore 4 (Option.some Jvm.ClassFile.FieldType.boolean))) rfl
theorem w4_X4_takesStore : Cond.code yX4_takesStore cX4_takesStore 4 (Option.some Jvm.ClassFile.FieldType.boolean) ∈ lw_all := q3073
theorem w6_X4_takesStore : Cond.initialized yX4_takesStore.cls ∈ lw_all := q160
theorem hy_X4_takesStore : yX4_takesStore.cls ≠ "java/lang/invoke/MethodHandle" ∧ yX4_takesStore.cls ≠ "java/lang/invoke/VarHandle" := by decide +kernel
theorem hl_X4_takesStore : (parseMethodDescriptor yX4_takesStore.desc).map (fun q => q.parameters.length) = some 1 := by decide +kernel
theorem hp_X4_takesStore : plainFor yX4_takesStore = true := by decide +kernel
theorem i_X4_name {l : Launch} {D : va_G} {dA : Nat → ClassId} {lo : Nat} {cs0 : Nat → Option Nat} {d : Nat} (hI : jIH l D dA lo cs0 d) : jMe l D dA lo cs0 (EV d) 230 yX4_name (ws_ yX4_name cX4_name 4 (Option.some Jvm.ClassFile.FieldType.int)) d := hI 230 (yX4_name, (ws_ yX4_name cX4_name 4 (Option.some Jvm.ClassFile.FieldType.int))) rfl
theorem w4_X4_name : Cond.code yX4_name cX4_name 4 (Option.some Jvm.ClassFile.FieldType.int) ∈ lw_all := q3077
theorem w6_X4_name : Cond.initialized yX4_name.cls ∈ lw_all := q160
theorem hy_X4_name : yX4_name.cls ≠ "java/lang/invoke/MethodHandle" ∧ yX4_name.cls ≠ "java/lang/invoke/VarHandle" := by decide +kernel
theorem hl_X4_name : (parseMethodDescriptor yX4_name.desc).map (fun q => q.parameters.length) = some 1 := by decide +kernel
theorem hp_X4_name : plainFor yX4_name = true := by decide +kernel
theorem i_X4_puts {l : Launch} {D : va_G} {dA : Nat → ClassId} {lo : Nat} {cs0 : Nat → Option Nat} {d : Nat} (hI : jIH l D dA lo cs0 d) : jMe l D dA lo cs0 (EV d) 231 yX4_puts (ws_ yX4_puts cX4_puts 6 (Option.none : Option Jvm.ClassFile.FieldType)) d := hI 231 (yX4_puts, (ws_ yX4_puts cX4_puts 6 (Option.none : Option Jvm.ClassFile.FieldType))) rfl
theorem w4_X4_puts : Cond.code yX4_puts cX4_puts 6 (Option.none : Option Jvm.ClassFile.FieldType) ∈ lw_all := q3081
theorem w6_X4_puts : Cond.initialized yX4_puts.cls ∈ lw_all := q160
theorem hy_X4_puts : yX4_puts.cls ≠ "java/lang/invoke/MethodHandle" ∧ yX4_puts.cls ≠ "java/lang/invoke/VarHandle" := by decide +kernel
theorem hl_X4_puts : (parseMethodDescriptor yX4_puts.desc).map (fun q => q.parameters.length) = some 4 := by decide +kernel
theorem hp_X4_puts : plainFor yX4_puts = true := by decide +kernel
theorem i_X4_takesCall {l : Launch} {D : va_G} {dA : Nat → ClassId} {lo : Nat} {cs0 : Nat → Option Nat} {d : Nat} (hI : jIH l D dA lo cs0 d) : jMe l D dA lo cs0 (EV d) 232 yX4_takesCall (ws_ yX4_takesCall cX4_takesCall 5 (Option.some Jvm.ClassFile.FieldType.boolean)) d := hI 232 (yX4_takesCall, (ws_ yX4_takesCall cX4_takesCall 5 (Option.some Jvm.ClassFile.FieldType.boolean))) rfl
theorem w4_X4_takesCall : Cond.code yX4_takesCall cX4_takesCall 5 (Option.some Jvm.ClassFile.FieldType.boolean) ∈ lw_all := q3085
theorem w6_X4_takesCall : Cond.initialized yX4_takesCall.cls ∈ lw_all := q160
theorem hy_X4_takesCall : yX4_takesCall.cls ≠ "java/lang/invoke/MethodHandle" ∧ yX4_takesCall.cls ≠ "java/lang/invoke/VarHandle" := by decide +kernel
theorem hl_X4_takesCall : (parseMethodDescriptor yX4_takesCall.desc).map (fun q => q.parameters.length) = some 2 := by decide +kernel
theorem hp_X4_takesCall : plainFor yX4_takesCall = true := by decide +kernel
theorem i_X4_digit {l : Launch} {D : va_G} {dA : Nat → ClassId} {lo : Nat} {cs0 : Nat → Option Nat} {d : Nat} (hI : jIH l D dA lo cs0 d) : jMe l D dA lo cs0 (EV d) 233 yX4_digit (ws_ yX4_digit cX4_digit 2 (Option.some Jvm.ClassFile.FieldType.int)) d := hI 233 (yX4_digit, (ws_ yX4_digit cX4_digit 2 (Option.some Jvm.ClassFile.FieldType.int))) rfl
theorem w4_X4_digit : Cond.code yX4_digit cX4_digit 2 (Option.some Jvm.ClassFile.FieldType.int) ∈ lw_all := q3089
theorem w6_X4_digit : Cond.initialized yX4_digit.cls ∈ lw_all := q160
theorem hy_X4_digit : yX4_digit.cls ≠ "java/lang/invoke/MethodHandle" ∧ yX4_digit.cls ≠ "java/lang/invoke/VarHandle" := by decide +kernel
theorem hl_X4_digit : (parseMethodDescriptor yX4_digit.desc).map (fun q => q.parameters.length) = some 1 := by decide +kernel
theorem hp_X4_digit : plainFor yX4_digit = true := by decide +kernel
theorem i_X4_next {l : Launch} {D : va_G} {dA : Nat → ClassId} {lo : Nat} {cs0 : Nat → Option Nat} {d : Nat} (hI : jIH l D dA lo cs0 d) : jMe l D dA lo cs0 (EV d) 234 yX4_next (ws_ yX4_next cX4_next 1 (Option.some Jvm.ClassFile.FieldType.int)) d := hI 234 (yX4_next, (ws_ yX4_next cX4_next 1 (Option.some Jvm.ClassFile.FieldType.int))) rfl
theorem w4_X4_next : Cond.code yX4_next cX4_next 1 (Option.some Jvm.ClassFile.FieldType.int) ∈ lw_all := q3069
theorem w6_X4_next : Cond.initialized yX4_next.cls ∈ lw_all := q160
theorem hy_X4_next : yX4_next.cls ≠ "java/lang/invoke/MethodHandle" ∧ yX4_next.cls ≠ "java/lang/invoke/VarHandle" := by decide +kernel
theorem hl_X4_next : (parseMethodDescriptor yX4_next.desc).map (fun q => q.parameters.length) = some 0 := by decide +kernel
theorem hp_X4_next : plainFor yX4_next = true := by decide +kernel
theorem i_X4_contextOf {l : Launch} {D : va_G} {dA : Nat → ClassId} {lo : Nat} {cs0 : Nat → Option Nat} {d : Nat} (hI : jIH l D dA lo cs0 d) : jMe l D dA lo cs0 (EV d) 235 yX4_contextOf (ws_ yX4_contextOf cX4_contextOf 4 (Option.some Jvm.ClassFile.FieldType.int)) d := hI 235 (yX4_contextOf, (ws_ yX4_contextOf cX4_contextOf 4 (Option.some Jvm.ClassFile.FieldType.int))) rfl
theorem w4_X4_contextOf : Cond.code yX4_contextOf cX4_contextOf 4 (Option.some Jvm.ClassFile.FieldType.int) ∈ lw_all := q3172
theorem w6_X4_contextOf : Cond.initialized yX4_contextOf.cls ∈ lw_all := q160
theorem hy_X4_contextOf : yX4_contextOf.cls ≠ "java/lang/invoke/MethodHandle" ∧ yX4_contextOf.cls ≠ "java/lang/invoke/VarHandle" := by decide +kernel
theorem hl_X4_contextOf : (parseMethodDescriptor yX4_contextOf.desc).map (fun q => q.parameters.length) = some 2 := by decide +kernel
theorem hp_X4_contextOf : plainFor yX4_contextOf = true := by decide +kernel
theorem i_X4_notes {l : Launch} {D : va_G} {dA : Nat → ClassId} {lo : Nat} {cs0 : Nat → Option Nat} {d : Nat} (hI : jIH l D dA lo cs0 d) : jMe l D dA lo cs0 (EV d) 236 yX4_notes (ws_ yX4_notes cX4_notes 6 (Option.none : Option Jvm.ClassFile.FieldType)) d := hI 236 (yX4_notes, (ws_ yX4_notes cX4_notes 6 (Option.none : Option Jvm.ClassFile.FieldType))) rfl
theorem w4_X4_notes : Cond.code yX4_notes cX4_notes 6 (Option.none : Option Jvm.ClassFile.FieldType) ∈ lw_all := q3203
theorem w6_X4_notes : Cond.initialized yX4_notes.cls ∈ lw_all := q160
theorem hy_X4_notes : yX4_notes.cls ≠ "java/lang/invoke/MethodHandle" ∧ yX4_notes.cls ≠ "java/lang/invoke/VarHandle" := by decide +kernel
theorem hl_X4_notes : (parseMethodDescriptor yX4_notes.desc).map (fun q => q.parameters.length) = some 2 := by decide +kernel
theorem hp_X4_notes : plainFor yX4_notes = true := by decide +kernel
theorem i_X4_addsContext {l : Launch} {D : va_G} {dA : Nat → ClassId} {lo : Nat} {cs0 : Nat → Option Nat} {d : Nat} (hI : jIH l D dA lo cs0 d) : jMe l D dA lo cs0 (EV d) 237 yX4_addsContext (ws_ yX4_addsContext cX4_addsContext 4 (Option.none : Option Jvm.ClassFile.FieldType)) d := hI 237 (yX4_addsContext, (ws_ yX4_addsContext cX4_addsContext 4 (Option.none : Option Jvm.ClassFile.FieldType))) rfl
theorem w4_X4_addsContext : Cond.code yX4_addsContext cX4_addsContext 4 (Option.none : Option Jvm.ClassFile.FieldType) ∈ lw_all := q3161
theorem w6_X4_addsContext : Cond.initialized yX4_addsContext.cls ∈ lw_all := q160
theorem hy_X4_addsContext : yX4_addsContext.cls ≠ "java/lang/invoke/MethodHandle" ∧ yX4_addsContext.cls ≠ "java/lang/invoke/VarHandle" := by decide +kernel
theorem hl_X4_addsContext : (parseMethodDescriptor yX4_addsContext.desc).map (fun q => q.parameters.length) = some 2 := by decide +kernel
theorem hp_X4_addsContext : plainFor yX4_addsContext = true := by decide +kernel
theorem i_X4_numberOf {l : Launch} {D : va_G} {dA : Nat → ClassId} {lo : Nat} {cs0 : Nat → Option Nat} {d : Nat} (hI : jIH l D dA lo cs0 d) : jMe l D dA lo cs0 (EV d) 238 yX4_numberOf (ws_ yX4_numberOf cX4_numberOf 4 (Option.some Jvm.ClassFile.FieldType.int)) d := hI 238 (yX4_numberOf, (ws_ yX4_numberOf cX4_numberOf 4 (Option.some Jvm.ClassFile.FieldType.int))) rfl
theorem w4_X4_numberOf : Cond.code yX4_numberOf cX4_numberOf 4 (Option.some Jvm.ClassFile.FieldType.int) ∈ lw_all := q3165
theorem w6_X4_numberOf : Cond.initialized yX4_numberOf.cls ∈ lw_all := q160
theorem hy_X4_numberOf : yX4_numberOf.cls ≠ "java/lang/invoke/MethodHandle" ∧ yX4_numberOf.cls ≠ "java/lang/invoke/VarHandle" := by decide +kernel
theorem hl_X4_numberOf : (parseMethodDescriptor yX4_numberOf.desc).map (fun q => q.parameters.length) = some 1 := by decide +kernel
theorem hp_X4_numberOf : plainFor yX4_numberOf = true := by decide +kernel
theorem i_X4_codeBehind {l : Launch} {D : va_G} {dA : Nat → ClassId} {lo : Nat} {cs0 : Nat → Option Nat} {d : Nat} (hI : jIH l D dA lo cs0 d) : jMe l D dA lo cs0 (EV d) 239 yX4_codeBehind (ws_ yX4_codeBehind cX4_codeBehind 3 (Option.some Jvm.ClassFile.FieldType.int)) d := hI 239 (yX4_codeBehind, (ws_ yX4_codeBehind cX4_codeBehind 3 (Option.some Jvm.ClassFile.FieldType.int))) rfl
theorem w4_X4_codeBehind : Cond.code yX4_codeBehind cX4_codeBehind 3 (Option.some Jvm.ClassFile.FieldType.int) ∈ lw_all := q3168
theorem w6_X4_codeBehind : Cond.initialized yX4_codeBehind.cls ∈ lw_all := q160
theorem hy_X4_codeBehind : yX4_codeBehind.cls ≠ "java/lang/invoke/MethodHandle" ∧ yX4_codeBehind.cls ≠ "java/lang/invoke/VarHandle" := by decide +kernel
theorem hl_X4_codeBehind : (parseMethodDescriptor yX4_codeBehind.desc).map (fun q => q.parameters.length) = some 3 := by decide +kernel
theorem hp_X4_codeBehind : plainFor yX4_codeBehind = true := by decide +kernel
theorem i_X4_adds {l : Launch} {D : va_G} {dA : Nat → ClassId} {lo : Nat} {cs0 : Nat → Option Nat} {d : Nat} (hI : jIH l D dA lo cs0 d) : jMe l D dA lo cs0 (EV d) 240 yX4_adds (ws_ yX4_adds cX4_adds 3 (Option.none : Option Jvm.ClassFile.FieldType)) d := hI 240 (yX4_adds, (ws_ yX4_adds cX4_adds 3 (Option.none : Option Jvm.ClassFile.FieldType))) rfl
theorem w4_X4_adds : Cond.code yX4_adds cX4_adds 3 (Option.none : Option Jvm.ClassFile.FieldType) ∈ lw_all := q3187
theorem w6_X4_adds : Cond.initialized yX4_adds.cls ∈ lw_all := q160
theorem hy_X4_adds : yX4_adds.cls ≠ "java/lang/invoke/MethodHandle" ∧ yX4_adds.cls ≠ "java/lang/invoke/VarHandle" := by decide +kernel
theorem hl_X4_adds : (parseMethodDescriptor yX4_adds.desc).map (fun q => q.parameters.length) = some 2 := by decide +kernel
theorem hp_X4_adds : plainFor yX4_adds = true := by decide +kernel
theorem i_X4_addsAll {l : Launch} {D : va_G} {dA : Nat → ClassId} {lo : Nat} {cs0 : Nat → Option Nat} {d : Nat} (hI : jIH l D dA lo cs0 d) : jMe l D dA lo cs0 (EV d) 241 yX4_addsAll (ws_ yX4_addsAll cX4_addsAll 7 (Option.none : Option Jvm.ClassFile.FieldType)) d := hI 241 (yX4_addsAll, (ws_ yX4_addsAll cX4_addsAll 7 (Option.none : Option Jvm.ClassFile.FieldType))) rfl
theorem w4_X4_addsAll : Cond.code yX4_addsAll cX4_addsAll 7 (Option.none : Option Jvm.ClassFile.FieldType) ∈ lw_all := q3194
theorem w6_X4_addsAll : Cond.initialized yX4_addsAll.cls ∈ lw_all := q160
theorem hy_X4_addsAll : yX4_addsAll.cls ≠ "java/lang/invoke/MethodHandle" ∧ yX4_addsAll.cls ≠ "java/lang/invoke/VarHandle" := by decide +kernel
theorem hl_X4_addsAll : (parseMethodDescriptor yX4_addsAll.desc).map (fun q => q.parameters.length) = some 3 := by decide +kernel
theorem hp_X4_addsAll : plainFor yX4_addsAll = true := by decide +kernel
theorem i_X4_made {l : Launch} {D : va_G} {dA : Nat → ClassId} {lo : Nat} {cs0 : Nat → Option Nat} {d : Nat} (hI : jIH l D dA lo cs0 d) : jMe l D dA lo cs0 (EV d) 242 yX4_made (ws_ yX4_made cX4_made 1 (Option.some Jvm.ClassFile.FieldType.int)) d := hI 242 (yX4_made, (ws_ yX4_made cX4_made 1 (Option.some Jvm.ClassFile.FieldType.int))) rfl
theorem w4_X4_made : Cond.code yX4_made cX4_made 1 (Option.some Jvm.ClassFile.FieldType.int) ∈ lw_all := q3215
theorem w6_X4_made : Cond.initialized yX4_made.cls ∈ lw_all := q160
theorem hy_X4_made : yX4_made.cls ≠ "java/lang/invoke/MethodHandle" ∧ yX4_made.cls ≠ "java/lang/invoke/VarHandle" := by decide +kernel
theorem hl_X4_made : (parseMethodDescriptor yX4_made.desc).map (fun q => q.parameters.length) = some 0 := by decide +kernel
theorem hp_X4_made : plainFor yX4_made = true := by decide +kernel
theorem i_X4_unifiesBy {l : Launch} {D : va_G} {dA : Nat → ClassId} {lo : Nat} {cs0 : Nat → Option Nat} {d : Nat} (hI : jIH l D dA lo cs0 d) : jMe l D dA lo cs0 (EV d) 243 yX4_unifiesBy (ws_ yX4_unifiesBy cX4_unifiesBy 5 (Option.none : Option Jvm.ClassFile.FieldType)) d := hI 243 (yX4_unifiesBy, (ws_ yX4_unifiesBy cX4_unifiesBy 5 (Option.none : Option Jvm.ClassFile.FieldType))) rfl
theorem w4_X4_unifiesBy : Cond.code yX4_unifiesBy cX4_unifiesBy 5 (Option.none : Option Jvm.ClassFile.FieldType) ∈ lw_all := q3227
theorem w6_X4_unifiesBy : Cond.initialized yX4_unifiesBy.cls ∈ lw_all := q160
theorem hy_X4_unifiesBy : yX4_unifiesBy.cls ≠ "java/lang/invoke/MethodHandle" ∧ yX4_unifiesBy.cls ≠ "java/lang/invoke/VarHandle" := by decide +kernel
theorem hl_X4_unifiesBy : (parseMethodDescriptor yX4_unifiesBy.desc).map (fun q => q.parameters.length) = some 1 := by decide +kernel
theorem hp_X4_unifiesBy : plainFor yX4_unifiesBy = true := by decide +kernel
theorem i_J40_nextSetBit {l : Launch} {D : va_G} {dA : Nat → ClassId} {lo : Nat} {cs0 : Nat → Option Nat} {d : Nat} (hI : jIH l D dA lo cs0 d) : jMe l D dA lo cs0 (EV d) 244 yJ40_nextSetBit (ws_ yJ40_nextSetBit cJ40_nextSetBit 5 (Option.some Jvm.ClassFile.FieldType.int)) d := hI 244 (yJ40_nextSetBit, (ws_ yJ40_nextSetBit cJ40_nextSetBit 5 (Option.some Jvm.ClassFile.FieldType.int))) rfl
theorem w4_J40_nextSetBit : Cond.code yJ40_nextSetBit cJ40_nextSetBit 5 (Option.some Jvm.ClassFile.FieldType.int) ∈ lw_all := q1968
theorem w6_J40_nextSetBit : Cond.initialized yJ40_nextSetBit.cls ∈ lw_all := q179
theorem hy_J40_nextSetBit : yJ40_nextSetBit.cls ≠ "java/lang/invoke/MethodHandle" ∧ yJ40_nextSetBit.cls ≠ "java/lang/invoke/VarHandle" := by decide +kernel
theorem hl_J40_nextSetBit : (parseMethodDescriptor yJ40_nextSetBit.desc).map (fun q => q.parameters.length) = some 1 := by decide +kernel
theorem hp_J40_nextSetBit : plainFor yJ40_nextSetBit = true := by decide +kernel
theorem i_X9_init {l : Launch} {D : va_G} {dA : Nat → ClassId} {lo : Nat} {cs0 : Nat → Option Nat} {d : Nat} (hI : jIH l D dA lo cs0 d) : jMe l D dA lo cs0 (EV d) 245 yX9_init (ws_ yX9_init cX9_init 1 (Option.none : Option Jvm.ClassFile.FieldType)) d := hI 245 (yX9_init, (ws_ yX9_init cX9_init 1 (Option.none : Option Jvm.ClassFile.FieldType))) rfl
theorem w4_X9_init : Cond.code yX9_init cX9_init 1 (Option.none : Option Jvm.ClassFile.FieldType) ∈ lw_all := q1311
theorem w6_X9_init : Cond.initialized yX9_init.cls ∈ lw_all := q172
theorem hy_X9_init : yX9_init.cls ≠ "java/lang/invoke/MethodHandle" ∧ yX9_init.cls ≠ "java/lang/invoke/VarHandle" := by decide +kernel
theorem hl_X9_init : (parseMethodDescriptor yX9_init.desc).map (fun q => q.parameters.length) = some 0 := by decide +kernel
theorem hp_X9_init : plainFor yX9_init = true := by decide +kernel
theorem i_J36_init {l : Launch} {D : va_G} {dA : Nat → ClassId} {lo : Nat} {cs0 : Nat → Option Nat} {d : Nat} (hI : jIH l D dA lo cs0 d) : jMe l D dA lo cs0 (EV d) 246 yJ36_init (ws_ yJ36_init cJ36_init 3 (Option.none : Option Jvm.ClassFile.FieldType)) d := hI 246 (yJ36_init, (ws_ yJ36_init cJ36_init 3 (Option.none : Option Jvm.ClassFile.FieldType))) rfl
theorem w4_J36_init : Cond.code yJ36_init cJ36_init 3 (Option.none : Option Jvm.ClassFile.FieldType) ∈ lw_all := q1317
theorem w6_J36_init : Cond.initialized yJ36_init.cls ∈ lw_all := q171
theorem hy_J36_init : yJ36_init.cls ≠ "java/lang/invoke/MethodHandle" ∧ yJ36_init.cls ≠ "java/lang/invoke/VarHandle" := by decide +kernel
theorem hl_J36_init : (parseMethodDescriptor yJ36_init.desc).map (fun q => q.parameters.length) = some 2 := by decide +kernel
theorem hp_J36_init : plainFor yJ36_init = true := by decide +kernel
theorem i_X10_init {l : Launch} {D : va_G} {dA : Nat → ClassId} {lo : Nat} {cs0 : Nat → Option Nat} {d : Nat} (hI : jIH l D dA lo cs0 d) : jMe l D dA lo cs0 (EV d) 247 yX10_init (ws_ yX10_init cX10_init 9 (Option.none : Option Jvm.ClassFile.FieldType)) d := hI 247 (yX10_init, (ws_ yX10_init cX10_init 9 (Option.none : Option Jvm.ClassFile.FieldType))) rfl
theorem w4_X10_init : Cond.code yX10_init cX10_init 9 (Option.none : Option Jvm.ClassFile.FieldType) ∈ lw_all := q1358
theorem w6_X10_init : Cond.initialized yX10_init.cls ∈ lw_all := q173
theorem hy_X10_init : yX10_init.cls ≠ "java/lang/invoke/MethodHandle" ∧ yX10_init.cls ≠ "java/lang/invoke/VarHandle" := by decide +kernel
theorem hl_X10_init : (parseMethodDescriptor yX10_init.desc).map (fun q => q.parameters.length) = some 2 := by decide +kernel
theorem hp_X10_init : plainFor yX10_init = true := by decide +kernel
theorem i_X8_makeCells {l : Launch} {D : va_G} {dA : Nat → ClassId} {lo : Nat} {cs0 : Nat → Option Nat} {d : Nat} (hI : jIH l D dA lo cs0 d) : jMe l D dA lo cs0 (EV d) 248 yX8_makeCells (ws_ yX8_makeCells cX8_makeCells 4 (Option.none : Option Jvm.ClassFile.FieldType)) d := hI 248 (yX8_makeCells, (ws_ yX8_makeCells cX8_makeCells 4 (Option.none : Option Jvm.ClassFile.FieldType))) rfl
theorem w4_X8_makeCells : Cond.code yX8_makeCells cX8_makeCells 4 (Option.none : Option Jvm.ClassFile.FieldType) ∈ lw_all := q1559
theorem w6_X8_makeCells : Cond.initialized yX8_makeCells.cls ∈ lw_all := q169
theorem hy_X8_makeCells : yX8_makeCells.cls ≠ "java/lang/invoke/MethodHandle" ∧ yX8_makeCells.cls ≠ "java/lang/invoke/VarHandle" := by decide +kernel
theorem hl_X8_makeCells : (parseMethodDescriptor yX8_makeCells.desc).map (fun q => q.parameters.length) = some 1 := by decide +kernel
theorem hp_X8_makeCells : plainFor yX8_makeCells = true := by decide +kernel
theorem i_X8_constrain {l : Launch} {D : va_G} {dA : Nat → ClassId} {lo : Nat} {cs0 : Nat → Option Nat} {d : Nat} (hI : jIH l D dA lo cs0 d) : jMe l D dA lo cs0 (EV d) 249 yX8_constrain (ws_ yX8_constrain cX8_constrain 9 (Option.none : Option Jvm.ClassFile.FieldType)) d := hI 249 (yX8_constrain, (ws_ yX8_constrain cX8_constrain 9 (Option.none : Option Jvm.ClassFile.FieldType))) rfl
theorem w4_X8_constrain : Cond.code yX8_constrain cX8_constrain 9 (Option.none : Option Jvm.ClassFile.FieldType) ∈ lw_all := q1648
theorem w6_X8_constrain : Cond.initialized yX8_constrain.cls ∈ lw_all := q169
theorem hy_X8_constrain : yX8_constrain.cls ≠ "java/lang/invoke/MethodHandle" ∧ yX8_constrain.cls ≠ "java/lang/invoke/VarHandle" := by decide +kernel
theorem hl_X8_constrain : (parseMethodDescriptor yX8_constrain.desc).map (fun q => q.parameters.length) = some 3 := by decide +kernel
theorem hp_X8_constrain : plainFor yX8_constrain = true := by decide +kernel
theorem i_X8_collapse {l : Launch} {D : va_G} {dA : Nat → ClassId} {lo : Nat} {cs0 : Nat → Option Nat} {d : Nat} (hI : jIH l D dA lo cs0 d) : jMe l D dA lo cs0 (EV d) 250 yX8_collapse (ws_ yX8_collapse cX8_collapse 6 (Option.none : Option Jvm.ClassFile.FieldType)) d := hI 250 (yX8_collapse, (ws_ yX8_collapse cX8_collapse 6 (Option.none : Option Jvm.ClassFile.FieldType))) rfl
theorem w4_X8_collapse : Cond.code yX8_collapse cX8_collapse 6 (Option.none : Option Jvm.ClassFile.FieldType) ∈ lw_all := q1941
theorem w6_X8_collapse : Cond.initialized yX8_collapse.cls ∈ lw_all := q169
theorem hy_X8_collapse : yX8_collapse.cls ≠ "java/lang/invoke/MethodHandle" ∧ yX8_collapse.cls ≠ "java/lang/invoke/VarHandle" := by decide +kernel
theorem hl_X8_collapse : (parseMethodDescriptor yX8_collapse.desc).map (fun q => q.parameters.length) = some 0 := by decide +kernel
theorem hp_X8_collapse : plainFor yX8_collapse = true := by decide +kernel
theorem i_J40_isEmpty {l : Launch} {D : va_G} {dA : Nat → ClassId} {lo : Nat} {cs0 : Nat → Option Nat} {d : Nat} (hI : jIH l D dA lo cs0 d) : jMe l D dA lo cs0 (EV d) 251 yJ40_isEmpty (ws_ yJ40_isEmpty cJ40_isEmpty 1 (Option.some Jvm.ClassFile.FieldType.boolean)) d := hI 251 (yJ40_isEmpty, (ws_ yJ40_isEmpty cJ40_isEmpty 1 (Option.some Jvm.ClassFile.FieldType.boolean))) rfl
theorem w4_J40_isEmpty : Cond.code yJ40_isEmpty cJ40_isEmpty 1 (Option.some Jvm.ClassFile.FieldType.boolean) ∈ lw_all := q1964
theorem w6_J40_isEmpty : Cond.initialized yJ40_isEmpty.cls ∈ lw_all := q179
theorem hy_J40_isEmpty : yJ40_isEmpty.cls ≠ "java/lang/invoke/MethodHandle" ∧ yJ40_isEmpty.cls ≠ "java/lang/invoke/VarHandle" := by decide +kernel
theorem hl_J40_isEmpty : (parseMethodDescriptor yJ40_isEmpty.desc).map (fun q => q.parameters.length) = some 0 := by decide +kernel
theorem hp_J40_isEmpty : plainFor yJ40_isEmpty = true := by decide +kernel
theorem i_X8_push {l : Launch} {D : va_G} {dA : Nat → ClassId} {lo : Nat} {cs0 : Nat → Option Nat} {d : Nat} (hI : jIH l D dA lo cs0 d) : jMe l D dA lo cs0 (EV d) 252 yX8_push (ws_ yX8_push cX8_push 3 (Option.none : Option Jvm.ClassFile.FieldType)) d := hI 252 (yX8_push, (ws_ yX8_push cX8_push 3 (Option.none : Option Jvm.ClassFile.FieldType))) rfl
theorem w4_X8_push : Cond.code yX8_push cX8_push 3 (Option.none : Option Jvm.ClassFile.FieldType) ∈ lw_all := q2009
theorem w6_X8_push : Cond.initialized yX8_push.cls ∈ lw_all := q169
theorem hy_X8_push : yX8_push.cls ≠ "java/lang/invoke/MethodHandle" ∧ yX8_push.cls ≠ "java/lang/invoke/VarHandle" := by decide +kernel
theorem hl_X8_push : (parseMethodDescriptor yX8_push.desc).map (fun q => q.parameters.length) = some 1 := by decide +kernel
theorem hp_X8_push : plainFor yX8_push = true := by decide +kernel
theorem i_J2_isEmpty {l : Launch} {D : va_G} {dA : Nat → ClassId} {lo : Nat} {cs0 : Nat → Option Nat} {d : Nat} (hI : jIH l D dA lo cs0 d) : jMe l D dA lo cs0 (EV d) 253 yJ2_isEmpty (ws_ yJ2_isEmpty cJ2_isEmpty 1 (Option.some Jvm.ClassFile.FieldType.boolean)) d := hI 253 (yJ2_isEmpty, (ws_ yJ2_isEmpty cJ2_isEmpty 1 (Option.some Jvm.ClassFile.FieldType.boolean))) rfl
theorem w4_J2_isEmpty : Cond.code yJ2_isEmpty cJ2_isEmpty 1 (Option.some Jvm.ClassFile.FieldType.boolean) ∈ lw_all := q2043
theorem w6_J2_isEmpty : Cond.initialized yJ2_isEmpty.cls ∈ lw_all := q127
theorem hy_J2_isEmpty : yJ2_isEmpty.cls ≠ "java/lang/invoke/MethodHandle" ∧ yJ2_isEmpty.cls ≠ "java/lang/invoke/VarHandle" := by decide +kernel
theorem hl_J2_isEmpty : (parseMethodDescriptor yJ2_isEmpty.desc).map (fun q => q.parameters.length) = some 0 := by decide +kernel
theorem hp_J2_isEmpty : plainFor yJ2_isEmpty = true := by decide +kernel
theorem i_J36_poll {l : Launch} {D : va_G} {dA : Nat → ClassId} {lo : Nat} {cs0 : Nat → Option Nat} {d : Nat} (hI : jIH l D dA lo cs0 d) : jMe l D dA lo cs0 (EV d) 254 yJ36_poll (ws_ yJ36_poll cJ36_poll 6 (Option.some (Jvm.ClassFile.FieldType.object "java/lang/Object"))) d := hI 254 (yJ36_poll, (ws_ yJ36_poll cJ36_poll 6 (Option.some (Jvm.ClassFile.FieldType.object "java/lang/Object")))) rfl
theorem w4_J36_poll : Cond.code yJ36_poll cJ36_poll 6 (Option.some (Jvm.ClassFile.FieldType.object "java/lang/Object")) ∈ lw_all := q2047
theorem w6_J36_poll : Cond.initialized yJ36_poll.cls ∈ lw_all := q171
theorem hy_J36_poll : yJ36_poll.cls ≠ "java/lang/invoke/MethodHandle" ∧ yJ36_poll.cls ≠ "java/lang/invoke/VarHandle" := by decide +kernel
theorem hl_J36_poll : (parseMethodDescriptor yJ36_poll.desc).map (fun q => q.parameters.length) = some 0 := by decide +kernel
theorem hp_J36_poll : plainFor yJ36_poll = true := by decide +kernel
theorem i_X8_flow {l : Launch} {D : va_G} {dA : Nat → ClassId} {lo : Nat} {cs0 : Nat → Option Nat} {d : Nat} (hI : jIH l D dA lo cs0 d) : jMe l D dA lo cs0 (EV d) 255 yX8_flow (ws_ yX8_flow cX8_flow 5 (Option.none : Option Jvm.ClassFile.FieldType)) d := hI 255 (yX8_flow, (ws_ yX8_flow cX8_flow 5 (Option.none : Option Jvm.ClassFile.FieldType))) rfl
theorem w4_X8_flow : Cond.code yX8_flow cX8_flow 5 (Option.none : Option Jvm.ClassFile.FieldType) ∈ lw_all := q2057
theorem w6_X8_flow : Cond.initialized yX8_flow.cls ∈ lw_all := q169
theorem hy_X8_flow : yX8_flow.cls ≠ "java/lang/invoke/MethodHandle" ∧ yX8_flow.cls ≠ "java/lang/invoke/VarHandle" := by decide +kernel
theorem hl_X8_flow : (parseMethodDescriptor yX8_flow.desc).map (fun q => q.parameters.length) = some 1 := by decide +kernel
theorem hp_X8_flow : plainFor yX8_flow = true := by decide +kernel
theorem i_J6_numberOfTrailingZeros {l : Launch} {D : va_G} {dA : Nat → ClassId} {lo : Nat} {cs0 : Nat → Option Nat} {d : Nat} (hI : jIH l D dA lo cs0 d) : jMe l D dA lo cs0 (EV d) 256 yJ6_numberOfTrailingZeros (ws_ yJ6_numberOfTrailingZeros cJ6_numberOfTrailingZeros 2 (Option.some Jvm.ClassFile.FieldType.int)) d := hI 256 (yJ6_numberOfTrailingZeros, (ws_ yJ6_numberOfTrailingZeros cJ6_numberOfTrailingZeros 2 (Option.some Jvm.ClassFile.FieldType.int))) rfl
theorem w4_J6_numberOfTrailingZeros : Cond.code yJ6_numberOfTrailingZeros cJ6_numberOfTrailingZeros 2 (Option.some Jvm.ClassFile.FieldType.int) ∈ lw_all := q505
theorem w6_J6_numberOfTrailingZeros : Cond.initialized yJ6_numberOfTrailingZeros.cls ∈ lw_all := q131
theorem hy_J6_numberOfTrailingZeros : yJ6_numberOfTrailingZeros.cls ≠ "java/lang/invoke/MethodHandle" ∧ yJ6_numberOfTrailingZeros.cls ≠ "java/lang/invoke/VarHandle" := by decide +kernel
theorem hl_J6_numberOfTrailingZeros : (parseMethodDescriptor yJ6_numberOfTrailingZeros.desc).map (fun q => q.parameters.length) = some 1 := by decide +kernel
theorem hp_J6_numberOfTrailingZeros : plainFor yJ6_numberOfTrailingZeros = true := by decide +kernel
theorem i_J40_clone {l : Launch} {D : va_G} {dA : Nat → ClassId} {lo : Nat} {cs0 : Nat → Option Nat} {d : Nat} (hI : jIH l D dA lo cs0 d) : jMe l D dA lo cs0 (EV d) 257 yJ40_clone (wsW_ yJ40_clone cJ40_clone 2 (Option.some (Jvm.ClassFile.FieldType.object "java/lang/Object")) [((11 : Nat), (38 : Nat), (39 : Nat), (216 : Nat))]) d := hI 257 (yJ40_clone, (wsW_ yJ40_clone cJ40_clone 2 (Option.some (Jvm.ClassFile.FieldType.object "java/lang/Object")) [((11 : Nat), (38 : Nat), (39 : Nat), (216 : Nat))])) rfl
theorem w4_J40_clone : Cond.codeWith yJ40_clone cJ40_clone 2 (Option.some (Jvm.ClassFile.FieldType.object "java/lang/Object")) [((11 : Nat), (38 : Nat), (39 : Nat), (216 : Nat))] ∈ lw_all := q1952
theorem w6_J40_clone : Cond.initialized yJ40_clone.cls ∈ lw_all := q179
theorem hy_J40_clone : yJ40_clone.cls ≠ "java/lang/invoke/MethodHandle" ∧ yJ40_clone.cls ≠ "java/lang/invoke/VarHandle" := by decide +kernel
theorem hl_J40_clone : (parseMethodDescriptor yJ40_clone.desc).map (fun q => q.parameters.length) = some 0 := by decide +kernel
theorem hp_J40_clone : plainFor yJ40_clone = true := by decide +kernel
theorem i_X14_derive {l : Launch} {D : va_G} {dA : Nat → ClassId} {lo : Nat} {cs0 : Nat → Option Nat} {d : Nat} (hI : jIH l D dA lo cs0 d) : jMe l D dA lo cs0 (EV d) 258 yX14_derive (ws_ yX14_derive cX14_derive 7 (Option.none : Option Jvm.ClassFile.FieldType)) d := hI 258 (yX14_derive, (ws_ yX14_derive cX14_derive 7 (Option.none : Option Jvm.ClassFile.FieldType))) rfl
theorem w4_X14_derive : Cond.code yX14_derive cX14_derive 7 (Option.none : Option Jvm.ClassFile.FieldType) ∈ lw_all := q2164
theorem w6_X14_derive : Cond.initialized yX14_derive.cls ∈ lw_all := q183
theorem hy_X14_derive : yX14_derive.cls ≠ "java/lang/invoke/MethodHandle" ∧ yX14_derive.cls ≠ "java/lang/invoke/VarHandle" := by decide +kernel
theorem hl_X14_derive : (parseMethodDescriptor yX14_derive.desc).map (fun q => q.parameters.length) = some 1 := by decide +kernel
theorem hp_X14_derive : plainFor yX14_derive = true := by decide +kernel
theorem i_X16_target {l : Launch} {D : va_G} {dA : Nat → ClassId} {lo : Nat} {cs0 : Nat → Option Nat} {d : Nat} (hI : jIH l D dA lo cs0 d) : jMe l D dA lo cs0 (EV d) 259 yX16_target (ws_ yX16_target cX16_target 2 (Option.some (Jvm.ClassFile.FieldType.object "PointerAnalyzer$Term"))) d := hI 259 (yX16_target, (ws_ yX16_target cX16_target 2 (Option.some (Jvm.ClassFile.FieldType.object "PointerAnalyzer$Term")))) rfl
theorem w4_X16_target : Cond.code yX16_target cX16_target 2 (Option.some (Jvm.ClassFile.FieldType.object "PointerAnalyzer$Term")) ∈ lw_all := q2237
theorem w6_X16_target : Cond.initialized yX16_target.cls ∈ lw_all := q185
theorem hy_X16_target : yX16_target.cls ≠ "java/lang/invoke/MethodHandle" ∧ yX16_target.cls ≠ "java/lang/invoke/VarHandle" := by decide +kernel
theorem hl_X16_target : (parseMethodDescriptor yX16_target.desc).map (fun q => q.parameters.length) = some 0 := by decide +kernel
theorem hp_X16_target : plainFor yX16_target = true := by decide +kernel
theorem i_X15_join {l : Launch} {D : va_G} {dA : Nat → ClassId} {lo : Nat} {cs0 : Nat → Option Nat} {d : Nat} (hI : jIH l D dA lo cs0 d) : jMe l D dA lo cs0 (EV d) 260 yX15_join (ws_ yX15_join cX15_join 5 (Option.none : Option Jvm.ClassFile.FieldType)) d := hI 260 (yX15_join, (ws_ yX15_join cX15_join 5 (Option.none : Option Jvm.ClassFile.FieldType))) rfl
theorem w4_X15_join : Cond.code yX15_join cX15_join 5 (Option.none : Option Jvm.ClassFile.FieldType) ∈ lw_all := q2247
theorem w6_X15_join : Cond.initialized yX15_join.cls ∈ lw_all := q184
theorem hy_X15_join : yX15_join.cls ≠ "java/lang/invoke/MethodHandle" ∧ yX15_join.cls ≠ "java/lang/invoke/VarHandle" := by decide +kernel
theorem hl_X15_join : (parseMethodDescriptor yX15_join.desc).map (fun q => q.parameters.length) = some 2 := by decide +kernel
theorem hp_X15_join : plainFor yX15_join = true := by decide +kernel
theorem i_X1_local {l : Launch} {D : va_G} {dA : Nat → ClassId} {lo : Nat} {cs0 : Nat → Option Nat} {d : Nat} (hI : jIH l D dA lo cs0 d) : jMe l D dA lo cs0 (EV d) 261 yX1_local (ws_ yX1_local cX1_local 2 (Option.some Jvm.ClassFile.FieldType.int)) d := hI 261 (yX1_local, (ws_ yX1_local cX1_local 2 (Option.some Jvm.ClassFile.FieldType.int))) rfl
theorem w4_X1_local : Cond.code yX1_local cX1_local 2 (Option.some Jvm.ClassFile.FieldType.int) ∈ lw_all := q1642
theorem w6_X1_local : Cond.initialized yX1_local.cls ∈ lw_all := q123
theorem hy_X1_local : yX1_local.cls ≠ "java/lang/invoke/MethodHandle" ∧ yX1_local.cls ≠ "java/lang/invoke/VarHandle" := by decide +kernel
theorem hl_X1_local : (parseMethodDescriptor yX1_local.desc).map (fun q => q.parameters.length) = some 2 := by decide +kernel
theorem hp_X1_local : plainFor yX1_local = true := by decide +kernel
theorem i_X17_assign {l : Launch} {D : va_G} {dA : Nat → ClassId} {lo : Nat} {cs0 : Nat → Option Nat} {d : Nat} (hI : jIH l D dA lo cs0 d) : jMe l D dA lo cs0 (EV d) 262 yX17_assign (ws_ yX17_assign cX17_assign 3 (Option.none : Option Jvm.ClassFile.FieldType)) d := hI 262 (yX17_assign, (ws_ yX17_assign cX17_assign 3 (Option.none : Option Jvm.ClassFile.FieldType))) rfl
theorem w4_X17_assign : Cond.code yX17_assign cX17_assign 3 (Option.none : Option Jvm.ClassFile.FieldType) ∈ lw_all := q2297
theorem w6_X17_assign : Cond.initialized yX17_assign.cls ∈ lw_all := q186
theorem hy_X17_assign : yX17_assign.cls ≠ "java/lang/invoke/MethodHandle" ∧ yX17_assign.cls ≠ "java/lang/invoke/VarHandle" := by decide +kernel
theorem hl_X17_assign : (parseMethodDescriptor yX17_assign.desc).map (fun q => q.parameters.length) = some 2 := by decide +kernel
theorem hp_X17_assign : plainFor yX17_assign = true := by decide +kernel
theorem i_X17_execute {l : Launch} {D : va_G} {dA : Nat → ClassId} {lo : Nat} {cs0 : Nat → Option Nat} {d : Nat} (hI : jIH l D dA lo cs0 d) : jMe l D dA lo cs0 (EV d) 263 yX17_execute (ws_ yX17_execute cX17_execute 6 (Option.none : Option Jvm.ClassFile.FieldType)) d := hI 263 (yX17_execute, (ws_ yX17_execute cX17_execute 6 (Option.none : Option Jvm.ClassFile.FieldType))) rfl
theorem w4_X17_execute : Cond.code yX17_execute cX17_execute 6 (Option.none : Option Jvm.ClassFile.FieldType) ∈ lw_all := q2304
theorem w6_X17_execute : Cond.initialized yX17_execute.cls ∈ lw_all := q186
theorem hy_X17_execute : yX17_execute.cls ≠ "java/lang/invoke/MethodHandle" ∧ yX17_execute.cls ≠ "java/lang/invoke/VarHandle" := by decide +kernel
theorem hl_X17_execute : (parseMethodDescriptor yX17_execute.desc).map (fun q => q.parameters.length) = some 2 := by decide +kernel
theorem hp_X17_execute : plainFor yX17_execute = true := by decide +kernel
theorem i_J1_addEntryToEmptyMap {l : Launch} {D : va_G} {dA : Nat → ClassId} {lo : Nat} {cs0 : Nat → Option Nat} {d : Nat} (hI : jIH l D dA lo cs0 d) : jMe l D dA lo cs0 (EV d) 264 yJ1_addEntryToEmptyMap (ws_ yJ1_addEntryToEmptyMap cJ1_addEntryToEmptyMap 3 (Option.none : Option Jvm.ClassFile.FieldType)) d := hI 264 (yJ1_addEntryToEmptyMap, (ws_ yJ1_addEntryToEmptyMap cJ1_addEntryToEmptyMap 3 (Option.none : Option Jvm.ClassFile.FieldType))) rfl
theorem w4_J1_addEntryToEmptyMap : Cond.code yJ1_addEntryToEmptyMap cJ1_addEntryToEmptyMap 3 (Option.none : Option Jvm.ClassFile.FieldType) ∈ lw_all := q299
theorem w6_J1_addEntryToEmptyMap : Cond.initialized yJ1_addEntryToEmptyMap.cls ∈ lw_all := q126
theorem hy_J1_addEntryToEmptyMap : yJ1_addEntryToEmptyMap.cls ≠ "java/lang/invoke/MethodHandle" ∧ yJ1_addEntryToEmptyMap.cls ≠ "java/lang/invoke/VarHandle" := by decide +kernel
theorem hl_J1_addEntryToEmptyMap : (parseMethodDescriptor yJ1_addEntryToEmptyMap.desc).map (fun q => q.parameters.length) = some 2 := by decide +kernel
theorem hp_J1_addEntryToEmptyMap : plainFor yJ1_addEntryToEmptyMap = true := by decide +kernel
theorem i_X9_compare {l : Launch} {D : va_G} {dA : Nat → ClassId} {lo : Nat} {cs0 : Nat → Option Nat} {d : Nat} (hI : jIH l D dA lo cs0 d) : jMe l D dA lo cs0 (EV d) 265 yX9_compare (ws_ yX9_compare cX9_compare 3 (Option.some Jvm.ClassFile.FieldType.int)) d := hI 265 (yX9_compare, (ws_ yX9_compare cX9_compare 3 (Option.some Jvm.ClassFile.FieldType.int))) rfl
theorem w4_X9_compare : Cond.code yX9_compare cX9_compare 3 (Option.some Jvm.ClassFile.FieldType.int) ∈ lw_all := q617
theorem w6_X9_compare : Cond.initialized yX9_compare.cls ∈ lw_all := q172
theorem hy_X9_compare : yX9_compare.cls ≠ "java/lang/invoke/MethodHandle" ∧ yX9_compare.cls ≠ "java/lang/invoke/VarHandle" := by decide +kernel
theorem hl_X9_compare : (parseMethodDescriptor yX9_compare.desc).map (fun q => q.parameters.length) = some 2 := by decide +kernel
theorem hp_X9_compare : plainFor yX9_compare = true := by decide +kernel
theorem i_J16_requireNonNull {l : Launch} {D : va_G} {dA : Nat → ClassId} {lo : Nat} {cs0 : Nat → Option Nat} {d : Nat} (hI : jIH l D dA lo cs0 d) : jMe l D dA lo cs0 (EV d) 266 yJ16_requireNonNull (ws_ yJ16_requireNonNull cJ16_requireNonNull 1 (Option.some (Jvm.ClassFile.FieldType.object "java/lang/Object"))) d := hI 266 (yJ16_requireNonNull, (ws_ yJ16_requireNonNull cJ16_requireNonNull 1 (Option.some (Jvm.ClassFile.FieldType.object "java/lang/Object")))) rfl
theorem w4_J16_requireNonNull : Cond.code yJ16_requireNonNull cJ16_requireNonNull 1 (Option.some (Jvm.ClassFile.FieldType.object "java/lang/Object")) ∈ lw_all := q666
theorem w6_J16_requireNonNull : Cond.initialized yJ16_requireNonNull.cls ∈ lw_all := q143
theorem hy_J16_requireNonNull : yJ16_requireNonNull.cls ≠ "java/lang/invoke/MethodHandle" ∧ yJ16_requireNonNull.cls ≠ "java/lang/invoke/VarHandle" := by decide +kernel
theorem hl_J16_requireNonNull : (parseMethodDescriptor yJ16_requireNonNull.desc).map (fun q => q.parameters.length) = some 1 := by decide +kernel
theorem hp_J16_requireNonNull : plainFor yJ16_requireNonNull = true := by decide +kernel
theorem i_J6_compareTo {l : Launch} {D : va_G} {dA : Nat → ClassId} {lo : Nat} {cs0 : Nat → Option Nat} {d : Nat} (hI : jIH l D dA lo cs0 d) : jMe l D dA lo cs0 (EV d) 267 yJ6_compareTo (ws_ yJ6_compareTo cJ6_compareTo 2 (Option.some Jvm.ClassFile.FieldType.int)) d := hI 267 (yJ6_compareTo, (ws_ yJ6_compareTo cJ6_compareTo 2 (Option.some Jvm.ClassFile.FieldType.int))) rfl
theorem w4_J6_compareTo : Cond.code yJ6_compareTo cJ6_compareTo 2 (Option.some Jvm.ClassFile.FieldType.int) ∈ lw_all := q391
theorem w6_J6_compareTo : Cond.initialized yJ6_compareTo.cls ∈ lw_all := q131
theorem hy_J6_compareTo : yJ6_compareTo.cls ≠ "java/lang/invoke/MethodHandle" ∧ yJ6_compareTo.cls ≠ "java/lang/invoke/VarHandle" := by decide +kernel
theorem hl_J6_compareTo : (parseMethodDescriptor yJ6_compareTo.desc).map (fun q => q.parameters.length) = some 1 := by decide +kernel
theorem hp_J6_compareTo : plainFor yJ6_compareTo = true := by decide +kernel
theorem i_X11_compareTo {l : Launch} {D : va_G} {dA : Nat → ClassId} {lo : Nat} {cs0 : Nat → Option Nat} {d : Nat} (hI : jIH l D dA lo cs0 d) : jMe l D dA lo cs0 (EV d) 268 yX11_compareTo (ws_ yX11_compareTo cX11_compareTo 2 (Option.some Jvm.ClassFile.FieldType.int)) d := hI 268 (yX11_compareTo, (ws_ yX11_compareTo cX11_compareTo 2 (Option.some Jvm.ClassFile.FieldType.int))) rfl
theorem w4_X11_compareTo : Cond.code yX11_compareTo cX11_compareTo 2 (Option.some Jvm.ClassFile.FieldType.int) ∈ lw_all := q314
theorem w6_X11_compareTo : Cond.initialized yX11_compareTo.cls ∈ lw_all := q175
theorem hy_X11_compareTo : yX11_compareTo.cls ≠ "java/lang/invoke/MethodHandle" ∧ yX11_compareTo.cls ≠ "java/lang/invoke/VarHandle" := by decide +kernel
theorem hl_X11_compareTo : (parseMethodDescriptor yX11_compareTo.desc).map (fun q => q.parameters.length) = some 1 := by decide +kernel
theorem hp_X11_compareTo : plainFor yX11_compareTo = true := by decide +kernel
theorem i_J1_addEntry {l : Launch} {D : va_G} {dA : Nat → ClassId} {lo : Nat} {cs0 : Nat → Option Nat} {d : Nat} (hI : jIH l D dA lo cs0 d) : jMe l D dA lo cs0 (EV d) 269 yJ1_addEntry (ws_ yJ1_addEntry cJ1_addEntry 6 (Option.none : Option Jvm.ClassFile.FieldType)) d := hI 269 (yJ1_addEntry, (ws_ yJ1_addEntry cJ1_addEntry 6 (Option.none : Option Jvm.ClassFile.FieldType))) rfl
theorem w4_J1_addEntry : Cond.code yJ1_addEntry cJ1_addEntry 6 (Option.none : Option Jvm.ClassFile.FieldType) ∈ lw_all := q670
theorem w6_J1_addEntry : Cond.initialized yJ1_addEntry.cls ∈ lw_all := q126
theorem hy_J1_addEntry : yJ1_addEntry.cls ≠ "java/lang/invoke/MethodHandle" ∧ yJ1_addEntry.cls ≠ "java/lang/invoke/VarHandle" := by decide +kernel
theorem hl_J1_addEntry : (parseMethodDescriptor yJ1_addEntry.desc).map (fun q => q.parameters.length) = some 4 := by decide +kernel
theorem hp_J1_addEntry : plainFor yJ1_addEntry = true := by decide +kernel
theorem i_J44_equals {l : Launch} {D : va_G} {dA : Nat → ClassId} {lo : Nat} {cs0 : Nat → Option Nat} {d : Nat} (hI : jIH l D dA lo cs0 d) : jMe l D dA lo cs0 (EV d) 270 yJ44_equals (ws_ yJ44_equals cJ44_equals 2 (Option.some Jvm.ClassFile.FieldType.boolean)) d := hI 270 (yJ44_equals, (ws_ yJ44_equals cJ44_equals 2 (Option.some Jvm.ClassFile.FieldType.boolean))) rfl
theorem w4_J44_equals : Cond.code yJ44_equals cJ44_equals 2 (Option.some Jvm.ClassFile.FieldType.boolean) ∈ lw_all := q801
theorem w6_J44_equals : Cond.initialized yJ44_equals.cls ∈ lw_all := q3456
theorem hy_J44_equals : yJ44_equals.cls ≠ "java/lang/invoke/MethodHandle" ∧ yJ44_equals.cls ≠ "java/lang/invoke/VarHandle" := by decide +kernel
theorem hl_J44_equals : (parseMethodDescriptor yJ44_equals.desc).map (fun q => q.parameters.length) = some 1 := by decide +kernel
theorem hp_J44_equals : plainFor yJ44_equals = true := by decide +kernel
theorem i_J18_init {l : Launch} {D : va_G} {dA : Nat → ClassId} {lo : Nat} {cs0 : Nat → Option Nat} {d : Nat} (hI : jIH l D dA lo cs0 d) : jMe l D dA lo cs0 (EV d) 271 yJ18_init (ws_ yJ18_init cJ18_init 2 (Option.none : Option Jvm.ClassFile.FieldType)) d := hI 271 (yJ18_init, (ws_ yJ18_init cJ18_init 2 (Option.none : Option Jvm.ClassFile.FieldType))) rfl
theorem w4_J18_init : Cond.code yJ18_init cJ18_init 2 (Option.none : Option Jvm.ClassFile.FieldType) ∈ lw_all := q815
theorem w6_J18_init : Cond.initialized yJ18_init.cls ∈ lw_all := q145
theorem hy_J18_init : yJ18_init.cls ≠ "java/lang/invoke/MethodHandle" ∧ yJ18_init.cls ≠ "java/lang/invoke/VarHandle" := by decide +kernel
theorem hl_J18_init : (parseMethodDescriptor yJ18_init.desc).map (fun q => q.parameters.length) = some 1 := by decide +kernel
theorem hp_J18_init : plainFor yJ18_init = true := by decide +kernel
theorem i_J1_getFirstEntry {l : Launch} {D : va_G} {dA : Nat → ClassId} {lo : Nat} {cs0 : Nat → Option Nat} {d : Nat} (hI : jIH l D dA lo cs0 d) : jMe l D dA lo cs0 (EV d) 272 yJ1_getFirstEntry (ws_ yJ1_getFirstEntry cJ1_getFirstEntry 2 (Option.some (Jvm.ClassFile.FieldType.object "java/util/TreeMap$Entry"))) d := hI 272 (yJ1_getFirstEntry, (ws_ yJ1_getFirstEntry cJ1_getFirstEntry 2 (Option.some (Jvm.ClassFile.FieldType.object "java/util/TreeMap$Entry")))) rfl
theorem w4_J1_getFirstEntry : Cond.code yJ1_getFirstEntry cJ1_getFirstEntry 2 (Option.some (Jvm.ClassFile.FieldType.object "java/util/TreeMap$Entry")) ∈ lw_all := q839
theorem w6_J1_getFirstEntry : Cond.initialized yJ1_getFirstEntry.cls ∈ lw_all := q126
theorem hy_J1_getFirstEntry : yJ1_getFirstEntry.cls ≠ "java/lang/invoke/MethodHandle" ∧ yJ1_getFirstEntry.cls ≠ "java/lang/invoke/VarHandle" := by decide +kernel
theorem hl_J1_getFirstEntry : (parseMethodDescriptor yJ1_getFirstEntry.desc).map (fun q => q.parameters.length) = some 0 := by decide +kernel
theorem hp_J1_getFirstEntry : plainFor yJ1_getFirstEntry = true := by decide +kernel
theorem i_J20_init {l : Launch} {D : va_G} {dA : Nat → ClassId} {lo : Nat} {cs0 : Nat → Option Nat} {d : Nat} (hI : jIH l D dA lo cs0 d) : jMe l D dA lo cs0 (EV d) 273 yJ20_init (ws_ yJ20_init cJ20_init 3 (Option.none : Option Jvm.ClassFile.FieldType)) d := hI 273 (yJ20_init, (ws_ yJ20_init cJ20_init 3 (Option.none : Option Jvm.ClassFile.FieldType))) rfl
theorem w4_J20_init : Cond.code yJ20_init cJ20_init 3 (Option.none : Option Jvm.ClassFile.FieldType) ∈ lw_all := q842
theorem w6_J20_init : Cond.initialized yJ20_init.cls ∈ lw_all := q147
theorem hy_J20_init : yJ20_init.cls ≠ "java/lang/invoke/MethodHandle" ∧ yJ20_init.cls ≠ "java/lang/invoke/VarHandle" := by decide +kernel
theorem hl_J20_init : (parseMethodDescriptor yJ20_init.desc).map (fun q => q.parameters.length) = some 2 := by decide +kernel
theorem hp_J20_init : plainFor yJ20_init = true := by decide +kernel
theorem i_J1_keyIterator {l : Launch} {D : va_G} {dA : Nat → ClassId} {lo : Nat} {cs0 : Nat → Option Nat} {d : Nat} (hI : jIH l D dA lo cs0 d) : jMe l D dA lo cs0 (EV d) 274 yJ1_keyIterator (ws_ yJ1_keyIterator cJ1_keyIterator 1 (Option.some (Jvm.ClassFile.FieldType.object "java/util/Iterator"))) d := hI 274 (yJ1_keyIterator, (ws_ yJ1_keyIterator cJ1_keyIterator 1 (Option.some (Jvm.ClassFile.FieldType.object "java/util/Iterator")))) rfl
theorem w4_J1_keyIterator : Cond.code yJ1_keyIterator cJ1_keyIterator 1 (Option.some (Jvm.ClassFile.FieldType.object "java/util/Iterator")) ∈ lw_all := q870
theorem w6_J1_keyIterator : Cond.initialized yJ1_keyIterator.cls ∈ lw_all := q126
theorem hy_J1_keyIterator : yJ1_keyIterator.cls ≠ "java/lang/invoke/MethodHandle" ∧ yJ1_keyIterator.cls ≠ "java/lang/invoke/VarHandle" := by decide +kernel
theorem hl_J1_keyIterator : (parseMethodDescriptor yJ1_keyIterator.desc).map (fun q => q.parameters.length) = some 0 := by decide +kernel
theorem hp_J1_keyIterator : plainFor yJ1_keyIterator = true := by decide +kernel
theorem i_J1_navigableKeySet {l : Launch} {D : va_G} {dA : Nat → ClassId} {lo : Nat} {cs0 : Nat → Option Nat} {d : Nat} (hI : jIH l D dA lo cs0 d) : jMe l D dA lo cs0 (EV d) 275 yJ1_navigableKeySet (ws_ yJ1_navigableKeySet cJ1_navigableKeySet 2 (Option.some (Jvm.ClassFile.FieldType.object "java/util/NavigableSet"))) d := hI 275 (yJ1_navigableKeySet, (ws_ yJ1_navigableKeySet cJ1_navigableKeySet 2 (Option.some (Jvm.ClassFile.FieldType.object "java/util/NavigableSet")))) rfl
theorem w4_J1_navigableKeySet : Cond.code yJ1_navigableKeySet cJ1_navigableKeySet 2 (Option.some (Jvm.ClassFile.FieldType.object "java/util/NavigableSet")) ∈ lw_all := q902
theorem w6_J1_navigableKeySet : Cond.initialized yJ1_navigableKeySet.cls ∈ lw_all := q126
theorem hy_J1_navigableKeySet : yJ1_navigableKeySet.cls ≠ "java/lang/invoke/MethodHandle" ∧ yJ1_navigableKeySet.cls ≠ "java/lang/invoke/VarHandle" := by decide +kernel
theorem hl_J1_navigableKeySet : (parseMethodDescriptor yJ1_navigableKeySet.desc).map (fun q => q.parameters.length) = some 0 := by decide +kernel
theorem hp_J1_navigableKeySet : plainFor yJ1_navigableKeySet = true := by decide +kernel
theorem i_J1_computeRedLevel {l : Launch} {D : va_G} {dA : Nat → ClassId} {lo : Nat} {cs0 : Nat → Option Nat} {d : Nat} (hI : jIH l D dA lo cs0 d) : jMe l D dA lo cs0 (EV d) 276 yJ1_computeRedLevel (ws_ yJ1_computeRedLevel cJ1_computeRedLevel 1 (Option.some Jvm.ClassFile.FieldType.int)) d := hI 276 (yJ1_computeRedLevel, (ws_ yJ1_computeRedLevel cJ1_computeRedLevel 1 (Option.some Jvm.ClassFile.FieldType.int))) rfl
theorem w4_J1_computeRedLevel : Cond.code yJ1_computeRedLevel cJ1_computeRedLevel 1 (Option.some Jvm.ClassFile.FieldType.int) ∈ lw_all := q927
theorem w6_J1_computeRedLevel : Cond.initialized yJ1_computeRedLevel.cls ∈ lw_all := q126
theorem hy_J1_computeRedLevel : yJ1_computeRedLevel.cls ≠ "java/lang/invoke/MethodHandle" ∧ yJ1_computeRedLevel.cls ≠ "java/lang/invoke/VarHandle" := by decide +kernel
theorem hl_J1_computeRedLevel : (parseMethodDescriptor yJ1_computeRedLevel.desc).map (fun q => q.parameters.length) = some 1 := by decide +kernel
theorem hp_J1_computeRedLevel : plainFor yJ1_computeRedLevel = true := by decide +kernel
theorem i_J1_buildFromSorted_2 {l : Launch} {D : va_G} {dA : Nat → ClassId} {lo : Nat} {cs0 : Nat → Option Nat} {d : Nat} (hI : jIH l D dA lo cs0 d) : jMe l D dA lo cs0 (EV d) 277 yJ1_buildFromSorted_2 (ws_ yJ1_buildFromSorted_2 cJ1_buildFromSorted_2 14 (Option.some (Jvm.ClassFile.FieldType.object "java/util/TreeMap$Entry"))) d := hI 277 (yJ1_buildFromSorted_2, (ws_ yJ1_buildFromSorted_2 cJ1_buildFromSorted_2 14 (Option.some (Jvm.ClassFile.FieldType.object "java/util/TreeMap$Entry")))) rfl
theorem w4_J1_buildFromSorted_2 : Cond.code yJ1_buildFromSorted_2 cJ1_buildFromSorted_2 14 (Option.some (Jvm.ClassFile.FieldType.object "java/util/TreeMap$Entry")) ∈ lw_all := q932
theorem w6_J1_buildFromSorted_2 : Cond.initialized yJ1_buildFromSorted_2.cls ∈ lw_all := q126
theorem hy_J1_buildFromSorted_2 : yJ1_buildFromSorted_2.cls ≠ "java/lang/invoke/MethodHandle" ∧ yJ1_buildFromSorted_2.cls ≠ "java/lang/invoke/VarHandle" := by decide +kernel
theorem hl_J1_buildFromSorted_2 : (parseMethodDescriptor yJ1_buildFromSorted_2.desc).map (fun q => q.parameters.length) = some 7 := by decide +kernel
theorem hp_J1_buildFromSorted_2 : plainFor yJ1_buildFromSorted_2 = true := by decide +kernel
theorem i_J19_hasNext {l : Launch} {D : va_G} {dA : Nat → ClassId} {lo : Nat} {cs0 : Nat → Option Nat} {d : Nat} (hI : jIH l D dA lo cs0 d) : jMe l D dA lo cs0 (EV d) 278 yJ19_hasNext (ws_ yJ19_hasNext cJ19_hasNext 1 (Option.some Jvm.ClassFile.FieldType.boolean)) d := hI 278 (yJ19_hasNext, (ws_ yJ19_hasNext cJ19_hasNext 1 (Option.some Jvm.ClassFile.FieldType.boolean))) rfl
theorem w4_J19_hasNext : Cond.code yJ19_hasNext cJ19_hasNext 1 (Option.some Jvm.ClassFile.FieldType.boolean) ∈ lw_all := q1117
theorem w6_J19_hasNext : Cond.initialized yJ19_hasNext.cls ∈ lw_all := q146
theorem hy_J19_hasNext : yJ19_hasNext.cls ≠ "java/lang/invoke/MethodHandle" ∧ yJ19_hasNext.cls ≠ "java/lang/invoke/VarHandle" := by decide +kernel
theorem hl_J19_hasNext : (parseMethodDescriptor yJ19_hasNext.desc).map (fun q => q.parameters.length) = some 0 := by decide +kernel
theorem hp_J19_hasNext : plainFor yJ19_hasNext = true := by decide +kernel
theorem i_J20_next {l : Launch} {D : va_G} {dA : Nat → ClassId} {lo : Nat} {cs0 : Nat → Option Nat} {d : Nat} (hI : jIH l D dA lo cs0 d) : jMe l D dA lo cs0 (EV d) 279 yJ20_next (ws_ yJ20_next cJ20_next 1 (Option.some (Jvm.ClassFile.FieldType.object "java/lang/Object"))) d := hI 279 (yJ20_next, (ws_ yJ20_next cJ20_next 1 (Option.some (Jvm.ClassFile.FieldType.object "java/lang/Object")))) rfl
theorem w4_J20_next : Cond.code yJ20_next cJ20_next 1 (Option.some (Jvm.ClassFile.FieldType.object "java/lang/Object")) ∈ lw_all := q1043
theorem w6_J20_next : Cond.initialized yJ20_next.cls ∈ lw_all := q147
theorem hy_J20_next : yJ20_next.cls ≠ "java/lang/invoke/MethodHandle" ∧ yJ20_next.cls ≠ "java/lang/invoke/VarHandle" := by decide +kernel
theorem hl_J20_next : (parseMethodDescriptor yJ20_next.desc).map (fun q => q.parameters.length) = some 0 := by decide +kernel
theorem hp_J20_next : plainFor yJ20_next = true := by decide +kernel
theorem i_J21_next {l : Launch} {D : va_G} {dA : Nat → ClassId} {lo : Nat} {cs0 : Nat → Option Nat} {d : Nat} (hI : jIH l D dA lo cs0 d) : jMe l D dA lo cs0 (EV d) 280 yJ21_next (ws_ yJ21_next cJ21_next 1 (Option.some (Jvm.ClassFile.FieldType.object "java/lang/Object"))) d := hI 280 (yJ21_next, (ws_ yJ21_next cJ21_next 1 (Option.some (Jvm.ClassFile.FieldType.object "java/lang/Object")))) rfl
theorem w4_J21_next : Cond.code yJ21_next cJ21_next 1 (Option.some (Jvm.ClassFile.FieldType.object "java/lang/Object")) ∈ lw_all := q1064
theorem w6_J21_next : Cond.initialized yJ21_next.cls ∈ lw_all := q148
theorem hy_J21_next : yJ21_next.cls ≠ "java/lang/invoke/MethodHandle" ∧ yJ21_next.cls ≠ "java/lang/invoke/VarHandle" := by decide +kernel
theorem hl_J21_next : (parseMethodDescriptor yJ21_next.desc).map (fun q => q.parameters.length) = some 0 := by decide +kernel
theorem hp_J21_next : plainFor yJ21_next = true := by decide +kernel
theorem i_J15_getKey {l : Launch} {D : va_G} {dA : Nat → ClassId} {lo : Nat} {cs0 : Nat → Option Nat} {d : Nat} (hI : jIH l D dA lo cs0 d) : jMe l D dA lo cs0 (EV d) 281 yJ15_getKey (ws_ yJ15_getKey cJ15_getKey 1 (Option.some (Jvm.ClassFile.FieldType.object "java/lang/Object"))) d := hI 281 (yJ15_getKey, (ws_ yJ15_getKey cJ15_getKey 1 (Option.some (Jvm.ClassFile.FieldType.object "java/lang/Object")))) rfl
theorem w4_J15_getKey : Cond.code yJ15_getKey cJ15_getKey 1 (Option.some (Jvm.ClassFile.FieldType.object "java/lang/Object")) ∈ lw_all := q1078
theorem w6_J15_getKey : Cond.initialized yJ15_getKey.cls ∈ lw_all := q142
theorem hy_J15_getKey : yJ15_getKey.cls ≠ "java/lang/invoke/MethodHandle" ∧ yJ15_getKey.cls ≠ "java/lang/invoke/VarHandle" := by decide +kernel
theorem hl_J15_getKey : (parseMethodDescriptor yJ15_getKey.desc).map (fun q => q.parameters.length) = some 0 := by decide +kernel
theorem hp_J15_getKey : plainFor yJ15_getKey = true := by decide +kernel
theorem i_J15_getValue {l : Launch} {D : va_G} {dA : Nat → ClassId} {lo : Nat} {cs0 : Nat → Option Nat} {d : Nat} (hI : jIH l D dA lo cs0 d) : jMe l D dA lo cs0 (EV d) 282 yJ15_getValue (ws_ yJ15_getValue cJ15_getValue 1 (Option.some (Jvm.ClassFile.FieldType.object "java/lang/Object"))) d := hI 282 (yJ15_getValue, (ws_ yJ15_getValue cJ15_getValue 1 (Option.some (Jvm.ClassFile.FieldType.object "java/lang/Object")))) rfl
theorem w4_J15_getValue : Cond.code yJ15_getValue cJ15_getValue 1 (Option.some (Jvm.ClassFile.FieldType.object "java/lang/Object")) ∈ lw_all := q1087
theorem w6_J15_getValue : Cond.initialized yJ15_getValue.cls ∈ lw_all := q142
theorem hy_J15_getValue : yJ15_getValue.cls ≠ "java/lang/invoke/MethodHandle" ∧ yJ15_getValue.cls ≠ "java/lang/invoke/VarHandle" := by decide +kernel
theorem hl_J15_getValue : (parseMethodDescriptor yJ15_getValue.desc).map (fun q => q.parameters.length) = some 0 := by decide +kernel
theorem hp_J15_getValue : plainFor yJ15_getValue = true := by decide +kernel
theorem i_J14_checkIndex {l : Launch} {D : va_G} {dA : Nat → ClassId} {lo : Nat} {cs0 : Nat → Option Nat} {d : Nat} (hI : jIH l D dA lo cs0 d) : jMe l D dA lo cs0 (EV d) 283 yJ14_checkIndex (ws_ yJ14_checkIndex cJ14_checkIndex 3 (Option.some Jvm.ClassFile.FieldType.int)) d := hI 283 (yJ14_checkIndex, (ws_ yJ14_checkIndex cJ14_checkIndex 3 (Option.some Jvm.ClassFile.FieldType.int))) rfl
theorem w4_J14_checkIndex : Cond.code yJ14_checkIndex cJ14_checkIndex 3 (Option.some Jvm.ClassFile.FieldType.int) ∈ lw_all := q1157
theorem w6_J14_checkIndex : Cond.initialized yJ14_checkIndex.cls ∈ lw_all := q141
theorem hy_J14_checkIndex : yJ14_checkIndex.cls ≠ "java/lang/invoke/MethodHandle" ∧ yJ14_checkIndex.cls ≠ "java/lang/invoke/VarHandle" := by decide +kernel
theorem hl_J14_checkIndex : (parseMethodDescriptor yJ14_checkIndex.desc).map (fun q => q.parameters.length) = some 3 := by decide +kernel
theorem hp_J14_checkIndex : plainFor yJ14_checkIndex = true := by decide +kernel
theorem i_J4_grow {l : Launch} {D : va_G} {dA : Nat → ClassId} {lo : Nat} {cs0 : Nat → Option Nat} {d : Nat} (hI : jIH l D dA lo cs0 d) : jMe l D dA lo cs0 (EV d) 284 yJ4_grow (ws_ yJ4_grow cJ4_grow 1 (Option.some (Jvm.ClassFile.FieldType.array (Jvm.ClassFile.FieldType.object "java/lang/Object")))) d := hI 284 (yJ4_grow, (ws_ yJ4_grow cJ4_grow 1 (Option.some (Jvm.ClassFile.FieldType.array (Jvm.ClassFile.FieldType.object "java/lang/Object"))))) rfl
theorem w4_J4_grow : Cond.code yJ4_grow cJ4_grow 1 (Option.some (Jvm.ClassFile.FieldType.array (Jvm.ClassFile.FieldType.object "java/lang/Object"))) ∈ lw_all := q1214
theorem w6_J4_grow : Cond.initialized yJ4_grow.cls ∈ lw_all := q129
theorem hy_J4_grow : yJ4_grow.cls ≠ "java/lang/invoke/MethodHandle" ∧ yJ4_grow.cls ≠ "java/lang/invoke/VarHandle" := by decide +kernel
theorem hl_J4_grow : (parseMethodDescriptor yJ4_grow.desc).map (fun q => q.parameters.length) = some 0 := by decide +kernel
theorem hp_J4_grow : plainFor yJ4_grow = true := by decide +kernel
theorem i_X5_statement {l : Launch} {D : va_G} {dA : Nat → ClassId} {lo : Nat} {cs0 : Nat → Option Nat} {d : Nat} (hI : jIH l D dA lo cs0 d) : jMe l D dA lo cs0 (EV d) 285 yX5_statement (ws_ yX5_statement cX5_statement 2 (Option.some (Jvm.ClassFile.FieldType.object "PointerAnalyzer$Line"))) d := hI 285 (yX5_statement, (ws_ yX5_statement cX5_statement 2 (Option.some (Jvm.ClassFile.FieldType.object "PointerAnalyzer$Line")))) rfl
theorem w4_X5_statement : Cond.code yX5_statement cX5_statement 2 (Option.some (Jvm.ClassFile.FieldType.object "PointerAnalyzer$Line")) ∈ lw_all := q2493
theorem w6_X5_statement : Cond.initialized yX5_statement.cls ∈ lw_all := q165
theorem hy_X5_statement : yX5_statement.cls ≠ "java/lang/invoke/MethodHandle" ∧ yX5_statement.cls ≠ "java/lang/invoke/VarHandle" := by decide +kernel
theorem hl_X5_statement : (parseMethodDescriptor yX5_statement.desc).map (fun q => q.parameters.length) = some 0 := by decide +kernel
theorem hp_X5_statement : plainFor yX5_statement = true := by decide +kernel
theorem i_X5_passes {l : Launch} {D : va_G} {dA : Nat → ClassId} {lo : Nat} {cs0 : Nat → Option Nat} {d : Nat} (hI : jIH l D dA lo cs0 d) : jMe l D dA lo cs0 (EV d) 286 yX5_passes (ws_ yX5_passes cX5_passes 3 (Option.some Jvm.ClassFile.FieldType.boolean)) d := hI 286 (yX5_passes, (ws_ yX5_passes cX5_passes 3 (Option.some Jvm.ClassFile.FieldType.boolean))) rfl
theorem w4_X5_passes : Cond.code yX5_passes cX5_passes 3 (Option.some Jvm.ClassFile.FieldType.boolean) ∈ lw_all := q2497
theorem w6_X5_passes : Cond.initialized yX5_passes.cls ∈ lw_all := q165
theorem hy_X5_passes : yX5_passes.cls ≠ "java/lang/invoke/MethodHandle" ∧ yX5_passes.cls ≠ "java/lang/invoke/VarHandle" := by decide +kernel
theorem hl_X5_passes : (parseMethodDescriptor yX5_passes.desc).map (fun q => q.parameters.length) = some 1 := by decide +kernel
theorem hp_X5_passes : plainFor yX5_passes = true := by decide +kernel
theorem i_X5_must {l : Launch} {D : va_G} {dA : Nat → ClassId} {lo : Nat} {cs0 : Nat → Option Nat} {d : Nat} (hI : jIH l D dA lo cs0 d) : jMe l D dA lo cs0 (EV d) 287 yX5_must (ws_ yX5_must cX5_must 2 (Option.none : Option Jvm.ClassFile.FieldType)) d := hI 287 (yX5_must, (ws_ yX5_must cX5_must 2 (Option.none : Option Jvm.ClassFile.FieldType))) rfl
theorem w4_X5_must : Cond.code yX5_must cX5_must 2 (Option.none : Option Jvm.ClassFile.FieldType) ∈ lw_all := q2562
theorem w6_X5_must : Cond.initialized yX5_must.cls ∈ lw_all := q165
theorem hy_X5_must : yX5_must.cls ≠ "java/lang/invoke/MethodHandle" ∧ yX5_must.cls ≠ "java/lang/invoke/VarHandle" := by decide +kernel
theorem hl_X5_must : (parseMethodDescriptor yX5_must.desc).map (fun q => q.parameters.length) = some 1 := by decide +kernel
theorem hp_X5_must : plainFor yX5_must = true := by decide +kernel
theorem i_X4_unifies {l : Launch} {D : va_G} {dA : Nat → ClassId} {lo : Nat} {cs0 : Nat → Option Nat} {d : Nat} (hI : jIH l D dA lo cs0 d) : jMe l D dA lo cs0 (EV d) 288 yX4_unifies (ws_ yX4_unifies cX4_unifies 5 (Option.none : Option Jvm.ClassFile.FieldType)) d := hI 288 (yX4_unifies, (ws_ yX4_unifies cX4_unifies 5 (Option.none : Option Jvm.ClassFile.FieldType))) rfl
theorem w4_X4_unifies : Cond.code yX4_unifies cX4_unifies 5 (Option.none : Option Jvm.ClassFile.FieldType) ∈ lw_all := q3231
theorem w6_X4_unifies : Cond.initialized yX4_unifies.cls ∈ lw_all := q160
theorem hy_X4_unifies : yX4_unifies.cls ≠ "java/lang/invoke/MethodHandle" ∧ yX4_unifies.cls ≠ "java/lang/invoke/VarHandle" := by decide +kernel
theorem hl_X4_unifies : (parseMethodDescriptor yX4_unifies.desc).map (fun q => q.parameters.length) = some 2 := by decide +kernel
theorem hp_X4_unifies : plainFor yX4_unifies = true := by decide +kernel
theorem i_J40_checkInvariants {l : Launch} {D : va_G} {dA : Nat → ClassId} {lo : Nat} {cs0 : Nat → Option Nat} {d : Nat} (hI : jIH l D dA lo cs0 d) : jMe l D dA lo cs0 (EV d) 289 yJ40_checkInvariants (ws_ yJ40_checkInvariants cJ40_checkInvariants 1 (Option.none : Option Jvm.ClassFile.FieldType)) d := hI 289 (yJ40_checkInvariants, (ws_ yJ40_checkInvariants cJ40_checkInvariants 1 (Option.none : Option Jvm.ClassFile.FieldType))) rfl
theorem w4_J40_checkInvariants : Cond.code yJ40_checkInvariants cJ40_checkInvariants 1 (Option.none : Option Jvm.ClassFile.FieldType) ∈ lw_all := q1913
theorem w6_J40_checkInvariants : Cond.initialized yJ40_checkInvariants.cls ∈ lw_all := q179
theorem hy_J40_checkInvariants : yJ40_checkInvariants.cls ≠ "java/lang/invoke/MethodHandle" ∧ yJ40_checkInvariants.cls ≠ "java/lang/invoke/VarHandle" := by decide +kernel
theorem hl_J40_checkInvariants : (parseMethodDescriptor yJ40_checkInvariants.desc).map (fun q => q.parameters.length) = some 0 := by decide +kernel
theorem hp_J40_checkInvariants : plainFor yJ40_checkInvariants = true := by decide +kernel
theorem i_J40_wordIndex {l : Launch} {D : va_G} {dA : Nat → ClassId} {lo : Nat} {cs0 : Nat → Option Nat} {d : Nat} (hI : jIH l D dA lo cs0 d) : jMe l D dA lo cs0 (EV d) 290 yJ40_wordIndex (ws_ yJ40_wordIndex cJ40_wordIndex 1 (Option.some Jvm.ClassFile.FieldType.int)) d := hI 290 (yJ40_wordIndex, (ws_ yJ40_wordIndex cJ40_wordIndex 1 (Option.some Jvm.ClassFile.FieldType.int))) rfl
theorem w4_J40_wordIndex : Cond.code yJ40_wordIndex cJ40_wordIndex 1 (Option.some Jvm.ClassFile.FieldType.int) ∈ lw_all := q1583
theorem w6_J40_wordIndex : Cond.initialized yJ40_wordIndex.cls ∈ lw_all := q179
theorem hy_J40_wordIndex : yJ40_wordIndex.cls ≠ "java/lang/invoke/MethodHandle" ∧ yJ40_wordIndex.cls ≠ "java/lang/invoke/VarHandle" := by decide +kernel
theorem hl_J40_wordIndex : (parseMethodDescriptor yJ40_wordIndex.desc).map (fun q => q.parameters.length) = some 1 := by decide +kernel
theorem hp_J40_wordIndex : plainFor yJ40_wordIndex = true := by decide +kernel
theorem i_J35_init {l : Launch} {D : va_G} {dA : Nat → ClassId} {lo : Nat} {cs0 : Nat → Option Nat} {d : Nat} (hI : jIH l D dA lo cs0 d) : jMe l D dA lo cs0 (EV d) 291 yJ35_init (ws_ yJ35_init cJ35_init 1 (Option.none : Option Jvm.ClassFile.FieldType)) d := hI 291 (yJ35_init, (ws_ yJ35_init cJ35_init 1 (Option.none : Option Jvm.ClassFile.FieldType))) rfl
theorem w4_J35_init : Cond.code yJ35_init cJ35_init 1 (Option.none : Option Jvm.ClassFile.FieldType) ∈ lw_all := q1320
theorem w6_J35_init : Cond.initialized yJ35_init.cls ∈ lw_all := q170
theorem hy_J35_init : yJ35_init.cls ≠ "java/lang/invoke/MethodHandle" ∧ yJ35_init.cls ≠ "java/lang/invoke/VarHandle" := by decide +kernel
theorem hl_J35_init : (parseMethodDescriptor yJ35_init.desc).map (fun q => q.parameters.length) = some 0 := by decide +kernel
theorem hp_J35_init : plainFor yJ35_init = true := by decide +kernel
theorem i_J37_init {l : Launch} {D : va_G} {dA : Nat → ClassId} {lo : Nat} {cs0 : Nat → Option Nat} {d : Nat} (hI : jIH l D dA lo cs0 d) : jMe l D dA lo cs0 (EV d) 292 yJ37_init (ws_ yJ37_init cJ37_init 1 (Option.none : Option Jvm.ClassFile.FieldType)) d := hI 292 (yJ37_init, (ws_ yJ37_init cJ37_init 1 (Option.none : Option Jvm.ClassFile.FieldType))) rfl
theorem w4_J37_init : Cond.code yJ37_init cJ37_init 1 (Option.none : Option Jvm.ClassFile.FieldType) ∈ lw_all := q1366
theorem w6_J37_init : Cond.initialized yJ37_init.cls ∈ lw_all := q174
theorem hy_J37_init : yJ37_init.cls ≠ "java/lang/invoke/MethodHandle" ∧ yJ37_init.cls ≠ "java/lang/invoke/VarHandle" := by decide +kernel
theorem hl_J37_init : (parseMethodDescriptor yJ37_init.desc).map (fun q => q.parameters.length) = some 0 := by decide +kernel
theorem hp_J37_init : plainFor yJ37_init = true := by decide +kernel
theorem i_X11_init {l : Launch} {D : va_G} {dA : Nat → ClassId} {lo : Nat} {cs0 : Nat → Option Nat} {d : Nat} (hI : jIH l D dA lo cs0 d) : jMe l D dA lo cs0 (EV d) 293 yX11_init (ws_ yX11_init cX11_init 2 (Option.none : Option Jvm.ClassFile.FieldType)) d := hI 293 (yX11_init, (ws_ yX11_init cX11_init 2 (Option.none : Option Jvm.ClassFile.FieldType))) rfl
theorem w4_X11_init : Cond.code yX11_init cX11_init 2 (Option.none : Option Jvm.ClassFile.FieldType) ∈ lw_all := q1383
theorem w6_X11_init : Cond.initialized yX11_init.cls ∈ lw_all := q175
theorem hy_X11_init : yX11_init.cls ≠ "java/lang/invoke/MethodHandle" ∧ yX11_init.cls ≠ "java/lang/invoke/VarHandle" := by decide +kernel
theorem hl_X11_init : (parseMethodDescriptor yX11_init.desc).map (fun q => q.parameters.length) = some 1 := by decide +kernel
theorem hp_X11_init : plainFor yX11_init = true := by decide +kernel
theorem i_J37_add {l : Launch} {D : va_G} {dA : Nat → ClassId} {lo : Nat} {cs0 : Nat → Option Nat} {d : Nat} (hI : jIH l D dA lo cs0 d) : jMe l D dA lo cs0 (EV d) 294 yJ37_add (ws_ yJ37_add cJ37_add 2 (Option.some Jvm.ClassFile.FieldType.boolean)) d := hI 294 (yJ37_add, (ws_ yJ37_add cJ37_add 2 (Option.some Jvm.ClassFile.FieldType.boolean))) rfl
theorem w4_J37_add : Cond.code yJ37_add cJ37_add 2 (Option.some Jvm.ClassFile.FieldType.boolean) ∈ lw_all := q1393
theorem w6_J37_add : Cond.initialized yJ37_add.cls ∈ lw_all := q174
theorem hy_J37_add : yJ37_add.cls ≠ "java/lang/invoke/MethodHandle" ∧ yJ37_add.cls ≠ "java/lang/invoke/VarHandle" := by decide +kernel
theorem hl_J37_add : (parseMethodDescriptor yJ37_add.desc).map (fun q => q.parameters.length) = some 1 := by decide +kernel
theorem hp_J37_add : plainFor yJ37_add = true := by decide +kernel
theorem i_J4_init_2 {l : Launch} {D : va_G} {dA : Nat → ClassId} {lo : Nat} {cs0 : Nat → Option Nat} {d : Nat} (hI : jIH l D dA lo cs0 d) : jMe l D dA lo cs0 (EV d) 295 yJ4_init_2 (ws_ yJ4_init_2 cJ4_init_2 3 (Option.none : Option Jvm.ClassFile.FieldType)) d := hI 295 (yJ4_init_2, (ws_ yJ4_init_2 cJ4_init_2 3 (Option.none : Option Jvm.ClassFile.FieldType))) rfl
theorem w4_J4_init_2 : Cond.code yJ4_init_2 cJ4_init_2 3 (Option.none : Option Jvm.ClassFile.FieldType) ∈ lw_all := q1413
theorem w6_J4_init_2 : Cond.initialized yJ4_init_2.cls ∈ lw_all := q129
theorem hy_J4_init_2 : yJ4_init_2.cls ≠ "java/lang/invoke/MethodHandle" ∧ yJ4_init_2.cls ≠ "java/lang/invoke/VarHandle" := by decide +kernel
theorem hl_J4_init_2 : (parseMethodDescriptor yJ4_init_2.desc).map (fun q => q.parameters.length) = some 1 := by decide +kernel
theorem hp_J4_init_2 : plainFor yJ4_init_2 = true := by decide +kernel
theorem i_X11_with {l : Launch} {D : va_G} {dA : Nat → ClassId} {lo : Nat} {cs0 : Nat → Option Nat} {d : Nat} (hI : jIH l D dA lo cs0 d) : jMe l D dA lo cs0 (EV d) 296 yX11_with (ws_ yX11_with cX11_with 7 (Option.some (Jvm.ClassFile.FieldType.object "PointerAnalyzer$Context"))) d := hI 296 (yX11_with, (ws_ yX11_with cX11_with 7 (Option.some (Jvm.ClassFile.FieldType.object "PointerAnalyzer$Context")))) rfl
theorem w4_X11_with : Cond.code yX11_with cX11_with 7 (Option.some (Jvm.ClassFile.FieldType.object "PointerAnalyzer$Context")) ∈ lw_all := q1547
theorem w6_X11_with : Cond.initialized yX11_with.cls ∈ lw_all := q175
theorem hy_X11_with : yX11_with.cls ≠ "java/lang/invoke/MethodHandle" ∧ yX11_with.cls ≠ "java/lang/invoke/VarHandle" := by decide +kernel
theorem hl_X11_with : (parseMethodDescriptor yX11_with.desc).map (fun q => q.parameters.length) = some 2 := by decide +kernel
theorem hp_X11_with : plainFor yX11_with = true := by decide +kernel
theorem i_X8_add {l : Launch} {D : va_G} {dA : Nat → ClassId} {lo : Nat} {cs0 : Nat → Option Nat} {d : Nat} (hI : jIH l D dA lo cs0 d) : jMe l D dA lo cs0 (EV d) 297 yX8_add (ws_ yX8_add cX8_add 2 (Option.none : Option Jvm.ClassFile.FieldType)) d := hI 297 (yX8_add, (ws_ yX8_add cX8_add 2 (Option.none : Option Jvm.ClassFile.FieldType))) rfl
theorem w4_X8_add : Cond.code yX8_add cX8_add 2 (Option.none : Option Jvm.ClassFile.FieldType) ∈ lw_all := q1563
theorem w6_X8_add : Cond.initialized yX8_add.cls ∈ lw_all := q169
theorem hy_X8_add : yX8_add.cls ≠ "java/lang/invoke/MethodHandle" ∧ yX8_add.cls ≠ "java/lang/invoke/VarHandle" := by decide +kernel
theorem hl_X8_add : (parseMethodDescriptor yX8_add.desc).map (fun q => q.parameters.length) = some 1 := by decide +kernel
theorem hp_X8_add : plainFor yX8_add = true := by decide +kernel
theorem i_J40_set {l : Launch} {D : va_G} {dA : Nat → ClassId} {lo : Nat} {cs0 : Nat → Option Nat} {d : Nat} (hI : jIH l D dA lo cs0 d) : jMe l D dA lo cs0 (EV d) 298 yJ40_set (ws_ yJ40_set cJ40_set 3 (Option.none : Option Jvm.ClassFile.FieldType)) d := hI 298 (yJ40_set, (ws_ yJ40_set cJ40_set 3 (Option.none : Option Jvm.ClassFile.FieldType))) rfl
theorem w4_J40_set : Cond.code yJ40_set cJ40_set 3 (Option.none : Option Jvm.ClassFile.FieldType) ∈ lw_all := q1665
theorem w6_J40_set : Cond.initialized yJ40_set.cls ∈ lw_all := q179
theorem hy_J40_set : yJ40_set.cls ≠ "java/lang/invoke/MethodHandle" ∧ yJ40_set.cls ≠ "java/lang/invoke/VarHandle" := by decide +kernel
theorem hl_J40_set : (parseMethodDescriptor yJ40_set.desc).map (fun q => q.parameters.length) = some 1 := by decide +kernel
theorem hp_J40_set : plainFor yJ40_set = true := by decide +kernel
theorem i_X13_init {l : Launch} {D : va_G} {dA : Nat → ClassId} {lo : Nat} {cs0 : Nat → Option Nat} {d : Nat} (hI : jIH l D dA lo cs0 d) : jMe l D dA lo cs0 (EV d) 299 yX13_init (ws_ yX13_init cX13_init 3 (Option.none : Option Jvm.ClassFile.FieldType)) d := hI 299 (yX13_init, (ws_ yX13_init cX13_init 3 (Option.none : Option Jvm.ClassFile.FieldType))) rfl
theorem w4_X13_init : Cond.code yX13_init cX13_init 3 (Option.none : Option Jvm.ClassFile.FieldType) ∈ lw_all := q1920
theorem w6_X13_init : Cond.initialized yX13_init.cls ∈ lw_all := q182
theorem hy_X13_init : yX13_init.cls ≠ "java/lang/invoke/MethodHandle" ∧ yX13_init.cls ≠ "java/lang/invoke/VarHandle" := by decide +kernel
theorem hl_X13_init : (parseMethodDescriptor yX13_init.desc).map (fun q => q.parameters.length) = some 2 := by decide +kernel
theorem hp_X13_init : plainFor yX13_init = true := by decide +kernel
theorem i_X10_indexOf {l : Launch} {D : va_G} {dA : Nat → ClassId} {lo : Nat} {cs0 : Nat → Option Nat} {d : Nat} (hI : jIH l D dA lo cs0 d) : jMe l D dA lo cs0 (EV d) 300 yX10_indexOf (ws_ yX10_indexOf cX10_indexOf 4 (Option.some Jvm.ClassFile.FieldType.int)) d := hI 300 (yX10_indexOf, (ws_ yX10_indexOf cX10_indexOf 4 (Option.some Jvm.ClassFile.FieldType.int))) rfl
theorem w4_X10_indexOf : Cond.code yX10_indexOf cX10_indexOf 4 (Option.some Jvm.ClassFile.FieldType.int) ∈ lw_all := q1936
theorem w6_X10_indexOf : Cond.initialized yX10_indexOf.cls ∈ lw_all := q173
theorem hy_X10_indexOf : yX10_indexOf.cls ≠ "java/lang/invoke/MethodHandle" ∧ yX10_indexOf.cls ≠ "java/lang/invoke/VarHandle" := by decide +kernel
theorem hl_X10_indexOf : (parseMethodDescriptor yX10_indexOf.desc).map (fun q => q.parameters.length) = some 2 := by decide +kernel
theorem hp_X10_indexOf : plainFor yX10_indexOf = true := by decide +kernel
theorem i_X8_reachedFrom {l : Launch} {D : va_G} {dA : Nat → ClassId} {lo : Nat} {cs0 : Nat → Option Nat} {d : Nat} (hI : jIH l D dA lo cs0 d) : jMe l D dA lo cs0 (EV d) 301 yX8_reachedFrom (ws_ yX8_reachedFrom cX8_reachedFrom 5 (Option.some (Jvm.ClassFile.FieldType.object "java/util/BitSet"))) d := hI 301 (yX8_reachedFrom, (ws_ yX8_reachedFrom cX8_reachedFrom 5 (Option.some (Jvm.ClassFile.FieldType.object "java/util/BitSet")))) rfl
theorem w4_X8_reachedFrom : Cond.code yX8_reachedFrom cX8_reachedFrom 5 (Option.some (Jvm.ClassFile.FieldType.object "java/util/BitSet")) ∈ lw_all := q1947
theorem w6_X8_reachedFrom : Cond.initialized yX8_reachedFrom.cls ∈ lw_all := q169
theorem hy_X8_reachedFrom : yX8_reachedFrom.cls ≠ "java/lang/invoke/MethodHandle" ∧ yX8_reachedFrom.cls ≠ "java/lang/invoke/VarHandle" := by decide +kernel
theorem hl_X8_reachedFrom : (parseMethodDescriptor yX8_reachedFrom.desc).map (fun q => q.parameters.length) = some 1 := by decide +kernel
theorem hp_X8_reachedFrom : plainFor yX8_reachedFrom = true := by decide +kernel
theorem i_J40_get {l : Launch} {D : va_G} {dA : Nat → ClassId} {lo : Nat} {cs0 : Nat → Option Nat} {d : Nat} (hI : jIH l D dA lo cs0 d) : jMe l D dA lo cs0 (EV d) 302 yJ40_get (ws_ yJ40_get cJ40_get 3 (Option.some Jvm.ClassFile.FieldType.boolean)) d := hI 302 (yJ40_get, (ws_ yJ40_get cJ40_get 3 (Option.some Jvm.ClassFile.FieldType.boolean))) rfl
theorem w4_J40_get : Cond.code yJ40_get cJ40_get 3 (Option.some Jvm.ClassFile.FieldType.boolean) ∈ lw_all := q1993
theorem w6_J40_get : Cond.initialized yJ40_get.cls ∈ lw_all := q179
theorem hy_J40_get : yJ40_get.cls ≠ "java/lang/invoke/MethodHandle" ∧ yJ40_get.cls ≠ "java/lang/invoke/VarHandle" := by decide +kernel
theorem hl_J40_get : (parseMethodDescriptor yJ40_get.desc).map (fun q => q.parameters.length) = some 1 := by decide +kernel
theorem hp_J40_get : plainFor yJ40_get = true := by decide +kernel
theorem i_X8_merge {l : Launch} {D : va_G} {dA : Nat → ClassId} {lo : Nat} {cs0 : Nat → Option Nat} {d : Nat} (hI : jIH l D dA lo cs0 d) : jMe l D dA lo cs0 (EV d) 303 yX8_merge (ws_ yX8_merge cX8_merge 2 (Option.none : Option Jvm.ClassFile.FieldType)) d := hI 303 (yX8_merge, (ws_ yX8_merge cX8_merge 2 (Option.none : Option Jvm.ClassFile.FieldType))) rfl
theorem w4_X8_merge : Cond.code yX8_merge cX8_merge 2 (Option.none : Option Jvm.ClassFile.FieldType) ∈ lw_all := q2000
theorem w6_X8_merge : Cond.initialized yX8_merge.cls ∈ lw_all := q169
theorem hy_X8_merge : yX8_merge.cls ≠ "java/lang/invoke/MethodHandle" ∧ yX8_merge.cls ≠ "java/lang/invoke/VarHandle" := by decide +kernel
theorem hl_X8_merge : (parseMethodDescriptor yX8_merge.desc).map (fun q => q.parameters.length) = some 2 := by decide +kernel
theorem hp_X8_merge : plainFor yX8_merge = true := by decide +kernel
theorem i_J36_add {l : Launch} {D : va_G} {dA : Nat → ClassId} {lo : Nat} {cs0 : Nat → Option Nat} {d : Nat} (hI : jIH l D dA lo cs0 d) : jMe l D dA lo cs0 (EV d) 304 yJ36_add (ws_ yJ36_add cJ36_add 2 (Option.some Jvm.ClassFile.FieldType.boolean)) d := hI 304 (yJ36_add, (ws_ yJ36_add cJ36_add 2 (Option.some Jvm.ClassFile.FieldType.boolean))) rfl
theorem w4_J36_add : Cond.code yJ36_add cJ36_add 2 (Option.some Jvm.ClassFile.FieldType.boolean) ∈ lw_all := q2013
theorem w6_J36_add : Cond.initialized yJ36_add.cls ∈ lw_all := q171
theorem hy_J36_add : yJ36_add.cls ≠ "java/lang/invoke/MethodHandle" ∧ yJ36_add.cls ≠ "java/lang/invoke/VarHandle" := by decide +kernel
theorem hl_J36_add : (parseMethodDescriptor yJ36_add.desc).map (fun q => q.parameters.length) = some 1 := by decide +kernel
theorem hp_J36_add : plainFor yJ36_add = true := by decide +kernel
theorem i_J36_size {l : Launch} {D : va_G} {dA : Nat → ClassId} {lo : Nat} {cs0 : Nat → Option Nat} {d : Nat} (hI : jIH l D dA lo cs0 d) : jMe l D dA lo cs0 (EV d) 305 yJ36_size (ws_ yJ36_size cJ36_size 1 (Option.some Jvm.ClassFile.FieldType.int)) d := hI 305 (yJ36_size, (ws_ yJ36_size cJ36_size 1 (Option.some Jvm.ClassFile.FieldType.int))) rfl
theorem w4_J36_size : Cond.code yJ36_size cJ36_size 1 (Option.some Jvm.ClassFile.FieldType.int) ∈ lw_all := q1443
theorem w6_J36_size : Cond.initialized yJ36_size.cls ∈ lw_all := q171
theorem hy_J36_size : yJ36_size.cls ≠ "java/lang/invoke/MethodHandle" ∧ yJ36_size.cls ≠ "java/lang/invoke/VarHandle" := by decide +kernel
theorem hl_J36_size : (parseMethodDescriptor yJ36_size.desc).map (fun q => q.parameters.length) = some 0 := by decide +kernel
theorem hp_J36_size : plainFor yJ36_size = true := by decide +kernel
theorem i_J37_size {l : Launch} {D : va_G} {dA : Nat → ClassId} {lo : Nat} {cs0 : Nat → Option Nat} {d : Nat} (hI : jIH l D dA lo cs0 d) : jMe l D dA lo cs0 (EV d) 306 yJ37_size (ws_ yJ37_size cJ37_size 1 (Option.some Jvm.ClassFile.FieldType.int)) d := hI 306 (yJ37_size, (ws_ yJ37_size cJ37_size 1 (Option.some Jvm.ClassFile.FieldType.int))) rfl
theorem w4_J37_size : Cond.code yJ37_size cJ37_size 1 (Option.some Jvm.ClassFile.FieldType.int) ∈ lw_all := q1455
theorem w6_J37_size : Cond.initialized yJ37_size.cls ∈ lw_all := q174
theorem hy_J37_size : yJ37_size.cls ≠ "java/lang/invoke/MethodHandle" ∧ yJ37_size.cls ≠ "java/lang/invoke/VarHandle" := by decide +kernel
theorem hl_J37_size : (parseMethodDescriptor yJ37_size.desc).map (fun q => q.parameters.length) = some 0 := by decide +kernel
theorem hp_J37_size : plainFor yJ37_size = true := by decide +kernel
theorem i_J36_siftDownUsingComparator {l : Launch} {D : va_G} {dA : Nat → ClassId} {lo : Nat} {cs0 : Nat → Option Nat} {d : Nat} (hI : jIH l D dA lo cs0 d) : jMe l D dA lo cs0 (EV d) 307 yJ36_siftDownUsingComparator (ws_ yJ36_siftDownUsingComparator cJ36_siftDownUsingComparator 9 (Option.none : Option Jvm.ClassFile.FieldType)) d := hI 307 (yJ36_siftDownUsingComparator, (ws_ yJ36_siftDownUsingComparator cJ36_siftDownUsingComparator 9 (Option.none : Option Jvm.ClassFile.FieldType))) rfl
theorem w4_J36_siftDownUsingComparator : Cond.code yJ36_siftDownUsingComparator cJ36_siftDownUsingComparator 9 (Option.none : Option Jvm.ClassFile.FieldType) ∈ lw_all := q2053
theorem w6_J36_siftDownUsingComparator : Cond.initialized yJ36_siftDownUsingComparator.cls ∈ lw_all := q171
theorem hy_J36_siftDownUsingComparator : yJ36_siftDownUsingComparator.cls ≠ "java/lang/invoke/MethodHandle" ∧ yJ36_siftDownUsingComparator.cls ≠ "java/lang/invoke/VarHandle" := by decide +kernel
theorem hl_J36_siftDownUsingComparator : (parseMethodDescriptor yJ36_siftDownUsingComparator.desc).map (fun q => q.parameters.length) = some 5 := by decide +kernel
theorem hp_J36_siftDownUsingComparator : plainFor yJ36_siftDownUsingComparator = true := by decide +kernel
theorem i_X8_connect {l : Launch} {D : va_G} {dA : Nat → ClassId} {lo : Nat} {cs0 : Nat → Option Nat} {d : Nat} (hI : jIH l D dA lo cs0 d) : jMe l D dA lo cs0 (EV d) 308 yX8_connect (ws_ yX8_connect cX8_connect 4 (Option.none : Option Jvm.ClassFile.FieldType)) d := hI 308 (yX8_connect, (ws_ yX8_connect cX8_connect 4 (Option.none : Option Jvm.ClassFile.FieldType))) rfl
theorem w4_X8_connect : Cond.code yX8_connect cX8_connect 4 (Option.none : Option Jvm.ClassFile.FieldType) ∈ lw_all := q2061
theorem w6_X8_connect : Cond.initialized yX8_connect.cls ∈ lw_all := q169
theorem hy_X8_connect : yX8_connect.cls ≠ "java/lang/invoke/MethodHandle" ∧ yX8_connect.cls ≠ "java/lang/invoke/VarHandle" := by decide +kernel
theorem hl_X8_connect : (parseMethodDescriptor yX8_connect.desc).map (fun q => q.parameters.length) = some 2 := by decide +kernel
theorem hp_X8_connect : plainFor yX8_connect = true := by decide +kernel
theorem i_X8_moved {l : Launch} {D : va_G} {dA : Nat → ClassId} {lo : Nat} {cs0 : Nat → Option Nat} {d : Nat} (hI : jIH l D dA lo cs0 d) : jMe l D dA lo cs0 (EV d) 309 yX8_moved (ws_ yX8_moved cX8_moved 6 (Option.some (Jvm.ClassFile.FieldType.object "java/util/BitSet"))) d := hI 309 (yX8_moved, (ws_ yX8_moved cX8_moved 6 (Option.some (Jvm.ClassFile.FieldType.object "java/util/BitSet")))) rfl
theorem w4_X8_moved : Cond.code yX8_moved cX8_moved 6 (Option.some (Jvm.ClassFile.FieldType.object "java/util/BitSet")) ∈ lw_all := q2086
theorem w6_X8_moved : Cond.initialized yX8_moved.cls ∈ lw_all := q169
theorem hy_X8_moved : yX8_moved.cls ≠ "java/lang/invoke/MethodHandle" ∧ yX8_moved.cls ≠ "java/lang/invoke/VarHandle" := by decide +kernel
theorem hl_X8_moved : (parseMethodDescriptor yX8_moved.desc).map (fun q => q.parameters.length) = some 2 := by decide +kernel
theorem hp_X8_moved : plainFor yX8_moved = true := by decide +kernel
theorem i_X8_grow {l : Launch} {D : va_G} {dA : Nat → ClassId} {lo : Nat} {cs0 : Nat → Option Nat} {d : Nat} (hI : jIH l D dA lo cs0 d) : jMe l D dA lo cs0 (EV d) 310 yX8_grow (ws_ yX8_grow cX8_grow 5 (Option.none : Option Jvm.ClassFile.FieldType)) d := hI 310 (yX8_grow, (ws_ yX8_grow cX8_grow 5 (Option.none : Option Jvm.ClassFile.FieldType))) rfl
theorem w4_X8_grow : Cond.code yX8_grow cX8_grow 5 (Option.none : Option Jvm.ClassFile.FieldType) ∈ lw_all := q2065
theorem w6_X8_grow : Cond.initialized yX8_grow.cls ∈ lw_all := q169
theorem hy_X8_grow : yX8_grow.cls ≠ "java/lang/invoke/MethodHandle" ∧ yX8_grow.cls ≠ "java/lang/invoke/VarHandle" := by decide +kernel
theorem hl_X8_grow : (parseMethodDescriptor yX8_grow.desc).map (fun q => q.parameters.length) = some 2 := by decide +kernel
theorem hp_X8_grow : plainFor yX8_grow = true := by decide +kernel
theorem i_J40_trimToSize {l : Launch} {D : va_G} {dA : Nat → ClassId} {lo : Nat} {cs0 : Nat → Option Nat} {d : Nat} (hI : jIH l D dA lo cs0 d) : jMe l D dA lo cs0 (EV d) 311 yJ40_trimToSize (ws_ yJ40_trimToSize cJ40_trimToSize 1 (Option.none : Option Jvm.ClassFile.FieldType)) d := hI 311 (yJ40_trimToSize, (ws_ yJ40_trimToSize cJ40_trimToSize 1 (Option.none : Option Jvm.ClassFile.FieldType))) rfl
theorem w4_J40_trimToSize : Cond.code yJ40_trimToSize cJ40_trimToSize 1 (Option.none : Option Jvm.ClassFile.FieldType) ∈ lw_all := q1956
theorem w6_J40_trimToSize : Cond.initialized yJ40_trimToSize.cls ∈ lw_all := q179
theorem hy_J40_trimToSize : yJ40_trimToSize.cls ≠ "java/lang/invoke/MethodHandle" ∧ yJ40_trimToSize.cls ≠ "java/lang/invoke/VarHandle" := by decide +kernel
theorem hl_J40_trimToSize : (parseMethodDescriptor yJ40_trimToSize.desc).map (fun q => q.parameters.length) = some 0 := by decide +kernel
theorem hp_J40_trimToSize : plainFor yJ40_trimToSize = true := by decide +kernel
theorem i_X14_add {l : Launch} {D : va_G} {dA : Nat → ClassId} {lo : Nat} {cs0 : Nat → Option Nat} {d : Nat} (hI : jIH l D dA lo cs0 d) : jMe l D dA lo cs0 (EV d) 312 yX14_add (ws_ yX14_add cX14_add 7 (Option.none : Option Jvm.ClassFile.FieldType)) d := hI 312 (yX14_add, (ws_ yX14_add cX14_add 7 (Option.none : Option Jvm.ClassFile.FieldType))) rfl
theorem w4_X14_add : Cond.code yX14_add cX14_add 7 (Option.none : Option Jvm.ClassFile.FieldType) ∈ lw_all := q2169
theorem w6_X14_add : Cond.initialized yX14_add.cls ∈ lw_all := q183
theorem hy_X14_add : yX14_add.cls ≠ "java/lang/invoke/MethodHandle" ∧ yX14_add.cls ≠ "java/lang/invoke/VarHandle" := by decide +kernel
theorem hl_X14_add : (parseMethodDescriptor yX14_add.desc).map (fun q => q.parameters.length) = some 2 := by decide +kernel
theorem hp_X14_add : plainFor yX14_add = true := by decide +kernel
theorem i_X14_moved {l : Launch} {D : va_G} {dA : Nat → ClassId} {lo : Nat} {cs0 : Nat → Option Nat} {d : Nat} (hI : jIH l D dA lo cs0 d) : jMe l D dA lo cs0 (EV d) 313 yX14_moved (ws_ yX14_moved cX14_moved 9 (Option.some Jvm.ClassFile.FieldType.long)) d := hI 313 (yX14_moved, (ws_ yX14_moved cX14_moved 9 (Option.some Jvm.ClassFile.FieldType.long))) rfl
theorem w4_X14_moved : Cond.code yX14_moved cX14_moved 9 (Option.some Jvm.ClassFile.FieldType.long) ∈ lw_all := q2175
theorem w6_X14_moved : Cond.initialized yX14_moved.cls ∈ lw_all := q183
theorem hy_X14_moved : yX14_moved.cls ≠ "java/lang/invoke/MethodHandle" ∧ yX14_moved.cls ≠ "java/lang/invoke/VarHandle" := by decide +kernel
theorem hl_X14_moved : (parseMethodDescriptor yX14_moved.desc).map (fun q => q.parameters.length) = some 2 := by decide +kernel
theorem hp_X14_moved : plainFor yX14_moved = true := by decide +kernel
theorem i_X17_requireTime {l : Launch} {D : va_G} {dA : Nat → ClassId} {lo : Nat} {cs0 : Nat → Option Nat} {d : Nat} (hI : jIH l D dA lo cs0 d) : jMe l D dA lo cs0 (EV d) 314 yX17_requireTime (ws_ yX17_requireTime cX17_requireTime 2 (Option.none : Option Jvm.ClassFile.FieldType)) d := hI 314 (yX17_requireTime, (ws_ yX17_requireTime cX17_requireTime 2 (Option.none : Option Jvm.ClassFile.FieldType))) rfl
theorem w4_X17_requireTime : Cond.code yX17_requireTime cX17_requireTime 2 (Option.none : Option Jvm.ClassFile.FieldType) ∈ lw_all := q2310
theorem w6_X17_requireTime : Cond.initialized yX17_requireTime.cls ∈ lw_all := q186
theorem hy_X17_requireTime : yX17_requireTime.cls ≠ "java/lang/invoke/MethodHandle" ∧ yX17_requireTime.cls ≠ "java/lang/invoke/VarHandle" := by decide +kernel
theorem hl_X17_requireTime : (parseMethodDescriptor yX17_requireTime.desc).map (fun q => q.parameters.length) = some 1 := by decide +kernel
theorem hp_X17_requireTime : plainFor yX17_requireTime = true := by decide +kernel
theorem i_X17_place {l : Launch} {D : va_G} {dA : Nat → ClassId} {lo : Nat} {cs0 : Nat → Option Nat} {d : Nat} (hI : jIH l D dA lo cs0 d) : jMe l D dA lo cs0 (EV d) 315 yX17_place (ws_ yX17_place cX17_place 3 (Option.some (Jvm.ClassFile.FieldType.object "PointerAnalyzer$Place"))) d := hI 315 (yX17_place, (ws_ yX17_place cX17_place 3 (Option.some (Jvm.ClassFile.FieldType.object "PointerAnalyzer$Place")))) rfl
theorem w4_X17_place : Cond.code yX17_place cX17_place 3 (Option.some (Jvm.ClassFile.FieldType.object "PointerAnalyzer$Place")) ∈ lw_all := q2333
theorem w6_X17_place : Cond.initialized yX17_place.cls ∈ lw_all := q186
theorem hy_X17_place : yX17_place.cls ≠ "java/lang/invoke/MethodHandle" ∧ yX17_place.cls ≠ "java/lang/invoke/VarHandle" := by decide +kernel
theorem hl_X17_place : (parseMethodDescriptor yX17_place.desc).map (fun q => q.parameters.length) = some 2 := by decide +kernel
theorem hp_X17_place : plainFor yX17_place = true := by decide +kernel
theorem i_X17_load {l : Launch} {D : va_G} {dA : Nat → ClassId} {lo : Nat} {cs0 : Nat → Option Nat} {d : Nat} (hI : jIH l D dA lo cs0 d) : jMe l D dA lo cs0 (EV d) 316 yX17_load (ws_ yX17_load cX17_load 3 (Option.none : Option Jvm.ClassFile.FieldType)) d := hI 316 (yX17_load, (ws_ yX17_load cX17_load 3 (Option.none : Option Jvm.ClassFile.FieldType))) rfl
theorem w4_X17_load : Cond.code yX17_load cX17_load 3 (Option.none : Option Jvm.ClassFile.FieldType) ∈ lw_all := q2338
theorem w6_X17_load : Cond.initialized yX17_load.cls ∈ lw_all := q186
theorem hy_X17_load : yX17_load.cls ≠ "java/lang/invoke/MethodHandle" ∧ yX17_load.cls ≠ "java/lang/invoke/VarHandle" := by decide +kernel
theorem hl_X17_load : (parseMethodDescriptor yX17_load.desc).map (fun q => q.parameters.length) = some 2 := by decide +kernel
theorem hp_X17_load : plainFor yX17_load = true := by decide +kernel
theorem i_X17_store {l : Launch} {D : va_G} {dA : Nat → ClassId} {lo : Nat} {cs0 : Nat → Option Nat} {d : Nat} (hI : jIH l D dA lo cs0 d) : jMe l D dA lo cs0 (EV d) 317 yX17_store (ws_ yX17_store cX17_store 3 (Option.none : Option Jvm.ClassFile.FieldType)) d := hI 317 (yX17_store, (ws_ yX17_store cX17_store 3 (Option.none : Option Jvm.ClassFile.FieldType))) rfl
theorem w4_X17_store : Cond.code yX17_store cX17_store 3 (Option.none : Option Jvm.ClassFile.FieldType) ∈ lw_all := q2342
theorem w6_X17_store : Cond.initialized yX17_store.cls ∈ lw_all := q186
theorem hy_X17_store : yX17_store.cls ≠ "java/lang/invoke/MethodHandle" ∧ yX17_store.cls ≠ "java/lang/invoke/VarHandle" := by decide +kernel
theorem hl_X17_store : (parseMethodDescriptor yX17_store.desc).map (fun q => q.parameters.length) = some 2 := by decide +kernel
theorem hp_X17_store : plainFor yX17_store = true := by decide +kernel
theorem i_X17_allocate {l : Launch} {D : va_G} {dA : Nat → ClassId} {lo : Nat} {cs0 : Nat → Option Nat} {d : Nat} (hI : jIH l D dA lo cs0 d) : jMe l D dA lo cs0 (EV d) 318 yX17_allocate (ws_ yX17_allocate cX17_allocate 4 (Option.some (Jvm.ClassFile.FieldType.object "PointerAnalyzer$Place"))) d := hI 318 (yX17_allocate, (ws_ yX17_allocate cX17_allocate 4 (Option.some (Jvm.ClassFile.FieldType.object "PointerAnalyzer$Place")))) rfl
theorem w4_X17_allocate : Cond.code yX17_allocate cX17_allocate 4 (Option.some (Jvm.ClassFile.FieldType.object "PointerAnalyzer$Place")) ∈ lw_all := q2346
theorem w6_X17_allocate : Cond.initialized yX17_allocate.cls ∈ lw_all := q186
theorem hy_X17_allocate : yX17_allocate.cls ≠ "java/lang/invoke/MethodHandle" ∧ yX17_allocate.cls ≠ "java/lang/invoke/VarHandle" := by decide +kernel
theorem hl_X17_allocate : (parseMethodDescriptor yX17_allocate.desc).map (fun q => q.parameters.length) = some 1 := by decide +kernel
theorem hp_X17_allocate : plainFor yX17_allocate = true := by decide +kernel
theorem i_X17_move {l : Launch} {D : va_G} {dA : Nat → ClassId} {lo : Nat} {cs0 : Nat → Option Nat} {d : Nat} (hI : jIH l D dA lo cs0 d) : jMe l D dA lo cs0 (EV d) 319 yX17_move (ws_ yX17_move cX17_move 5 (Option.none : Option Jvm.ClassFile.FieldType)) d := hI 319 (yX17_move, (ws_ yX17_move cX17_move 5 (Option.none : Option Jvm.ClassFile.FieldType))) rfl
theorem w4_X17_move : Cond.code yX17_move cX17_move 5 (Option.none : Option Jvm.ClassFile.FieldType) ∈ lw_all := q2351
theorem w6_X17_move : Cond.initialized yX17_move.cls ∈ lw_all := q186
theorem hy_X17_move : yX17_move.cls ≠ "java/lang/invoke/MethodHandle" ∧ yX17_move.cls ≠ "java/lang/invoke/VarHandle" := by decide +kernel
theorem hl_X17_move : (parseMethodDescriptor yX17_move.desc).map (fun q => q.parameters.length) = some 3 := by decide +kernel
theorem hp_X17_move : plainFor yX17_move = true := by decide +kernel
theorem i_J1_compare {l : Launch} {D : va_G} {dA : Nat → ClassId} {lo : Nat} {cs0 : Nat → Option Nat} {d : Nat} (hI : jIH l D dA lo cs0 d) : jMe l D dA lo cs0 (EV d) 320 yJ1_compare (ws_ yJ1_compare cJ1_compare 3 (Option.some Jvm.ClassFile.FieldType.int)) d := hI 320 (yJ1_compare, (ws_ yJ1_compare cJ1_compare 3 (Option.some Jvm.ClassFile.FieldType.int))) rfl
theorem w4_J1_compare : Cond.code yJ1_compare cJ1_compare 3 (Option.some Jvm.ClassFile.FieldType.int) ∈ lw_all := q303
theorem w6_J1_compare : Cond.initialized yJ1_compare.cls ∈ lw_all := q126
theorem hy_J1_compare : yJ1_compare.cls ≠ "java/lang/invoke/MethodHandle" ∧ yJ1_compare.cls ≠ "java/lang/invoke/VarHandle" := by decide +kernel
theorem hl_J1_compare : (parseMethodDescriptor yJ1_compare.desc).map (fun q => q.parameters.length) = some 2 := by decide +kernel
theorem hp_J1_compare : plainFor yJ1_compare = true := by decide +kernel
theorem i_J15_init {l : Launch} {D : va_G} {dA : Nat → ClassId} {lo : Nat} {cs0 : Nat → Option Nat} {d : Nat} (hI : jIH l D dA lo cs0 d) : jMe l D dA lo cs0 (EV d) 321 yJ15_init (ws_ yJ15_init cJ15_init 4 (Option.none : Option Jvm.ClassFile.FieldType)) d := hI 321 (yJ15_init, (ws_ yJ15_init cJ15_init 4 (Option.none : Option Jvm.ClassFile.FieldType))) rfl
theorem w4_J15_init : Cond.code yJ15_init cJ15_init 4 (Option.none : Option Jvm.ClassFile.FieldType) ∈ lw_all := q638
theorem w6_J15_init : Cond.initialized yJ15_init.cls ∈ lw_all := q142
theorem hy_J15_init : yJ15_init.cls ≠ "java/lang/invoke/MethodHandle" ∧ yJ15_init.cls ≠ "java/lang/invoke/VarHandle" := by decide +kernel
theorem hl_J15_init : (parseMethodDescriptor yJ15_init.desc).map (fun q => q.parameters.length) = some 3 := by decide +kernel
theorem hp_J15_init : plainFor yJ15_init = true := by decide +kernel
theorem i_X9_compare_2 {l : Launch} {D : va_G} {dA : Nat → ClassId} {lo : Nat} {cs0 : Nat → Option Nat} {d : Nat} (hI : jIH l D dA lo cs0 d) : jMe l D dA lo cs0 (EV d) 322 yX9_compare_2 (ws_ yX9_compare_2 cX9_compare_2 4 (Option.some Jvm.ClassFile.FieldType.int)) d := hI 322 (yX9_compare_2, (ws_ yX9_compare_2 cX9_compare_2 4 (Option.some Jvm.ClassFile.FieldType.int))) rfl
theorem w4_X9_compare_2 : Cond.code yX9_compare_2 cX9_compare_2 4 (Option.some Jvm.ClassFile.FieldType.int) ∈ lw_all := q622
theorem w6_X9_compare_2 : Cond.initialized yX9_compare_2.cls ∈ lw_all := q172
theorem hy_X9_compare_2 : yX9_compare_2.cls ≠ "java/lang/invoke/MethodHandle" ∧ yX9_compare_2.cls ≠ "java/lang/invoke/VarHandle" := by decide +kernel
theorem hl_X9_compare_2 : (parseMethodDescriptor yX9_compare_2.desc).map (fun q => q.parameters.length) = some 2 := by decide +kernel
theorem hp_X9_compare_2 : plainFor yX9_compare_2 = true := by decide +kernel
theorem i_J6_compareTo_2 {l : Launch} {D : va_G} {dA : Nat → ClassId} {lo : Nat} {cs0 : Nat → Option Nat} {d : Nat} (hI : jIH l D dA lo cs0 d) : jMe l D dA lo cs0 (EV d) 323 yJ6_compareTo_2 (ws_ yJ6_compareTo_2 cJ6_compareTo_2 2 (Option.some Jvm.ClassFile.FieldType.int)) d := hI 323 (yJ6_compareTo_2, (ws_ yJ6_compareTo_2 cJ6_compareTo_2 2 (Option.some Jvm.ClassFile.FieldType.int))) rfl
theorem w4_J6_compareTo_2 : Cond.code yJ6_compareTo_2 cJ6_compareTo_2 2 (Option.some Jvm.ClassFile.FieldType.int) ∈ lw_all := q395
theorem w6_J6_compareTo_2 : Cond.initialized yJ6_compareTo_2.cls ∈ lw_all := q131
theorem hy_J6_compareTo_2 : yJ6_compareTo_2.cls ≠ "java/lang/invoke/MethodHandle" ∧ yJ6_compareTo_2.cls ≠ "java/lang/invoke/VarHandle" := by decide +kernel
theorem hl_J6_compareTo_2 : (parseMethodDescriptor yJ6_compareTo_2.desc).map (fun q => q.parameters.length) = some 1 := by decide +kernel
theorem hp_J6_compareTo_2 : plainFor yJ6_compareTo_2 = true := by decide +kernel
theorem i_X11_compareTo_2 {l : Launch} {D : va_G} {dA : Nat → ClassId} {lo : Nat} {cs0 : Nat → Option Nat} {d : Nat} (hI : jIH l D dA lo cs0 d) : jMe l D dA lo cs0 (EV d) 324 yX11_compareTo_2 (ws_ yX11_compareTo_2 cX11_compareTo_2 4 (Option.some Jvm.ClassFile.FieldType.int)) d := hI 324 (yX11_compareTo_2, (ws_ yX11_compareTo_2 cX11_compareTo_2 4 (Option.some Jvm.ClassFile.FieldType.int))) rfl
theorem w4_X11_compareTo_2 : Cond.code yX11_compareTo_2 cX11_compareTo_2 4 (Option.some Jvm.ClassFile.FieldType.int) ∈ lw_all := q319
theorem w6_X11_compareTo_2 : Cond.initialized yX11_compareTo_2.cls ∈ lw_all := q175
theorem hy_X11_compareTo_2 : yX11_compareTo_2.cls ≠ "java/lang/invoke/MethodHandle" ∧ yX11_compareTo_2.cls ≠ "java/lang/invoke/VarHandle" := by decide +kernel
theorem hl_X11_compareTo_2 : (parseMethodDescriptor yX11_compareTo_2.desc).map (fun q => q.parameters.length) = some 1 := by decide +kernel
theorem hp_X11_compareTo_2 : plainFor yX11_compareTo_2 = true := by decide +kernel
theorem i_J1_fixAfterInsertion {l : Launch} {D : va_G} {dA : Nat → ClassId} {lo : Nat} {cs0 : Nat → Option Nat} {d : Nat} (hI : jIH l D dA lo cs0 d) : jMe l D dA lo cs0 (EV d) 325 yJ1_fixAfterInsertion (ws_ yJ1_fixAfterInsertion cJ1_fixAfterInsertion 3 (Option.none : Option Jvm.ClassFile.FieldType)) d := hI 325 (yJ1_fixAfterInsertion, (ws_ yJ1_fixAfterInsertion cJ1_fixAfterInsertion 3 (Option.none : Option Jvm.ClassFile.FieldType))) rfl
theorem w4_J1_fixAfterInsertion : Cond.code yJ1_fixAfterInsertion cJ1_fixAfterInsertion 3 (Option.none : Option Jvm.ClassFile.FieldType) ∈ lw_all := q674
theorem w6_J1_fixAfterInsertion : Cond.initialized yJ1_fixAfterInsertion.cls ∈ lw_all := q126
theorem hy_J1_fixAfterInsertion : yJ1_fixAfterInsertion.cls ≠ "java/lang/invoke/MethodHandle" ∧ yJ1_fixAfterInsertion.cls ≠ "java/lang/invoke/VarHandle" := by decide +kernel
theorem hl_J1_fixAfterInsertion : (parseMethodDescriptor yJ1_fixAfterInsertion.desc).map (fun q => q.parameters.length) = some 1 := by decide +kernel
theorem hp_J1_fixAfterInsertion : plainFor yJ1_fixAfterInsertion = true := by decide +kernel
theorem i_J17_init {l : Launch} {D : va_G} {dA : Nat → ClassId} {lo : Nat} {cs0 : Nat → Option Nat} {d : Nat} (hI : jIH l D dA lo cs0 d) : jMe l D dA lo cs0 (EV d) 326 yJ17_init (ws_ yJ17_init cJ17_init 1 (Option.none : Option Jvm.ClassFile.FieldType)) d := hI 326 (yJ17_init, (ws_ yJ17_init cJ17_init 1 (Option.none : Option Jvm.ClassFile.FieldType))) rfl
theorem w4_J17_init : Cond.code yJ17_init cJ17_init 1 (Option.none : Option Jvm.ClassFile.FieldType) ∈ lw_all := q818
theorem w6_J17_init : Cond.initialized yJ17_init.cls ∈ lw_all := q144
theorem hy_J17_init : yJ17_init.cls ≠ "java/lang/invoke/MethodHandle" ∧ yJ17_init.cls ≠ "java/lang/invoke/VarHandle" := by decide +kernel
theorem hl_J17_init : (parseMethodDescriptor yJ17_init.desc).map (fun q => q.parameters.length) = some 0 := by decide +kernel
theorem hp_J17_init : plainFor yJ17_init = true := by decide +kernel
theorem i_J19_init {l : Launch} {D : va_G} {dA : Nat → ClassId} {lo : Nat} {cs0 : Nat → Option Nat} {d : Nat} (hI : jIH l D dA lo cs0 d) : jMe l D dA lo cs0 (EV d) 327 yJ19_init (ws_ yJ19_init cJ19_init 3 (Option.none : Option Jvm.ClassFile.FieldType)) d := hI 327 (yJ19_init, (ws_ yJ19_init cJ19_init 3 (Option.none : Option Jvm.ClassFile.FieldType))) rfl
theorem w4_J19_init : Cond.code yJ19_init cJ19_init 3 (Option.none : Option Jvm.ClassFile.FieldType) ∈ lw_all := q845
theorem w6_J19_init : Cond.initialized yJ19_init.cls ∈ lw_all := q146
theorem hy_J19_init : yJ19_init.cls ≠ "java/lang/invoke/MethodHandle" ∧ yJ19_init.cls ≠ "java/lang/invoke/VarHandle" := by decide +kernel
theorem hl_J19_init : (parseMethodDescriptor yJ19_init.desc).map (fun q => q.parameters.length) = some 2 := by decide +kernel
theorem hp_J19_init : plainFor yJ19_init = true := by decide +kernel
theorem i_J21_init {l : Launch} {D : va_G} {dA : Nat → ClassId} {lo : Nat} {cs0 : Nat → Option Nat} {d : Nat} (hI : jIH l D dA lo cs0 d) : jMe l D dA lo cs0 (EV d) 328 yJ21_init (ws_ yJ21_init cJ21_init 3 (Option.none : Option Jvm.ClassFile.FieldType)) d := hI 328 (yJ21_init, (ws_ yJ21_init cJ21_init 3 (Option.none : Option Jvm.ClassFile.FieldType))) rfl
theorem w4_J21_init : Cond.code yJ21_init cJ21_init 3 (Option.none : Option Jvm.ClassFile.FieldType) ∈ lw_all := q876
theorem w6_J21_init : Cond.initialized yJ21_init.cls ∈ lw_all := q148
theorem hy_J21_init : yJ21_init.cls ≠ "java/lang/invoke/MethodHandle" ∧ yJ21_init.cls ≠ "java/lang/invoke/VarHandle" := by decide +kernel
theorem hl_J21_init : (parseMethodDescriptor yJ21_init.desc).map (fun q => q.parameters.length) = some 2 := by decide +kernel
theorem hp_J21_init : plainFor yJ21_init = true := by decide +kernel
theorem i_J22_init {l : Launch} {D : va_G} {dA : Nat → ClassId} {lo : Nat} {cs0 : Nat → Option Nat} {d : Nat} (hI : jIH l D dA lo cs0 d) : jMe l D dA lo cs0 (EV d) 329 yJ22_init (ws_ yJ22_init cJ22_init 2 (Option.none : Option Jvm.ClassFile.FieldType)) d := hI 329 (yJ22_init, (ws_ yJ22_init cJ22_init 2 (Option.none : Option Jvm.ClassFile.FieldType))) rfl
theorem w4_J22_init : Cond.code yJ22_init cJ22_init 2 (Option.none : Option Jvm.ClassFile.FieldType) ∈ lw_all := q907
theorem w6_J22_init : Cond.initialized yJ22_init.cls ∈ lw_all := q149
theorem hy_J22_init : yJ22_init.cls ≠ "java/lang/invoke/MethodHandle" ∧ yJ22_init.cls ≠ "java/lang/invoke/VarHandle" := by decide +kernel
theorem hl_J22_init : (parseMethodDescriptor yJ22_init.desc).map (fun q => q.parameters.length) = some 1 := by decide +kernel
theorem hp_J22_init : plainFor yJ22_init = true := by decide +kernel
theorem i_J6_numberOfLeadingZeros {l : Launch} {D : va_G} {dA : Nat → ClassId} {lo : Nat} {cs0 : Nat → Option Nat} {d : Nat} (hI : jIH l D dA lo cs0 d) : jMe l D dA lo cs0 (EV d) 330 yJ6_numberOfLeadingZeros (ws_ yJ6_numberOfLeadingZeros cJ6_numberOfLeadingZeros 2 (Option.some Jvm.ClassFile.FieldType.int)) d := hI 330 (yJ6_numberOfLeadingZeros, (ws_ yJ6_numberOfLeadingZeros cJ6_numberOfLeadingZeros 2 (Option.some Jvm.ClassFile.FieldType.int))) rfl
theorem w4_J6_numberOfLeadingZeros : Cond.code yJ6_numberOfLeadingZeros cJ6_numberOfLeadingZeros 2 (Option.some Jvm.ClassFile.FieldType.int) ∈ lw_all := q496
theorem w6_J6_numberOfLeadingZeros : Cond.initialized yJ6_numberOfLeadingZeros.cls ∈ lw_all := q131
theorem hy_J6_numberOfLeadingZeros : yJ6_numberOfLeadingZeros.cls ≠ "java/lang/invoke/MethodHandle" ∧ yJ6_numberOfLeadingZeros.cls ≠ "java/lang/invoke/VarHandle" := by decide +kernel
theorem hl_J6_numberOfLeadingZeros : (parseMethodDescriptor yJ6_numberOfLeadingZeros.desc).map (fun q => q.parameters.length) = some 1 := by decide +kernel
theorem hp_J6_numberOfLeadingZeros : plainFor yJ6_numberOfLeadingZeros = true := by decide +kernel
theorem i_J20_next_2 {l : Launch} {D : va_G} {dA : Nat → ClassId} {lo : Nat} {cs0 : Nat → Option Nat} {d : Nat} (hI : jIH l D dA lo cs0 d) : jMe l D dA lo cs0 (EV d) 331 yJ20_next_2 (ws_ yJ20_next_2 cJ20_next_2 1 (Option.some (Jvm.ClassFile.FieldType.object "java/util/Map$Entry"))) d := hI 331 (yJ20_next_2, (ws_ yJ20_next_2 cJ20_next_2 1 (Option.some (Jvm.ClassFile.FieldType.object "java/util/Map$Entry")))) rfl
theorem w4_J20_next_2 : Cond.code yJ20_next_2 cJ20_next_2 1 (Option.some (Jvm.ClassFile.FieldType.object "java/util/Map$Entry")) ∈ lw_all := q1047
theorem w6_J20_next_2 : Cond.initialized yJ20_next_2.cls ∈ lw_all := q147
theorem hy_J20_next_2 : yJ20_next_2.cls ≠ "java/lang/invoke/MethodHandle" ∧ yJ20_next_2.cls ≠ "java/lang/invoke/VarHandle" := by decide +kernel
theorem hl_J20_next_2 : (parseMethodDescriptor yJ20_next_2.desc).map (fun q => q.parameters.length) = some 0 := by decide +kernel
theorem hp_J20_next_2 : plainFor yJ20_next_2 = true := by decide +kernel
theorem i_J19_nextEntry {l : Launch} {D : va_G} {dA : Nat → ClassId} {lo : Nat} {cs0 : Nat → Option Nat} {d : Nat} (hI : jIH l D dA lo cs0 d) : jMe l D dA lo cs0 (EV d) 332 yJ19_nextEntry (ws_ yJ19_nextEntry cJ19_nextEntry 2 (Option.some (Jvm.ClassFile.FieldType.object "java/util/TreeMap$Entry"))) d := hI 332 (yJ19_nextEntry, (ws_ yJ19_nextEntry cJ19_nextEntry 2 (Option.some (Jvm.ClassFile.FieldType.object "java/util/TreeMap$Entry")))) rfl
theorem w4_J19_nextEntry : Cond.code yJ19_nextEntry cJ19_nextEntry 2 (Option.some (Jvm.ClassFile.FieldType.object "java/util/TreeMap$Entry")) ∈ lw_all := q1053
theorem w6_J19_nextEntry : Cond.initialized yJ19_nextEntry.cls ∈ lw_all := q146
theorem hy_J19_nextEntry : yJ19_nextEntry.cls ≠ "java/lang/invoke/MethodHandle" ∧ yJ19_nextEntry.cls ≠ "java/lang/invoke/VarHandle" := by decide +kernel
theorem hl_J19_nextEntry : (parseMethodDescriptor yJ19_nextEntry.desc).map (fun q => q.parameters.length) = some 0 := by decide +kernel
theorem hp_J19_nextEntry : plainFor yJ19_nextEntry = true := by decide +kernel
theorem i_J4_grow_2 {l : Launch} {D : va_G} {dA : Nat → ClassId} {lo : Nat} {cs0 : Nat → Option Nat} {d : Nat} (hI : jIH l D dA lo cs0 d) : jMe l D dA lo cs0 (EV d) 333 yJ4_grow_2 (ws_ yJ4_grow_2 cJ4_grow_2 4 (Option.some (Jvm.ClassFile.FieldType.array (Jvm.ClassFile.FieldType.object "java/lang/Object")))) d := hI 333 (yJ4_grow_2, (ws_ yJ4_grow_2 cJ4_grow_2 4 (Option.some (Jvm.ClassFile.FieldType.array (Jvm.ClassFile.FieldType.object "java/lang/Object"))))) rfl
theorem w4_J4_grow_2 : Cond.code yJ4_grow_2 cJ4_grow_2 4 (Option.some (Jvm.ClassFile.FieldType.array (Jvm.ClassFile.FieldType.object "java/lang/Object"))) ∈ lw_all := q1218
theorem w6_J4_grow_2 : Cond.initialized yJ4_grow_2.cls ∈ lw_all := q129
theorem hy_J4_grow_2 : yJ4_grow_2.cls ≠ "java/lang/invoke/MethodHandle" ∧ yJ4_grow_2.cls ≠ "java/lang/invoke/VarHandle" := by decide +kernel
theorem hl_J4_grow_2 : (parseMethodDescriptor yJ4_grow_2.desc).map (fun q => q.parameters.length) = some 1 := by decide +kernel
theorem hp_J4_grow_2 : plainFor yJ4_grow_2 = true := by decide +kernel
theorem i_X5_assignment {l : Launch} {D : va_G} {dA : Nat → ClassId} {lo : Nat} {cs0 : Nat → Option Nat} {d : Nat} (hI : jIH l D dA lo cs0 d) : jMe l D dA lo cs0 (EV d) 334 yX5_assignment (ws_ yX5_assignment cX5_assignment 4 (Option.some (Jvm.ClassFile.FieldType.object "PointerAnalyzer$Line"))) d := hI 334 (yX5_assignment, (ws_ yX5_assignment cX5_assignment 4 (Option.some (Jvm.ClassFile.FieldType.object "PointerAnalyzer$Line")))) rfl
theorem w4_X5_assignment : Cond.code yX5_assignment cX5_assignment 4 (Option.some (Jvm.ClassFile.FieldType.object "PointerAnalyzer$Line")) ∈ lw_all := q2505
theorem w6_X5_assignment : Cond.initialized yX5_assignment.cls ∈ lw_all := q165
theorem hy_X5_assignment : yX5_assignment.cls ≠ "java/lang/invoke/MethodHandle" ∧ yX5_assignment.cls ≠ "java/lang/invoke/VarHandle" := by decide +kernel
theorem hl_X5_assignment : (parseMethodDescriptor yX5_assignment.desc).map (fun q => q.parameters.length) = some 0 := by decide +kernel
theorem hp_X5_assignment : plainFor yX5_assignment = true := by decide +kernel
theorem i_X5_variable {l : Launch} {D : va_G} {dA : Nat → ClassId} {lo : Nat} {cs0 : Nat → Option Nat} {d : Nat} (hI : jIH l D dA lo cs0 d) : jMe l D dA lo cs0 (EV d) 335 yX5_variable (ws_ yX5_variable cX5_variable 2 (Option.some Jvm.ClassFile.FieldType.int)) d := hI 335 (yX5_variable, (ws_ yX5_variable cX5_variable 2 (Option.some Jvm.ClassFile.FieldType.int))) rfl
theorem w4_X5_variable : Cond.code yX5_variable cX5_variable 2 (Option.some Jvm.ClassFile.FieldType.int) ∈ lw_all := q2509
theorem w6_X5_variable : Cond.initialized yX5_variable.cls ∈ lw_all := q165
theorem hy_X5_variable : yX5_variable.cls ≠ "java/lang/invoke/MethodHandle" ∧ yX5_variable.cls ≠ "java/lang/invoke/VarHandle" := by decide +kernel
theorem hl_X5_variable : (parseMethodDescriptor yX5_variable.desc).map (fun q => q.parameters.length) = some 0 := by decide +kernel
theorem hp_X5_variable : plainFor yX5_variable = true := by decide +kernel
theorem i_X7_init {l : Launch} {D : va_G} {dA : Nat → ClassId} {lo : Nat} {cs0 : Nat → Option Nat} {d : Nat} (hI : jIH l D dA lo cs0 d) : jMe l D dA lo cs0 (EV d) 336 yX7_init (ws_ yX7_init cX7_init 5 (Option.none : Option Jvm.ClassFile.FieldType)) d := hI 336 (yX7_init, (ws_ yX7_init cX7_init 5 (Option.none : Option Jvm.ClassFile.FieldType))) rfl
theorem w4_X7_init : Cond.code yX7_init cX7_init 5 (Option.none : Option Jvm.ClassFile.FieldType) ∈ lw_all := q2589
theorem w6_X7_init : Cond.initialized yX7_init.cls ∈ lw_all := q168
theorem hy_X7_init : yX7_init.cls ≠ "java/lang/invoke/MethodHandle" ∧ yX7_init.cls ≠ "java/lang/invoke/VarHandle" := by decide +kernel
theorem hl_X7_init : (parseMethodDescriptor yX7_init.desc).map (fun q => q.parameters.length) = some 4 := by decide +kernel
theorem hp_X7_init : plainFor yX7_init = true := by decide +kernel
theorem i_X5_here {l : Launch} {D : va_G} {dA : Nat → ClassId} {lo : Nat} {cs0 : Nat → Option Nat} {d : Nat} (hI : jIH l D dA lo cs0 d) : jMe l D dA lo cs0 (EV d) 337 yX5_here (ws_ yX5_here cX5_here 1 (Option.some Jvm.ClassFile.FieldType.char)) d := hI 337 (yX5_here, (ws_ yX5_here cX5_here 1 (Option.some Jvm.ClassFile.FieldType.char))) rfl
theorem w4_X5_here : Cond.code yX5_here cX5_here 1 (Option.some Jvm.ClassFile.FieldType.char) ∈ lw_all := q2501
theorem w6_X5_here : Cond.initialized yX5_here.cls ∈ lw_all := q165
theorem hy_X5_here : yX5_here.cls ≠ "java/lang/invoke/MethodHandle" ∧ yX5_here.cls ≠ "java/lang/invoke/VarHandle" := by decide +kernel
theorem hl_X5_here : (parseMethodDescriptor yX5_here.desc).map (fun q => q.parameters.length) = some 0 := by decide +kernel
theorem hp_X5_here : plainFor yX5_here = true := by decide +kernel
theorem i_X6_init {l : Launch} {D : va_G} {dA : Nat → ClassId} {lo : Nat} {cs0 : Nat → Option Nat} {d : Nat} (hI : jIH l D dA lo cs0 d) : jMe l D dA lo cs0 (EV d) 338 yX6_init (ws_ yX6_init cX6_init 2 (Option.none : Option Jvm.ClassFile.FieldType)) d := hI 338 (yX6_init, (ws_ yX6_init cX6_init 2 (Option.none : Option Jvm.ClassFile.FieldType))) rfl
theorem w4_X6_init : Cond.code yX6_init cX6_init 2 (Option.none : Option Jvm.ClassFile.FieldType) ∈ lw_all := q2574
theorem w6_X6_init : Cond.initialized yX6_init.cls ∈ lw_all := q167
theorem hy_X6_init : yX6_init.cls ≠ "java/lang/invoke/MethodHandle" ∧ yX6_init.cls ≠ "java/lang/invoke/VarHandle" := by decide +kernel
theorem hl_X6_init : (parseMethodDescriptor yX6_init.desc).map (fun q => q.parameters.length) = some 1 := by decide +kernel
theorem hp_X6_init : plainFor yX6_init = true := by decide +kernel
theorem i_J37_init_2 {l : Launch} {D : va_G} {dA : Nat → ClassId} {lo : Nat} {cs0 : Nat → Option Nat} {d : Nat} (hI : jIH l D dA lo cs0 d) : jMe l D dA lo cs0 (EV d) 339 yJ37_init_2 (ws_ yJ37_init_2 cJ37_init_2 2 (Option.none : Option Jvm.ClassFile.FieldType)) d := hI 339 (yJ37_init_2, (ws_ yJ37_init_2 cJ37_init_2 2 (Option.none : Option Jvm.ClassFile.FieldType))) rfl
theorem w4_J37_init_2 : Cond.code yJ37_init_2 cJ37_init_2 2 (Option.none : Option Jvm.ClassFile.FieldType) ∈ lw_all := q1371
theorem w6_J37_init_2 : Cond.initialized yJ37_init_2.cls ∈ lw_all := q174
theorem hy_J37_init_2 : yJ37_init_2.cls ≠ "java/lang/invoke/MethodHandle" ∧ yJ37_init_2.cls ≠ "java/lang/invoke/VarHandle" := by decide +kernel
theorem hl_J37_init_2 : (parseMethodDescriptor yJ37_init_2.desc).map (fun q => q.parameters.length) = some 1 := by decide +kernel
theorem hp_J37_init_2 : plainFor yJ37_init_2 = true := by decide +kernel
theorem i_J2_toArray {l : Launch} {D : va_G} {dA : Nat → ClassId} {lo : Nat} {cs0 : Nat → Option Nat} {d : Nat} (hI : jIH l D dA lo cs0 d) : jMe l D dA lo cs0 (EV d) 340 yJ2_toArray (ws_ yJ2_toArray cJ2_toArray 4 (Option.some (Jvm.ClassFile.FieldType.array (Jvm.ClassFile.FieldType.object "java/lang/Object")))) d := hI 340 (yJ2_toArray, (ws_ yJ2_toArray cJ2_toArray 4 (Option.some (Jvm.ClassFile.FieldType.array (Jvm.ClassFile.FieldType.object "java/lang/Object"))))) rfl
theorem w4_J2_toArray : Cond.code yJ2_toArray cJ2_toArray 4 (Option.some (Jvm.ClassFile.FieldType.array (Jvm.ClassFile.FieldType.object "java/lang/Object"))) ∈ lw_all := q1436
theorem w6_J2_toArray : Cond.initialized yJ2_toArray.cls ∈ lw_all := q127
theorem hy_J2_toArray : yJ2_toArray.cls ≠ "java/lang/invoke/MethodHandle" ∧ yJ2_toArray.cls ≠ "java/lang/invoke/VarHandle" := by decide +kernel
theorem hl_J2_toArray : (parseMethodDescriptor yJ2_toArray.desc).map (fun q => q.parameters.length) = some 0 := by decide +kernel
theorem hp_J2_toArray : plainFor yJ2_toArray = true := by decide +kernel
theorem i_J4_toArray {l : Launch} {D : va_G} {dA : Nat → ClassId} {lo : Nat} {cs0 : Nat → Option Nat} {d : Nat} (hI : jIH l D dA lo cs0 d) : jMe l D dA lo cs0 (EV d) 341 yJ4_toArray (ws_ yJ4_toArray cJ4_toArray 1 (Option.some (Jvm.ClassFile.FieldType.array (Jvm.ClassFile.FieldType.object "java/lang/Object")))) d := hI 341 (yJ4_toArray, (ws_ yJ4_toArray cJ4_toArray 1 (Option.some (Jvm.ClassFile.FieldType.array (Jvm.ClassFile.FieldType.object "java/lang/Object"))))) rfl
theorem w4_J4_toArray : Cond.code yJ4_toArray cJ4_toArray 1 (Option.some (Jvm.ClassFile.FieldType.array (Jvm.ClassFile.FieldType.object "java/lang/Object"))) ∈ lw_all := q1423
theorem w6_J4_toArray : Cond.initialized yJ4_toArray.cls ∈ lw_all := q129
theorem hy_J4_toArray : yJ4_toArray.cls ≠ "java/lang/invoke/MethodHandle" ∧ yJ4_toArray.cls ≠ "java/lang/invoke/VarHandle" := by decide +kernel
theorem hl_J4_toArray : (parseMethodDescriptor yJ4_toArray.desc).map (fun q => q.parameters.length) = some 0 := by decide +kernel
theorem hp_J4_toArray : plainFor yJ4_toArray = true := by decide +kernel
theorem i_J29_copyOf_2 {l : Launch} {D : va_G} {dA : Nat → ClassId} {lo : Nat} {cs0 : Nat → Option Nat} {d : Nat} (hI : jIH l D dA lo cs0 d) : jMe l D dA lo cs0 (EV d) 342 yJ29_copyOf_2 (ws_ yJ29_copyOf_2 cJ29_copyOf_2 4 (Option.some (Jvm.ClassFile.FieldType.array (Jvm.ClassFile.FieldType.object "java/lang/Object")))) d := hI 342 (yJ29_copyOf_2, (ws_ yJ29_copyOf_2 cJ29_copyOf_2 4 (Option.some (Jvm.ClassFile.FieldType.array (Jvm.ClassFile.FieldType.object "java/lang/Object"))))) rfl
theorem w4_J29_copyOf_2 : Cond.code yJ29_copyOf_2 cJ29_copyOf_2 4 (Option.some (Jvm.ClassFile.FieldType.array (Jvm.ClassFile.FieldType.object "java/lang/Object"))) ∈ lw_all := q1235
theorem w6_J29_copyOf_2 : Cond.initialized yJ29_copyOf_2.cls ∈ lw_all := q158
theorem hy_J29_copyOf_2 : yJ29_copyOf_2.cls ≠ "java/lang/invoke/MethodHandle" ∧ yJ29_copyOf_2.cls ≠ "java/lang/invoke/VarHandle" := by decide +kernel
theorem hl_J29_copyOf_2 : (parseMethodDescriptor yJ29_copyOf_2.desc).map (fun q => q.parameters.length) = some 3 := by decide +kernel
theorem hp_J29_copyOf_2 : plainFor yJ29_copyOf_2 = true := by decide +kernel
theorem i_J9_min {l : Launch} {D : va_G} {dA : Nat → ClassId} {lo : Nat} {cs0 : Nat → Option Nat} {d : Nat} (hI : jIH l D dA lo cs0 d) : jMe l D dA lo cs0 (EV d) 343 yJ9_min (ws_ yJ9_min cJ9_min 2 (Option.some Jvm.ClassFile.FieldType.int)) d := hI 343 (yJ9_min, (ws_ yJ9_min cJ9_min 2 (Option.some Jvm.ClassFile.FieldType.int))) rfl
theorem w4_J9_min : Cond.code yJ9_min cJ9_min 2 (Option.some Jvm.ClassFile.FieldType.int) ∈ lw_all := q422
theorem w6_J9_min : Cond.initialized yJ9_min.cls ∈ lw_all := q135
theorem hy_J9_min : yJ9_min.cls ≠ "java/lang/invoke/MethodHandle" ∧ yJ9_min.cls ≠ "java/lang/invoke/VarHandle" := by decide +kernel
theorem hl_J9_min : (parseMethodDescriptor yJ9_min.desc).map (fun q => q.parameters.length) = some 2 := by decide +kernel
theorem hp_J9_min : plainFor yJ9_min = true := by decide +kernel
theorem i_X12_init {l : Launch} {D : va_G} {dA : Nat → ClassId} {lo : Nat} {cs0 : Nat → Option Nat} {d : Nat} (hI : jIH l D dA lo cs0 d) : jMe l D dA lo cs0 (EV d) 344 yX12_init (ws_ yX12_init cX12_init 3 (Option.none : Option Jvm.ClassFile.FieldType)) d := hI 344 (yX12_init, (ws_ yX12_init cX12_init 3 (Option.none : Option Jvm.ClassFile.FieldType))) rfl
theorem w4_X12_init : Cond.code yX12_init cX12_init 3 (Option.none : Option Jvm.ClassFile.FieldType) ∈ lw_all := q1569
theorem w6_X12_init : Cond.initialized yX12_init.cls ∈ lw_all := q178
theorem hy_X12_init : yX12_init.cls ≠ "java/lang/invoke/MethodHandle" ∧ yX12_init.cls ≠ "java/lang/invoke/VarHandle" := by decide +kernel
theorem hl_X12_init : (parseMethodDescriptor yX12_init.desc).map (fun q => q.parameters.length) = some 2 := by decide +kernel
theorem hp_X12_init : plainFor yX12_init = true := by decide +kernel
theorem i_J40_expandTo {l : Launch} {D : va_G} {dA : Nat → ClassId} {lo : Nat} {cs0 : Nat → Option Nat} {d : Nat} (hI : jIH l D dA lo cs0 d) : jMe l D dA lo cs0 (EV d) 345 yJ40_expandTo (ws_ yJ40_expandTo cJ40_expandTo 3 (Option.none : Option Jvm.ClassFile.FieldType)) d := hI 345 (yJ40_expandTo, (ws_ yJ40_expandTo cJ40_expandTo 3 (Option.none : Option Jvm.ClassFile.FieldType))) rfl
theorem w4_J40_expandTo : Cond.code yJ40_expandTo cJ40_expandTo 3 (Option.none : Option Jvm.ClassFile.FieldType) ∈ lw_all := q1896
theorem w6_J40_expandTo : Cond.initialized yJ40_expandTo.cls ∈ lw_all := q179
theorem hy_J40_expandTo : yJ40_expandTo.cls ≠ "java/lang/invoke/MethodHandle" ∧ yJ40_expandTo.cls ≠ "java/lang/invoke/VarHandle" := by decide +kernel
theorem hl_J40_expandTo : (parseMethodDescriptor yJ40_expandTo.desc).map (fun q => q.parameters.length) = some 1 := by decide +kernel
theorem hp_J40_expandTo : plainFor yJ40_expandTo = true := by decide +kernel
theorem i_J40_init {l : Launch} {D : va_G} {dA : Nat → ClassId} {lo : Nat} {cs0 : Nat → Option Nat} {d : Nat} (hI : jIH l D dA lo cs0 d) : jMe l D dA lo cs0 (EV d) 346 yJ40_init (ws_ yJ40_init cJ40_init 1 (Option.none : Option Jvm.ClassFile.FieldType)) d := hI 346 (yJ40_init, (ws_ yJ40_init cJ40_init 1 (Option.none : Option Jvm.ClassFile.FieldType))) rfl
theorem w4_J40_init : Cond.code yJ40_init cJ40_init 1 (Option.none : Option Jvm.ClassFile.FieldType) ∈ lw_all := q1575
theorem w6_J40_init : Cond.initialized yJ40_init.cls ∈ lw_all := q179
theorem hy_J40_init : yJ40_init.cls ≠ "java/lang/invoke/MethodHandle" ∧ yJ40_init.cls ≠ "java/lang/invoke/VarHandle" := by decide +kernel
theorem hl_J40_init : (parseMethodDescriptor yJ40_init.desc).map (fun q => q.parameters.length) = some 0 := by decide +kernel
theorem hp_J40_init : plainFor yJ40_init = true := by decide +kernel
theorem i_J40_clear {l : Launch} {D : va_G} {dA : Nat → ClassId} {lo : Nat} {cs0 : Nat → Option Nat} {d : Nat} (hI : jIH l D dA lo cs0 d) : jMe l D dA lo cs0 (EV d) 347 yJ40_clear (ws_ yJ40_clear cJ40_clear 3 (Option.none : Option Jvm.ClassFile.FieldType)) d := hI 347 (yJ40_clear, (ws_ yJ40_clear cJ40_clear 3 (Option.none : Option Jvm.ClassFile.FieldType))) rfl
theorem w4_J40_clear : Cond.code yJ40_clear cJ40_clear 3 (Option.none : Option Jvm.ClassFile.FieldType) ∈ lw_all := q1975
theorem w6_J40_clear : Cond.initialized yJ40_clear.cls ∈ lw_all := q179
theorem hy_J40_clear : yJ40_clear.cls ≠ "java/lang/invoke/MethodHandle" ∧ yJ40_clear.cls ≠ "java/lang/invoke/VarHandle" := by decide +kernel
theorem hl_J40_clear : (parseMethodDescriptor yJ40_clear.desc).map (fun q => q.parameters.length) = some 1 := by decide +kernel
theorem hp_J40_clear : plainFor yJ40_clear = true := by decide +kernel
theorem i_J40_or {l : Launch} {D : va_G} {dA : Nat → ClassId} {lo : Nat} {cs0 : Nat → Option Nat} {d : Nat} (hI : jIH l D dA lo cs0 d) : jMe l D dA lo cs0 (EV d) 348 yJ40_or (ws_ yJ40_or cJ40_or 4 (Option.none : Option Jvm.ClassFile.FieldType)) d := hI 348 (yJ40_or, (ws_ yJ40_or cJ40_or 4 (Option.none : Option Jvm.ClassFile.FieldType))) rfl
theorem w4_J40_or : Cond.code yJ40_or cJ40_or 4 (Option.none : Option Jvm.ClassFile.FieldType) ∈ lw_all := q1983
theorem w6_J40_or : Cond.initialized yJ40_or.cls ∈ lw_all := q179
theorem hy_J40_or : yJ40_or.cls ≠ "java/lang/invoke/MethodHandle" ∧ yJ40_or.cls ≠ "java/lang/invoke/VarHandle" := by decide +kernel
theorem hl_J40_or : (parseMethodDescriptor yJ40_or.desc).map (fun q => q.parameters.length) = some 1 := by decide +kernel
theorem hp_J40_or : plainFor yJ40_or = true := by decide +kernel
theorem i_J40_andNot {l : Launch} {D : va_G} {dA : Nat → ClassId} {lo : Nat} {cs0 : Nat → Option Nat} {d : Nat} (hI : jIH l D dA lo cs0 d) : jMe l D dA lo cs0 (EV d) 349 yJ40_andNot (ws_ yJ40_andNot cJ40_andNot 3 (Option.none : Option Jvm.ClassFile.FieldType)) d := hI 349 (yJ40_andNot, (ws_ yJ40_andNot cJ40_andNot 3 (Option.none : Option Jvm.ClassFile.FieldType))) rfl
theorem w4_J40_andNot : Cond.code yJ40_andNot cJ40_andNot 3 (Option.none : Option Jvm.ClassFile.FieldType) ∈ lw_all := q1989
theorem w6_J40_andNot : Cond.initialized yJ40_andNot.cls ∈ lw_all := q179
theorem hy_J40_andNot : yJ40_andNot.cls ≠ "java/lang/invoke/MethodHandle" ∧ yJ40_andNot.cls ≠ "java/lang/invoke/VarHandle" := by decide +kernel
theorem hl_J40_andNot : (parseMethodDescriptor yJ40_andNot.desc).map (fun q => q.parameters.length) = some 1 := by decide +kernel
theorem hp_J40_andNot : plainFor yJ40_andNot = true := by decide +kernel
theorem i_J4_addAll {l : Launch} {D : va_G} {dA : Nat → ClassId} {lo : Nat} {cs0 : Nat → Option Nat} {d : Nat} (hI : jIH l D dA lo cs0 d) : jMe l D dA lo cs0 (EV d) 350 yJ4_addAll (ws_ yJ4_addAll cJ4_addAll 6 (Option.some Jvm.ClassFile.FieldType.boolean)) d := hI 350 (yJ4_addAll, (ws_ yJ4_addAll cJ4_addAll 6 (Option.some Jvm.ClassFile.FieldType.boolean))) rfl
theorem w4_J4_addAll : Cond.code yJ4_addAll cJ4_addAll 6 (Option.some Jvm.ClassFile.FieldType.boolean) ∈ lw_all := q2004
theorem w6_J4_addAll : Cond.initialized yJ4_addAll.cls ∈ lw_all := q129
theorem hy_J4_addAll : yJ4_addAll.cls ≠ "java/lang/invoke/MethodHandle" ∧ yJ4_addAll.cls ≠ "java/lang/invoke/VarHandle" := by decide +kernel
theorem hl_J4_addAll : (parseMethodDescriptor yJ4_addAll.desc).map (fun q => q.parameters.length) = some 1 := by decide +kernel
theorem hp_J4_addAll : plainFor yJ4_addAll = true := by decide +kernel
theorem i_J36_offer {l : Launch} {D : va_G} {dA : Nat → ClassId} {lo : Nat} {cs0 : Nat → Option Nat} {d : Nat} (hI : jIH l D dA lo cs0 d) : jMe l D dA lo cs0 (EV d) 351 yJ36_offer (ws_ yJ36_offer cJ36_offer 3 (Option.some Jvm.ClassFile.FieldType.boolean)) d := hI 351 (yJ36_offer, (ws_ yJ36_offer cJ36_offer 3 (Option.some Jvm.ClassFile.FieldType.boolean))) rfl
theorem w4_J36_offer : Cond.code yJ36_offer cJ36_offer 3 (Option.some Jvm.ClassFile.FieldType.boolean) ∈ lw_all := q2017
theorem w6_J36_offer : Cond.initialized yJ36_offer.cls ∈ lw_all := q171
theorem hy_J36_offer : yJ36_offer.cls ≠ "java/lang/invoke/MethodHandle" ∧ yJ36_offer.cls ≠ "java/lang/invoke/VarHandle" := by decide +kernel
theorem hl_J36_offer : (parseMethodDescriptor yJ36_offer.desc).map (fun q => q.parameters.length) = some 1 := by decide +kernel
theorem hp_J36_offer : plainFor yJ36_offer = true := by decide +kernel
theorem i_J36_remove {l : Launch} {D : va_G} {dA : Nat → ClassId} {lo : Nat} {cs0 : Nat → Option Nat} {d : Nat} (hI : jIH l D dA lo cs0 d) : jMe l D dA lo cs0 (EV d) 352 yJ36_remove (ws_ yJ36_remove cJ36_remove 3 (Option.some Jvm.ClassFile.FieldType.boolean)) d := hI 352 (yJ36_remove, (ws_ yJ36_remove cJ36_remove 3 (Option.some Jvm.ClassFile.FieldType.boolean))) rfl
theorem w4_J36_remove : Cond.code yJ36_remove cJ36_remove 3 (Option.some Jvm.ClassFile.FieldType.boolean) ∈ lw_all := q2069
theorem w6_J36_remove : Cond.initialized yJ36_remove.cls ∈ lw_all := q171
theorem hy_J36_remove : yJ36_remove.cls ≠ "java/lang/invoke/MethodHandle" ∧ yJ36_remove.cls ≠ "java/lang/invoke/VarHandle" := by decide +kernel
theorem hl_J36_remove : (parseMethodDescriptor yJ36_remove.desc).map (fun q => q.parameters.length) = some 1 := by decide +kernel
theorem hp_J36_remove : plainFor yJ36_remove = true := by decide +kernel
theorem i_J29_copyOf_4 {l : Launch} {D : va_G} {dA : Nat → ClassId} {lo : Nat} {cs0 : Nat → Option Nat} {d : Nat} (hI : jIH l D dA lo cs0 d) : jMe l D dA lo cs0 (EV d) 353 yJ29_copyOf_4 (ws_ yJ29_copyOf_4 cJ29_copyOf_4 3 (Option.some (Jvm.ClassFile.FieldType.array Jvm.ClassFile.FieldType.long))) d := hI 353 (yJ29_copyOf_4, (ws_ yJ29_copyOf_4 cJ29_copyOf_4 3 (Option.some (Jvm.ClassFile.FieldType.array Jvm.ClassFile.FieldType.long)))) rfl
theorem w4_J29_copyOf_4 : Cond.code yJ29_copyOf_4 cJ29_copyOf_4 3 (Option.some (Jvm.ClassFile.FieldType.array Jvm.ClassFile.FieldType.long)) ∈ lw_all := q1904
theorem w6_J29_copyOf_4 : Cond.initialized yJ29_copyOf_4.cls ∈ lw_all := q158
theorem hy_J29_copyOf_4 : yJ29_copyOf_4.cls ≠ "java/lang/invoke/MethodHandle" ∧ yJ29_copyOf_4.cls ≠ "java/lang/invoke/VarHandle" := by decide +kernel
theorem hl_J29_copyOf_4 : (parseMethodDescriptor yJ29_copyOf_4.desc).map (fun q => q.parameters.length) = some 2 := by decide +kernel
theorem hp_J29_copyOf_4 : plainFor yJ29_copyOf_4 = true := by decide +kernel
theorem i_X19_init {l : Launch} {D : va_G} {dA : Nat → ClassId} {lo : Nat} {cs0 : Nat → Option Nat} {d : Nat} (hI : jIH l D dA lo cs0 d) : jMe l D dA lo cs0 (EV d) 354 yX19_init (ws_ yX19_init cX19_init 1 (Option.none : Option Jvm.ClassFile.FieldType)) d := hI 354 (yX19_init, (ws_ yX19_init cX19_init 1 (Option.none : Option Jvm.ClassFile.FieldType))) rfl
theorem w4_X19_init : Cond.code yX19_init cX19_init 1 (Option.none : Option Jvm.ClassFile.FieldType) ∈ lw_all := q2321
theorem w6_X19_init : Cond.initialized yX19_init.cls ∈ lw_all := q188
theorem hy_X19_init : yX19_init.cls ≠ "java/lang/invoke/MethodHandle" ∧ yX19_init.cls ≠ "java/lang/invoke/VarHandle" := by decide +kernel
theorem hl_X19_init : (parseMethodDescriptor yX19_init.desc).map (fun q => q.parameters.length) = some 0 := by decide +kernel
theorem hp_X19_init : plainFor yX19_init = true := by decide +kernel
theorem i_J6_compare {l : Launch} {D : va_G} {dA : Nat → ClassId} {lo : Nat} {cs0 : Nat → Option Nat} {d : Nat} (hI : jIH l D dA lo cs0 d) : jMe l D dA lo cs0 (EV d) 355 yJ6_compare (ws_ yJ6_compare cJ6_compare 2 (Option.some Jvm.ClassFile.FieldType.int)) d := hI 355 (yJ6_compare, (ws_ yJ6_compare cJ6_compare 2 (Option.some Jvm.ClassFile.FieldType.int))) rfl
theorem w4_J6_compare : Cond.code yJ6_compare cJ6_compare 2 (Option.some Jvm.ClassFile.FieldType.int) ∈ lw_all := q322
theorem w6_J6_compare : Cond.initialized yJ6_compare.cls ∈ lw_all := q131
theorem hy_J6_compare : yJ6_compare.cls ≠ "java/lang/invoke/MethodHandle" ∧ yJ6_compare.cls ≠ "java/lang/invoke/VarHandle" := by decide +kernel
theorem hl_J6_compare : (parseMethodDescriptor yJ6_compare.desc).map (fun q => q.parameters.length) = some 2 := by decide +kernel
theorem hp_J6_compare : plainFor yJ6_compare = true := by decide +kernel
theorem i_J1_parentOf {l : Launch} {D : va_G} {dA : Nat → ClassId} {lo : Nat} {cs0 : Nat → Option Nat} {d : Nat} (hI : jIH l D dA lo cs0 d) : jMe l D dA lo cs0 (EV d) 356 yJ1_parentOf (ws_ yJ1_parentOf cJ1_parentOf 1 (Option.some (Jvm.ClassFile.FieldType.object "java/util/TreeMap$Entry"))) d := hI 356 (yJ1_parentOf, (ws_ yJ1_parentOf cJ1_parentOf 1 (Option.some (Jvm.ClassFile.FieldType.object "java/util/TreeMap$Entry")))) rfl
theorem w4_J1_parentOf : Cond.code yJ1_parentOf cJ1_parentOf 1 (Option.some (Jvm.ClassFile.FieldType.object "java/util/TreeMap$Entry")) ∈ lw_all := q677
theorem w6_J1_parentOf : Cond.initialized yJ1_parentOf.cls ∈ lw_all := q126
theorem hy_J1_parentOf : yJ1_parentOf.cls ≠ "java/lang/invoke/MethodHandle" ∧ yJ1_parentOf.cls ≠ "java/lang/invoke/VarHandle" := by decide +kernel
theorem hl_J1_parentOf : (parseMethodDescriptor yJ1_parentOf.desc).map (fun q => q.parameters.length) = some 1 := by decide +kernel
theorem hp_J1_parentOf : plainFor yJ1_parentOf = true := by decide +kernel
theorem i_J1_leftOf {l : Launch} {D : va_G} {dA : Nat → ClassId} {lo : Nat} {cs0 : Nat → Option Nat} {d : Nat} (hI : jIH l D dA lo cs0 d) : jMe l D dA lo cs0 (EV d) 357 yJ1_leftOf (ws_ yJ1_leftOf cJ1_leftOf 1 (Option.some (Jvm.ClassFile.FieldType.object "java/util/TreeMap$Entry"))) d := hI 357 (yJ1_leftOf, (ws_ yJ1_leftOf cJ1_leftOf 1 (Option.some (Jvm.ClassFile.FieldType.object "java/util/TreeMap$Entry")))) rfl
theorem w4_J1_leftOf : Cond.code yJ1_leftOf cJ1_leftOf 1 (Option.some (Jvm.ClassFile.FieldType.object "java/util/TreeMap$Entry")) ∈ lw_all := q680
theorem w6_J1_leftOf : Cond.initialized yJ1_leftOf.cls ∈ lw_all := q126
theorem hy_J1_leftOf : yJ1_leftOf.cls ≠ "java/lang/invoke/MethodHandle" ∧ yJ1_leftOf.cls ≠ "java/lang/invoke/VarHandle" := by decide +kernel
theorem hl_J1_leftOf : (parseMethodDescriptor yJ1_leftOf.desc).map (fun q => q.parameters.length) = some 1 := by decide +kernel
theorem hp_J1_leftOf : plainFor yJ1_leftOf = true := by decide +kernel
theorem i_J1_rightOf {l : Launch} {D : va_G} {dA : Nat → ClassId} {lo : Nat} {cs0 : Nat → Option Nat} {d : Nat} (hI : jIH l D dA lo cs0 d) : jMe l D dA lo cs0 (EV d) 358 yJ1_rightOf (ws_ yJ1_rightOf cJ1_rightOf 1 (Option.some (Jvm.ClassFile.FieldType.object "java/util/TreeMap$Entry"))) d := hI 358 (yJ1_rightOf, (ws_ yJ1_rightOf cJ1_rightOf 1 (Option.some (Jvm.ClassFile.FieldType.object "java/util/TreeMap$Entry")))) rfl
theorem w4_J1_rightOf : Cond.code yJ1_rightOf cJ1_rightOf 1 (Option.some (Jvm.ClassFile.FieldType.object "java/util/TreeMap$Entry")) ∈ lw_all := q683
theorem w6_J1_rightOf : Cond.initialized yJ1_rightOf.cls ∈ lw_all := q126
theorem hy_J1_rightOf : yJ1_rightOf.cls ≠ "java/lang/invoke/MethodHandle" ∧ yJ1_rightOf.cls ≠ "java/lang/invoke/VarHandle" := by decide +kernel
theorem hl_J1_rightOf : (parseMethodDescriptor yJ1_rightOf.desc).map (fun q => q.parameters.length) = some 1 := by decide +kernel
theorem hp_J1_rightOf : plainFor yJ1_rightOf = true := by decide +kernel
theorem i_J1_colorOf {l : Launch} {D : va_G} {dA : Nat → ClassId} {lo : Nat} {cs0 : Nat → Option Nat} {d : Nat} (hI : jIH l D dA lo cs0 d) : jMe l D dA lo cs0 (EV d) 359 yJ1_colorOf (ws_ yJ1_colorOf cJ1_colorOf 1 (Option.some Jvm.ClassFile.FieldType.boolean)) d := hI 359 (yJ1_colorOf, (ws_ yJ1_colorOf cJ1_colorOf 1 (Option.some Jvm.ClassFile.FieldType.boolean))) rfl
theorem w4_J1_colorOf : Cond.code yJ1_colorOf cJ1_colorOf 1 (Option.some Jvm.ClassFile.FieldType.boolean) ∈ lw_all := q686
theorem w6_J1_colorOf : Cond.initialized yJ1_colorOf.cls ∈ lw_all := q126
theorem hy_J1_colorOf : yJ1_colorOf.cls ≠ "java/lang/invoke/MethodHandle" ∧ yJ1_colorOf.cls ≠ "java/lang/invoke/VarHandle" := by decide +kernel
theorem hl_J1_colorOf : (parseMethodDescriptor yJ1_colorOf.desc).map (fun q => q.parameters.length) = some 1 := by decide +kernel
theorem hp_J1_colorOf : plainFor yJ1_colorOf = true := by decide +kernel
theorem i_J1_setColor {l : Launch} {D : va_G} {dA : Nat → ClassId} {lo : Nat} {cs0 : Nat → Option Nat} {d : Nat} (hI : jIH l D dA lo cs0 d) : jMe l D dA lo cs0 (EV d) 360 yJ1_setColor (ws_ yJ1_setColor cJ1_setColor 2 (Option.none : Option Jvm.ClassFile.FieldType)) d := hI 360 (yJ1_setColor, (ws_ yJ1_setColor cJ1_setColor 2 (Option.none : Option Jvm.ClassFile.FieldType))) rfl
theorem w4_J1_setColor : Cond.code yJ1_setColor cJ1_setColor 2 (Option.none : Option Jvm.ClassFile.FieldType) ∈ lw_all := q689
theorem w6_J1_setColor : Cond.initialized yJ1_setColor.cls ∈ lw_all := q126
theorem hy_J1_setColor : yJ1_setColor.cls ≠ "java/lang/invoke/MethodHandle" ∧ yJ1_setColor.cls ≠ "java/lang/invoke/VarHandle" := by decide +kernel
theorem hl_J1_setColor : (parseMethodDescriptor yJ1_setColor.desc).map (fun q => q.parameters.length) = some 2 := by decide +kernel
theorem hp_J1_setColor : plainFor yJ1_setColor = true := by decide +kernel
theorem i_J1_rotateLeft {l : Launch} {D : va_G} {dA : Nat → ClassId} {lo : Nat} {cs0 : Nat → Option Nat} {d : Nat} (hI : jIH l D dA lo cs0 d) : jMe l D dA lo cs0 (EV d) 361 yJ1_rotateLeft (ws_ yJ1_rotateLeft cJ1_rotateLeft 3 (Option.none : Option Jvm.ClassFile.FieldType)) d := hI 361 (yJ1_rotateLeft, (ws_ yJ1_rotateLeft cJ1_rotateLeft 3 (Option.none : Option Jvm.ClassFile.FieldType))) rfl
theorem w4_J1_rotateLeft : Cond.code yJ1_rotateLeft cJ1_rotateLeft 3 (Option.none : Option Jvm.ClassFile.FieldType) ∈ lw_all := q693
theorem w6_J1_rotateLeft : Cond.initialized yJ1_rotateLeft.cls ∈ lw_all := q126
theorem hy_J1_rotateLeft : yJ1_rotateLeft.cls ≠ "java/lang/invoke/MethodHandle" ∧ yJ1_rotateLeft.cls ≠ "java/lang/invoke/VarHandle" := by decide +kernel
theorem hl_J1_rotateLeft : (parseMethodDescriptor yJ1_rotateLeft.desc).map (fun q => q.parameters.length) = some 1 := by decide +kernel
theorem hp_J1_rotateLeft : plainFor yJ1_rotateLeft = true := by decide +kernel
theorem i_J1_rotateRight {l : Launch} {D : va_G} {dA : Nat → ClassId} {lo : Nat} {cs0 : Nat → Option Nat} {d : Nat} (hI : jIH l D dA lo cs0 d) : jMe l D dA lo cs0 (EV d) 362 yJ1_rotateRight (ws_ yJ1_rotateRight cJ1_rotateRight 3 (Option.none : Option Jvm.ClassFile.FieldType)) d := hI 362 (yJ1_rotateRight, (ws_ yJ1_rotateRight cJ1_rotateRight 3 (Option.none : Option Jvm.ClassFile.FieldType))) rfl
theorem w4_J1_rotateRight : Cond.code yJ1_rotateRight cJ1_rotateRight 3 (Option.none : Option Jvm.ClassFile.FieldType) ∈ lw_all := q697
theorem w6_J1_rotateRight : Cond.initialized yJ1_rotateRight.cls ∈ lw_all := q126
theorem hy_J1_rotateRight : yJ1_rotateRight.cls ≠ "java/lang/invoke/MethodHandle" ∧ yJ1_rotateRight.cls ≠ "java/lang/invoke/VarHandle" := by decide +kernel
theorem hl_J1_rotateRight : (parseMethodDescriptor yJ1_rotateRight.desc).map (fun q => q.parameters.length) = some 1 := by decide +kernel
theorem hp_J1_rotateRight : plainFor yJ1_rotateRight = true := by decide +kernel
theorem i_J1_successor {l : Launch} {D : va_G} {dA : Nat → ClassId} {lo : Nat} {cs0 : Nat → Option Nat} {d : Nat} (hI : jIH l D dA lo cs0 d) : jMe l D dA lo cs0 (EV d) 363 yJ1_successor (ws_ yJ1_successor cJ1_successor 3 (Option.some (Jvm.ClassFile.FieldType.object "java/util/TreeMap$Entry"))) d := hI 363 (yJ1_successor, (ws_ yJ1_successor cJ1_successor 3 (Option.some (Jvm.ClassFile.FieldType.object "java/util/TreeMap$Entry")))) rfl
theorem w4_J1_successor : Cond.code yJ1_successor cJ1_successor 3 (Option.some (Jvm.ClassFile.FieldType.object "java/util/TreeMap$Entry")) ∈ lw_all := q1058
theorem w6_J1_successor : Cond.initialized yJ1_successor.cls ∈ lw_all := q126
theorem hy_J1_successor : yJ1_successor.cls ≠ "java/lang/invoke/MethodHandle" ∧ yJ1_successor.cls ≠ "java/lang/invoke/VarHandle" := by decide +kernel
theorem hl_J1_successor : (parseMethodDescriptor yJ1_successor.desc).map (fun q => q.parameters.length) = some 1 := by decide +kernel
theorem hp_J1_successor : plainFor yJ1_successor = true := by decide +kernel
theorem i_J10_newLength {l : Launch} {D : va_G} {dA : Nat → ClassId} {lo : Nat} {cs0 : Nat → Option Nat} {d : Nat} (hI : jIH l D dA lo cs0 d) : jMe l D dA lo cs0 (EV d) 364 yJ10_newLength (ws_ yJ10_newLength cJ10_newLength 4 (Option.some Jvm.ClassFile.FieldType.int)) d := hI 364 (yJ10_newLength, (ws_ yJ10_newLength cJ10_newLength 4 (Option.some Jvm.ClassFile.FieldType.int))) rfl
theorem w4_J10_newLength : Cond.code yJ10_newLength cJ10_newLength 4 (Option.some Jvm.ClassFile.FieldType.int) ∈ lw_all := q1221
theorem w6_J10_newLength : Cond.initialized yJ10_newLength.cls ∈ lw_all := q136
theorem hy_J10_newLength : yJ10_newLength.cls ≠ "java/lang/invoke/MethodHandle" ∧ yJ10_newLength.cls ≠ "java/lang/invoke/VarHandle" := by decide +kernel
theorem hl_J10_newLength : (parseMethodDescriptor yJ10_newLength.desc).map (fun q => q.parameters.length) = some 3 := by decide +kernel
theorem hp_J10_newLength : plainFor yJ10_newLength = true := by decide +kernel
theorem i_J29_copyOf {l : Launch} {D : va_G} {dA : Nat → ClassId} {lo : Nat} {cs0 : Nat → Option Nat} {d : Nat} (hI : jIH l D dA lo cs0 d) : jMe l D dA lo cs0 (EV d) 365 yJ29_copyOf (ws_ yJ29_copyOf cJ29_copyOf 2 (Option.some (Jvm.ClassFile.FieldType.array (Jvm.ClassFile.FieldType.object "java/lang/Object")))) d := hI 365 (yJ29_copyOf, (ws_ yJ29_copyOf cJ29_copyOf 2 (Option.some (Jvm.ClassFile.FieldType.array (Jvm.ClassFile.FieldType.object "java/lang/Object"))))) rfl
theorem w4_J29_copyOf : Cond.code yJ29_copyOf cJ29_copyOf 2 (Option.some (Jvm.ClassFile.FieldType.array (Jvm.ClassFile.FieldType.object "java/lang/Object"))) ∈ lw_all := q1231
theorem w6_J29_copyOf : Cond.initialized yJ29_copyOf.cls ∈ lw_all := q158
theorem hy_J29_copyOf : yJ29_copyOf.cls ≠ "java/lang/invoke/MethodHandle" ∧ yJ29_copyOf.cls ≠ "java/lang/invoke/VarHandle" := by decide +kernel
theorem hl_J29_copyOf : (parseMethodDescriptor yJ29_copyOf.desc).map (fun q => q.parameters.length) = some 2 := by decide +kernel
theorem hp_J29_copyOf : plainFor yJ29_copyOf = true := by decide +kernel
theorem i_J9_max {l : Launch} {D : va_G} {dA : Nat → ClassId} {lo : Nat} {cs0 : Nat → Option Nat} {d : Nat} (hI : jIH l D dA lo cs0 d) : jMe l D dA lo cs0 (EV d) 366 yJ9_max (ws_ yJ9_max cJ9_max 2 (Option.some Jvm.ClassFile.FieldType.int)) d := hI 366 (yJ9_max, (ws_ yJ9_max cJ9_max 2 (Option.some Jvm.ClassFile.FieldType.int))) rfl
theorem w4_J9_max : Cond.code yJ9_max cJ9_max 2 (Option.some Jvm.ClassFile.FieldType.int) ∈ lw_all := q1224
theorem w6_J9_max : Cond.initialized yJ9_max.cls ∈ lw_all := q135
theorem hy_J9_max : yJ9_max.cls ≠ "java/lang/invoke/MethodHandle" ∧ yJ9_max.cls ≠ "java/lang/invoke/VarHandle" := by decide +kernel
theorem hl_J9_max : (parseMethodDescriptor yJ9_max.desc).map (fun q => q.parameters.length) = some 2 := by decide +kernel
theorem hp_J9_max : plainFor yJ9_max = true := by decide +kernel
theorem i_X5_digit {l : Launch} {D : va_G} {dA : Nat → ClassId} {lo : Nat} {cs0 : Nat → Option Nat} {d : Nat} (hI : jIH l D dA lo cs0 d) : jMe l D dA lo cs0 (EV d) 367 yX5_digit (ws_ yX5_digit cX5_digit 2 (Option.some Jvm.ClassFile.FieldType.int)) d := hI 367 (yX5_digit, (ws_ yX5_digit cX5_digit 2 (Option.some Jvm.ClassFile.FieldType.int))) rfl
theorem w4_X5_digit : Cond.code yX5_digit cX5_digit 2 (Option.some Jvm.ClassFile.FieldType.int) ∈ lw_all := q2634
theorem w6_X5_digit : Cond.initialized yX5_digit.cls ∈ lw_all := q165
theorem hy_X5_digit : yX5_digit.cls ≠ "java/lang/invoke/MethodHandle" ∧ yX5_digit.cls ≠ "java/lang/invoke/VarHandle" := by decide +kernel
theorem hl_X5_digit : (parseMethodDescriptor yX5_digit.desc).map (fun q => q.parameters.length) = some 1 := by decide +kernel
theorem hp_X5_digit : plainFor yX5_digit = true := by decide +kernel
theorem i_J7_indexOf {l : Launch} {D : va_G} {dA : Nat → ClassId} {lo : Nat} {cs0 : Nat → Option Nat} {d : Nat} (hI : jIH l D dA lo cs0 d) : jMe l D dA lo cs0 (EV d) 368 yJ7_indexOf (ws_ yJ7_indexOf cJ7_indexOf 2 (Option.some Jvm.ClassFile.FieldType.int)) d := hI 368 (yJ7_indexOf, (ws_ yJ7_indexOf cJ7_indexOf 2 (Option.some Jvm.ClassFile.FieldType.int))) rfl
theorem w4_J7_indexOf : Cond.code yJ7_indexOf cJ7_indexOf 2 (Option.some Jvm.ClassFile.FieldType.int) ∈ lw_all := q2514
theorem w6_J7_indexOf : Cond.initialized yJ7_indexOf.cls ∈ lw_all := q133
theorem hy_J7_indexOf : yJ7_indexOf.cls ≠ "java/lang/invoke/MethodHandle" ∧ yJ7_indexOf.cls ≠ "java/lang/invoke/VarHandle" := by decide +kernel
theorem hl_J7_indexOf : (parseMethodDescriptor yJ7_indexOf.desc).map (fun q => q.parameters.length) = some 1 := by decide +kernel
theorem hp_J7_indexOf : plainFor yJ7_indexOf = true := by decide +kernel
theorem i_J24_init_3 {l : Launch} {D : va_G} {dA : Nat → ClassId} {lo : Nat} {cs0 : Nat → Option Nat} {d : Nat} (hI : jIH l D dA lo cs0 d) : jMe l D dA lo cs0 (EV d) 369 yJ24_init_3 (ws_ yJ24_init_3 cJ24_init_3 5 (Option.none : Option Jvm.ClassFile.FieldType)) d := hI 369 (yJ24_init_3, (ws_ yJ24_init_3 cJ24_init_3 5 (Option.none : Option Jvm.ClassFile.FieldType))) rfl
theorem w4_J24_init_3 : Cond.code yJ24_init_3 cJ24_init_3 5 (Option.none : Option Jvm.ClassFile.FieldType) ∈ lw_all := q2324
theorem w6_J24_init_3 : Cond.initialized yJ24_init_3.cls ∈ lw_all := q151
theorem hy_J24_init_3 : yJ24_init_3.cls ≠ "java/lang/invoke/MethodHandle" ∧ yJ24_init_3.cls ≠ "java/lang/invoke/VarHandle" := by decide +kernel
theorem hl_J24_init_3 : (parseMethodDescriptor yJ24_init_3.desc).map (fun q => q.parameters.length) = some 4 := by decide +kernel
theorem hp_J24_init_3 : plainFor yJ24_init_3 = true := by decide +kernel
theorem i_J40_ensureCapacity {l : Launch} {D : va_G} {dA : Nat → ClassId} {lo : Nat} {cs0 : Nat → Option Nat} {d : Nat} (hI : jIH l D dA lo cs0 d) : jMe l D dA lo cs0 (EV d) 370 yJ40_ensureCapacity (ws_ yJ40_ensureCapacity cJ40_ensureCapacity 3 (Option.none : Option Jvm.ClassFile.FieldType)) d := hI 370 (yJ40_ensureCapacity, (ws_ yJ40_ensureCapacity cJ40_ensureCapacity 3 (Option.none : Option Jvm.ClassFile.FieldType))) rfl
theorem w4_J40_ensureCapacity : Cond.code yJ40_ensureCapacity cJ40_ensureCapacity 3 (Option.none : Option Jvm.ClassFile.FieldType) ∈ lw_all := q1900
theorem w6_J40_ensureCapacity : Cond.initialized yJ40_ensureCapacity.cls ∈ lw_all := q179
theorem hy_J40_ensureCapacity : yJ40_ensureCapacity.cls ≠ "java/lang/invoke/MethodHandle" ∧ yJ40_ensureCapacity.cls ≠ "java/lang/invoke/VarHandle" := by decide +kernel
theorem hl_J40_ensureCapacity : (parseMethodDescriptor yJ40_ensureCapacity.desc).map (fun q => q.parameters.length) = some 1 := by decide +kernel
theorem hp_J40_ensureCapacity : plainFor yJ40_ensureCapacity = true := by decide +kernel
theorem i_J40_initWords {l : Launch} {D : va_G} {dA : Nat → ClassId} {lo : Nat} {cs0 : Nat → Option Nat} {d : Nat} (hI : jIH l D dA lo cs0 d) : jMe l D dA lo cs0 (EV d) 371 yJ40_initWords (ws_ yJ40_initWords cJ40_initWords 2 (Option.none : Option Jvm.ClassFile.FieldType)) d := hI 371 (yJ40_initWords, (ws_ yJ40_initWords cJ40_initWords 2 (Option.none : Option Jvm.ClassFile.FieldType))) rfl
theorem w4_J40_initWords : Cond.code yJ40_initWords cJ40_initWords 2 (Option.none : Option Jvm.ClassFile.FieldType) ∈ lw_all := q1580
theorem w6_J40_initWords : Cond.initialized yJ40_initWords.cls ∈ lw_all := q179
theorem hy_J40_initWords : yJ40_initWords.cls ≠ "java/lang/invoke/MethodHandle" ∧ yJ40_initWords.cls ≠ "java/lang/invoke/VarHandle" := by decide +kernel
theorem hl_J40_initWords : (parseMethodDescriptor yJ40_initWords.desc).map (fun q => q.parameters.length) = some 1 := by decide +kernel
theorem hp_J40_initWords : plainFor yJ40_initWords = true := by decide +kernel
theorem i_J40_recalculateWordsInUse {l : Launch} {D : va_G} {dA : Nat → ClassId} {lo : Nat} {cs0 : Nat → Option Nat} {d : Nat} (hI : jIH l D dA lo cs0 d) : jMe l D dA lo cs0 (EV d) 372 yJ40_recalculateWordsInUse (ws_ yJ40_recalculateWordsInUse cJ40_recalculateWordsInUse 2 (Option.none : Option Jvm.ClassFile.FieldType)) d := hI 372 (yJ40_recalculateWordsInUse, (ws_ yJ40_recalculateWordsInUse cJ40_recalculateWordsInUse 2 (Option.none : Option Jvm.ClassFile.FieldType))) rfl
theorem w4_J40_recalculateWordsInUse : Cond.code yJ40_recalculateWordsInUse cJ40_recalculateWordsInUse 2 (Option.none : Option Jvm.ClassFile.FieldType) ∈ lw_all := q1979
theorem w6_J40_recalculateWordsInUse : Cond.initialized yJ40_recalculateWordsInUse.cls ∈ lw_all := q179
theorem hy_J40_recalculateWordsInUse : yJ40_recalculateWordsInUse.cls ≠ "java/lang/invoke/MethodHandle" ∧ yJ40_recalculateWordsInUse.cls ≠ "java/lang/invoke/VarHandle" := by decide +kernel
theorem hl_J40_recalculateWordsInUse : (parseMethodDescriptor yJ40_recalculateWordsInUse.desc).map (fun q => q.parameters.length) = some 0 := by decide +kernel
theorem hp_J40_recalculateWordsInUse : plainFor yJ40_recalculateWordsInUse = true := by decide +kernel
theorem i_J36_grow {l : Launch} {D : va_G} {dA : Nat → ClassId} {lo : Nat} {cs0 : Nat → Option Nat} {d : Nat} (hI : jIH l D dA lo cs0 d) : jMe l D dA lo cs0 (EV d) 373 yJ36_grow (ws_ yJ36_grow cJ36_grow 4 (Option.none : Option Jvm.ClassFile.FieldType)) d := hI 373 (yJ36_grow, (ws_ yJ36_grow cJ36_grow 4 (Option.none : Option Jvm.ClassFile.FieldType))) rfl
theorem w4_J36_grow : Cond.code yJ36_grow cJ36_grow 4 (Option.none : Option Jvm.ClassFile.FieldType) ∈ lw_all := q2021
theorem w6_J36_grow : Cond.initialized yJ36_grow.cls ∈ lw_all := q171
theorem hy_J36_grow : yJ36_grow.cls ≠ "java/lang/invoke/MethodHandle" ∧ yJ36_grow.cls ≠ "java/lang/invoke/VarHandle" := by decide +kernel
theorem hl_J36_grow : (parseMethodDescriptor yJ36_grow.desc).map (fun q => q.parameters.length) = some 1 := by decide +kernel
theorem hp_J36_grow : plainFor yJ36_grow = true := by decide +kernel
theorem i_J36_siftUp {l : Launch} {D : va_G} {dA : Nat → ClassId} {lo : Nat} {cs0 : Nat → Option Nat} {d : Nat} (hI : jIH l D dA lo cs0 d) : jMe l D dA lo cs0 (EV d) 374 yJ36_siftUp (ws_ yJ36_siftUp cJ36_siftUp 3 (Option.none : Option Jvm.ClassFile.FieldType)) d := hI 374 (yJ36_siftUp, (ws_ yJ36_siftUp cJ36_siftUp 3 (Option.none : Option Jvm.ClassFile.FieldType))) rfl
theorem w4_J36_siftUp : Cond.code yJ36_siftUp cJ36_siftUp 3 (Option.none : Option Jvm.ClassFile.FieldType) ∈ lw_all := q2026
theorem w6_J36_siftUp : Cond.initialized yJ36_siftUp.cls ∈ lw_all := q171
theorem hy_J36_siftUp : yJ36_siftUp.cls ≠ "java/lang/invoke/MethodHandle" ∧ yJ36_siftUp.cls ≠ "java/lang/invoke/VarHandle" := by decide +kernel
theorem hl_J36_siftUp : (parseMethodDescriptor yJ36_siftUp.desc).map (fun q => q.parameters.length) = some 2 := by decide +kernel
theorem hp_J36_siftUp : plainFor yJ36_siftUp = true := by decide +kernel
theorem i_J36_indexOf {l : Launch} {D : va_G} {dA : Nat → ClassId} {lo : Nat} {cs0 : Nat → Option Nat} {d : Nat} (hI : jIH l D dA lo cs0 d) : jMe l D dA lo cs0 (EV d) 375 yJ36_indexOf (ws_ yJ36_indexOf cJ36_indexOf 5 (Option.some Jvm.ClassFile.FieldType.int)) d := hI 375 (yJ36_indexOf, (ws_ yJ36_indexOf cJ36_indexOf 5 (Option.some Jvm.ClassFile.FieldType.int))) rfl
theorem w4_J36_indexOf : Cond.code yJ36_indexOf cJ36_indexOf 5 (Option.some Jvm.ClassFile.FieldType.int) ∈ lw_all := q2073
theorem w6_J36_indexOf : Cond.initialized yJ36_indexOf.cls ∈ lw_all := q171
theorem hy_J36_indexOf : yJ36_indexOf.cls ≠ "java/lang/invoke/MethodHandle" ∧ yJ36_indexOf.cls ≠ "java/lang/invoke/VarHandle" := by decide +kernel
theorem hl_J36_indexOf : (parseMethodDescriptor yJ36_indexOf.desc).map (fun q => q.parameters.length) = some 1 := by decide +kernel
theorem hp_J36_indexOf : plainFor yJ36_indexOf = true := by decide +kernel
theorem i_J36_removeAt {l : Launch} {D : va_G} {dA : Nat → ClassId} {lo : Nat} {cs0 : Nat → Option Nat} {d : Nat} (hI : jIH l D dA lo cs0 d) : jMe l D dA lo cs0 (EV d) 376 yJ36_removeAt (ws_ yJ36_removeAt cJ36_removeAt 5 (Option.some (Jvm.ClassFile.FieldType.object "java/lang/Object"))) d := hI 376 (yJ36_removeAt, (ws_ yJ36_removeAt cJ36_removeAt 5 (Option.some (Jvm.ClassFile.FieldType.object "java/lang/Object")))) rfl
theorem w4_J36_removeAt : Cond.code yJ36_removeAt cJ36_removeAt 5 (Option.some (Jvm.ClassFile.FieldType.object "java/lang/Object")) ∈ lw_all := q2078
theorem w6_J36_removeAt : Cond.initialized yJ36_removeAt.cls ∈ lw_all := q171
theorem hy_J36_removeAt : yJ36_removeAt.cls ≠ "java/lang/invoke/MethodHandle" ∧ yJ36_removeAt.cls ≠ "java/lang/invoke/VarHandle" := by decide +kernel
theorem hl_J36_removeAt : (parseMethodDescriptor yJ36_removeAt.desc).map (fun q => q.parameters.length) = some 1 := by decide +kernel
theorem hp_J36_removeAt : plainFor yJ36_removeAt = true := by decide +kernel
theorem i_J7_indexOf_2 {l : Launch} {D : va_G} {dA : Nat → ClassId} {lo : Nat} {cs0 : Nat → Option Nat} {d : Nat} (hI : jIH l D dA lo cs0 d) : jMe l D dA lo cs0 (EV d) 377 yJ7_indexOf_2 (ws_ yJ7_indexOf_2 cJ7_indexOf_2 3 (Option.some Jvm.ClassFile.FieldType.int)) d := hI 377 (yJ7_indexOf_2, (ws_ yJ7_indexOf_2 cJ7_indexOf_2 3 (Option.some Jvm.ClassFile.FieldType.int))) rfl
theorem w4_J7_indexOf_2 : Cond.code yJ7_indexOf_2 cJ7_indexOf_2 3 (Option.some Jvm.ClassFile.FieldType.int) ∈ lw_all := q2518
theorem w6_J7_indexOf_2 : Cond.initialized yJ7_indexOf_2.cls ∈ lw_all := q133
theorem hy_J7_indexOf_2 : yJ7_indexOf_2.cls ≠ "java/lang/invoke/MethodHandle" ∧ yJ7_indexOf_2.cls ≠ "java/lang/invoke/VarHandle" := by decide +kernel
theorem hl_J7_indexOf_2 : (parseMethodDescriptor yJ7_indexOf_2.desc).map (fun q => q.parameters.length) = some 2 := by decide +kernel
theorem hp_J7_indexOf_2 : plainFor yJ7_indexOf_2 = true := by decide +kernel
theorem i_J23_init_3 {l : Launch} {D : va_G} {dA : Nat → ClassId} {lo : Nat} {cs0 : Nat → Option Nat} {d : Nat} (hI : jIH l D dA lo cs0 d) : jMe l D dA lo cs0 (EV d) 378 yJ23_init_3 (ws_ yJ23_init_3 cJ23_init_3 5 (Option.none : Option Jvm.ClassFile.FieldType)) d := hI 378 (yJ23_init_3, (ws_ yJ23_init_3 cJ23_init_3 5 (Option.none : Option Jvm.ClassFile.FieldType))) rfl
theorem w4_J23_init_3 : Cond.code yJ23_init_3 cJ23_init_3 5 (Option.none : Option Jvm.ClassFile.FieldType) ∈ lw_all := q2327
theorem w6_J23_init_3 : Cond.initialized yJ23_init_3.cls ∈ lw_all := q150
theorem hy_J23_init_3 : yJ23_init_3.cls ≠ "java/lang/invoke/MethodHandle" ∧ yJ23_init_3.cls ≠ "java/lang/invoke/VarHandle" := by decide +kernel
theorem hl_J23_init_3 : (parseMethodDescriptor yJ23_init_3.desc).map (fun q => q.parameters.length) = some 4 := by decide +kernel
theorem hp_J23_init_3 : plainFor yJ23_init_3 = true := by decide +kernel
theorem i_J36_siftUpUsingComparator {l : Launch} {D : va_G} {dA : Nat → ClassId} {lo : Nat} {cs0 : Nat → Option Nat} {d : Nat} (hI : jIH l D dA lo cs0 d) : jMe l D dA lo cs0 (EV d) 379 yJ36_siftUpUsingComparator (ws_ yJ36_siftUpUsingComparator cJ36_siftUpUsingComparator 6 (Option.none : Option Jvm.ClassFile.FieldType)) d := hI 379 (yJ36_siftUpUsingComparator, (ws_ yJ36_siftUpUsingComparator cJ36_siftUpUsingComparator 6 (Option.none : Option Jvm.ClassFile.FieldType))) rfl
theorem w4_J36_siftUpUsingComparator : Cond.code yJ36_siftUpUsingComparator cJ36_siftUpUsingComparator 6 (Option.none : Option Jvm.ClassFile.FieldType) ∈ lw_all := q2029
theorem w6_J36_siftUpUsingComparator : Cond.initialized yJ36_siftUpUsingComparator.cls ∈ lw_all := q171
theorem hy_J36_siftUpUsingComparator : yJ36_siftUpUsingComparator.cls ≠ "java/lang/invoke/MethodHandle" ∧ yJ36_siftUpUsingComparator.cls ≠ "java/lang/invoke/VarHandle" := by decide +kernel
theorem hl_J36_siftUpUsingComparator : (parseMethodDescriptor yJ36_siftUpUsingComparator.desc).map (fun q => q.parameters.length) = some 4 := by decide +kernel
theorem hp_J36_siftUpUsingComparator : plainFor yJ36_siftUpUsingComparator = true := by decide +kernel
theorem i_J36_siftDown {l : Launch} {D : va_G} {dA : Nat → ClassId} {lo : Nat} {cs0 : Nat → Option Nat} {d : Nat} (hI : jIH l D dA lo cs0 d) : jMe l D dA lo cs0 (EV d) 380 yJ36_siftDown (ws_ yJ36_siftDown cJ36_siftDown 3 (Option.none : Option Jvm.ClassFile.FieldType)) d := hI 380 (yJ36_siftDown, (ws_ yJ36_siftDown cJ36_siftDown 3 (Option.none : Option Jvm.ClassFile.FieldType))) rfl
theorem w4_J36_siftDown : Cond.code yJ36_siftDown cJ36_siftDown 3 (Option.none : Option Jvm.ClassFile.FieldType) ∈ lw_all := q2082
theorem w6_J36_siftDown : Cond.initialized yJ36_siftDown.cls ∈ lw_all := q171
theorem hy_J36_siftDown : yJ36_siftDown.cls ≠ "java/lang/invoke/MethodHandle" ∧ yJ36_siftDown.cls ≠ "java/lang/invoke/VarHandle" := by decide +kernel
theorem hl_J36_siftDown : (parseMethodDescriptor yJ36_siftDown.desc).map (fun q => q.parameters.length) = some 2 := by decide +kernel
theorem hp_J36_siftDown : plainFor yJ36_siftDown = true := by decide +kernel
theorem i_J7_isLatin1 {l : Launch} {D : va_G} {dA : Nat → ClassId} {lo : Nat} {cs0 : Nat → Option Nat} {d : Nat} (hI : jIH l D dA lo cs0 d) : jMe l D dA lo cs0 (EV d) 381 yJ7_isLatin1 (ws_ yJ7_isLatin1 cJ7_isLatin1 1 (Option.some Jvm.ClassFile.FieldType.boolean)) d := hI 381 (yJ7_isLatin1, (ws_ yJ7_isLatin1 cJ7_isLatin1 1 (Option.some Jvm.ClassFile.FieldType.boolean))) rfl
theorem w4_J7_isLatin1 : Cond.code yJ7_isLatin1 cJ7_isLatin1 1 (Option.some Jvm.ClassFile.FieldType.boolean) ∈ lw_all := q2522
theorem w6_J7_isLatin1 : Cond.initialized yJ7_isLatin1.cls ∈ lw_all := q133
theorem hy_J7_isLatin1 : yJ7_isLatin1.cls ≠ "java/lang/invoke/MethodHandle" ∧ yJ7_isLatin1.cls ≠ "java/lang/invoke/VarHandle" := by decide +kernel
theorem hl_J7_isLatin1 : (parseMethodDescriptor yJ7_isLatin1.desc).map (fun q => q.parameters.length) = some 0 := by decide +kernel
theorem hp_J7_isLatin1 : plainFor yJ7_isLatin1 = true := by decide +kernel
theorem i_J8_indexOf {l : Launch} {D : va_G} {dA : Nat → ClassId} {lo : Nat} {cs0 : Nat → Option Nat} {d : Nat} (hI : jIH l D dA lo cs0 d) : jMe l D dA lo cs0 (EV d) 382 yJ8_indexOf (ws_ yJ8_indexOf cJ8_indexOf 4 (Option.some Jvm.ClassFile.FieldType.int)) d := hI 382 (yJ8_indexOf, (ws_ yJ8_indexOf cJ8_indexOf 4 (Option.some Jvm.ClassFile.FieldType.int))) rfl
theorem w4_J8_indexOf : Cond.code yJ8_indexOf cJ8_indexOf 4 (Option.some Jvm.ClassFile.FieldType.int) ∈ lw_all := q2526
theorem w6_J8_indexOf : Cond.initialized yJ8_indexOf.cls ∈ lw_all := q134
theorem hy_J8_indexOf : yJ8_indexOf.cls ≠ "java/lang/invoke/MethodHandle" ∧ yJ8_indexOf.cls ≠ "java/lang/invoke/VarHandle" := by decide +kernel
theorem hl_J8_indexOf : (parseMethodDescriptor yJ8_indexOf.desc).map (fun q => q.parameters.length) = some 4 := by decide +kernel
theorem hp_J8_indexOf : plainFor yJ8_indexOf = true := by decide +kernel
theorem i_J8_canEncode {l : Launch} {D : va_G} {dA : Nat → ClassId} {lo : Nat} {cs0 : Nat → Option Nat} {d : Nat} (hI : jIH l D dA lo cs0 d) : jMe l D dA lo cs0 (EV d) 383 yJ8_canEncode (ws_ yJ8_canEncode cJ8_canEncode 1 (Option.some Jvm.ClassFile.FieldType.boolean)) d := hI 383 (yJ8_canEncode, (ws_ yJ8_canEncode cJ8_canEncode 1 (Option.some Jvm.ClassFile.FieldType.boolean))) rfl
theorem w4_J8_canEncode : Cond.code yJ8_canEncode cJ8_canEncode 1 (Option.some Jvm.ClassFile.FieldType.boolean) ∈ lw_all := q2529
theorem w6_J8_canEncode : Cond.initialized yJ8_canEncode.cls ∈ lw_all := q134
theorem hy_J8_canEncode : yJ8_canEncode.cls ≠ "java/lang/invoke/MethodHandle" ∧ yJ8_canEncode.cls ≠ "java/lang/invoke/VarHandle" := by decide +kernel
theorem hl_J8_canEncode : (parseMethodDescriptor yJ8_canEncode.desc).map (fun q => q.parameters.length) = some 1 := by decide +kernel
theorem hp_J8_canEncode : plainFor yJ8_canEncode = true := by decide +kernel
theorem i_J8_indexOfChar {l : Launch} {D : va_G} {dA : Nat → ClassId} {lo : Nat} {cs0 : Nat → Option Nat} {d : Nat} (hI : jIH l D dA lo cs0 d) : jMe l D dA lo cs0 (EV d) 384 yJ8_indexOfChar (ws_ yJ8_indexOfChar cJ8_indexOfChar 6 (Option.some Jvm.ClassFile.FieldType.int)) d := hI 384 (yJ8_indexOfChar, (ws_ yJ8_indexOfChar cJ8_indexOfChar 6 (Option.some Jvm.ClassFile.FieldType.int))) rfl
theorem w4_J8_indexOfChar : Cond.code yJ8_indexOfChar cJ8_indexOfChar 6 (Option.some Jvm.ClassFile.FieldType.int) ∈ lw_all := q2533
theorem w6_J8_indexOfChar : Cond.initialized yJ8_indexOfChar.cls ∈ lw_all := q134
theorem hy_J8_indexOfChar : yJ8_indexOfChar.cls ≠ "java/lang/invoke/MethodHandle" ∧ yJ8_indexOfChar.cls ≠ "java/lang/invoke/VarHandle" := by decide +kernel
theorem hl_J8_indexOfChar : (parseMethodDescriptor yJ8_indexOfChar.desc).map (fun q => q.parameters.length) = some 4 := by decide +kernel
theorem hp_J8_indexOfChar : plainFor yJ8_indexOfChar = true := by decide +kernel
