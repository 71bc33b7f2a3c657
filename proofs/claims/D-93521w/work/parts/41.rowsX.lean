/-! ROWS OF THE SIMULATION (printed by an own program) -/
set_option maxRecDepth 100000
section ROWS
variable {l : Launch} {D : va_G} {dA : Nat → ClassId} {lo : Nat} {cs0 : Nat → Option Nat} {d : Nat}
theorem r_X1_init (hst : l.stackTraces = false) (hI : jIH l D dA lo cs0 d) : jRows l D dA lo cs0 d 1 (tb_X1_init (EV d)) yX1_init cX1_init (Option.none : Option Jvm.ClassFile.FieldType) [] := by
  intro p e R s m args below meth c z0 w0 zF wF Q rF hF B hz hw hret hnm
  refine jlk_cons (sm_aload_n rfl B.1 dX1_init_0) ?_
  refine jlk_cons (sm_obj B.1 q195 q196 q197 dX1_init_1) ?_
  refine jlk_cons (sm_aload_n rfl B.1 dX1_init_4) ?_
  refine jlk_cons (sm_new B.1 kc_2 (by decide) (by decide) in_X2 tyX2 tyX2_ok kd_2 q198 q199 q124 B.2.2.2 hz hw dX1_init_5) ?_
  refine jlk_cons (sm_dup B.1 dX1_init_8) ?_
  refine jlk_cons (sm_cI (x := yX2_init) (r9 := kr_6) (host := "") (owner := "") isNV (i_X2_init hI) B q200 q201 w4_X2_init w6_X2_init (by decide) rfl hy_X2_init hl_X2_init dX1_init_9 trivial) ?_
  refine jlk_cons (sm_iconst rfl B.1 dX1_init_12) ?_
  refine jlk_cons (sm_new B.1 kc_21 (by decide) (by decide) in_J4 tyJ4 tyJ4_ok kd_21 q717 q240 q129 B.2.2.2 hz hw dX1_init_13) ?_
  refine jlk_cons (sm_dup B.1 dX1_init_16) ?_
  refine jlk_cons (sm_cI (x := yJ4_init) (r9 := kr_6) (host := "") (owner := "") isNV (i_J4_init hI) B q718 q242 w4_J4_init w6_J4_init (by decide) rfl hy_J4_init hl_J4_init dX1_init_17 trivial) ?_
  refine jlk_cons (sm_cV (x := yX2_with) (host := "") (owner := "") isRP (i_X2_with hI) B q719 q720 q721 w4_X2_with w6_X2_with (by decide) (by decide) (by decide) kc_2 hy_X2_with hl_X2_with dX1_init_20 trivial) ?_
  refine jlk_cons (sm_putP B.1 fl_PointerAnalyzer_46_1_0 tyX1 tyX1_ok nmX1 (Or.inl rfl) rfl (tyX1_ok 0 (by decide)) rfl (by decide) dX1_init_23) ?_
  refine jlk_cons (sm_aload_n rfl B.1 dX1_init_26) ?_
  refine jlk_cons (sm_bipush rfl B.1 dX1_init_27) ?_
  refine jlk_cons (sm_newA B.1 (at9 := .char) rfl (by decide) rfl (by decide) hc_102 (fun _ => rfl) q1275 B.2.2.2 hz hw dX1_init_29) ?_
  refine jlk_cons (sm_putP B.1 fl_PointerAnalyzer_50_1_4 tyX1 tyX1_ok nmX1 (Or.inr ⟨rfl, hnm, rfl⟩) rfl (tyX1_ok 4 (by decide)) rfl (by decide) dX1_init_31) ?_
  refine jlk_cons (sm_aload_n rfl B.1 dX1_init_34) ?_
  refine jlk_cons (sm_iconst rfl B.1 dX1_init_35) ?_
  refine jlk_cons (sm_putI B.1 fl_PointerAnalyzer_54_1_6 tyX1 tyX1_ok nmX1 (Or.inl rfl) (tyX1_ok 6 (by decide)) rfl (by decide) dX1_init_36) ?_
  refine jlk_cons (sm_vret B.1 B.2.1 hret dX1_init_39) ?_
  exact jlk_nil
theorem v_X1_init (hst : l.stackTraces = false) (hz : jEz (EV (d + 1))) (hI : jIH l D dA lo cs0 d) : jMe l D dA lo cs0 (EV (d + 1)) 2 yX1_init (ws_ yX1_init cX1_init 1 (Option.none : Option Jvm.ClassFile.FieldType)) (d + 1) := z_meth hz rfl hp_X1_init (r_X1_init hst hI)
theorem r_X1_faultPosition (hst : l.stackTraces = false) (hI : jIH l D dA lo cs0 d) : jRows l D dA lo cs0 d 1 (tb_X1_faultPosition (EV d)) yX1_faultPosition cX1_faultPosition (Option.some Jvm.ClassFile.FieldType.int) [] := by
  intro p e R s m args below meth c z0 w0 zF wF Q rF hF B hz hw hret hnm
  refine jlk_cons (sm_aload_n rfl B.1 dX1_faultPosition_0) ?_
  refine jlk_cons (sm_getI B.1 fl_PointerAnalyzer_54_1_6 dX1_faultPosition_1) ?_
  refine jlk_cons (sm_iret B.1 B.2.1 hret dX1_faultPosition_4) ?_
  exact jlk_nil
theorem v_X1_faultPosition (hst : l.stackTraces = false) (hz : jEz (EV (d + 1))) (hI : jIH l D dA lo cs0 d) : jMe l D dA lo cs0 (EV (d + 1)) 9 yX1_faultPosition (ws_ yX1_faultPosition cX1_faultPosition 1 (Option.some Jvm.ClassFile.FieldType.int)) (d + 1) := z_meth hz rfl hp_X1_faultPosition (r_X1_faultPosition hst hI)
theorem r_X1_statementCount (hst : l.stackTraces = false) (hI : jIH l D dA lo cs0 d) : jRows l D dA lo cs0 d 1 (tb_X1_statementCount (EV d)) yX1_statementCount cX1_statementCount (Option.some Jvm.ClassFile.FieldType.int) [] := by
  intro p e R s m args below meth c z0 w0 zF wF Q rF hF B hz hw hret hnm
  refine jlk_cons (sm_aload_n rfl B.1 dX1_statementCount_0) ?_
  refine jlk_cons (sm_getP B.1 fl_PointerAnalyzer_46_1_0 dX1_statementCount_1) ?_
  refine jlk_cons (sm_getPN B.1 fn_PointerAnalyzer_120_2_10 dX1_statementCount_4) ?_
  refine jlk_cons (sm_cV (x := yJ4_size) (host := "") (owner := "") isRI (i_J4_size hI) B q1284 q1145 q1146 w4_J4_size w6_J4_size (by decide) (by decide) (by decide) kc_21 hy_J4_size hl_J4_size dX1_statementCount_7 trivial) ?_
  refine jlk_cons (sm_iret B.1 B.2.1 hret dX1_statementCount_10) ?_
  exact jlk_nil
theorem v_X1_statementCount (hst : l.stackTraces = false) (hz : jEz (EV (d + 1))) (hI : jIH l D dA lo cs0 d) : jMe l D dA lo cs0 (EV (d + 1)) 11 yX1_statementCount (ws_ yX1_statementCount cX1_statementCount 1 (Option.some Jvm.ClassFile.FieldType.int)) (d + 1) := z_meth hz rfl hp_X1_statementCount (r_X1_statementCount hst hI)
theorem r_X1_siteCount (hst : l.stackTraces = false) (hI : jIH l D dA lo cs0 d) : jRows l D dA lo cs0 d 1 (tb_X1_siteCount (EV d)) yX1_siteCount cX1_siteCount (Option.some Jvm.ClassFile.FieldType.int) [] := by
  intro p e R s m args below meth c z0 w0 zF wF Q rF hF B hz hw hret hnm
  refine jlk_cons (sm_aload_n rfl B.1 dX1_siteCount_0) ?_
  refine jlk_cons (sm_getP B.1 fl_PointerAnalyzer_46_1_0 dX1_siteCount_1) ?_
  refine jlk_cons (sm_getIN B.1 fn_PointerAnalyzer_139_2_11 dX1_siteCount_4) ?_
  refine jlk_cons (sm_iret B.1 B.2.1 hret dX1_siteCount_7) ?_
  exact jlk_nil
theorem v_X1_siteCount (hst : l.stackTraces = false) (hz : jEz (EV (d + 1))) (hI : jIH l D dA lo cs0 d) : jMe l D dA lo cs0 (EV (d + 1)) 17 yX1_siteCount (ws_ yX1_siteCount cX1_siteCount 1 (Option.some Jvm.ClassFile.FieldType.int)) (d + 1) := z_meth hz rfl hp_X1_siteCount (r_X1_siteCount hst hI)
theorem r_X1_factCount (hst : l.stackTraces = false) (hI : jIH l D dA lo cs0 d) : jRows l D dA lo cs0 d 1 (tb_X1_factCount (EV d)) yX1_factCount cX1_factCount (Option.some Jvm.ClassFile.FieldType.int) [] := by
  intro p e R s m args below meth c z0 w0 zF wF Q rF hF B hz hw hret hnm
  refine jlk_cons (sm_aload_n rfl B.1 dX1_factCount_0) ?_
  refine jlk_cons (sm_cV (x := yX1_analyze) (host := "") (owner := "") isRP (i_X1_analyze hI) B q1293 q1295 qs12 w4_X1_analyze w6_X1_analyze (by decide) (by decide) (by decide) kc_1 hy_X1_analyze hl_X1_analyze dX1_factCount_1 trivial) ?_
  refine jlk_cons (sm_cV (x := yX8_countFacts) (host := "") (owner := "") isRI (i_X8_countFacts hI) B q2107 q2108 q2109 w4_X8_countFacts w6_X8_countFacts (by decide) (by decide) (by decide) kc_8 hy_X8_countFacts hl_X8_countFacts dX1_factCount_4 trivial) ?_
  refine jlk_cons (sm_iret B.1 B.2.1 hret dX1_factCount_7) ?_
  exact jlk_nil
theorem v_X1_factCount (hst : l.stackTraces = false) (hz : jEz (EV (d + 1))) (hI : jIH l D dA lo cs0 d) : jMe l D dA lo cs0 (EV (d + 1)) 33 yX1_factCount (ws_ yX1_factCount cX1_factCount 1 (Option.some Jvm.ClassFile.FieldType.int)) (d + 1) := z_meth hz rfl hp_X1_factCount (r_X1_factCount hst hI)
theorem r_X1_escapingSites (hst : l.stackTraces = false) (hI : jIH l D dA lo cs0 d) : jRows l D dA lo cs0 d 5 (tb_X1_escapingSites (EV d)) yX1_escapingSites cX1_escapingSites (Option.some Jvm.ClassFile.FieldType.int) [] := by
  intro p e R s m args below meth c z0 w0 zF wF Q rF hF B hz hw hret hnm
  refine jlk_app ?_ ?_
  · refine jlk_cons (sm_lconst rfl B.1 dX1_escapingSites_0) ?_
    refine jlk_cons (sm_lstore_n rfl B.1 dX1_escapingSites_1) ?_
    refine jlk_cons (sm_iconst rfl B.1 dX1_escapingSites_2) ?_
    refine jlk_cons (sm_istore_n rfl B.1 dX1_escapingSites_3) ?_
    refine jlk_cons (sm_iload_n rfl B.1 dX1_escapingSites_4) ?_
    refine jlk_cons (sm_iconst rfl B.1 dX1_escapingSites_5) ?_
    refine jlk_cons (sm_icmpge rfl B.1 dX1_escapingSites_6) ?_
    refine jlk_cons (sm_lload_n rfl B.1 dX1_escapingSites_9) ?_
    refine jlk_cons (sm_aload_n rfl B.1 dX1_escapingSites_10) ?_
    refine jlk_cons (sm_iload_n rfl B.1 dX1_escapingSites_11) ?_
    refine jlk_cons (sm_cV (x := yX1_reachFrom) (host := "") (owner := "") isRL (i_X1_reachFrom hI) B q2116 q2118 qs34 w4_X1_reachFrom w6_X1_reachFrom (by decide) (by decide) (by decide) kc_1 hy_X1_reachFrom hl_X1_reachFrom dX1_escapingSites_12 trivial) ?_
    refine jlk_cons (sm_lor B.1 dX1_escapingSites_15) ?_
    refine jlk_cons (sm_lstore_n rfl B.1 dX1_escapingSites_16) ?_
    refine jlk_cons (sm_iinc rfl B.1 dX1_escapingSites_17) ?_
    refine jlk_cons (sm_goto rfl B.1 dX1_escapingSites_20) ?_
    refine jlk_cons (sm_iconst rfl B.1 dX1_escapingSites_23) ?_
    refine jlk_cons (sm_istore_n rfl B.1 dX1_escapingSites_24) ?_
    refine jlk_cons (sm_iconst rfl B.1 dX1_escapingSites_25) ?_
    refine jlk_cons (sm_istore B.1 dX1_escapingSites_26) ?_
    refine jlk_cons (sm_iload B.1 dX1_escapingSites_28) ?_
    refine jlk_cons (sm_aload_n rfl B.1 dX1_escapingSites_30) ?_
    refine jlk_cons (sm_getP B.1 fl_PointerAnalyzer_46_1_0 dX1_escapingSites_31) ?_
    refine jlk_cons (sm_getIN B.1 fn_PointerAnalyzer_139_2_11 dX1_escapingSites_34) ?_
    refine jlk_cons (sm_icmpge rfl B.1 dX1_escapingSites_37) ?_
    refine jlk_cons (sm_iload_n rfl B.1 dX1_escapingSites_40) ?_
    refine jlk_cons (sm_lload_n rfl B.1 dX1_escapingSites_41) ?_
    refine jlk_cons (sm_iload B.1 dX1_escapingSites_42) ?_
    refine jlk_cons (sm_iconst rfl B.1 dX1_escapingSites_44) ?_
    refine jlk_cons (sm_cS (x := yX1_fieldCode) (r9 := kr_6) (host := "") (owner := "") isSI (i_X1_fieldCode hI) B q2130 q2131 w4_X1_fieldCode w6_X1_fieldCode (by decide) hy_X1_fieldCode hl_X1_fieldCode dX1_escapingSites_45 trivial) ?_
    refine jlk_cons (sm_lushr B.1 dX1_escapingSites_48) ?_
    refine jlk_cons (sm_ldc2 q2133 B.1 dX1_escapingSites_49) ?_
    refine jlk_cons (sm_land B.1 dX1_escapingSites_52) ?_
    refine jlk_cons (sm_lconst rfl B.1 dX1_escapingSites_53) ?_
    refine jlk_cons (sm_lcmp B.1 dX1_escapingSites_54) ?_
    refine jlk_cons (sm_ifeq rfl B.1 dX1_escapingSites_55) ?_
    refine jlk_cons (sm_iconst rfl B.1 dX1_escapingSites_58) ?_
    refine jlk_cons (sm_iload B.1 dX1_escapingSites_59) ?_
    refine jlk_cons (sm_ishl B.1 dX1_escapingSites_61) ?_
    refine jlk_cons (sm_goto rfl B.1 dX1_escapingSites_62) ?_
    refine jlk_cons (sm_iconst rfl B.1 dX1_escapingSites_65) ?_
    exact jlk_nil
  · skip
    refine jlk_cons (sm_ior B.1 dX1_escapingSites_66) ?_
    refine jlk_cons (sm_istore_n rfl B.1 dX1_escapingSites_67) ?_
    refine jlk_cons (sm_iinc rfl B.1 dX1_escapingSites_68) ?_
    refine jlk_cons (sm_goto rfl B.1 dX1_escapingSites_71) ?_
    refine jlk_cons (sm_iload_n rfl B.1 dX1_escapingSites_74) ?_
    refine jlk_cons (sm_iret B.1 B.2.1 hret dX1_escapingSites_75) ?_
    exact jlk_nil
theorem v_X1_escapingSites (hst : l.stackTraces = false) (hz : jEz (EV (d + 1))) (hI : jIH l D dA lo cs0 d) : jMe l D dA lo cs0 (EV (d + 1)) 39 yX1_escapingSites (ws_ yX1_escapingSites cX1_escapingSites 5 (Option.some Jvm.ClassFile.FieldType.int)) (d + 1) := z_meth hz rfl hp_X1_escapingSites (r_X1_escapingSites hst hI)
theorem r_X1_roundCount (hst : l.stackTraces = false) (hI : jIH l D dA lo cs0 d) : jRows l D dA lo cs0 d 1 (tb_X1_roundCount (EV d)) yX1_roundCount cX1_roundCount (Option.some Jvm.ClassFile.FieldType.int) [] := by
  intro p e R s m args below meth c z0 w0 zF wF Q rF hF B hz hw hret hnm
  refine jlk_cons (sm_aload_n rfl B.1 dX1_roundCount_0) ?_
  refine jlk_cons (sm_cV (x := yX1_findRanks) (host := "") (owner := "") isRP (i_X1_findRanks hI) B q2138 q2140 qs36 w4_X1_findRanks w6_X1_findRanks (by decide) (by decide) (by decide) kc_1 hy_X1_findRanks hl_X1_findRanks dX1_roundCount_1 trivial) ?_
  refine jlk_cons (sm_getIN B.1 fn_PointerAnalyzer_245_14_99 dX1_roundCount_4) ?_
  refine jlk_cons (sm_iret B.1 B.2.1 hret dX1_roundCount_7) ?_
  exact jlk_nil
theorem v_X1_roundCount (hst : l.stackTraces = false) (hz : jEz (EV (d + 1))) (hI : jIH l D dA lo cs0 d) : jMe l D dA lo cs0 (EV (d + 1)) 45 yX1_roundCount (ws_ yX1_roundCount cX1_roundCount 1 (Option.some Jvm.ClassFile.FieldType.int)) (d + 1) := z_meth hz rfl hp_X1_roundCount (r_X1_roundCount hst hI)
theorem r_X1_unifiedClasses (hst : l.stackTraces = false) (hI : jIH l D dA lo cs0 d) : jRows l D dA lo cs0 d 1 (tb_X1_unifiedClasses (EV d)) yX1_unifiedClasses cX1_unifiedClasses (Option.some Jvm.ClassFile.FieldType.int) [] := by
  intro p e R s m args below meth c z0 w0 zF wF Q rF hF B hz hw hret hnm
  refine jlk_cons (sm_new B.1 kc_15 (by decide) (by decide) in_X15 tyX15 tyX15_ok kd_15 q2204 q2205 q184 B.2.2.2 hz hw dX1_unifiedClasses_0) ?_
  refine jlk_cons (sm_dup B.1 dX1_unifiedClasses_3) ?_
  refine jlk_cons (sm_aload_n rfl B.1 dX1_unifiedClasses_4) ?_
  refine jlk_cons (sm_getP B.1 fl_PointerAnalyzer_46_1_0 dX1_unifiedClasses_5) ?_
  refine jlk_cons (sm_cI (x := yX15_init) (r9 := kr_6) (host := "") (owner := "") isNV (i_X15_init hI) B q2206 q2207 w4_X15_init w6_X15_init (by decide) rfl hy_X15_init hl_X15_init dX1_unifiedClasses_8 trivial) ?_
  refine jlk_cons (sm_cV (x := yX15_countClasses) (host := "") (owner := "") isRI (i_X15_countClasses hI) B q2255 q2256 q2257 w4_X15_countClasses w6_X15_countClasses (by decide) (by decide) (by decide) kc_15 hy_X15_countClasses hl_X15_countClasses dX1_unifiedClasses_11 trivial) ?_
  refine jlk_cons (sm_iret B.1 B.2.1 hret dX1_unifiedClasses_14) ?_
  exact jlk_nil
theorem v_X1_unifiedClasses (hst : l.stackTraces = false) (hz : jEz (EV (d + 1))) (hI : jIH l D dA lo cs0 d) : jMe l D dA lo cs0 (EV (d + 1)) 51 yX1_unifiedClasses (ws_ yX1_unifiedClasses cX1_unifiedClasses 1 (Option.some Jvm.ClassFile.FieldType.int)) (d + 1) := z_meth hz rfl hp_X1_unifiedClasses (r_X1_unifiedClasses hst hI)
theorem r_X1_run (hst : l.stackTraces = false) (hI : jIH l D dA lo cs0 d) : jRows l D dA lo cs0 d 1 (tb_X1_run (EV d)) yX1_run cX1_run (Option.some Jvm.ClassFile.FieldType.int) [] := by
  intro p e R s m args below meth c z0 w0 zF wF Q rF hF B hz hw hret hnm
  refine jlk_cons (sm_aload_n rfl B.1 dX1_run_0) ?_
  refine jlk_cons (sm_new B.1 kc_17 (by decide) (by decide) in_X17 tyX17 tyX17_ok kd_17 q2263 q2264 q186 B.2.2.2 hz hw dX1_run_1) ?_
  refine jlk_cons (sm_dup B.1 dX1_run_4) ?_
  refine jlk_cons (sm_aload_n rfl B.1 dX1_run_5) ?_
  refine jlk_cons (sm_getP B.1 fl_PointerAnalyzer_46_1_0 dX1_run_6) ?_
  refine jlk_cons (sm_cIW (x := yX17_init) (r9 := kr_6) (host := "") (owner := "") isNV (i_X17_init hI) B q2265 q2266 w4_X17_init w6_X17_init (by decide) rfl hy_X17_init hl_X17_init dX1_run_9 trivial) ?_
  refine jlk_cons (sm_putP B.1 fl_PointerAnalyzer_89_1_3 tyX1 tyX1_ok nmX1 (Or.inl rfl) rfl (tyX1_ok 3 (by decide)) rfl (by decide) dX1_run_12) ?_
  refine jlk_cons (sm_aload_n rfl B.1 dX1_run_15) ?_
  refine jlk_cons (sm_getP B.1 fl_PointerAnalyzer_89_1_3 dX1_run_16) ?_
  refine jlk_cons (sm_getIN B.1 fn_PointerAnalyzer_297_17_107 dX1_run_19) ?_
  refine jlk_cons (sm_iret B.1 B.2.1 hret dX1_run_22) ?_
  exact jlk_nil
theorem v_X1_run (hst : l.stackTraces = false) (hz : jEz (EV (d + 1))) (hI : jIH l D dA lo cs0 d) : jMe l D dA lo cs0 (EV (d + 1)) 61 yX1_run (ws_ yX1_run cX1_run 1 (Option.some Jvm.ClassFile.FieldType.int)) (d + 1) := z_meth hz rfl hp_X1_run (r_X1_run hst hI)
theorem r_X1_faults (hst : l.stackTraces = false) (hI : jIH l D dA lo cs0 d) : jRows l D dA lo cs0 d 1 (tb_X1_faults (EV d)) yX1_faults cX1_faults (Option.some Jvm.ClassFile.FieldType.int) [] := by
  intro p e R s m args below meth c z0 w0 zF wF Q rF hF B hz hw hret hnm
  refine jlk_cons (sm_aload_n rfl B.1 dX1_faults_0) ?_
  refine jlk_cons (sm_getP B.1 fl_PointerAnalyzer_89_1_3 dX1_faults_1) ?_
  refine jlk_cons (sm_ifnonnull rfl B.1 dX1_faults_4) ?_
  refine jlk_cons (sm_iconst rfl B.1 dX1_faults_7) ?_
  refine jlk_cons (sm_goto rfl B.1 dX1_faults_8) ?_
  refine jlk_cons (sm_aload_n rfl B.1 dX1_faults_11) ?_
  refine jlk_cons (sm_getP B.1 fl_PointerAnalyzer_89_1_3 dX1_faults_12) ?_
  refine jlk_cons (sm_getIN B.1 fn_PointerAnalyzer_304_17_108 dX1_faults_15) ?_
  refine jlk_cons (sm_iret B.1 B.2.1 hret dX1_faults_18) ?_
  exact jlk_nil
theorem v_X1_faults (hst : l.stackTraces = false) (hz : jEz (EV (d + 1))) (hI : jIH l D dA lo cs0 d) : jMe l D dA lo cs0 (EV (d + 1)) 67 yX1_faults (ws_ yX1_faults cX1_faults 1 (Option.some Jvm.ClassFile.FieldType.int)) (d + 1) := z_meth hz rfl hp_X1_faults (r_X1_faults hst hI)
theorem r_X1_objects (hst : l.stackTraces = false) (hI : jIH l D dA lo cs0 d) : jRows l D dA lo cs0 d 1 (tb_X1_objects (EV d)) yX1_objects cX1_objects (Option.some Jvm.ClassFile.FieldType.int) [] := by
  intro p e R s m args below meth c z0 w0 zF wF Q rF hF B hz hw hret hnm
  refine jlk_cons (sm_aload_n rfl B.1 dX1_objects_0) ?_
  refine jlk_cons (sm_getP B.1 fl_PointerAnalyzer_89_1_3 dX1_objects_1) ?_
  refine jlk_cons (sm_ifnonnull rfl B.1 dX1_objects_4) ?_
  refine jlk_cons (sm_iconst rfl B.1 dX1_objects_7) ?_
  refine jlk_cons (sm_goto rfl B.1 dX1_objects_8) ?_
  refine jlk_cons (sm_aload_n rfl B.1 dX1_objects_11) ?_
  refine jlk_cons (sm_getP B.1 fl_PointerAnalyzer_89_1_3 dX1_objects_12) ?_
  refine jlk_cons (sm_getIN B.1 fn_PointerAnalyzer_307_17_109 dX1_objects_15) ?_
  refine jlk_cons (sm_iret B.1 B.2.1 hret dX1_objects_18) ?_
  exact jlk_nil
theorem v_X1_objects (hst : l.stackTraces = false) (hz : jEz (EV (d + 1))) (hI : jIH l D dA lo cs0 d) : jMe l D dA lo cs0 (EV (d + 1)) 69 yX1_objects (ws_ yX1_objects cX1_objects 1 (Option.some Jvm.ClassFile.FieldType.int)) (d + 1) := z_meth hz rfl hp_X1_objects (r_X1_objects hst hI)
theorem r_X1_save (hst : l.stackTraces = false) (hI : jIH l D dA lo cs0 d) : jRows l D dA lo cs0 d 1 (tb_X1_save (EV d)) yX1_save cX1_save (Option.none : Option Jvm.ClassFile.FieldType) [] := by
  intro p e R s m args below meth c z0 w0 zF wF Q rF hF B hz hw hret hnm
  refine jlk_cons (sm_aload_n rfl B.1 dX1_save_0) ?_
  refine jlk_cons (sm_aload_n rfl B.1 dX1_save_1) ?_
  refine jlk_cons (sm_getP B.1 fl_PointerAnalyzer_46_1_0 dX1_save_2) ?_
  refine jlk_cons (sm_putP B.1 fl_PointerAnalyzer_316_1_7 tyX1 tyX1_ok nmX1 (Or.inl rfl) rfl (tyX1_ok 7 (by decide)) rfl (by decide) dX1_save_5) ?_
  refine jlk_cons (sm_aload_n rfl B.1 dX1_save_8) ?_
  refine jlk_cons (sm_aload_n rfl B.1 dX1_save_9) ?_
  refine jlk_cons (sm_getI B.1 fl_PointerAnalyzer_142_1_1 dX1_save_10) ?_
  refine jlk_cons (sm_putI B.1 fl_PointerAnalyzer_319_1_8 tyX1 tyX1_ok nmX1 (Or.inl rfl) (tyX1_ok 8 (by decide)) rfl (by decide) dX1_save_13) ?_
  refine jlk_cons (sm_vret B.1 B.2.1 hret dX1_save_16) ?_
  exact jlk_nil
theorem v_X1_save (hst : l.stackTraces = false) (hz : jEz (EV (d + 1))) (hI : jIH l D dA lo cs0 d) : jMe l D dA lo cs0 (EV (d + 1)) 75 yX1_save (ws_ yX1_save cX1_save 1 (Option.none : Option Jvm.ClassFile.FieldType)) (d + 1) := z_meth hz rfl hp_X1_save (r_X1_save hst hI)
theorem r_X2_init (hst : l.stackTraces = false) (hI : jIH l D dA lo cs0 d) : jRows l D dA lo cs0 d 2 (tb_X2_init (EV d)) yX2_init cX2_init (Option.none : Option Jvm.ClassFile.FieldType) [] := by
  intro p e R s m args below meth c z0 w0 zF wF Q rF hF B hz hw hret hnm
  refine jlk_cons (sm_aload_n rfl B.1 dX2_init_0) ?_
  refine jlk_cons (sm_obj B.1 q203 q196 q197 dX2_init_1) ?_
  refine jlk_cons (sm_aload_n rfl B.1 dX2_init_4) ?_
  refine jlk_cons (sm_new B.1 kc_20 (by decide) (by decide) in_J1 tyJ1 tyJ1_ok kd_20 q204 q205 q126 B.2.2.2 hz hw dX2_init_5) ?_
  refine jlk_cons (sm_dup B.1 dX2_init_8) ?_
  refine jlk_cons (sm_cI (x := yJ1_init) (r9 := kr_6) (host := "") (owner := "") isNV (i_J1_init hI) B q206 q207 w4_J1_init w6_J1_init (by decide) rfl hy_J1_init hl_J1_init dX2_init_9 trivial) ?_
  refine jlk_cons (sm_putP B.1 fl_PointerAnalyzer_Program_12_2_9 tyX2 tyX2_ok nmX2 (Or.inr ⟨rfl, hnm, rfl⟩) rfl (tyX2_ok 0 (by decide)) rfl (by decide) dX2_init_12) ?_
  refine jlk_cons (sm_aload_n rfl B.1 dX2_init_15) ?_
  refine jlk_cons (sm_new B.1 kc_21 (by decide) (by decide) in_J4 tyJ4 tyJ4_ok kd_21 q239 q240 q129 B.2.2.2 hz hw dX2_init_16) ?_
  refine jlk_cons (sm_dup B.1 dX2_init_19) ?_
  refine jlk_cons (sm_cI (x := yJ4_init) (r9 := kr_6) (host := "") (owner := "") isNV (i_J4_init hI) B q241 q242 w4_J4_init w6_J4_init (by decide) rfl hy_J4_init hl_J4_init dX2_init_20 trivial) ?_
  refine jlk_cons (sm_putP B.1 fl_PointerAnalyzer_Program_21_2_10 tyX2 tyX2_ok nmX2 (Or.inr ⟨rfl, hnm, rfl⟩) rfl (tyX2_ok 1 (by decide)) rfl (by decide) dX2_init_23) ?_
  refine jlk_cons (sm_iconst rfl B.1 dX2_init_26) ?_
  refine jlk_cons (sm_istore_n rfl B.1 dX2_init_27) ?_
  refine jlk_cons (sm_iload_n rfl B.1 dX2_init_28) ?_
  refine jlk_cons (sm_iconst rfl B.1 dX2_init_29) ?_
  refine jlk_cons (sm_icmpge rfl B.1 dX2_init_30) ?_
  refine jlk_cons (sm_aload_n rfl B.1 dX2_init_33) ?_
  refine jlk_cons (sm_getP B.1 fl_PointerAnalyzer_Program_12_2_9 dX2_init_34) ?_
  refine jlk_cons (sm_iload_n rfl B.1 dX2_init_37) ?_
  refine jlk_cons (sm_cS (x := yJ6_valueOf) (r9 := kr_6) (host := "") (owner := "") isSP (i_J6_valueOf hI) B q268 q269 w4_J6_valueOf w6_J6_valueOf (by decide) hy_J6_valueOf hl_J6_valueOf dX2_init_38 trivial) ?_
  refine jlk_cons (sm_new B.1 kc_21 (by decide) (by decide) in_J4 tyJ4 tyJ4_ok kd_21 q239 q240 q129 B.2.2.2 hz hw dX2_init_41) ?_
  refine jlk_cons (sm_dup B.1 dX2_init_44) ?_
  refine jlk_cons (sm_cI (x := yJ4_init) (r9 := kr_6) (host := "") (owner := "") isNV (i_J4_init hI) B q241 q242 w4_J4_init w6_J4_init (by decide) rfl hy_J4_init hl_J4_init dX2_init_45 trivial) ?_
  refine jlk_cons (sm_cV (x := yJ1_put) (host := "") (owner := "") isRP (i_J1_put hI) B q288 q289 q290 w4_J1_put w6_J1_put (by decide) (by decide) (by decide) kc_20 hy_J1_put hl_J1_put dX2_init_48 trivial) ?_
  refine jlk_cons (sm_pop B.1 dX2_init_51) ?_
  refine jlk_cons (sm_iinc rfl B.1 dX2_init_52) ?_
  refine jlk_cons (sm_goto rfl B.1 dX2_init_55) ?_
  refine jlk_cons (sm_vret B.1 B.2.1 hret dX2_init_58) ?_
  exact jlk_nil
theorem v_X2_init (hst : l.stackTraces = false) (hz : jEz (EV (d + 1))) (hI : jIH l D dA lo cs0 d) : jMe l D dA lo cs0 (EV (d + 1)) 80 yX2_init (ws_ yX2_init cX2_init 2 (Option.none : Option Jvm.ClassFile.FieldType)) (d + 1) := z_meth hz rfl hp_X2_init (r_X2_init hst hI)
theorem r_X2_with (hst : l.stackTraces = false) (hI : jIH l D dA lo cs0 d) : jRows l D dA lo cs0 d 8 (tb_X2_with (EV d)) yX2_with cX2_with (Option.some (Jvm.ClassFile.FieldType.object "PointerAnalyzer$Program")) [] := by
  intro p e R s m args below meth c z0 w0 zF wF Q rF hF B hz hw hret hnm
  refine jlk_app ?_ ?_
  · refine jlk_cons (sm_new B.1 kc_2 (by decide) (by decide) in_X2 tyX2 tyX2_ok kd_2 q723 q199 q124 B.2.2.2 hz hw dX2_with_0) ?_
    refine jlk_cons (sm_dup B.1 dX2_with_3) ?_
    refine jlk_cons (sm_cI (x := yX2_init) (r9 := kr_6) (host := "") (owner := "") isNV (i_X2_init hI) B q724 q201 w4_X2_init w6_X2_init (by decide) rfl hy_X2_init hl_X2_init dX2_with_4 trivial) ?_
    refine jlk_cons (sm_astore_n rfl B.1 dX2_with_7) ?_
    refine jlk_cons (sm_aload_n rfl B.1 dX2_with_8) ?_
    refine jlk_cons (sm_getP B.1 fl_PointerAnalyzer_Program_12_2_9 dX2_with_9) ?_
    refine jlk_cons (sm_aload_n rfl B.1 dX2_with_12) ?_
    refine jlk_cons (sm_getP B.1 fl_PointerAnalyzer_Program_12_2_9 dX2_with_13) ?_
    refine jlk_cons (sm_cVW (x := yJ1_putAll) (host := "") (owner := "") isRV (i_J1_putAll hI) B q725 q726 q727 w4_J1_putAll w6_J1_putAll (by decide) (by decide) (by decide) kc_20 hy_J1_putAll hl_J1_putAll dX2_with_16 trivial) ?_
    refine jlk_cons (sm_aload_n rfl B.1 dX2_with_19) ?_
    refine jlk_cons (sm_getP B.1 fl_PointerAnalyzer_Program_12_2_9 dX2_with_20) ?_
    refine jlk_cons (sm_iload_n rfl B.1 dX2_with_23) ?_
    refine jlk_cons (sm_cS (x := yJ6_valueOf) (r9 := kr_6) (host := "") (owner := "") isSP (i_J6_valueOf hI) B q268 q269 w4_J6_valueOf w6_J6_valueOf (by decide) hy_J6_valueOf hl_J6_valueOf dX2_with_24 trivial) ?_
    refine jlk_cons (sm_aload_n rfl B.1 dX2_with_27) ?_
    refine jlk_cons (sm_cV (x := yJ1_put) (host := "") (owner := "") isRP (i_J1_put hI) B q288 q289 q290 w4_J1_put w6_J1_put (by decide) (by decide) (by decide) kc_20 hy_J1_put hl_J1_put dX2_with_28 trivial) ?_
    refine jlk_cons (sm_pop B.1 dX2_with_31) ?_
    refine jlk_cons (sm_iconst rfl B.1 dX2_with_32) ?_
    refine jlk_cons (sm_istore B.1 dX2_with_33) ?_
    refine jlk_cons (sm_iload B.1 dX2_with_35) ?_
    refine jlk_cons (sm_iconst rfl B.1 dX2_with_37) ?_
    refine jlk_cons (sm_icmpge rfl B.1 dX2_with_38) ?_
    refine jlk_cons (sm_aload_n rfl B.1 dX2_with_41) ?_
    refine jlk_cons (sm_getP B.1 fl_PointerAnalyzer_Program_12_2_9 dX2_with_42) ?_
    refine jlk_cons (sm_iload B.1 dX2_with_45) ?_
    refine jlk_cons (sm_cS (x := yJ6_valueOf) (r9 := kr_6) (host := "") (owner := "") isSP (i_J6_valueOf hI) B q268 q269 w4_J6_valueOf w6_J6_valueOf (by decide) hy_J6_valueOf hl_J6_valueOf dX2_with_47 trivial) ?_
    refine jlk_cons (sm_cV (x := yJ1_get) (host := "") (owner := "") isRP (i_J1_get hI) B q1132 q1133 q1134 w4_J1_get w6_J1_get (by decide) (by decide) (by decide) kc_20 hy_J1_get hl_J1_get dX2_with_50 trivial) ?_
    refine jlk_cons (sm_cast B.1 q239 (List.forall_mem_cons.mpr ⟨⟨by decide, by decide, _, kc_21, Or.inl rfl⟩, (List.forall_mem_nil _)⟩) dX2_with_53) ?_
    refine jlk_cons (sm_astore B.1 dX2_with_56) ?_
    refine jlk_cons (sm_iconst rfl B.1 dX2_with_58) ?_
    refine jlk_cons (sm_istore B.1 dX2_with_59) ?_
    refine jlk_cons (sm_iload B.1 dX2_with_61) ?_
    refine jlk_cons (sm_aload B.1 dX2_with_63) ?_
    refine jlk_cons (sm_cV (x := yJ4_size) (host := "") (owner := "") isRI (i_J4_size hI) B q1144 q1145 q1146 w4_J4_size w6_J4_size (by decide) (by decide) (by decide) kc_21 hy_J4_size hl_J4_size dX2_with_65 trivial) ?_
    refine jlk_cons (sm_icmpge rfl B.1 dX2_with_68) ?_
    refine jlk_cons (sm_aload B.1 dX2_with_71) ?_
    refine jlk_cons (sm_iload B.1 dX2_with_73) ?_
    refine jlk_cons (sm_cV (x := yJ4_get) (host := "") (owner := "") isRP (i_J4_get hI) B q1148 q1149 q1150 w4_J4_get w6_J4_get (by decide) (by decide) (by decide) kc_21 hy_J4_get hl_J4_get dX2_with_75 trivial) ?_
    refine jlk_cons (sm_cast B.1 q1162 (List.forall_mem_cons.mpr ⟨⟨by decide, by decide, _, kc_7, Or.inl rfl⟩, (List.forall_mem_nil _)⟩) dX2_with_78) ?_
    refine jlk_cons (sm_astore B.1 dX2_with_81) ?_
    refine jlk_cons (sm_aload_n rfl B.1 dX2_with_83) ?_
    exact jlk_nil
  · skip
    refine jlk_cons (sm_getP B.1 fl_PointerAnalyzer_Program_21_2_10 dX2_with_84) ?_
    refine jlk_cons (sm_new B.1 kc_3 (by decide) (by decide) in_X3 tyX3 tyX3_ok kd_3 q1163 q1164 q155 B.2.2.2 hz hw dX2_with_87) ?_
    refine jlk_cons (sm_dup B.1 dX2_with_90) ?_
    refine jlk_cons (sm_aload_n rfl B.1 dX2_with_91) ?_
    refine jlk_cons (sm_getP B.1 fl_PointerAnalyzer_Program_21_2_10 dX2_with_92) ?_
    refine jlk_cons (sm_cV (x := yJ4_size) (host := "") (owner := "") isRI (i_J4_size hI) B q1144 q1145 q1146 w4_J4_size w6_J4_size (by decide) (by decide) (by decide) kc_21 hy_J4_size hl_J4_size dX2_with_95 trivial) ?_
    refine jlk_cons (sm_iload B.1 dX2_with_98) ?_
    refine jlk_cons (sm_aload B.1 dX2_with_100) ?_
    refine jlk_cons (sm_aload B.1 dX2_with_102) ?_
    refine jlk_cons (sm_getPN B.1 fn_PointerAnalyzer_Program_55_7_72 dX2_with_104) ?_
    refine jlk_cons (sm_cstS B.1 (List.mem_of_getElem? (i := 7) rfl) q1165 dX2_with_107) ?_
    refine jlk_cons (sm_acmpne rfl B.1 dX2_with_110) ?_
    refine jlk_cons (sm_aload_n rfl B.1 dX2_with_113) ?_
    refine jlk_cons (sm_dup B.1 dX2_with_114) ?_
    refine jlk_cons (sm_getI B.1 fl_PointerAnalyzer_Program_64_2_11 dX2_with_115) ?_
    refine jlk_cons (sm_dup_x1 B.1 dX2_with_118) ?_
    refine jlk_cons (sm_iconst rfl B.1 dX2_with_119) ?_
    refine jlk_cons (sm_iadd B.1 dX2_with_120) ?_
    refine jlk_cons (sm_putI B.1 fl_PointerAnalyzer_Program_64_2_11 tyX2 tyX2_ok nmX2 (Or.inl rfl) (tyX2_ok 2 (by decide)) rfl (by decide) dX2_with_121) ?_
    refine jlk_cons (sm_goto rfl B.1 dX2_with_124) ?_
    refine jlk_cons (sm_iconst rfl B.1 dX2_with_127) ?_
    refine jlk_cons (sm_cI (x := yX3_init) (r9 := kr_6) (host := "") (owner := "") isNV (i_X3_init hI) B q1167 q1168 w4_X3_init w6_X3_init (by decide) rfl hy_X3_init hl_X3_init dX2_with_128 trivial) ?_
    refine jlk_cons (sm_cV (x := yJ4_add) (host := "") (owner := "") isRI (i_J4_add hI) B q1203 q1204 q1205 w4_J4_add w6_J4_add (by decide) (by decide) (by decide) kc_21 hy_J4_add hl_J4_add dX2_with_131 trivial) ?_
    refine jlk_cons (sm_pop B.1 dX2_with_134) ?_
    refine jlk_cons (sm_iinc rfl B.1 dX2_with_135) ?_
    refine jlk_cons (sm_goto rfl B.1 dX2_with_138) ?_
    refine jlk_cons (sm_iinc rfl B.1 dX2_with_141) ?_
    refine jlk_cons (sm_goto rfl B.1 dX2_with_144) ?_
    refine jlk_cons (sm_aload_n rfl B.1 dX2_with_147) ?_
    refine jlk_cons (sm_aret B.1 B.2.1 hret (Or.inl ⟨_, rfl⟩) dX2_with_148) ?_
    exact jlk_nil
theorem v_X2_with (hst : l.stackTraces = false) (hz : jEz (EV (d + 1))) (hI : jIH l D dA lo cs0 d) : jMe l D dA lo cs0 (EV (d + 1)) 82 yX2_with (ws_ yX2_with cX2_with 8 (Option.some (Jvm.ClassFile.FieldType.object "PointerAnalyzer$Program"))) (d + 1) := z_meth hz rfl hp_X2_with (r_X2_with hst hI)
theorem r_X1_appendCharacter (hst : l.stackTraces = false) (hI : jIH l D dA lo cs0 d) : jRows l D dA lo cs0 d 2 (tb_X1_appendCharacter (EV d)) yX1_appendCharacter cX1_appendCharacter (Option.some Jvm.ClassFile.FieldType.int) [] := by
  intro p e R s m args below meth c z0 w0 zF wF Q rF hF B hz hw hret hnm
  refine jlk_cons (sm_iload_n rfl B.1 dX1_appendCharacter_0) ?_
  refine jlk_cons (sm_bipush rfl B.1 dX1_appendCharacter_1) ?_
  refine jlk_cons (sm_bipush rfl B.1 dX1_appendCharacter_3) ?_
  refine jlk_cons (sm_cS (x := yX1_isBetween) (r9 := kr_6) (host := "") (owner := "") isSI (i_X1_isBetween hI) B q2399 q2400 w4_X1_isBetween w6_X1_isBetween (by decide) hy_X1_isBetween hl_X1_isBetween dX1_appendCharacter_5 trivial) ?_
  refine jlk_cons (sm_cS (x := yX1_requireArgument) (r9 := kr_6) (host := "") (owner := "") isXSV (i_X1_requireArgument hI) B q2402 q2403 w4_X1_requireArgument w6_X1_requireArgument (by decide) hy_X1_requireArgument hl_X1_requireArgument dX1_appendCharacter_8 rfl) ?_
  refine jlk_cons (sm_aload_n rfl B.1 dX1_appendCharacter_11) ?_
  refine jlk_cons (sm_getI B.1 fl_PointerAnalyzer_62_1_5 dX1_appendCharacter_12) ?_
  refine jlk_cons (sm_bipush rfl B.1 dX1_appendCharacter_15) ?_
  refine jlk_cons (sm_icmpge rfl B.1 dX1_appendCharacter_17) ?_
  refine jlk_cons (sm_iconst rfl B.1 dX1_appendCharacter_20) ?_
  refine jlk_cons (sm_goto rfl B.1 dX1_appendCharacter_21) ?_
  refine jlk_cons (sm_iconst rfl B.1 dX1_appendCharacter_24) ?_
  refine jlk_cons (sm_cS (x := yX1_requireState) (r9 := kr_6) (host := "") (owner := "") isXSV (i_X1_requireState hI) B q2407 q2408 w4_X1_requireState w6_X1_requireState (by decide) hy_X1_requireState hl_X1_requireState dX1_appendCharacter_25 rfl) ?_
  refine jlk_cons (sm_aload_n rfl B.1 dX1_appendCharacter_28) ?_
  refine jlk_cons (sm_getP B.1 fl_PointerAnalyzer_50_1_4 dX1_appendCharacter_29) ?_
  refine jlk_cons (sm_aload_n rfl B.1 dX1_appendCharacter_32) ?_
  refine jlk_cons (sm_getI B.1 fl_PointerAnalyzer_62_1_5 dX1_appendCharacter_33) ?_
  refine jlk_cons (sm_iload_n rfl B.1 dX1_appendCharacter_36) ?_
  refine jlk_cons (sm_i2c B.1 dX1_appendCharacter_37) ?_
  refine jlk_cons (sm_castr B.1 dX1_appendCharacter_38) ?_
  refine jlk_cons (sm_aload_n rfl B.1 dX1_appendCharacter_39) ?_
  refine jlk_cons (sm_dup B.1 dX1_appendCharacter_40) ?_
  refine jlk_cons (sm_getI B.1 fl_PointerAnalyzer_62_1_5 dX1_appendCharacter_41) ?_
  refine jlk_cons (sm_iconst rfl B.1 dX1_appendCharacter_44) ?_
  refine jlk_cons (sm_iadd B.1 dX1_appendCharacter_45) ?_
  refine jlk_cons (sm_putI B.1 fl_PointerAnalyzer_62_1_5 tyX1 tyX1_ok nmX1 (Or.inl rfl) (tyX1_ok 5 (by decide)) rfl (by decide) dX1_appendCharacter_46) ?_
  refine jlk_cons (sm_aload_n rfl B.1 dX1_appendCharacter_49) ?_
  refine jlk_cons (sm_getI B.1 fl_PointerAnalyzer_62_1_5 dX1_appendCharacter_50) ?_
  refine jlk_cons (sm_iret B.1 B.2.1 hret dX1_appendCharacter_53) ?_
  exact jlk_nil
theorem v_X1_appendCharacter (hst : l.stackTraces = false) (hz : jEz (EV (d + 1))) (hI : jIH l D dA lo cs0 d) : jMe l D dA lo cs0 (EV (d + 1)) 83 yX1_appendCharacter (ws_ yX1_appendCharacter cX1_appendCharacter 2 (Option.some Jvm.ClassFile.FieldType.int)) (d + 1) := z_meth hz rfl hp_X1_appendCharacter (r_X1_appendCharacter hst hI)
theorem r_X1_setBody (hst : l.stackTraces = false) (hI : jIH l D dA lo cs0 d) : jRows l D dA lo cs0 d 4 (tb_X1_setBody (EV d)) yX1_setBody cX1_setBody (Option.some Jvm.ClassFile.FieldType.int) [] := by
  intro p e R s m args below meth c z0 w0 zF wF Q rF hF B hz hw hret hnm
  refine jlk_app ?_ ?_
  · refine jlk_cons (sm_iload_n rfl B.1 dX1_setBody_0) ?_
    refine jlk_cons (sm_cS (x := yX1_isFunction) (r9 := kr_6) (host := "") (owner := "") isSI (i_X1_isFunction hI) B q2448 q2449 w4_X1_isFunction w6_X1_isFunction (by decide) hy_X1_isFunction hl_X1_isFunction dX1_setBody_1 trivial) ?_
    refine jlk_cons (sm_cS (x := yX1_requireIndex) (r9 := kr_6) (host := "") (owner := "") isXSV (i_X1_requireIndex hI) B q2451 q2452 w4_X1_requireIndex w6_X1_requireIndex (by decide) hy_X1_requireIndex hl_X1_requireIndex dX1_setBody_4 rfl) ?_
    refine jlk_cons (sm_aload_n rfl B.1 dX1_setBody_7) ?_
    refine jlk_cons (sm_iload_n rfl B.1 dX1_setBody_8) ?_
    refine jlk_cons (sm_cVW (x := yX1_readBody) (host := "") (owner := "") isRP (i_X1_readBody hI) B q2459 q2461 qs50 w4_X1_readBody w6_X1_readBody (by decide) (by decide) (by decide) kc_1 hy_X1_readBody hl_X1_readBody dX1_setBody_9 trivial) ?_
    refine jlk_cons (sm_astore_n rfl B.1 dX1_setBody_12) ?_
    refine jlk_cons (sm_aload_n rfl B.1 dX1_setBody_13) ?_
    refine jlk_cons (sm_getI B.1 fl_PointerAnalyzer_54_1_6 dX1_setBody_14) ?_
    refine jlk_cons (sm_ifge rfl B.1 dX1_setBody_17) ?_
    refine jlk_cons (sm_iconst rfl B.1 dX1_setBody_20) ?_
    refine jlk_cons (sm_goto rfl B.1 dX1_setBody_21) ?_
    refine jlk_cons (sm_iconst rfl B.1 dX1_setBody_24) ?_
    refine jlk_cons (sm_cS (x := yX1_requireArgument) (r9 := kr_6) (host := "") (owner := "") isXSV (i_X1_requireArgument hI) B q2402 q2403 w4_X1_requireArgument w6_X1_requireArgument (by decide) hy_X1_requireArgument hl_X1_requireArgument dX1_setBody_25 rfl) ?_
    refine jlk_cons (sm_aload_n rfl B.1 dX1_setBody_28) ?_
    refine jlk_cons (sm_getP B.1 fl_PointerAnalyzer_46_1_0 dX1_setBody_29) ?_
    refine jlk_cons (sm_iload_n rfl B.1 dX1_setBody_32) ?_
    refine jlk_cons (sm_aload_n rfl B.1 dX1_setBody_33) ?_
    refine jlk_cons (sm_cV (x := yX2_with) (host := "") (owner := "") isRP (i_X2_with hI) B q719 q720 q721 w4_X2_with w6_X2_with (by decide) (by decide) (by decide) kc_2 hy_X2_with hl_X2_with dX1_setBody_34 trivial) ?_
    refine jlk_cons (sm_astore_n rfl B.1 dX1_setBody_37) ?_
    refine jlk_cons (sm_aload_n rfl B.1 dX1_setBody_38) ?_
    refine jlk_cons (sm_cV (x := yJ4_size) (host := "") (owner := "") isRI (i_J4_size hI) B q1284 q1145 q1146 w4_J4_size w6_J4_size (by decide) (by decide) (by decide) kc_21 hy_J4_size hl_J4_size dX1_setBody_39 trivial) ?_
    refine jlk_cons (sm_bipush rfl B.1 dX1_setBody_42) ?_
    refine jlk_cons (sm_icmpgt rfl B.1 dX1_setBody_44) ?_
    refine jlk_cons (sm_aload_n rfl B.1 dX1_setBody_47) ?_
    refine jlk_cons (sm_cstS B.1 (List.mem_of_getElem? (i := 7) rfl) q2644 dX1_setBody_48) ?_
    refine jlk_cons (sm_cV (x := yX2_countAll) (host := "") (owner := "") isRI (i_X2_countAll hI) B q2645 q2646 q2647 w4_X2_countAll w6_X2_countAll (by decide) (by decide) (by decide) kc_2 hy_X2_countAll hl_X2_countAll dX1_setBody_51 trivial) ?_
    refine jlk_cons (sm_bipush rfl B.1 dX1_setBody_54) ?_
    refine jlk_cons (sm_icmpgt rfl B.1 dX1_setBody_56) ?_
    refine jlk_cons (sm_aload_n rfl B.1 dX1_setBody_59) ?_
    refine jlk_cons (sm_cstS B.1 (List.mem_of_getElem? (i := 9) rfl) q2654 dX1_setBody_60) ?_
    refine jlk_cons (sm_cV (x := yX2_countAll) (host := "") (owner := "") isRI (i_X2_countAll hI) B q2645 q2646 q2647 w4_X2_countAll w6_X2_countAll (by decide) (by decide) (by decide) kc_2 hy_X2_countAll hl_X2_countAll dX1_setBody_63 trivial) ?_
    refine jlk_cons (sm_iconst rfl B.1 dX1_setBody_66) ?_
    refine jlk_cons (sm_icmpgt rfl B.1 dX1_setBody_67) ?_
    refine jlk_cons (sm_iconst rfl B.1 dX1_setBody_70) ?_
    refine jlk_cons (sm_goto rfl B.1 dX1_setBody_71) ?_
    refine jlk_cons (sm_iconst rfl B.1 dX1_setBody_74) ?_
    refine jlk_cons (sm_cS (x := yX1_requireState) (r9 := kr_6) (host := "") (owner := "") isXSV (i_X1_requireState hI) B q2407 q2408 w4_X1_requireState w6_X1_requireState (by decide) hy_X1_requireState hl_X1_requireState dX1_setBody_75 rfl) ?_
    refine jlk_cons (sm_aload_n rfl B.1 dX1_setBody_78) ?_
    refine jlk_cons (sm_aload_n rfl B.1 dX1_setBody_79) ?_
    exact jlk_nil
  · skip
    refine jlk_cons (sm_cV (x := yX1_setProgram) (host := "") (owner := "") isRV (i_X1_setProgram hI) B q2655 q2657 qs58 w4_X1_setProgram w6_X1_setProgram (by decide) (by decide) (by decide) kc_1 hy_X1_setProgram hl_X1_setProgram dX1_setBody_80 trivial) ?_
    refine jlk_cons (sm_aload_n rfl B.1 dX1_setBody_83) ?_
    refine jlk_cons (sm_cV (x := yJ4_size) (host := "") (owner := "") isRI (i_J4_size hI) B q1284 q1145 q1146 w4_J4_size w6_J4_size (by decide) (by decide) (by decide) kc_21 hy_J4_size hl_J4_size dX1_setBody_84 trivial) ?_
    refine jlk_cons (sm_iret B.1 B.2.1 hret dX1_setBody_87) ?_
    exact jlk_nil
theorem v_X1_setBody (hst : l.stackTraces = false) (hz : jEz (EV (d + 1))) (hI : jIH l D dA lo cs0 d) : jMe l D dA lo cs0 (EV (d + 1)) 86 yX1_setBody (ws_ yX1_setBody cX1_setBody 4 (Option.some Jvm.ClassFile.FieldType.int)) (d + 1) := z_meth hz rfl hp_X1_setBody (r_X1_setBody hst hI)
theorem r_X1_kind (hst : l.stackTraces = false) (hI : jIH l D dA lo cs0 d) : jRows l D dA lo cs0 d 2 (tb_X1_kind (EV d)) yX1_kind cX1_kind (Option.some Jvm.ClassFile.FieldType.int) [] := by
  intro p e R s m args below meth c z0 w0 zF wF Q rF hF B hz hw hret hnm
  refine jlk_cons (sm_aload_n rfl B.1 dX1_kind_0) ?_
  refine jlk_cons (sm_iload_n rfl B.1 dX1_kind_1) ?_
  refine jlk_cons (sm_cV (x := yX1_statement) (host := "") (owner := "") isXRP (i_X1_statement hI) B q2666 q2668 qs59 w4_X1_statement w6_X1_statement (by decide) (by decide) (by decide) kc_1 hy_X1_statement hl_X1_statement dX1_kind_2 rfl) ?_
  refine jlk_cons (sm_getPN B.1 fn_PointerAnalyzer_129_3_14 dX1_kind_5) ?_
  refine jlk_cons (sm_getPN B.1 fn_PointerAnalyzer_31_7_72 dX1_kind_8) ?_
  refine jlk_cons (sm_oord B q2671 q1657 q1658 q1659 q1660 w4_J28_ordinal w6_J28_ordinal hp_J28_ordinal q3517 dJ28_ordinal_0 dJ28_ordinal_1 dJ28_ordinal_4 dX1_kind_11) ?_
  refine jlk_cons (sm_iret B.1 B.2.1 hret dX1_kind_14) ?_
  exact jlk_nil
theorem v_X1_kind (hst : l.stackTraces = false) (hz : jEz (EV (d + 1))) (hI : jIH l D dA lo cs0 d) : jMe l D dA lo cs0 (EV (d + 1)) 94 yX1_kind (ws_ yX1_kind cX1_kind 2 (Option.some Jvm.ClassFile.FieldType.int)) (d + 1) := z_meth hz rfl hp_X1_kind (r_X1_kind hst hI)
theorem r_X1_functionOf (hst : l.stackTraces = false) (hI : jIH l D dA lo cs0 d) : jRows l D dA lo cs0 d 2 (tb_X1_functionOf (EV d)) yX1_functionOf cX1_functionOf (Option.some Jvm.ClassFile.FieldType.int) [] := by
  intro p e R s m args below meth c z0 w0 zF wF Q rF hF B hz hw hret hnm
  refine jlk_cons (sm_aload_n rfl B.1 dX1_functionOf_0) ?_
  refine jlk_cons (sm_iload_n rfl B.1 dX1_functionOf_1) ?_
  refine jlk_cons (sm_cV (x := yX1_statement) (host := "") (owner := "") isXRP (i_X1_statement hI) B q2666 q2668 qs59 w4_X1_statement w6_X1_statement (by decide) (by decide) (by decide) kc_1 hy_X1_statement hl_X1_statement dX1_functionOf_2 rfl) ?_
  refine jlk_cons (sm_getIN B.1 fn_PointerAnalyzer_136_3_13 dX1_functionOf_5) ?_
  refine jlk_cons (sm_iret B.1 B.2.1 hret dX1_functionOf_8) ?_
  exact jlk_nil
theorem v_X1_functionOf (hst : l.stackTraces = false) (hz : jEz (EV (d + 1))) (hI : jIH l D dA lo cs0 d) : jMe l D dA lo cs0 (EV (d + 1)) 97 yX1_functionOf (ws_ yX1_functionOf cX1_functionOf 2 (Option.some Jvm.ClassFile.FieldType.int)) (d + 1) := z_meth hz rfl hp_X1_functionOf (r_X1_functionOf hst hI)
theorem r_X1_setLimit (hst : l.stackTraces = false) (hI : jIH l D dA lo cs0 d) : jRows l D dA lo cs0 d 3 (tb_X1_setLimit (EV d)) yX1_setLimit cX1_setLimit (Option.some Jvm.ClassFile.FieldType.int) [] := by
  intro p e R s m args below meth c z0 w0 zF wF Q rF hF B hz hw hret hnm
  refine jlk_cons (sm_iload_n rfl B.1 dX1_setLimit_0) ?_
  refine jlk_cons (sm_iconst rfl B.1 dX1_setLimit_1) ?_
  refine jlk_cons (sm_iconst rfl B.1 dX1_setLimit_2) ?_
  refine jlk_cons (sm_cS (x := yX1_isBetween) (r9 := kr_6) (host := "") (owner := "") isSI (i_X1_isBetween hI) B q2399 q2400 w4_X1_isBetween w6_X1_isBetween (by decide) hy_X1_isBetween hl_X1_isBetween dX1_setLimit_3 trivial) ?_
  refine jlk_cons (sm_cS (x := yX1_requireArgument) (r9 := kr_6) (host := "") (owner := "") isXSV (i_X1_requireArgument hI) B q2402 q2403 w4_X1_requireArgument w6_X1_requireArgument (by decide) hy_X1_requireArgument hl_X1_requireArgument dX1_setLimit_6 rfl) ?_
  refine jlk_cons (sm_aload_n rfl B.1 dX1_setLimit_9) ?_
  refine jlk_cons (sm_getI B.1 fl_PointerAnalyzer_142_1_1 dX1_setLimit_10) ?_
  refine jlk_cons (sm_istore_n rfl B.1 dX1_setLimit_13) ?_
  refine jlk_cons (sm_aload_n rfl B.1 dX1_setLimit_14) ?_
  refine jlk_cons (sm_iload_n rfl B.1 dX1_setLimit_15) ?_
  refine jlk_cons (sm_putI B.1 fl_PointerAnalyzer_142_1_1 tyX1 tyX1_ok nmX1 (Or.inl rfl) (tyX1_ok 1 (by decide)) rfl (by decide) dX1_setLimit_16) ?_
  refine jlk_cons (sm_aload_n rfl B.1 dX1_setLimit_19) ?_
  refine jlk_cons (sm_null B.1 dX1_setLimit_20) ?_
  refine jlk_cons (sm_putP B.1 fl_PointerAnalyzer_85_1_2 tyX1 tyX1_ok nmX1 (Or.inl rfl) rfl (tyX1_ok 2 (by decide)) rfl (by decide) dX1_setLimit_21) ?_
  refine jlk_cons (sm_iload_n rfl B.1 dX1_setLimit_24) ?_
  refine jlk_cons (sm_iret B.1 B.2.1 hret dX1_setLimit_25) ?_
  exact jlk_nil
theorem v_X1_setLimit (hst : l.stackTraces = false) (hz : jEz (EV (d + 1))) (hI : jIH l D dA lo cs0 d) : jMe l D dA lo cs0 (EV (d + 1)) 99 yX1_setLimit (ws_ yX1_setLimit cX1_setLimit 3 (Option.some Jvm.ClassFile.FieldType.int)) (d + 1) := z_meth hz rfl hp_X1_setLimit (r_X1_setLimit hst hI)
theorem r_X1_contextCount (hst : l.stackTraces = false) (hI : jIH l D dA lo cs0 d) : jRows l D dA lo cs0 d 2 (tb_X1_contextCount (EV d)) yX1_contextCount cX1_contextCount (Option.some Jvm.ClassFile.FieldType.int) [] := by
  intro p e R s m args below meth c z0 w0 zF wF Q rF hF B hz hw hret hnm
  refine jlk_cons (sm_iload_n rfl B.1 dX1_contextCount_0) ?_
  refine jlk_cons (sm_cS (x := yX1_isFunction) (r9 := kr_6) (host := "") (owner := "") isSI (i_X1_isFunction hI) B q2448 q2449 w4_X1_isFunction w6_X1_isFunction (by decide) hy_X1_isFunction hl_X1_isFunction dX1_contextCount_1 trivial) ?_
  refine jlk_cons (sm_cS (x := yX1_requireIndex) (r9 := kr_6) (host := "") (owner := "") isXSV (i_X1_requireIndex hI) B q2451 q2452 w4_X1_requireIndex w6_X1_requireIndex (by decide) hy_X1_requireIndex hl_X1_requireIndex dX1_contextCount_4 rfl) ?_
  refine jlk_cons (sm_aload_n rfl B.1 dX1_contextCount_7) ?_
  refine jlk_cons (sm_cV (x := yX1_analyze) (host := "") (owner := "") isRP (i_X1_analyze hI) B q1293 q1295 qs12 w4_X1_analyze w6_X1_analyze (by decide) (by decide) (by decide) kc_1 hy_X1_analyze hl_X1_analyze dX1_contextCount_8 trivial) ?_
  refine jlk_cons (sm_getPN B.1 fn_PointerAnalyzer_154_8_77 dX1_contextCount_11) ?_
  refine jlk_cons (sm_iload_n rfl B.1 dX1_contextCount_14) ?_
  refine jlk_cons (sm_cV (x := yX10_count) (host := "") (owner := "") isRI (i_X10_count hI) B q2693 q1637 q1638 w4_X10_count w6_X10_count (by decide) (by decide) (by decide) kc_10 hy_X10_count hl_X10_count dX1_contextCount_15 trivial) ?_
  refine jlk_cons (sm_iret B.1 B.2.1 hret dX1_contextCount_18) ?_
  exact jlk_nil
theorem v_X1_contextCount (hst : l.stackTraces = false) (hz : jEz (EV (d + 1))) (hI : jIH l D dA lo cs0 d) : jMe l D dA lo cs0 (EV (d + 1)) 100 yX1_contextCount (ws_ yX1_contextCount cX1_contextCount 2 (Option.some Jvm.ClassFile.FieldType.int)) (d + 1) := z_meth hz rfl hp_X1_contextCount (r_X1_contextCount hst hI)
theorem r_X1_contextLength (hst : l.stackTraces = false) (hI : jIH l D dA lo cs0 d) : jRows l D dA lo cs0 d 3 (tb_X1_contextLength (EV d)) yX1_contextLength cX1_contextLength (Option.some Jvm.ClassFile.FieldType.int) [] := by
  intro p e R s m args below meth c z0 w0 zF wF Q rF hF B hz hw hret hnm
  refine jlk_cons (sm_aload_n rfl B.1 dX1_contextLength_0) ?_
  refine jlk_cons (sm_iload_n rfl B.1 dX1_contextLength_1) ?_
  refine jlk_cons (sm_iload_n rfl B.1 dX1_contextLength_2) ?_
  refine jlk_cons (sm_cV (x := yX1_context) (host := "") (owner := "") isXRP (i_X1_context hI) B q2701 q2703 qs60 w4_X1_context w6_X1_context (by decide) (by decide) (by decide) kc_1 hy_X1_context hl_X1_context dX1_contextLength_3 rfl) ?_
  refine jlk_cons (sm_getPN B.1 fn_PointerAnalyzer_173_11_83 dX1_contextLength_6) ?_
  refine jlk_cons (sm_alen B.1 (t := 101) (by decide) rfl dX1_contextLength_9) ?_
  refine jlk_cons (sm_iret B.1 B.2.1 hret dX1_contextLength_10) ?_
  exact jlk_nil
theorem v_X1_contextLength (hst : l.stackTraces = false) (hz : jEz (EV (d + 1))) (hI : jIH l D dA lo cs0 d) : jMe l D dA lo cs0 (EV (d + 1)) 103 yX1_contextLength (ws_ yX1_contextLength cX1_contextLength 3 (Option.some Jvm.ClassFile.FieldType.int)) (d + 1) := z_meth hz rfl hp_X1_contextLength (r_X1_contextLength hst hI)
theorem r_X1_contextCall (hst : l.stackTraces = false) (hI : jIH l D dA lo cs0 d) : jRows l D dA lo cs0 d 5 (tb_X1_contextCall (EV d)) yX1_contextCall cX1_contextCall (Option.some Jvm.ClassFile.FieldType.int) [] := by
  intro p e R s m args below meth c z0 w0 zF wF Q rF hF B hz hw hret hnm
  refine jlk_cons (sm_aload_n rfl B.1 dX1_contextCall_0) ?_
  refine jlk_cons (sm_iload_n rfl B.1 dX1_contextCall_1) ?_
  refine jlk_cons (sm_iload_n rfl B.1 dX1_contextCall_2) ?_
  refine jlk_cons (sm_cV (x := yX1_context) (host := "") (owner := "") isXRP (i_X1_context hI) B q2701 q2703 qs60 w4_X1_context w6_X1_context (by decide) (by decide) (by decide) kc_1 hy_X1_context hl_X1_context dX1_contextCall_3 rfl) ?_
  refine jlk_cons (sm_astore B.1 dX1_contextCall_6) ?_
  refine jlk_cons (sm_iload_n rfl B.1 dX1_contextCall_8) ?_
  refine jlk_cons (sm_iconst rfl B.1 dX1_contextCall_9) ?_
  refine jlk_cons (sm_aload B.1 dX1_contextCall_10) ?_
  refine jlk_cons (sm_getPN B.1 fn_PointerAnalyzer_173_11_83 dX1_contextCall_12) ?_
  refine jlk_cons (sm_alen B.1 (t := 101) (by decide) rfl dX1_contextCall_15) ?_
  refine jlk_cons (sm_iconst rfl B.1 dX1_contextCall_16) ?_
  refine jlk_cons (sm_isub B.1 dX1_contextCall_17) ?_
  refine jlk_cons (sm_cS (x := yX1_isBetween) (r9 := kr_6) (host := "") (owner := "") isSI (i_X1_isBetween hI) B q2399 q2400 w4_X1_isBetween w6_X1_isBetween (by decide) hy_X1_isBetween hl_X1_isBetween dX1_contextCall_18 trivial) ?_
  refine jlk_cons (sm_cS (x := yX1_requireIndex) (r9 := kr_6) (host := "") (owner := "") isXSV (i_X1_requireIndex hI) B q2451 q2452 w4_X1_requireIndex w6_X1_requireIndex (by decide) hy_X1_requireIndex hl_X1_requireIndex dX1_contextCall_21 rfl) ?_
  refine jlk_cons (sm_aload B.1 dX1_contextCall_24) ?_
  refine jlk_cons (sm_getPN B.1 fn_PointerAnalyzer_173_11_83 dX1_contextCall_26) ?_
  refine jlk_cons (sm_iload_n rfl B.1 dX1_contextCall_29) ?_
  refine jlk_cons (sm_iald B.1 dX1_contextCall_30) ?_
  refine jlk_cons (sm_iret B.1 B.2.1 hret dX1_contextCall_31) ?_
  exact jlk_nil
theorem v_X1_contextCall (hst : l.stackTraces = false) (hz : jEz (EV (d + 1))) (hI : jIH l D dA lo cs0 d) : jMe l D dA lo cs0 (EV (d + 1)) 105 yX1_contextCall (ws_ yX1_contextCall cX1_contextCall 5 (Option.some Jvm.ClassFile.FieldType.int)) (d + 1) := z_meth hz rfl hp_X1_contextCall (r_X1_contextCall hst hI)
theorem r_X1_pointsTo (hst : l.stackTraces = false) (hI : jIH l D dA lo cs0 d) : jRows l D dA lo cs0 d 2 (tb_X1_pointsTo (EV d)) yX1_pointsTo cX1_pointsTo (Option.some Jvm.ClassFile.FieldType.long) [] := by
  intro p e R s m args below meth c z0 w0 zF wF Q rF hF B hz hw hret hnm
  refine jlk_cons (sm_iload_n rfl B.1 dX1_pointsTo_0) ?_
  refine jlk_cons (sm_cS (x := yX1_isVariable) (r9 := kr_6) (host := "") (owner := "") isSI (i_X1_isVariable hI) B q2720 q2721 w4_X1_isVariable w6_X1_isVariable (by decide) hy_X1_isVariable hl_X1_isVariable dX1_pointsTo_1 trivial) ?_
  refine jlk_cons (sm_cS (x := yX1_requireIndex) (r9 := kr_6) (host := "") (owner := "") isXSV (i_X1_requireIndex hI) B q2451 q2452 w4_X1_requireIndex w6_X1_requireIndex (by decide) hy_X1_requireIndex hl_X1_requireIndex dX1_pointsTo_4 rfl) ?_
  refine jlk_cons (sm_aload_n rfl B.1 dX1_pointsTo_7) ?_
  refine jlk_cons (sm_cV (x := yX1_analyze) (host := "") (owner := "") isRP (i_X1_analyze hI) B q1293 q1295 qs12 w4_X1_analyze w6_X1_analyze (by decide) (by decide) (by decide) kc_1 hy_X1_analyze hl_X1_analyze dX1_pointsTo_8 trivial) ?_
  refine jlk_cons (sm_iload_n rfl B.1 dX1_pointsTo_11) ?_
  refine jlk_cons (sm_cV (x := yX8_pointsTo) (host := "") (owner := "") isRL (i_X8_pointsTo hI) B q2120 q2121 q2122 w4_X8_pointsTo w6_X8_pointsTo (by decide) (by decide) (by decide) kc_8 hy_X8_pointsTo hl_X8_pointsTo dX1_pointsTo_12 trivial) ?_
  refine jlk_cons (sm_lret B.1 B.2.1 hret dX1_pointsTo_15) ?_
  exact jlk_nil
theorem v_X1_pointsTo (hst : l.stackTraces = false) (hz : jEz (EV (d + 1))) (hI : jIH l D dA lo cs0 d) : jMe l D dA lo cs0 (EV (d + 1)) 106 yX1_pointsTo (ws_ yX1_pointsTo cX1_pointsTo 2 (Option.some Jvm.ClassFile.FieldType.long)) (d + 1) := z_meth hz rfl hp_X1_pointsTo (r_X1_pointsTo hst hI)
theorem r_X1_pointsToIn (hst : l.stackTraces = false) (hI : jIH l D dA lo cs0 d) : jRows l D dA lo cs0 d 4 (tb_X1_pointsToIn (EV d)) yX1_pointsToIn cX1_pointsToIn (Option.some Jvm.ClassFile.FieldType.long) [] := by
  intro p e R s m args below meth c z0 w0 zF wF Q rF hF B hz hw hret hnm
  refine jlk_cons (sm_iload_n rfl B.1 dX1_pointsToIn_0) ?_
  refine jlk_cons (sm_cS (x := yX1_isVariable) (r9 := kr_6) (host := "") (owner := "") isSI (i_X1_isVariable hI) B q2720 q2721 w4_X1_isVariable w6_X1_isVariable (by decide) hy_X1_isVariable hl_X1_isVariable dX1_pointsToIn_1 trivial) ?_
  refine jlk_cons (sm_cS (x := yX1_requireIndex) (r9 := kr_6) (host := "") (owner := "") isXSV (i_X1_requireIndex hI) B q2451 q2452 w4_X1_requireIndex w6_X1_requireIndex (by decide) hy_X1_requireIndex hl_X1_requireIndex dX1_pointsToIn_4 rfl) ?_
  refine jlk_cons (sm_iload_n rfl B.1 dX1_pointsToIn_7) ?_
  refine jlk_cons (sm_cS (x := yX1_ownerOf) (r9 := kr_6) (host := "") (owner := "") isSI (i_X1_ownerOf hI) B q2730 q1654 w4_X1_ownerOf w6_X1_ownerOf (by decide) hy_X1_ownerOf hl_X1_ownerOf dX1_pointsToIn_8 trivial) ?_
  refine jlk_cons (sm_istore_n rfl B.1 dX1_pointsToIn_11) ?_
  refine jlk_cons (sm_iload_n rfl B.1 dX1_pointsToIn_12) ?_
  refine jlk_cons (sm_iconst rfl B.1 dX1_pointsToIn_13) ?_
  refine jlk_cons (sm_iload_n rfl B.1 dX1_pointsToIn_14) ?_
  refine jlk_cons (sm_ifge rfl B.1 dX1_pointsToIn_15) ?_
  refine jlk_cons (sm_iconst rfl B.1 dX1_pointsToIn_18) ?_
  refine jlk_cons (sm_goto rfl B.1 dX1_pointsToIn_19) ?_
  refine jlk_cons (sm_aload_n rfl B.1 dX1_pointsToIn_22) ?_
  refine jlk_cons (sm_cV (x := yX1_analyze) (host := "") (owner := "") isRP (i_X1_analyze hI) B q1293 q1295 qs12 w4_X1_analyze w6_X1_analyze (by decide) (by decide) (by decide) kc_1 hy_X1_analyze hl_X1_analyze dX1_pointsToIn_23 trivial) ?_
  refine jlk_cons (sm_getPN B.1 fn_PointerAnalyzer_154_8_77 dX1_pointsToIn_26) ?_
  refine jlk_cons (sm_iload_n rfl B.1 dX1_pointsToIn_29) ?_
  refine jlk_cons (sm_cV (x := yX10_count) (host := "") (owner := "") isRI (i_X10_count hI) B q2693 q1637 q1638 w4_X10_count w6_X10_count (by decide) (by decide) (by decide) kc_10 hy_X10_count hl_X10_count dX1_pointsToIn_30 trivial) ?_
  refine jlk_cons (sm_iconst rfl B.1 dX1_pointsToIn_33) ?_
  refine jlk_cons (sm_isub B.1 dX1_pointsToIn_34) ?_
  refine jlk_cons (sm_cS (x := yX1_isBetween) (r9 := kr_6) (host := "") (owner := "") isSI (i_X1_isBetween hI) B q2399 q2400 w4_X1_isBetween w6_X1_isBetween (by decide) hy_X1_isBetween hl_X1_isBetween dX1_pointsToIn_35 trivial) ?_
  refine jlk_cons (sm_cS (x := yX1_requireIndex) (r9 := kr_6) (host := "") (owner := "") isXSV (i_X1_requireIndex hI) B q2451 q2452 w4_X1_requireIndex w6_X1_requireIndex (by decide) hy_X1_requireIndex hl_X1_requireIndex dX1_pointsToIn_38 rfl) ?_
  refine jlk_cons (sm_aload_n rfl B.1 dX1_pointsToIn_41) ?_
  refine jlk_cons (sm_cV (x := yX1_analyze) (host := "") (owner := "") isRP (i_X1_analyze hI) B q1293 q1295 qs12 w4_X1_analyze w6_X1_analyze (by decide) (by decide) (by decide) kc_1 hy_X1_analyze hl_X1_analyze dX1_pointsToIn_42 trivial) ?_
  refine jlk_cons (sm_aload_n rfl B.1 dX1_pointsToIn_45) ?_
  refine jlk_cons (sm_cV (x := yX1_analyze) (host := "") (owner := "") isRP (i_X1_analyze hI) B q1293 q1295 qs12 w4_X1_analyze w6_X1_analyze (by decide) (by decide) (by decide) kc_1 hy_X1_analyze hl_X1_analyze dX1_pointsToIn_46 trivial) ?_
  refine jlk_cons (sm_iload_n rfl B.1 dX1_pointsToIn_49) ?_
  refine jlk_cons (sm_iload_n rfl B.1 dX1_pointsToIn_50) ?_
  refine jlk_cons (sm_cVN (x := yX8_cell) (owner := "") isRP (i_X8_cell hI) B q2731 q1651 qs17 w4_X8_cell w6_X8_cell (by decide) (by decide) (by decide) kc_8 hy_X8_cell hl_X8_cell dX1_pointsToIn_51 trivial) ?_
  refine jlk_cons (sm_cVN (x := yX8_codes) (owner := "") isRL (i_X8_codes hI) B q2732 q2126 qs35 w4_X8_codes w6_X8_codes (by decide) (by decide) (by decide) kc_8 hy_X8_codes hl_X8_codes dX1_pointsToIn_54 trivial) ?_
  refine jlk_cons (sm_lret B.1 B.2.1 hret dX1_pointsToIn_57) ?_
  exact jlk_nil
theorem v_X1_pointsToIn (hst : l.stackTraces = false) (hz : jEz (EV (d + 1))) (hI : jIH l D dA lo cs0 d) : jMe l D dA lo cs0 (EV (d + 1)) 109 yX1_pointsToIn (ws_ yX1_pointsToIn cX1_pointsToIn 4 (Option.some Jvm.ClassFile.FieldType.long)) (d + 1) := z_meth hz rfl hp_X1_pointsToIn (r_X1_pointsToIn hst hI)
theorem r_X1_fieldPointsTo (hst : l.stackTraces = false) (hI : jIH l D dA lo cs0 d) : jRows l D dA lo cs0 d 3 (tb_X1_fieldPointsTo (EV d)) yX1_fieldPointsTo cX1_fieldPointsTo (Option.some Jvm.ClassFile.FieldType.long) [] := by
  intro p e R s m args below meth c z0 w0 zF wF Q rF hF B hz hw hret hnm
  refine jlk_cons (sm_aload_n rfl B.1 dX1_fieldPointsTo_0) ?_
  refine jlk_cons (sm_cV (x := yX1_analyze) (host := "") (owner := "") isRP (i_X1_analyze hI) B q1293 q1295 qs12 w4_X1_analyze w6_X1_analyze (by decide) (by decide) (by decide) kc_1 hy_X1_analyze hl_X1_analyze dX1_fieldPointsTo_1 trivial) ?_
  refine jlk_cons (sm_aload_n rfl B.1 dX1_fieldPointsTo_4) ?_
  refine jlk_cons (sm_iload_n rfl B.1 dX1_fieldPointsTo_5) ?_
  refine jlk_cons (sm_iload_n rfl B.1 dX1_fieldPointsTo_6) ?_
  refine jlk_cons (sm_cV (x := yX1_code) (host := "") (owner := "") isXRI (i_X1_code hI) B q2740 q2742 qs61 w4_X1_code w6_X1_code (by decide) (by decide) (by decide) kc_1 hy_X1_code hl_X1_code dX1_fieldPointsTo_7 rfl) ?_
  refine jlk_cons (sm_cV (x := yX8_pointsTo) (host := "") (owner := "") isRL (i_X8_pointsTo hI) B q2120 q2121 q2122 w4_X8_pointsTo w6_X8_pointsTo (by decide) (by decide) (by decide) kc_8 hy_X8_pointsTo hl_X8_pointsTo dX1_fieldPointsTo_10 trivial) ?_
  refine jlk_cons (sm_lret B.1 B.2.1 hret dX1_fieldPointsTo_13) ?_
  exact jlk_nil
theorem v_X1_fieldPointsTo (hst : l.stackTraces = false) (hz : jEz (EV (d + 1))) (hI : jIH l D dA lo cs0 d) : jMe l D dA lo cs0 (EV (d + 1)) 113 yX1_fieldPointsTo (ws_ yX1_fieldPointsTo cX1_fieldPointsTo 3 (Option.some Jvm.ClassFile.FieldType.long)) (d + 1) := z_meth hz rfl hp_X1_fieldPointsTo (r_X1_fieldPointsTo hst hI)
theorem r_X1_analyze (hst : l.stackTraces = false) (hI : jIH l D dA lo cs0 d) : jRows l D dA lo cs0 d 1 (tb_X1_analyze (EV d)) yX1_analyze cX1_analyze (Option.some (Jvm.ClassFile.FieldType.object "PointerAnalyzer$Analysis")) [] := by
  intro p e R s m args below meth c z0 w0 zF wF Q rF hF B hz hw hret hnm
  refine jlk_cons (sm_aload_n rfl B.1 dX1_analyze_0) ?_
  refine jlk_cons (sm_getP B.1 fl_PointerAnalyzer_85_1_2 dX1_analyze_1) ?_
  refine jlk_cons (sm_ifnonnull rfl B.1 dX1_analyze_4) ?_
  refine jlk_cons (sm_aload_n rfl B.1 dX1_analyze_7) ?_
  refine jlk_cons (sm_new B.1 kc_8 (by decide) (by decide) in_X8 tyX8 tyX8_ok kd_8 q1297 q1298 q169 B.2.2.2 hz hw dX1_analyze_8) ?_
  refine jlk_cons (sm_dup B.1 dX1_analyze_11) ?_
  refine jlk_cons (sm_aload_n rfl B.1 dX1_analyze_12) ?_
  refine jlk_cons (sm_getP B.1 fl_PointerAnalyzer_46_1_0 dX1_analyze_13) ?_
  refine jlk_cons (sm_aload_n rfl B.1 dX1_analyze_16) ?_
  refine jlk_cons (sm_getI B.1 fl_PointerAnalyzer_142_1_1 dX1_analyze_17) ?_
  refine jlk_cons (sm_cI (x := yX8_init) (r9 := kr_6) (host := "") (owner := "") isNV (i_X8_init hI) B q1299 q1300 w4_X8_init w6_X8_init (by decide) rfl hy_X8_init hl_X8_init dX1_analyze_20 trivial) ?_
  refine jlk_cons (sm_putP B.1 fl_PointerAnalyzer_85_1_2 tyX1 tyX1_ok nmX1 (Or.inl rfl) rfl (tyX1_ok 2 (by decide)) rfl (by decide) dX1_analyze_23) ?_
  refine jlk_cons (sm_aload_n rfl B.1 dX1_analyze_26) ?_
  refine jlk_cons (sm_getP B.1 fl_PointerAnalyzer_85_1_2 dX1_analyze_27) ?_
  refine jlk_cons (sm_aret B.1 B.2.1 hret (Or.inl ⟨_, rfl⟩) dX1_analyze_30) ?_
  exact jlk_nil
theorem v_X1_analyze (hst : l.stackTraces = false) (hz : jEz (EV (d + 1))) (hI : jIH l D dA lo cs0 d) : jMe l D dA lo cs0 (EV (d + 1)) 115 yX1_analyze (ws_ yX1_analyze cX1_analyze 1 (Option.some (Jvm.ClassFile.FieldType.object "PointerAnalyzer$Analysis"))) (d + 1) := z_meth hz rfl hp_X1_analyze (r_X1_analyze hst hI)
theorem r_X8_countFacts (hst : l.stackTraces = false) (hI : jIH l D dA lo cs0 d) : jRows l D dA lo cs0 d 3 (tb_X8_countFacts (EV d)) yX8_countFacts cX8_countFacts (Option.some Jvm.ClassFile.FieldType.int) [] := by
  intro p e R s m args below meth c z0 w0 zF wF Q rF hF B hz hw hret hnm
  refine jlk_cons (sm_iconst rfl B.1 dX8_countFacts_0) ?_
  refine jlk_cons (sm_istore_n rfl B.1 dX8_countFacts_1) ?_
  refine jlk_cons (sm_iconst rfl B.1 dX8_countFacts_2) ?_
  refine jlk_cons (sm_istore_n rfl B.1 dX8_countFacts_3) ?_
  refine jlk_cons (sm_iload_n rfl B.1 dX8_countFacts_4) ?_
  refine jlk_cons (sm_aload_n rfl B.1 dX8_countFacts_5) ?_
  refine jlk_cons (sm_getP B.1 fl_PointerAnalyzer_Analysis_12_8_78 dX8_countFacts_6) ?_
  refine jlk_cons (sm_cV (x := yJ4_size) (host := "") (owner := "") isRI (i_J4_size hI) B q1566 q1145 q1146 w4_J4_size w6_J4_size (by decide) (by decide) (by decide) kc_21 hy_J4_size hl_J4_size dX8_countFacts_9 trivial) ?_
  refine jlk_cons (sm_icmpge rfl B.1 dX8_countFacts_12) ?_
  refine jlk_cons (sm_iload_n rfl B.1 dX8_countFacts_15) ?_
  refine jlk_cons (sm_aload_n rfl B.1 dX8_countFacts_16) ?_
  refine jlk_cons (sm_getP B.1 fl_PointerAnalyzer_Analysis_12_8_78 dX8_countFacts_17) ?_
  refine jlk_cons (sm_iload_n rfl B.1 dX8_countFacts_20) ?_
  refine jlk_cons (sm_cV (x := yJ4_get) (host := "") (owner := "") isRP (i_J4_get hI) B q1643 q1149 q1150 w4_J4_get w6_J4_get (by decide) (by decide) (by decide) kc_21 hy_J4_get hl_J4_get dX8_countFacts_21 trivial) ?_
  refine jlk_cons (sm_cast B.1 q1564 (List.forall_mem_cons.mpr ⟨⟨by decide, by decide, _, kc_12, Or.inl rfl⟩, (List.forall_mem_nil _)⟩) dX8_countFacts_24) ?_
  refine jlk_cons (sm_cV (x := yX12_find) (host := "") (owner := "") isRP (i_X12_find hI) B q1994 q1995 q1996 w4_X12_find w6_X12_find (by decide) (by decide) (by decide) kc_12 hy_X12_find hl_X12_find dX8_countFacts_27 trivial) ?_
  refine jlk_cons (sm_getPN B.1 fn_PointerAnalyzer_Analysis_83_12_87 dX8_countFacts_30) ?_
  refine jlk_cons (sm_cV (x := yJ40_cardinality) (host := "") (owner := "") isRI (i_J40_cardinality hI) B q2111 q624 q625 w4_J40_cardinality w6_J40_cardinality (by decide) (by decide) (by decide) kc_36 hy_J40_cardinality hl_J40_cardinality dX8_countFacts_33 trivial) ?_
  refine jlk_cons (sm_iadd B.1 dX8_countFacts_36) ?_
  refine jlk_cons (sm_istore_n rfl B.1 dX8_countFacts_37) ?_
  refine jlk_cons (sm_iinc rfl B.1 dX8_countFacts_38) ?_
  refine jlk_cons (sm_goto rfl B.1 dX8_countFacts_41) ?_
  refine jlk_cons (sm_iload_n rfl B.1 dX8_countFacts_44) ?_
  refine jlk_cons (sm_iret B.1 B.2.1 hret dX8_countFacts_45) ?_
  exact jlk_nil
theorem v_X8_countFacts (hst : l.stackTraces = false) (hz : jEz (EV (d + 1))) (hI : jIH l D dA lo cs0 d) : jMe l D dA lo cs0 (EV (d + 1)) 116 yX8_countFacts (ws_ yX8_countFacts cX8_countFacts 3 (Option.some Jvm.ClassFile.FieldType.int)) (d + 1) := z_meth hz rfl hp_X8_countFacts (r_X8_countFacts hst hI)
theorem r_X1_mayAlias (hst : l.stackTraces = false) (hI : jIH l D dA lo cs0 d) : jRows l D dA lo cs0 d 3 (tb_X1_mayAlias (EV d)) yX1_mayAlias cX1_mayAlias (Option.some Jvm.ClassFile.FieldType.boolean) [] := by
  intro p e R s m args below meth c z0 w0 zF wF Q rF hF B hz hw hret hnm
  refine jlk_cons (sm_iload_n rfl B.1 dX1_mayAlias_0) ?_
  refine jlk_cons (sm_cS (x := yX1_isVariable) (r9 := kr_6) (host := "") (owner := "") isSI (i_X1_isVariable hI) B q2720 q2721 w4_X1_isVariable w6_X1_isVariable (by decide) hy_X1_isVariable hl_X1_isVariable dX1_mayAlias_1 trivial) ?_
  refine jlk_cons (sm_ifeq rfl B.1 dX1_mayAlias_4) ?_
  refine jlk_cons (sm_iload_n rfl B.1 dX1_mayAlias_7) ?_
  refine jlk_cons (sm_cS (x := yX1_isVariable) (r9 := kr_6) (host := "") (owner := "") isSI (i_X1_isVariable hI) B q2720 q2721 w4_X1_isVariable w6_X1_isVariable (by decide) hy_X1_isVariable hl_X1_isVariable dX1_mayAlias_8 trivial) ?_
  refine jlk_cons (sm_ifeq rfl B.1 dX1_mayAlias_11) ?_
  refine jlk_cons (sm_iconst rfl B.1 dX1_mayAlias_14) ?_
  refine jlk_cons (sm_goto rfl B.1 dX1_mayAlias_15) ?_
  refine jlk_cons (sm_iconst rfl B.1 dX1_mayAlias_18) ?_
  refine jlk_cons (sm_cS (x := yX1_requireIndex) (r9 := kr_6) (host := "") (owner := "") isXSV (i_X1_requireIndex hI) B q2451 q2452 w4_X1_requireIndex w6_X1_requireIndex (by decide) hy_X1_requireIndex hl_X1_requireIndex dX1_mayAlias_19 rfl) ?_
  refine jlk_cons (sm_aload_n rfl B.1 dX1_mayAlias_22) ?_
  refine jlk_cons (sm_cV (x := yX1_analyze) (host := "") (owner := "") isRP (i_X1_analyze hI) B q1293 q1295 qs12 w4_X1_analyze w6_X1_analyze (by decide) (by decide) (by decide) kc_1 hy_X1_analyze hl_X1_analyze dX1_mayAlias_23 trivial) ?_
  refine jlk_cons (sm_iload_n rfl B.1 dX1_mayAlias_26) ?_
  refine jlk_cons (sm_cV (x := yX8_pointsTo) (host := "") (owner := "") isRL (i_X8_pointsTo hI) B q2120 q2121 q2122 w4_X8_pointsTo w6_X8_pointsTo (by decide) (by decide) (by decide) kc_8 hy_X8_pointsTo hl_X8_pointsTo dX1_mayAlias_27 trivial) ?_
  refine jlk_cons (sm_aload_n rfl B.1 dX1_mayAlias_30) ?_
  refine jlk_cons (sm_cV (x := yX1_analyze) (host := "") (owner := "") isRP (i_X1_analyze hI) B q1293 q1295 qs12 w4_X1_analyze w6_X1_analyze (by decide) (by decide) (by decide) kc_1 hy_X1_analyze hl_X1_analyze dX1_mayAlias_31 trivial) ?_
  refine jlk_cons (sm_iload_n rfl B.1 dX1_mayAlias_34) ?_
  refine jlk_cons (sm_cV (x := yX8_pointsTo) (host := "") (owner := "") isRL (i_X8_pointsTo hI) B q2120 q2121 q2122 w4_X8_pointsTo w6_X8_pointsTo (by decide) (by decide) (by decide) kc_8 hy_X8_pointsTo hl_X8_pointsTo dX1_mayAlias_35 trivial) ?_
  refine jlk_cons (sm_land B.1 dX1_mayAlias_38) ?_
  refine jlk_cons (sm_lconst rfl B.1 dX1_mayAlias_39) ?_
  refine jlk_cons (sm_lcmp B.1 dX1_mayAlias_40) ?_
  refine jlk_cons (sm_ifeq rfl B.1 dX1_mayAlias_41) ?_
  refine jlk_cons (sm_iconst rfl B.1 dX1_mayAlias_44) ?_
  refine jlk_cons (sm_goto rfl B.1 dX1_mayAlias_45) ?_
  refine jlk_cons (sm_iconst rfl B.1 dX1_mayAlias_48) ?_
  refine jlk_cons (sm_zret B.1 B.2.1 hret dX1_mayAlias_49) ?_
  exact jlk_nil
theorem v_X1_mayAlias (hst : l.stackTraces = false) (hz : jEz (EV (d + 1))) (hI : jIH l D dA lo cs0 d) : jMe l D dA lo cs0 (EV (d + 1)) 118 yX1_mayAlias (ws_ yX1_mayAlias cX1_mayAlias 3 (Option.some Jvm.ClassFile.FieldType.boolean)) (d + 1) := z_meth hz rfl hp_X1_mayAlias (r_X1_mayAlias hst hI)
theorem r_X1_reach (hst : l.stackTraces = false) (hI : jIH l D dA lo cs0 d) : jRows l D dA lo cs0 d 2 (tb_X1_reach (EV d)) yX1_reach cX1_reach (Option.some Jvm.ClassFile.FieldType.long) [] := by
  intro p e R s m args below meth c z0 w0 zF wF Q rF hF B hz hw hret hnm
  refine jlk_cons (sm_iload_n rfl B.1 dX1_reach_0) ?_
  refine jlk_cons (sm_cS (x := yX1_isVariable) (r9 := kr_6) (host := "") (owner := "") isSI (i_X1_isVariable hI) B q2720 q2721 w4_X1_isVariable w6_X1_isVariable (by decide) hy_X1_isVariable hl_X1_isVariable dX1_reach_1 trivial) ?_
  refine jlk_cons (sm_cS (x := yX1_requireIndex) (r9 := kr_6) (host := "") (owner := "") isXSV (i_X1_requireIndex hI) B q2451 q2452 w4_X1_requireIndex w6_X1_requireIndex (by decide) hy_X1_requireIndex hl_X1_requireIndex dX1_reach_4 rfl) ?_
  refine jlk_cons (sm_aload_n rfl B.1 dX1_reach_7) ?_
  refine jlk_cons (sm_iload_n rfl B.1 dX1_reach_8) ?_
  refine jlk_cons (sm_cV (x := yX1_reachFrom) (host := "") (owner := "") isRL (i_X1_reachFrom hI) B q2116 q2118 qs34 w4_X1_reachFrom w6_X1_reachFrom (by decide) (by decide) (by decide) kc_1 hy_X1_reachFrom hl_X1_reachFrom dX1_reach_9 trivial) ?_
  refine jlk_cons (sm_lret B.1 B.2.1 hret dX1_reach_12) ?_
  exact jlk_nil
theorem v_X1_reach (hst : l.stackTraces = false) (hz : jEz (EV (d + 1))) (hI : jIH l D dA lo cs0 d) : jMe l D dA lo cs0 (EV (d + 1)) 120 yX1_reach (ws_ yX1_reach cX1_reach 2 (Option.some Jvm.ClassFile.FieldType.long)) (d + 1) := z_meth hz rfl hp_X1_reach (r_X1_reach hst hI)
theorem r_X1_reachFrom (hst : l.stackTraces = false) (hI : jIH l D dA lo cs0 d) : jRows l D dA lo cs0 d 7 (tb_X1_reachFrom (EV d)) yX1_reachFrom cX1_reachFrom (Option.some Jvm.ClassFile.FieldType.long) [] := by
  intro p e R s m args below meth c z0 w0 zF wF Q rF hF B hz hw hret hnm
  refine jlk_cons (sm_aload_n rfl B.1 dX1_reachFrom_0) ?_
  refine jlk_cons (sm_cV (x := yX1_analyze) (host := "") (owner := "") isRP (i_X1_analyze hI) B q1293 q1295 qs12 w4_X1_analyze w6_X1_analyze (by decide) (by decide) (by decide) kc_1 hy_X1_analyze hl_X1_analyze dX1_reachFrom_1 trivial) ?_
  refine jlk_cons (sm_iload_n rfl B.1 dX1_reachFrom_4) ?_
  refine jlk_cons (sm_cV (x := yX8_pointsTo) (host := "") (owner := "") isRL (i_X8_pointsTo hI) B q2120 q2121 q2122 w4_X8_pointsTo w6_X8_pointsTo (by decide) (by decide) (by decide) kc_8 hy_X8_pointsTo hl_X8_pointsTo dX1_reachFrom_5 trivial) ?_
  refine jlk_cons (sm_lstore_n rfl B.1 dX1_reachFrom_8) ?_
  refine jlk_cons (sm_lconst rfl B.1 dX1_reachFrom_9) ?_
  refine jlk_cons (sm_lstore B.1 dX1_reachFrom_10) ?_
  refine jlk_cons (sm_lload_n rfl B.1 dX1_reachFrom_12) ?_
  refine jlk_cons (sm_lload B.1 dX1_reachFrom_13) ?_
  refine jlk_cons (sm_lcmp B.1 dX1_reachFrom_15) ?_
  refine jlk_cons (sm_ifeq rfl B.1 dX1_reachFrom_16) ?_
  refine jlk_cons (sm_lload_n rfl B.1 dX1_reachFrom_19) ?_
  refine jlk_cons (sm_lload B.1 dX1_reachFrom_20) ?_
  refine jlk_cons (sm_ldc2 q2128 B.1 dX1_reachFrom_22) ?_
  refine jlk_cons (sm_lxor B.1 dX1_reachFrom_25) ?_
  refine jlk_cons (sm_land B.1 dX1_reachFrom_26) ?_
  refine jlk_cons (sm_cS (x := yJ12_numberOfTrailingZeros) (r9 := kr_6) (host := "") (owner := "") isSI (i_J12_numberOfTrailingZeros hI) B q2129 q501 w4_J12_numberOfTrailingZeros w6_J12_numberOfTrailingZeros (by decide) hy_J12_numberOfTrailingZeros hl_J12_numberOfTrailingZeros dX1_reachFrom_27 trivial) ?_
  refine jlk_cons (sm_istore B.1 dX1_reachFrom_30) ?_
  refine jlk_cons (sm_lload B.1 dX1_reachFrom_32) ?_
  refine jlk_cons (sm_lconst rfl B.1 dX1_reachFrom_34) ?_
  refine jlk_cons (sm_iload B.1 dX1_reachFrom_35) ?_
  refine jlk_cons (sm_lshl B.1 dX1_reachFrom_37) ?_
  refine jlk_cons (sm_lor B.1 dX1_reachFrom_38) ?_
  refine jlk_cons (sm_lstore B.1 dX1_reachFrom_39) ?_
  refine jlk_cons (sm_lload_n rfl B.1 dX1_reachFrom_41) ?_
  refine jlk_cons (sm_aload_n rfl B.1 dX1_reachFrom_42) ?_
  refine jlk_cons (sm_cV (x := yX1_analyze) (host := "") (owner := "") isRP (i_X1_analyze hI) B q1293 q1295 qs12 w4_X1_analyze w6_X1_analyze (by decide) (by decide) (by decide) kc_1 hy_X1_analyze hl_X1_analyze dX1_reachFrom_43 trivial) ?_
  refine jlk_cons (sm_iload B.1 dX1_reachFrom_46) ?_
  refine jlk_cons (sm_cV (x := yX8_pointsTo) (host := "") (owner := "") isRL (i_X8_pointsTo hI) B q2120 q2121 q2122 w4_X8_pointsTo w6_X8_pointsTo (by decide) (by decide) (by decide) kc_8 hy_X8_pointsTo hl_X8_pointsTo dX1_reachFrom_48 trivial) ?_
  refine jlk_cons (sm_lor B.1 dX1_reachFrom_51) ?_
  refine jlk_cons (sm_lstore_n rfl B.1 dX1_reachFrom_52) ?_
  refine jlk_cons (sm_goto rfl B.1 dX1_reachFrom_53) ?_
  refine jlk_cons (sm_lload_n rfl B.1 dX1_reachFrom_56) ?_
  refine jlk_cons (sm_lret B.1 B.2.1 hret dX1_reachFrom_57) ?_
  exact jlk_nil
theorem v_X1_reachFrom (hst : l.stackTraces = false) (hz : jEz (EV (d + 1))) (hI : jIH l D dA lo cs0 d) : jMe l D dA lo cs0 (EV (d + 1)) 122 yX1_reachFrom (ws_ yX1_reachFrom cX1_reachFrom 7 (Option.some Jvm.ClassFile.FieldType.long)) (d + 1) := z_meth hz rfl hp_X1_reachFrom (r_X1_reachFrom hst hI)
theorem r_X1_fieldCode (hst : l.stackTraces = false) (hI : jIH l D dA lo cs0 d) : jRows l D dA lo cs0 d 2 (tb_X1_fieldCode (EV d)) yX1_fieldCode cX1_fieldCode (Option.some Jvm.ClassFile.FieldType.int) [] := by
  intro p e R s m args below meth c z0 w0 zF wF Q rF hF B hz hw hret hnm
  refine jlk_cons (sm_bipush rfl B.1 dX1_fieldCode_0) ?_
  refine jlk_cons (sm_iconst rfl B.1 dX1_fieldCode_2) ?_
  refine jlk_cons (sm_iload_n rfl B.1 dX1_fieldCode_3) ?_
  refine jlk_cons (sm_imul B.1 dX1_fieldCode_4) ?_
  refine jlk_cons (sm_iadd B.1 dX1_fieldCode_5) ?_
  refine jlk_cons (sm_iload_n rfl B.1 dX1_fieldCode_6) ?_
  refine jlk_cons (sm_iadd B.1 dX1_fieldCode_7) ?_
  refine jlk_cons (sm_iret B.1 B.2.1 hret dX1_fieldCode_8) ?_
  exact jlk_nil
theorem v_X1_fieldCode (hst : l.stackTraces = false) (hz : jEz (EV (d + 1))) (hI : jIH l D dA lo cs0 d) : jMe l D dA lo cs0 (EV (d + 1)) 123 yX1_fieldCode (ws_ yX1_fieldCode cX1_fieldCode 2 (Option.some Jvm.ClassFile.FieldType.int)) (d + 1) := z_meth hz rfl hp_X1_fieldCode (r_X1_fieldCode hst hI)
theorem r_X1_rank (hst : l.stackTraces = false) (hI : jIH l D dA lo cs0 d) : jRows l D dA lo cs0 d 3 (tb_X1_rank (EV d)) yX1_rank cX1_rank (Option.some Jvm.ClassFile.FieldType.int) [] := by
  intro p e R s m args below meth c z0 w0 zF wF Q rF hF B hz hw hret hnm
  refine jlk_cons (sm_aload_n rfl B.1 dX1_rank_0) ?_
  refine jlk_cons (sm_iload_n rfl B.1 dX1_rank_1) ?_
  refine jlk_cons (sm_iload_n rfl B.1 dX1_rank_2) ?_
  refine jlk_cons (sm_cV (x := yX1_requireFact) (host := "") (owner := "") isXRP (i_X1_requireFact hI) B q2766 q2768 qs62 w4_X1_requireFact w6_X1_requireFact (by decide) (by decide) (by decide) kc_1 hy_X1_requireFact hl_X1_requireFact dX1_rank_3 rfl) ?_
  refine jlk_cons (sm_getPN B.1 fn_PointerAnalyzer_231_14_97 dX1_rank_6) ?_
  refine jlk_cons (sm_iload_n rfl B.1 dX1_rank_9) ?_
  refine jlk_cons (sm_aaldA B.1 dX1_rank_10) ?_
  refine jlk_cons (sm_iload_n rfl B.1 dX1_rank_11) ?_
  refine jlk_cons (sm_iald B.1 dX1_rank_12) ?_
  refine jlk_cons (sm_iret B.1 B.2.1 hret dX1_rank_13) ?_
  exact jlk_nil
theorem v_X1_rank (hst : l.stackTraces = false) (hz : jEz (EV (d + 1))) (hI : jIH l D dA lo cs0 d) : jMe l D dA lo cs0 (EV (d + 1)) 124 yX1_rank (ws_ yX1_rank cX1_rank 3 (Option.some Jvm.ClassFile.FieldType.int)) (d + 1) := z_meth hz rfl hp_X1_rank (r_X1_rank hst hI)
theorem r_X1_reason (hst : l.stackTraces = false) (hI : jIH l D dA lo cs0 d) : jRows l D dA lo cs0 d 3 (tb_X1_reason (EV d)) yX1_reason cX1_reason (Option.some Jvm.ClassFile.FieldType.int) [] := by
  intro p e R s m args below meth c z0 w0 zF wF Q rF hF B hz hw hret hnm
  refine jlk_cons (sm_aload_n rfl B.1 dX1_reason_0) ?_
  refine jlk_cons (sm_iload_n rfl B.1 dX1_reason_1) ?_
  refine jlk_cons (sm_iload_n rfl B.1 dX1_reason_2) ?_
  refine jlk_cons (sm_cV (x := yX1_requireFact) (host := "") (owner := "") isXRP (i_X1_requireFact hI) B q2766 q2768 qs62 w4_X1_requireFact w6_X1_requireFact (by decide) (by decide) (by decide) kc_1 hy_X1_requireFact hl_X1_requireFact dX1_reason_3 rfl) ?_
  refine jlk_cons (sm_getPN B.1 fn_PointerAnalyzer_242_14_98 dX1_reason_6) ?_
  refine jlk_cons (sm_iload_n rfl B.1 dX1_reason_9) ?_
  refine jlk_cons (sm_aaldA B.1 dX1_reason_10) ?_
  refine jlk_cons (sm_iload_n rfl B.1 dX1_reason_11) ?_
  refine jlk_cons (sm_iald B.1 dX1_reason_12) ?_
  refine jlk_cons (sm_iret B.1 B.2.1 hret dX1_reason_13) ?_
  exact jlk_nil
theorem v_X1_reason (hst : l.stackTraces = false) (hz : jEz (EV (d + 1))) (hI : jIH l D dA lo cs0 d) : jMe l D dA lo cs0 (EV (d + 1)) 126 yX1_reason (ws_ yX1_reason cX1_reason 3 (Option.some Jvm.ClassFile.FieldType.int)) (d + 1) := z_meth hz rfl hp_X1_reason (r_X1_reason hst hI)
theorem r_X1_findRanks (hst : l.stackTraces = false) (hI : jIH l D dA lo cs0 d) : jRows l D dA lo cs0 d 2 (tb_X1_findRanks (EV d)) yX1_findRanks cX1_findRanks (Option.some (Jvm.ClassFile.FieldType.object "PointerAnalyzer$Ranks")) [] := by
  intro p e R s m args below meth c z0 w0 zF wF Q rF hF B hz hw hret hnm
  refine jlk_cons (sm_aload_n rfl B.1 dX1_findRanks_0) ?_
  refine jlk_cons (sm_getP B.1 fl_PointerAnalyzer_46_1_0 dX1_findRanks_1) ?_
  refine jlk_cons (sm_iconst rfl B.1 dX1_findRanks_4) ?_
  refine jlk_cons (sm_cV (x := yX2_callees) (host := "") (owner := "") isRP (i_X2_callees hI) B q2142 q2143 q2144 w4_X2_callees w6_X2_callees (by decide) (by decide) (by decide) kc_2 hy_X2_callees hl_X2_callees dX1_findRanks_5 trivial) ?_
  refine jlk_cons (sm_astore_n rfl B.1 dX1_findRanks_8) ?_
  refine jlk_cons (sm_aload_n rfl B.1 dX1_findRanks_9) ?_
  refine jlk_cons (sm_iconst rfl B.1 dX1_findRanks_10) ?_
  refine jlk_cons (sm_iconst rfl B.1 dX1_findRanks_11) ?_
  refine jlk_cons (sm_zast B.1 dX1_findRanks_12) ?_
  refine jlk_cons (sm_new B.1 kc_14 (by decide) (by decide) in_X14 tyX14 tyX14_ok kd_14 q2148 q2149 q183 B.2.2.2 hz hw dX1_findRanks_13) ?_
  refine jlk_cons (sm_dup B.1 dX1_findRanks_16) ?_
  refine jlk_cons (sm_aload_n rfl B.1 dX1_findRanks_17) ?_
  refine jlk_cons (sm_getP B.1 fl_PointerAnalyzer_46_1_0 dX1_findRanks_18) ?_
  refine jlk_cons (sm_aload_n rfl B.1 dX1_findRanks_21) ?_
  refine jlk_cons (sm_cI (x := yX14_init) (r9 := kr_6) (host := "") (owner := "") isNV (i_X14_init hI) B q2150 q2151 w4_X14_init w6_X14_init (by decide) rfl hy_X14_init hl_X14_init dX1_findRanks_22 trivial) ?_
  refine jlk_cons (sm_aret B.1 B.2.1 hret (Or.inl ⟨_, rfl⟩) dX1_findRanks_25) ?_
  exact jlk_nil
theorem v_X1_findRanks (hst : l.stackTraces = false) (hz : jEz (EV (d + 1))) (hI : jIH l D dA lo cs0 d) : jMe l D dA lo cs0 (EV (d + 1)) 127 yX1_findRanks (ws_ yX1_findRanks cX1_findRanks 2 (Option.some (Jvm.ClassFile.FieldType.object "PointerAnalyzer$Ranks"))) (d + 1) := z_meth hz rfl hp_X1_findRanks (r_X1_findRanks hst hI)
theorem r_X1_unifiedTargets (hst : l.stackTraces = false) (hI : jIH l D dA lo cs0 d) : jRows l D dA lo cs0 d 2 (tb_X1_unifiedTargets (EV d)) yX1_unifiedTargets cX1_unifiedTargets (Option.some Jvm.ClassFile.FieldType.long) [] := by
  intro p e R s m args below meth c z0 w0 zF wF Q rF hF B hz hw hret hnm
  refine jlk_cons (sm_iload_n rfl B.1 dX1_unifiedTargets_0) ?_
  refine jlk_cons (sm_cS (x := yX1_isVariable) (r9 := kr_6) (host := "") (owner := "") isSI (i_X1_isVariable hI) B q2720 q2721 w4_X1_isVariable w6_X1_isVariable (by decide) hy_X1_isVariable hl_X1_isVariable dX1_unifiedTargets_1 trivial) ?_
  refine jlk_cons (sm_cS (x := yX1_requireIndex) (r9 := kr_6) (host := "") (owner := "") isXSV (i_X1_requireIndex hI) B q2451 q2452 w4_X1_requireIndex w6_X1_requireIndex (by decide) hy_X1_requireIndex hl_X1_requireIndex dX1_unifiedTargets_4 rfl) ?_
  refine jlk_cons (sm_new B.1 kc_15 (by decide) (by decide) in_X15 tyX15 tyX15_ok kd_15 q2204 q2205 q184 B.2.2.2 hz hw dX1_unifiedTargets_7) ?_
  refine jlk_cons (sm_dup B.1 dX1_unifiedTargets_10) ?_
  refine jlk_cons (sm_aload_n rfl B.1 dX1_unifiedTargets_11) ?_
  refine jlk_cons (sm_getP B.1 fl_PointerAnalyzer_46_1_0 dX1_unifiedTargets_12) ?_
  refine jlk_cons (sm_cI (x := yX15_init) (r9 := kr_6) (host := "") (owner := "") isNV (i_X15_init hI) B q2206 q2207 w4_X15_init w6_X15_init (by decide) rfl hy_X15_init hl_X15_init dX1_unifiedTargets_15 trivial) ?_
  refine jlk_cons (sm_iload_n rfl B.1 dX1_unifiedTargets_18) ?_
  refine jlk_cons (sm_cV (x := yX15_targets) (host := "") (owner := "") isRL (i_X15_targets hI) B q2786 q2787 q2788 w4_X15_targets w6_X15_targets (by decide) (by decide) (by decide) kc_15 hy_X15_targets hl_X15_targets dX1_unifiedTargets_19 trivial) ?_
  refine jlk_cons (sm_lret B.1 B.2.1 hret dX1_unifiedTargets_22) ?_
  exact jlk_nil
theorem v_X1_unifiedTargets (hst : l.stackTraces = false) (hz : jEz (EV (d + 1))) (hI : jIH l D dA lo cs0 d) : jMe l D dA lo cs0 (EV (d + 1)) 128 yX1_unifiedTargets (ws_ yX1_unifiedTargets cX1_unifiedTargets 2 (Option.some Jvm.ClassFile.FieldType.long)) (d + 1) := z_meth hz rfl hp_X1_unifiedTargets (r_X1_unifiedTargets hst hI)
theorem r_X1_areUnified (hst : l.stackTraces = false) (hI : jIH l D dA lo cs0 d) : jRows l D dA lo cs0 d 4 (tb_X1_areUnified (EV d)) yX1_areUnified cX1_areUnified (Option.some Jvm.ClassFile.FieldType.boolean) [] := by
  intro p e R s m args below meth c z0 w0 zF wF Q rF hF B hz hw hret hnm
  refine jlk_cons (sm_iload_n rfl B.1 dX1_areUnified_0) ?_
  refine jlk_cons (sm_cS (x := yX1_isVariable) (r9 := kr_6) (host := "") (owner := "") isSI (i_X1_isVariable hI) B q2720 q2721 w4_X1_isVariable w6_X1_isVariable (by decide) hy_X1_isVariable hl_X1_isVariable dX1_areUnified_1 trivial) ?_
  refine jlk_cons (sm_ifeq rfl B.1 dX1_areUnified_4) ?_
  refine jlk_cons (sm_iload_n rfl B.1 dX1_areUnified_7) ?_
  refine jlk_cons (sm_cS (x := yX1_isVariable) (r9 := kr_6) (host := "") (owner := "") isSI (i_X1_isVariable hI) B q2720 q2721 w4_X1_isVariable w6_X1_isVariable (by decide) hy_X1_isVariable hl_X1_isVariable dX1_areUnified_8 trivial) ?_
  refine jlk_cons (sm_ifeq rfl B.1 dX1_areUnified_11) ?_
  refine jlk_cons (sm_iconst rfl B.1 dX1_areUnified_14) ?_
  refine jlk_cons (sm_goto rfl B.1 dX1_areUnified_15) ?_
  refine jlk_cons (sm_iconst rfl B.1 dX1_areUnified_18) ?_
  refine jlk_cons (sm_cS (x := yX1_requireIndex) (r9 := kr_6) (host := "") (owner := "") isXSV (i_X1_requireIndex hI) B q2451 q2452 w4_X1_requireIndex w6_X1_requireIndex (by decide) hy_X1_requireIndex hl_X1_requireIndex dX1_areUnified_19 rfl) ?_
  refine jlk_cons (sm_new B.1 kc_15 (by decide) (by decide) in_X15 tyX15 tyX15_ok kd_15 q2204 q2205 q184 B.2.2.2 hz hw dX1_areUnified_22) ?_
  refine jlk_cons (sm_dup B.1 dX1_areUnified_25) ?_
  refine jlk_cons (sm_aload_n rfl B.1 dX1_areUnified_26) ?_
  refine jlk_cons (sm_getP B.1 fl_PointerAnalyzer_46_1_0 dX1_areUnified_27) ?_
  refine jlk_cons (sm_cI (x := yX15_init) (r9 := kr_6) (host := "") (owner := "") isNV (i_X15_init hI) B q2206 q2207 w4_X15_init w6_X15_init (by decide) rfl hy_X15_init hl_X15_init dX1_areUnified_30 trivial) ?_
  refine jlk_cons (sm_astore_n rfl B.1 dX1_areUnified_33) ?_
  refine jlk_cons (sm_aload_n rfl B.1 dX1_areUnified_34) ?_
  refine jlk_cons (sm_getPN B.1 fn_PointerAnalyzer_255_15_101 dX1_areUnified_35) ?_
  refine jlk_cons (sm_iload_n rfl B.1 dX1_areUnified_38) ?_
  refine jlk_cons (sm_aald B.1 (t := 109) (by decide) rfl dX1_areUnified_39) ?_
  refine jlk_cons (sm_cV (x := yX16_find) (host := "") (owner := "") isRP (i_X16_find hI) B q2799 q2239 q2240 w4_X16_find w6_X16_find (by decide) (by decide) (by decide) kc_16 hy_X16_find hl_X16_find dX1_areUnified_40 trivial) ?_
  refine jlk_cons (sm_aload_n rfl B.1 dX1_areUnified_43) ?_
  refine jlk_cons (sm_getPN B.1 fn_PointerAnalyzer_255_15_101 dX1_areUnified_44) ?_
  refine jlk_cons (sm_iload_n rfl B.1 dX1_areUnified_47) ?_
  refine jlk_cons (sm_aald B.1 (t := 109) (by decide) rfl dX1_areUnified_48) ?_
  refine jlk_cons (sm_cV (x := yX16_find) (host := "") (owner := "") isRP (i_X16_find hI) B q2799 q2239 q2240 w4_X16_find w6_X16_find (by decide) (by decide) (by decide) kc_16 hy_X16_find hl_X16_find dX1_areUnified_49 trivial) ?_
  refine jlk_cons (sm_acmpne rfl B.1 dX1_areUnified_52) ?_
  refine jlk_cons (sm_iconst rfl B.1 dX1_areUnified_55) ?_
  refine jlk_cons (sm_goto rfl B.1 dX1_areUnified_56) ?_
  refine jlk_cons (sm_iconst rfl B.1 dX1_areUnified_59) ?_
  refine jlk_cons (sm_zret B.1 B.2.1 hret dX1_areUnified_60) ?_
  exact jlk_nil
theorem v_X1_areUnified (hst : l.stackTraces = false) (hz : jEz (EV (d + 1))) (hI : jIH l D dA lo cs0 d) : jMe l D dA lo cs0 (EV (d + 1)) 130 yX1_areUnified (ws_ yX1_areUnified cX1_areUnified 4 (Option.some Jvm.ClassFile.FieldType.boolean)) (d + 1) := z_meth hz rfl hp_X1_areUnified (r_X1_areUnified hst hI)
theorem r_X15_init (hst : l.stackTraces = false) (hI : jIH l D dA lo cs0 d) : jRows l D dA lo cs0 d 3 (tb_X15_init (EV d)) yX15_init cX15_init (Option.none : Option Jvm.ClassFile.FieldType) [] := by
  intro p e R s m args below meth c z0 w0 zF wF Q rF hF B hz hw hret hnm
  refine jlk_app ?_ ?_
  · refine jlk_cons (sm_aload_n rfl B.1 dX15_init_0) ?_
    refine jlk_cons (sm_obj B.1 q2209 q196 q197 dX15_init_1) ?_
    refine jlk_cons (sm_aload_n rfl B.1 dX15_init_4) ?_
    refine jlk_cons (sm_bipush rfl B.1 dX15_init_5) ?_
    refine jlk_cons (sm_aload_n rfl B.1 dX15_init_7) ?_
    refine jlk_cons (sm_getIN B.1 fn_PointerAnalyzer_Unification_9_2_11 dX15_init_8) ?_
    refine jlk_cons (sm_iadd B.1 dX15_init_11) ?_
    refine jlk_cons (sm_anew B.1 (by decide) rfl q2210 q2211 B.2.2.2 hz hw dX15_init_12) ?_
    refine jlk_cons (sm_putP B.1 fl_PointerAnalyzer_Unification_17_15_101 tyX15 tyX15_ok nmX15 (Or.inr ⟨rfl, hnm, rfl⟩) rfl (tyX15_ok 0 (by decide)) rfl (by decide) dX15_init_15) ?_
    refine jlk_cons (sm_iconst rfl B.1 dX15_init_18) ?_
    refine jlk_cons (sm_istore_n rfl B.1 dX15_init_19) ?_
    refine jlk_cons (sm_iload_n rfl B.1 dX15_init_20) ?_
    refine jlk_cons (sm_aload_n rfl B.1 dX15_init_21) ?_
    refine jlk_cons (sm_getP B.1 fl_PointerAnalyzer_Unification_17_15_101 dX15_init_22) ?_
    refine jlk_cons (sm_alen B.1 (t := 109) (by decide) rfl dX15_init_25) ?_
    refine jlk_cons (sm_icmpge rfl B.1 dX15_init_26) ?_
    refine jlk_cons (sm_aload_n rfl B.1 dX15_init_29) ?_
    refine jlk_cons (sm_getP B.1 fl_PointerAnalyzer_Unification_17_15_101 dX15_init_30) ?_
    refine jlk_cons (sm_iload_n rfl B.1 dX15_init_33) ?_
    refine jlk_cons (sm_new B.1 kc_16 (by decide) (by decide) in_X16 tyX16 tyX16_ok kd_16 q2210 q2212 q185 B.2.2.2 hz hw dX15_init_34) ?_
    refine jlk_cons (sm_dup B.1 dX15_init_37) ?_
    refine jlk_cons (sm_cIN (x := yX16_init) (r9 := kr_6) (owner := "") isNV (i_X16_init hI) B q2213 q2214 w4_X16_init w6_X16_init (by decide) rfl hy_X16_init hl_X16_init dX15_init_38 trivial) ?_
    refine jlk_cons (sm_aast B.1 (t := 109) (by decide) (by decide) rfl (List.forall_mem_cons.mpr ⟨⟨by decide, by decide, _, kc_16, Or.inl rfl⟩, (List.forall_mem_nil _)⟩) dX15_init_41) ?_
    refine jlk_cons (sm_iinc rfl B.1 dX15_init_42) ?_
    refine jlk_cons (sm_goto rfl B.1 dX15_init_45) ?_
    refine jlk_cons (sm_iconst rfl B.1 dX15_init_48) ?_
    refine jlk_cons (sm_istore_n rfl B.1 dX15_init_49) ?_
    refine jlk_cons (sm_iload_n rfl B.1 dX15_init_50) ?_
    refine jlk_cons (sm_aload_n rfl B.1 dX15_init_51) ?_
    refine jlk_cons (sm_getPN B.1 fn_PointerAnalyzer_Unification_24_2_10 dX15_init_52) ?_
    refine jlk_cons (sm_cV (x := yJ4_size) (host := "") (owner := "") isRI (i_J4_size hI) B q2226 q1145 q1146 w4_J4_size w6_J4_size (by decide) (by decide) (by decide) kc_21 hy_J4_size hl_J4_size dX15_init_55 trivial) ?_
    refine jlk_cons (sm_icmpge rfl B.1 dX15_init_58) ?_
    refine jlk_cons (sm_aload_n rfl B.1 dX15_init_61) ?_
    refine jlk_cons (sm_aload_n rfl B.1 dX15_init_62) ?_
    refine jlk_cons (sm_getPN B.1 fn_PointerAnalyzer_Unification_24_2_10 dX15_init_63) ?_
    refine jlk_cons (sm_iload_n rfl B.1 dX15_init_66) ?_
    refine jlk_cons (sm_cV (x := yJ4_get) (host := "") (owner := "") isRP (i_J4_get hI) B q2227 q1149 q1150 w4_J4_get w6_J4_get (by decide) (by decide) (by decide) kc_21 hy_J4_get hl_J4_get dX15_init_67 trivial) ?_
    refine jlk_cons (sm_cast B.1 q2228 (List.forall_mem_cons.mpr ⟨⟨by decide, by decide, _, kc_3, Or.inl rfl⟩, (List.forall_mem_nil _)⟩) dX15_init_70) ?_
    refine jlk_cons (sm_cV (x := yX15_unify) (host := "") (owner := "") isRV (i_X15_unify hI) B q2229 q2231 qs39 w4_X15_unify w6_X15_unify (by decide) (by decide) (by decide) kc_15 hy_X15_unify hl_X15_unify dX15_init_73 trivial) ?_
    refine jlk_cons (sm_iinc rfl B.1 dX15_init_76) ?_
    exact jlk_nil
  · skip
    refine jlk_cons (sm_goto rfl B.1 dX15_init_79) ?_
    refine jlk_cons (sm_vret B.1 B.2.1 hret dX15_init_82) ?_
    exact jlk_nil
theorem v_X15_init (hst : l.stackTraces = false) (hz : jEz (EV (d + 1))) (hI : jIH l D dA lo cs0 d) : jMe l D dA lo cs0 (EV (d + 1)) 132 yX15_init (ws_ yX15_init cX15_init 3 (Option.none : Option Jvm.ClassFile.FieldType)) (d + 1) := z_meth hz rfl hp_X15_init (r_X15_init hst hI)
theorem r_X15_countClasses (hst : l.stackTraces = false) (hI : jIH l D dA lo cs0 d) : jRows l D dA lo cs0 d 5 (tb_X15_countClasses (EV d)) yX15_countClasses cX15_countClasses (Option.some Jvm.ClassFile.FieldType.int) [] := by
  intro p e R s m args below meth c z0 w0 zF wF Q rF hF B hz hw hret hnm
  refine jlk_app ?_ ?_
  · refine jlk_cons (sm_iconst rfl B.1 dX15_countClasses_0) ?_
    refine jlk_cons (sm_istore_n rfl B.1 dX15_countClasses_1) ?_
    refine jlk_cons (sm_iconst rfl B.1 dX15_countClasses_2) ?_
    refine jlk_cons (sm_istore_n rfl B.1 dX15_countClasses_3) ?_
    refine jlk_cons (sm_iload_n rfl B.1 dX15_countClasses_4) ?_
    refine jlk_cons (sm_aload_n rfl B.1 dX15_countClasses_5) ?_
    refine jlk_cons (sm_getP B.1 fl_PointerAnalyzer_Unification_17_15_101 dX15_countClasses_6) ?_
    refine jlk_cons (sm_alen B.1 (t := 109) (by decide) rfl dX15_countClasses_9) ?_
    refine jlk_cons (sm_icmpge rfl B.1 dX15_countClasses_10) ?_
    refine jlk_cons (sm_iconst rfl B.1 dX15_countClasses_13) ?_
    refine jlk_cons (sm_istore_n rfl B.1 dX15_countClasses_14) ?_
    refine jlk_cons (sm_iconst rfl B.1 dX15_countClasses_15) ?_
    refine jlk_cons (sm_istore B.1 dX15_countClasses_16) ?_
    refine jlk_cons (sm_iload B.1 dX15_countClasses_18) ?_
    refine jlk_cons (sm_iload_n rfl B.1 dX15_countClasses_20) ?_
    refine jlk_cons (sm_icmpge rfl B.1 dX15_countClasses_21) ?_
    refine jlk_cons (sm_iload_n rfl B.1 dX15_countClasses_24) ?_
    refine jlk_cons (sm_aload_n rfl B.1 dX15_countClasses_25) ?_
    refine jlk_cons (sm_getP B.1 fl_PointerAnalyzer_Unification_17_15_101 dX15_countClasses_26) ?_
    refine jlk_cons (sm_iload B.1 dX15_countClasses_29) ?_
    refine jlk_cons (sm_aald B.1 (t := 109) (by decide) rfl dX15_countClasses_31) ?_
    refine jlk_cons (sm_cV (x := yX16_find) (host := "") (owner := "") isRP (i_X16_find hI) B q2248 q2239 q2240 w4_X16_find w6_X16_find (by decide) (by decide) (by decide) kc_16 hy_X16_find hl_X16_find dX15_countClasses_32 trivial) ?_
    refine jlk_cons (sm_aload_n rfl B.1 dX15_countClasses_35) ?_
    refine jlk_cons (sm_getP B.1 fl_PointerAnalyzer_Unification_17_15_101 dX15_countClasses_36) ?_
    refine jlk_cons (sm_iload_n rfl B.1 dX15_countClasses_39) ?_
    refine jlk_cons (sm_aald B.1 (t := 109) (by decide) rfl dX15_countClasses_40) ?_
    refine jlk_cons (sm_cV (x := yX16_find) (host := "") (owner := "") isRP (i_X16_find hI) B q2248 q2239 q2240 w4_X16_find w6_X16_find (by decide) (by decide) (by decide) kc_16 hy_X16_find hl_X16_find dX15_countClasses_41 trivial) ?_
    refine jlk_cons (sm_acmpeq rfl B.1 dX15_countClasses_44) ?_
    refine jlk_cons (sm_iconst rfl B.1 dX15_countClasses_47) ?_
    refine jlk_cons (sm_goto rfl B.1 dX15_countClasses_48) ?_
    refine jlk_cons (sm_iconst rfl B.1 dX15_countClasses_51) ?_
    refine jlk_cons (sm_iand B.1 dX15_countClasses_52) ?_
    refine jlk_cons (sm_istore_n rfl B.1 dX15_countClasses_53) ?_
    refine jlk_cons (sm_iinc rfl B.1 dX15_countClasses_54) ?_
    refine jlk_cons (sm_goto rfl B.1 dX15_countClasses_57) ?_
    refine jlk_cons (sm_iload_n rfl B.1 dX15_countClasses_60) ?_
    refine jlk_cons (sm_iload_n rfl B.1 dX15_countClasses_61) ?_
    refine jlk_cons (sm_ifeq rfl B.1 dX15_countClasses_62) ?_
    refine jlk_cons (sm_iconst rfl B.1 dX15_countClasses_65) ?_
    refine jlk_cons (sm_goto rfl B.1 dX15_countClasses_66) ?_
    exact jlk_nil
  · skip
    refine jlk_cons (sm_iconst rfl B.1 dX15_countClasses_69) ?_
    refine jlk_cons (sm_iadd B.1 dX15_countClasses_70) ?_
    refine jlk_cons (sm_istore_n rfl B.1 dX15_countClasses_71) ?_
    refine jlk_cons (sm_iinc rfl B.1 dX15_countClasses_72) ?_
    refine jlk_cons (sm_goto rfl B.1 dX15_countClasses_75) ?_
    refine jlk_cons (sm_iload_n rfl B.1 dX15_countClasses_78) ?_
    refine jlk_cons (sm_iret B.1 B.2.1 hret dX15_countClasses_79) ?_
    exact jlk_nil
theorem v_X15_countClasses (hst : l.stackTraces = false) (hz : jEz (EV (d + 1))) (hI : jIH l D dA lo cs0 d) : jMe l D dA lo cs0 (EV (d + 1)) 133 yX15_countClasses (ws_ yX15_countClasses cX15_countClasses 5 (Option.some Jvm.ClassFile.FieldType.int)) (d + 1) := z_meth hz rfl hp_X15_countClasses (r_X15_countClasses hst hI)
theorem r_X1_modifies (hst : l.stackTraces = false) (hI : jIH l D dA lo cs0 d) : jRows l D dA lo cs0 d 8 (tb_X1_modifies (EV d)) yX1_modifies cX1_modifies (Option.some Jvm.ClassFile.FieldType.long) [] := by
  intro p e R s m args below meth c z0 w0 zF wF Q rF hF B hz hw hret hnm
  refine jlk_app ?_ ?_
  · refine jlk_cons (sm_iload_n rfl B.1 dX1_modifies_0) ?_
    refine jlk_cons (sm_cS (x := yX1_isFunction) (r9 := kr_6) (host := "") (owner := "") isSI (i_X1_isFunction hI) B q2448 q2449 w4_X1_isFunction w6_X1_isFunction (by decide) hy_X1_isFunction hl_X1_isFunction dX1_modifies_1 trivial) ?_
    refine jlk_cons (sm_cS (x := yX1_requireIndex) (r9 := kr_6) (host := "") (owner := "") isXSV (i_X1_requireIndex hI) B q2451 q2452 w4_X1_requireIndex w6_X1_requireIndex (by decide) hy_X1_requireIndex hl_X1_requireIndex dX1_modifies_4 rfl) ?_
    refine jlk_cons (sm_aload_n rfl B.1 dX1_modifies_7) ?_
    refine jlk_cons (sm_getP B.1 fl_PointerAnalyzer_46_1_0 dX1_modifies_8) ?_
    refine jlk_cons (sm_iload_n rfl B.1 dX1_modifies_11) ?_
    refine jlk_cons (sm_cV (x := yX2_callees) (host := "") (owner := "") isRP (i_X2_callees hI) B q2142 q2143 q2144 w4_X2_callees w6_X2_callees (by decide) (by decide) (by decide) kc_2 hy_X2_callees hl_X2_callees dX1_modifies_12 trivial) ?_
    refine jlk_cons (sm_astore_n rfl B.1 dX1_modifies_15) ?_
    refine jlk_cons (sm_lconst rfl B.1 dX1_modifies_16) ?_
    refine jlk_cons (sm_lstore_n rfl B.1 dX1_modifies_17) ?_
    refine jlk_cons (sm_iconst rfl B.1 dX1_modifies_18) ?_
    refine jlk_cons (sm_istore B.1 dX1_modifies_19) ?_
    refine jlk_cons (sm_iload B.1 dX1_modifies_21) ?_
    refine jlk_cons (sm_aload_n rfl B.1 dX1_modifies_23) ?_
    refine jlk_cons (sm_getP B.1 fl_PointerAnalyzer_46_1_0 dX1_modifies_24) ?_
    refine jlk_cons (sm_getPN B.1 fn_PointerAnalyzer_120_2_10 dX1_modifies_27) ?_
    refine jlk_cons (sm_cV (x := yJ4_size) (host := "") (owner := "") isRI (i_J4_size hI) B q1284 q1145 q1146 w4_J4_size w6_J4_size (by decide) (by decide) (by decide) kc_21 hy_J4_size hl_J4_size dX1_modifies_30 trivial) ?_
    refine jlk_cons (sm_icmpge rfl B.1 dX1_modifies_33) ?_
    refine jlk_cons (sm_aload_n rfl B.1 dX1_modifies_36) ?_
    refine jlk_cons (sm_getP B.1 fl_PointerAnalyzer_46_1_0 dX1_modifies_37) ?_
    refine jlk_cons (sm_getPN B.1 fn_PointerAnalyzer_120_2_10 dX1_modifies_40) ?_
    refine jlk_cons (sm_iload B.1 dX1_modifies_43) ?_
    refine jlk_cons (sm_cV (x := yJ4_get) (host := "") (owner := "") isRP (i_J4_get hI) B q2652 q1149 q1150 w4_J4_get w6_J4_get (by decide) (by decide) (by decide) kc_21 hy_J4_get hl_J4_get dX1_modifies_45 trivial) ?_
    refine jlk_cons (sm_cast B.1 q2670 (List.forall_mem_cons.mpr ⟨⟨by decide, by decide, _, kc_3, Or.inl rfl⟩, (List.forall_mem_nil _)⟩) dX1_modifies_48) ?_
    refine jlk_cons (sm_astore B.1 dX1_modifies_51) ?_
    refine jlk_cons (sm_aload B.1 dX1_modifies_53) ?_
    refine jlk_cons (sm_cstS B.1 (List.mem_of_getElem? (i := 6) rfl) q2807 dX1_modifies_55) ?_
    refine jlk_cons (sm_cV (x := yX3_is) (host := "") (owner := "") isRI (i_X3_is hI) B q2808 q1407 q1408 w4_X3_is w6_X3_is (by decide) (by decide) (by decide) kc_3 hy_X3_is hl_X3_is dX1_modifies_58 trivial) ?_
    refine jlk_cons (sm_ifeq rfl B.1 dX1_modifies_61) ?_
    refine jlk_cons (sm_aload B.1 dX1_modifies_64) ?_
    refine jlk_cons (sm_getIN B.1 fn_PointerAnalyzer_136_3_13 dX1_modifies_66) ?_
    refine jlk_cons (sm_iload_n rfl B.1 dX1_modifies_69) ?_
    refine jlk_cons (sm_icmpeq rfl B.1 dX1_modifies_70) ?_
    refine jlk_cons (sm_aload_n rfl B.1 dX1_modifies_73) ?_
    refine jlk_cons (sm_aload B.1 dX1_modifies_74) ?_
    refine jlk_cons (sm_getIN B.1 fn_PointerAnalyzer_136_3_13 dX1_modifies_76) ?_
    refine jlk_cons (sm_zald B.1 dX1_modifies_79) ?_
    refine jlk_cons (sm_ifeq rfl B.1 dX1_modifies_80) ?_
    refine jlk_cons (sm_iconst rfl B.1 dX1_modifies_83) ?_
    refine jlk_cons (sm_goto rfl B.1 dX1_modifies_84) ?_
    exact jlk_nil
  · skip
    refine jlk_cons (sm_iconst rfl B.1 dX1_modifies_87) ?_
    refine jlk_cons (sm_istore B.1 dX1_modifies_88) ?_
    refine jlk_cons (sm_lload_n rfl B.1 dX1_modifies_90) ?_
    refine jlk_cons (sm_iload B.1 dX1_modifies_91) ?_
    refine jlk_cons (sm_ifeq rfl B.1 dX1_modifies_93) ?_
    refine jlk_cons (sm_aload_n rfl B.1 dX1_modifies_96) ?_
    refine jlk_cons (sm_cV (x := yX1_analyze) (host := "") (owner := "") isRP (i_X1_analyze hI) B q1293 q1295 qs12 w4_X1_analyze w6_X1_analyze (by decide) (by decide) (by decide) kc_1 hy_X1_analyze hl_X1_analyze dX1_modifies_97 trivial) ?_
    refine jlk_cons (sm_aload B.1 dX1_modifies_100) ?_
    refine jlk_cons (sm_getPN B.1 fn_PointerAnalyzer_129_3_14 dX1_modifies_102) ?_
    refine jlk_cons (sm_getIN B.1 fn_PointerAnalyzer_275_7_73 dX1_modifies_105) ?_
    refine jlk_cons (sm_cV (x := yX8_pointsTo) (host := "") (owner := "") isRL (i_X8_pointsTo hI) B q2120 q2121 q2122 w4_X8_pointsTo w6_X8_pointsTo (by decide) (by decide) (by decide) kc_8 hy_X8_pointsTo hl_X8_pointsTo dX1_modifies_108 trivial) ?_
    refine jlk_cons (sm_goto rfl B.1 dX1_modifies_111) ?_
    refine jlk_cons (sm_lconst rfl B.1 dX1_modifies_114) ?_
    refine jlk_cons (sm_lor B.1 dX1_modifies_115) ?_
    refine jlk_cons (sm_lstore_n rfl B.1 dX1_modifies_116) ?_
    refine jlk_cons (sm_iinc rfl B.1 dX1_modifies_117) ?_
    refine jlk_cons (sm_goto rfl B.1 dX1_modifies_120) ?_
    refine jlk_cons (sm_lload_n rfl B.1 dX1_modifies_123) ?_
    refine jlk_cons (sm_lret B.1 B.2.1 hret dX1_modifies_124) ?_
    exact jlk_nil
theorem v_X1_modifies (hst : l.stackTraces = false) (hz : jEz (EV (d + 1))) (hI : jIH l D dA lo cs0 d) : jMe l D dA lo cs0 (EV (d + 1)) 134 yX1_modifies (ws_ yX1_modifies cX1_modifies 8 (Option.some Jvm.ClassFile.FieldType.long)) (d + 1) := z_meth hz rfl hp_X1_modifies (r_X1_modifies hst hI)
theorem r_X1_isReachable (hst : l.stackTraces = false) (hI : jIH l D dA lo cs0 d) : jRows l D dA lo cs0 d 2 (tb_X1_isReachable (EV d)) yX1_isReachable cX1_isReachable (Option.some Jvm.ClassFile.FieldType.boolean) [] := by
  intro p e R s m args below meth c z0 w0 zF wF Q rF hF B hz hw hret hnm
  refine jlk_cons (sm_iload_n rfl B.1 dX1_isReachable_0) ?_
  refine jlk_cons (sm_cS (x := yX1_isFunction) (r9 := kr_6) (host := "") (owner := "") isSI (i_X1_isFunction hI) B q2448 q2449 w4_X1_isFunction w6_X1_isFunction (by decide) hy_X1_isFunction hl_X1_isFunction dX1_isReachable_1 trivial) ?_
  refine jlk_cons (sm_cS (x := yX1_requireIndex) (r9 := kr_6) (host := "") (owner := "") isXSV (i_X1_requireIndex hI) B q2451 q2452 w4_X1_requireIndex w6_X1_requireIndex (by decide) hy_X1_requireIndex hl_X1_requireIndex dX1_isReachable_4 rfl) ?_
  refine jlk_cons (sm_aload_n rfl B.1 dX1_isReachable_7) ?_
  refine jlk_cons (sm_cV (x := yX1_analyze) (host := "") (owner := "") isRP (i_X1_analyze hI) B q1293 q1295 qs12 w4_X1_analyze w6_X1_analyze (by decide) (by decide) (by decide) kc_1 hy_X1_analyze hl_X1_analyze dX1_isReachable_8 trivial) ?_
  refine jlk_cons (sm_getPN B.1 fn_PointerAnalyzer_154_8_77 dX1_isReachable_11) ?_
  refine jlk_cons (sm_iload_n rfl B.1 dX1_isReachable_14) ?_
  refine jlk_cons (sm_cV (x := yX10_count) (host := "") (owner := "") isRI (i_X10_count hI) B q2693 q1637 q1638 w4_X10_count w6_X10_count (by decide) (by decide) (by decide) kc_10 hy_X10_count hl_X10_count dX1_isReachable_15 trivial) ?_
  refine jlk_cons (sm_ifle rfl B.1 dX1_isReachable_18) ?_
  refine jlk_cons (sm_iconst rfl B.1 dX1_isReachable_21) ?_
  refine jlk_cons (sm_goto rfl B.1 dX1_isReachable_22) ?_
  refine jlk_cons (sm_iconst rfl B.1 dX1_isReachable_25) ?_
  refine jlk_cons (sm_zret B.1 B.2.1 hret dX1_isReachable_26) ?_
  exact jlk_nil
theorem v_X1_isReachable (hst : l.stackTraces = false) (hz : jEz (EV (d + 1))) (hI : jIH l D dA lo cs0 d) : jMe l D dA lo cs0 (EV (d + 1)) 136 yX1_isReachable (ws_ yX1_isReachable cX1_isReachable 2 (Option.some Jvm.ClassFile.FieldType.boolean)) (d + 1) := z_meth hz rfl hp_X1_isReachable (r_X1_isReachable hst hI)
theorem r_X1_isRecursive (hst : l.stackTraces = false) (hI : jIH l D dA lo cs0 d) : jRows l D dA lo cs0 d 2 (tb_X1_isRecursive (EV d)) yX1_isRecursive cX1_isRecursive (Option.some Jvm.ClassFile.FieldType.boolean) [] := by
  intro p e R s m args below meth c z0 w0 zF wF Q rF hF B hz hw hret hnm
  refine jlk_cons (sm_iload_n rfl B.1 dX1_isRecursive_0) ?_
  refine jlk_cons (sm_cS (x := yX1_isFunction) (r9 := kr_6) (host := "") (owner := "") isSI (i_X1_isFunction hI) B q2448 q2449 w4_X1_isFunction w6_X1_isFunction (by decide) hy_X1_isFunction hl_X1_isFunction dX1_isRecursive_1 trivial) ?_
  refine jlk_cons (sm_cS (x := yX1_requireIndex) (r9 := kr_6) (host := "") (owner := "") isXSV (i_X1_requireIndex hI) B q2451 q2452 w4_X1_requireIndex w6_X1_requireIndex (by decide) hy_X1_requireIndex hl_X1_requireIndex dX1_isRecursive_4 rfl) ?_
  refine jlk_cons (sm_aload_n rfl B.1 dX1_isRecursive_7) ?_
  refine jlk_cons (sm_getP B.1 fl_PointerAnalyzer_46_1_0 dX1_isRecursive_8) ?_
  refine jlk_cons (sm_iload_n rfl B.1 dX1_isRecursive_11) ?_
  refine jlk_cons (sm_cV (x := yX2_callees) (host := "") (owner := "") isRP (i_X2_callees hI) B q2142 q2143 q2144 w4_X2_callees w6_X2_callees (by decide) (by decide) (by decide) kc_2 hy_X2_callees hl_X2_callees dX1_isRecursive_12 trivial) ?_
  refine jlk_cons (sm_iload_n rfl B.1 dX1_isRecursive_15) ?_
  refine jlk_cons (sm_zald B.1 dX1_isRecursive_16) ?_
  refine jlk_cons (sm_zret B.1 B.2.1 hret dX1_isRecursive_17) ?_
  exact jlk_nil
theorem v_X1_isRecursive (hst : l.stackTraces = false) (hz : jEz (EV (d + 1))) (hI : jIH l D dA lo cs0 d) : jMe l D dA lo cs0 (EV (d + 1)) 137 yX1_isRecursive (ws_ yX1_isRecursive cX1_isRecursive 2 (Option.some Jvm.ClassFile.FieldType.boolean)) (d + 1) := z_meth hz rfl hp_X1_isRecursive (r_X1_isRecursive hst hI)
theorem r_X1_cycleOf (hst : l.stackTraces = false) (hI : jIH l D dA lo cs0 d) : jRows l D dA lo cs0 d 6 (tb_X1_cycleOf (EV d)) yX1_cycleOf cX1_cycleOf (Option.some Jvm.ClassFile.FieldType.int) [] := by
  intro p e R s m args below meth c z0 w0 zF wF Q rF hF B hz hw hret hnm
  refine jlk_app ?_ ?_
  · refine jlk_cons (sm_iload_n rfl B.1 dX1_cycleOf_0) ?_
    refine jlk_cons (sm_cS (x := yX1_isVariable) (r9 := kr_6) (host := "") (owner := "") isSI (i_X1_isVariable hI) B q2720 q2721 w4_X1_isVariable w6_X1_isVariable (by decide) hy_X1_isVariable hl_X1_isVariable dX1_cycleOf_1 trivial) ?_
    refine jlk_cons (sm_cS (x := yX1_requireIndex) (r9 := kr_6) (host := "") (owner := "") isXSV (i_X1_requireIndex hI) B q2451 q2452 w4_X1_requireIndex w6_X1_requireIndex (by decide) hy_X1_requireIndex hl_X1_requireIndex dX1_cycleOf_4 rfl) ?_
    refine jlk_cons (sm_aload_n rfl B.1 dX1_cycleOf_7) ?_
    refine jlk_cons (sm_cV (x := yX1_paths) (host := "") (owner := "") isRP (i_X1_paths hI) B q2830 q2832 qs63 w4_X1_paths w6_X1_paths (by decide) (by decide) (by decide) kc_1 hy_X1_paths hl_X1_paths dX1_cycleOf_8 trivial) ?_
    refine jlk_cons (sm_astore_n rfl B.1 dX1_cycleOf_11) ?_
    refine jlk_cons (sm_iconst rfl B.1 dX1_cycleOf_12) ?_
    refine jlk_cons (sm_iload_n rfl B.1 dX1_cycleOf_13) ?_
    refine jlk_cons (sm_ishl B.1 dX1_cycleOf_14) ?_
    refine jlk_cons (sm_istore_n rfl B.1 dX1_cycleOf_15) ?_
    refine jlk_cons (sm_iconst rfl B.1 dX1_cycleOf_16) ?_
    refine jlk_cons (sm_istore B.1 dX1_cycleOf_17) ?_
    refine jlk_cons (sm_iload B.1 dX1_cycleOf_19) ?_
    refine jlk_cons (sm_bipush rfl B.1 dX1_cycleOf_21) ?_
    refine jlk_cons (sm_icmpge rfl B.1 dX1_cycleOf_23) ?_
    refine jlk_cons (sm_aload_n rfl B.1 dX1_cycleOf_26) ?_
    refine jlk_cons (sm_iload_n rfl B.1 dX1_cycleOf_27) ?_
    refine jlk_cons (sm_iald B.1 dX1_cycleOf_28) ?_
    refine jlk_cons (sm_iload B.1 dX1_cycleOf_29) ?_
    refine jlk_cons (sm_ishr B.1 dX1_cycleOf_31) ?_
    refine jlk_cons (sm_iconst rfl B.1 dX1_cycleOf_32) ?_
    refine jlk_cons (sm_iand B.1 dX1_cycleOf_33) ?_
    refine jlk_cons (sm_iconst rfl B.1 dX1_cycleOf_34) ?_
    refine jlk_cons (sm_icmpne rfl B.1 dX1_cycleOf_35) ?_
    refine jlk_cons (sm_aload_n rfl B.1 dX1_cycleOf_38) ?_
    refine jlk_cons (sm_iload B.1 dX1_cycleOf_39) ?_
    refine jlk_cons (sm_iald B.1 dX1_cycleOf_41) ?_
    refine jlk_cons (sm_iload_n rfl B.1 dX1_cycleOf_42) ?_
    refine jlk_cons (sm_ishr B.1 dX1_cycleOf_43) ?_
    refine jlk_cons (sm_iconst rfl B.1 dX1_cycleOf_44) ?_
    refine jlk_cons (sm_iand B.1 dX1_cycleOf_45) ?_
    refine jlk_cons (sm_iconst rfl B.1 dX1_cycleOf_46) ?_
    refine jlk_cons (sm_icmpne rfl B.1 dX1_cycleOf_47) ?_
    refine jlk_cons (sm_iconst rfl B.1 dX1_cycleOf_50) ?_
    refine jlk_cons (sm_goto rfl B.1 dX1_cycleOf_51) ?_
    refine jlk_cons (sm_iconst rfl B.1 dX1_cycleOf_54) ?_
    refine jlk_cons (sm_istore B.1 dX1_cycleOf_55) ?_
    refine jlk_cons (sm_iload_n rfl B.1 dX1_cycleOf_57) ?_
    refine jlk_cons (sm_iload B.1 dX1_cycleOf_58) ?_
    refine jlk_cons (sm_ifeq rfl B.1 dX1_cycleOf_60) ?_
    exact jlk_nil
  · skip
    refine jlk_cons (sm_iconst rfl B.1 dX1_cycleOf_63) ?_
    refine jlk_cons (sm_iload B.1 dX1_cycleOf_64) ?_
    refine jlk_cons (sm_ishl B.1 dX1_cycleOf_66) ?_
    refine jlk_cons (sm_goto rfl B.1 dX1_cycleOf_67) ?_
    refine jlk_cons (sm_iconst rfl B.1 dX1_cycleOf_70) ?_
    refine jlk_cons (sm_ior B.1 dX1_cycleOf_71) ?_
    refine jlk_cons (sm_istore_n rfl B.1 dX1_cycleOf_72) ?_
    refine jlk_cons (sm_iinc rfl B.1 dX1_cycleOf_73) ?_
    refine jlk_cons (sm_goto rfl B.1 dX1_cycleOf_76) ?_
    refine jlk_cons (sm_iload_n rfl B.1 dX1_cycleOf_79) ?_
    refine jlk_cons (sm_iret B.1 B.2.1 hret dX1_cycleOf_80) ?_
    exact jlk_nil
theorem v_X1_cycleOf (hst : l.stackTraces = false) (hz : jEz (EV (d + 1))) (hI : jIH l D dA lo cs0 d) : jMe l D dA lo cs0 (EV (d + 1)) 138 yX1_cycleOf (ws_ yX1_cycleOf cX1_cycleOf 6 (Option.some Jvm.ClassFile.FieldType.int)) (d + 1) := z_meth hz rfl hp_X1_cycleOf (r_X1_cycleOf hst hI)
theorem r_X17_init (hst : l.stackTraces = false) (hI : jIH l D dA lo cs0 d) : jRows l D dA lo cs0 d 3 (tb_X17_init (EV d)) yX17_init cX17_init (Option.none : Option Jvm.ClassFile.FieldType) [((53 : Nat), (60 : Nat), (63 : Nat), (32 : Nat))] := by
  intro p e R s m args below meth c z0 w0 zF wF Q rF hF B hz hw hret hnm
  refine jlk_cons (sm_aload_n rfl B.1 dX17_init_0) ?_
  refine jlk_cons (sm_obj B.1 q2269 q196 q197 dX17_init_1) ?_
  refine jlk_cons (sm_aload_n rfl B.1 dX17_init_4) ?_
  refine jlk_cons (sm_iconst rfl B.1 dX17_init_5) ?_
  refine jlk_cons (sm_anew B.1 (by decide) rfl q2270 q2271 B.2.2.2 hz hw dX17_init_6) ?_
  refine jlk_cons (sm_putP B.1 fl_PointerAnalyzer_Run_11_17_105 tyX17 tyX17_ok nmX17 (Or.inr ⟨rfl, hnm, rfl⟩) rfl (tyX17_ok 1 (by decide)) rfl (by decide) dX17_init_9) ?_
  refine jlk_cons (sm_aload_n rfl B.1 dX17_init_12) ?_
  refine jlk_cons (sm_bipush rfl B.1 dX17_init_13) ?_
  refine jlk_cons (sm_newA B.1 (at9 := .long) rfl (by decide) rfl (by decide) hc_105 (fun _ => rfl) q1594 B.2.2.2 hz hw dX17_init_15) ?_
  refine jlk_cons (sm_putP B.1 fl_PointerAnalyzer_Run_17_17_106 tyX17 tyX17_ok nmX17 (Or.inr ⟨rfl, hnm, rfl⟩) rfl (tyX17_ok 2 (by decide)) rfl (by decide) dX17_init_17) ?_
  refine jlk_cons (sm_aload_n rfl B.1 dX17_init_20) ?_
  refine jlk_cons (sm_aload_n rfl B.1 dX17_init_21) ?_
  refine jlk_cons (sm_putP B.1 fl_PointerAnalyzer_Run_21_17_104 tyX17 tyX17_ok nmX17 (Or.inr ⟨rfl, hnm, rfl⟩) rfl (tyX17_ok 0 (by decide)) rfl (by decide) dX17_init_22) ?_
  refine jlk_cons (sm_iconst rfl B.1 dX17_init_25) ?_
  refine jlk_cons (sm_istore_n rfl B.1 dX17_init_26) ?_
  refine jlk_cons (sm_iload_n rfl B.1 dX17_init_27) ?_
  refine jlk_cons (sm_iconst rfl B.1 dX17_init_28) ?_
  refine jlk_cons (sm_icmpge rfl B.1 dX17_init_29) ?_
  refine jlk_cons (sm_aload_n rfl B.1 dX17_init_32) ?_
  refine jlk_cons (sm_getP B.1 fl_PointerAnalyzer_Run_11_17_105 dX17_init_33) ?_
  refine jlk_cons (sm_iload_n rfl B.1 dX17_init_36) ?_
  refine jlk_cons (sm_new B.1 kc_18 (by decide) (by decide) in_X18 tyX18 tyX18_ok kd_18 q2270 q2272 q187 B.2.2.2 hz hw dX17_init_37) ?_
  refine jlk_cons (sm_dup B.1 dX17_init_40) ?_
  refine jlk_cons (sm_iload_n rfl B.1 dX17_init_41) ?_
  refine jlk_cons (sm_null B.1 dX17_init_42) ?_
  refine jlk_cons (sm_cI (x := yX18_init) (r9 := kr_6) (host := "") (owner := "") isNV (i_X18_init hI) B q2273 q2274 w4_X18_init w6_X18_init (by decide) rfl hy_X18_init hl_X18_init dX17_init_43 trivial) ?_
  refine jlk_cons (sm_aast B.1 (t := 108) (by decide) (by decide) rfl (List.forall_mem_cons.mpr ⟨⟨by decide, by decide, _, kc_18, Or.inl rfl⟩, (List.forall_mem_nil _)⟩) dX17_init_46) ?_
  refine jlk_cons (sm_iinc rfl B.1 dX17_init_47) ?_
  refine jlk_cons (sm_goto rfl B.1 dX17_init_50) ?_
  refine jlk_cons (sm_aload_n rfl B.1 dX17_init_53) ?_
  refine jlk_cons (sm_iconst rfl B.1 dX17_init_54) ?_
  refine jlk_cons (sm_null B.1 dX17_init_55) ?_
  refine jlk_cons (sm_cV (x := yX17_activate) (host := "") (owner := "") isXRP (i_X17_activate hI) B q2289 q2291 qs41 w4_X17_activate w6_X17_activate (by decide) (by decide) (by decide) kc_17 hy_X17_activate hl_X17_activate dX17_init_56 (jHok_yes (by decide) (jHm_of (by decide) q2268 (jex7 (hm_n (by decide) kc_6 (B.1.2.2.2.2.2.2.2.2.2.1.2.2.1 _ (List.mem_of_getElem? (i := 0) rfl))) (hm_y (by decide) kc_19 (q2312)) (hm_n (by decide) kc_29 (B.1.2.2.2.2.2.2.2.2.2.1.2.2.1 _ (List.mem_of_getElem? (i := 13) rfl))) (hm_n (by decide) kc_30 (B.1.2.2.2.2.2.2.2.2.2.1.2.2.1 _ (List.mem_of_getElem? (i := 19) rfl))) (hm_n (by decide) kc_31 (B.1.2.2.2.2.2.2.2.2.2.1.2.2.1 _ (List.mem_of_getElem? (i := 25) rfl))) (hm_n (by decide) kc_32 (B.1.2.2.2.2.2.2.2.2.2.1.2.2.1 _ (List.mem_of_getElem? (i := 31) rfl))) (hm_n (by decide) kc_33 (B.1.2.2.2.2.2.2.2.2.2.1.2.2.1 _ (List.mem_of_getElem? (i := 37) rfl))))) rfl)) ?_
  refine jlk_cons (sm_pop B.1 dX17_init_59) ?_
  refine jlk_cons (sm_goto rfl B.1 dX17_init_60) ?_
  refine jlk_cons (sm_astore_n rfl B.1 dX17_init_63) ?_
  refine jlk_cons (sm_aload_n rfl B.1 dX17_init_64) ?_
  refine jlk_cons (sm_iconst rfl B.1 dX17_init_65) ?_
  refine jlk_cons (sm_putI B.1 fl_PointerAnalyzer_Run_34_17_110 tyX17 tyX17_ok nmX17 (Or.inl rfl) (tyX17_ok 6 (by decide)) rfl (by decide) dX17_init_66) ?_
  refine jlk_cons (sm_vret B.1 B.2.1 hret dX17_init_69) ?_
  exact jlk_nil
theorem v_X17_init (hst : l.stackTraces = false) (hz : jEz (EV (d + 1))) (hI : jIH l D dA lo cs0 d) : jMe l D dA lo cs0 (EV (d + 1)) 140 yX17_init (wsW_ yX17_init cX17_init 3 (Option.none : Option Jvm.ClassFile.FieldType) [((53 : Nat), (60 : Nat), (63 : Nat), (32 : Nat))]) (d + 1) := z_methW hz rfl hp_X17_init (r_X17_init hst hI)
theorem r_X1_observed (hst : l.stackTraces = false) (hI : jIH l D dA lo cs0 d) : jRows l D dA lo cs0 d 2 (tb_X1_observed (EV d)) yX1_observed cX1_observed (Option.some Jvm.ClassFile.FieldType.long) [] := by
  intro p e R s m args below meth c z0 w0 zF wF Q rF hF B hz hw hret hnm
  refine jlk_cons (sm_iload_n rfl B.1 dX1_observed_0) ?_
  refine jlk_cons (sm_cS (x := yX1_isVariable) (r9 := kr_6) (host := "") (owner := "") isSI (i_X1_isVariable hI) B q2720 q2721 w4_X1_isVariable w6_X1_isVariable (by decide) hy_X1_isVariable hl_X1_isVariable dX1_observed_1 trivial) ?_
  refine jlk_cons (sm_cS (x := yX1_requireIndex) (r9 := kr_6) (host := "") (owner := "") isXSV (i_X1_requireIndex hI) B q2451 q2452 w4_X1_requireIndex w6_X1_requireIndex (by decide) hy_X1_requireIndex hl_X1_requireIndex dX1_observed_4 rfl) ?_
  refine jlk_cons (sm_aload_n rfl B.1 dX1_observed_7) ?_
  refine jlk_cons (sm_getP B.1 fl_PointerAnalyzer_89_1_3 dX1_observed_8) ?_
  refine jlk_cons (sm_ifnonnull rfl B.1 dX1_observed_11) ?_
  refine jlk_cons (sm_lconst rfl B.1 dX1_observed_14) ?_
  refine jlk_cons (sm_goto rfl B.1 dX1_observed_15) ?_
  refine jlk_cons (sm_aload_n rfl B.1 dX1_observed_18) ?_
  refine jlk_cons (sm_getP B.1 fl_PointerAnalyzer_89_1_3 dX1_observed_19) ?_
  refine jlk_cons (sm_getPN B.1 fn_PointerAnalyzer_300_17_106 dX1_observed_22) ?_
  refine jlk_cons (sm_iload_n rfl B.1 dX1_observed_25) ?_
  refine jlk_cons (sm_lald B.1 dX1_observed_26) ?_
  refine jlk_cons (sm_lret B.1 B.2.1 hret dX1_observed_27) ?_
  exact jlk_nil
theorem v_X1_observed (hst : l.stackTraces = false) (hz : jEz (EV (d + 1))) (hI : jIH l D dA lo cs0 d) : jMe l D dA lo cs0 (EV (d + 1)) 144 yX1_observed (ws_ yX1_observed cX1_observed 2 (Option.some Jvm.ClassFile.FieldType.long)) (d + 1) := z_meth hz rfl hp_X1_observed (r_X1_observed hst hI)
theorem r_X1_fieldObserved (hst : l.stackTraces = false) (hI : jIH l D dA lo cs0 d) : jRows l D dA lo cs0 d 4 (tb_X1_fieldObserved (EV d)) yX1_fieldObserved cX1_fieldObserved (Option.some Jvm.ClassFile.FieldType.long) [] := by
  intro p e R s m args below meth c z0 w0 zF wF Q rF hF B hz hw hret hnm
  refine jlk_cons (sm_aload_n rfl B.1 dX1_fieldObserved_0) ?_
  refine jlk_cons (sm_iload_n rfl B.1 dX1_fieldObserved_1) ?_
  refine jlk_cons (sm_iload_n rfl B.1 dX1_fieldObserved_2) ?_
  refine jlk_cons (sm_cV (x := yX1_code) (host := "") (owner := "") isXRI (i_X1_code hI) B q2740 q2742 qs61 w4_X1_code w6_X1_code (by decide) (by decide) (by decide) kc_1 hy_X1_code hl_X1_code dX1_fieldObserved_3 rfl) ?_
  refine jlk_cons (sm_istore_n rfl B.1 dX1_fieldObserved_6) ?_
  refine jlk_cons (sm_aload_n rfl B.1 dX1_fieldObserved_7) ?_
  refine jlk_cons (sm_getP B.1 fl_PointerAnalyzer_89_1_3 dX1_fieldObserved_8) ?_
  refine jlk_cons (sm_ifnonnull rfl B.1 dX1_fieldObserved_11) ?_
  refine jlk_cons (sm_lconst rfl B.1 dX1_fieldObserved_14) ?_
  refine jlk_cons (sm_goto rfl B.1 dX1_fieldObserved_15) ?_
  refine jlk_cons (sm_aload_n rfl B.1 dX1_fieldObserved_18) ?_
  refine jlk_cons (sm_getP B.1 fl_PointerAnalyzer_89_1_3 dX1_fieldObserved_19) ?_
  refine jlk_cons (sm_getPN B.1 fn_PointerAnalyzer_300_17_106 dX1_fieldObserved_22) ?_
  refine jlk_cons (sm_iload_n rfl B.1 dX1_fieldObserved_25) ?_
  refine jlk_cons (sm_lald B.1 dX1_fieldObserved_26) ?_
  refine jlk_cons (sm_lret B.1 B.2.1 hret dX1_fieldObserved_27) ?_
  exact jlk_nil
theorem v_X1_fieldObserved (hst : l.stackTraces = false) (hz : jEz (EV (d + 1))) (hI : jIH l D dA lo cs0 d) : jMe l D dA lo cs0 (EV (d + 1)) 145 yX1_fieldObserved (ws_ yX1_fieldObserved cX1_fieldObserved 4 (Option.some Jvm.ClassFile.FieldType.long)) (d + 1) := z_meth hz rfl hp_X1_fieldObserved (r_X1_fieldObserved hst hI)
theorem r_X1_precision (hst : l.stackTraces = false) (hI : jIH l D dA lo cs0 d) : jRows l D dA lo cs0 d 5 (tb_X1_precision (EV d)) yX1_precision cX1_precision (Option.some Jvm.ClassFile.FieldType.double) [] := by
  intro p e R s m args below meth c z0 w0 zF wF Q rF hF B hz hw hret hnm
  refine jlk_app ?_ ?_
  · refine jlk_cons (sm_new B.1 kc_15 (by decide) (by decide) in_X15 tyX15 tyX15_ok kd_15 q2204 q2205 q184 B.2.2.2 hz hw dX1_precision_0) ?_
    refine jlk_cons (sm_dup B.1 dX1_precision_3) ?_
    refine jlk_cons (sm_aload_n rfl B.1 dX1_precision_4) ?_
    refine jlk_cons (sm_getP B.1 fl_PointerAnalyzer_46_1_0 dX1_precision_5) ?_
    refine jlk_cons (sm_cI (x := yX15_init) (r9 := kr_6) (host := "") (owner := "") isNV (i_X15_init hI) B q2206 q2207 w4_X15_init w6_X15_init (by decide) rfl hy_X15_init hl_X15_init dX1_precision_8 trivial) ?_
    refine jlk_cons (sm_astore_n rfl B.1 dX1_precision_11) ?_
    refine jlk_cons (sm_iconst rfl B.1 dX1_precision_12) ?_
    refine jlk_cons (sm_istore_n rfl B.1 dX1_precision_13) ?_
    refine jlk_cons (sm_iconst rfl B.1 dX1_precision_14) ?_
    refine jlk_cons (sm_istore_n rfl B.1 dX1_precision_15) ?_
    refine jlk_cons (sm_iconst rfl B.1 dX1_precision_16) ?_
    refine jlk_cons (sm_istore B.1 dX1_precision_17) ?_
    refine jlk_cons (sm_iload B.1 dX1_precision_19) ?_
    refine jlk_cons (sm_bipush rfl B.1 dX1_precision_21) ?_
    refine jlk_cons (sm_icmpge rfl B.1 dX1_precision_23) ?_
    refine jlk_cons (sm_iload_n rfl B.1 dX1_precision_26) ?_
    refine jlk_cons (sm_aload_n rfl B.1 dX1_precision_27) ?_
    refine jlk_cons (sm_cV (x := yX1_analyze) (host := "") (owner := "") isRP (i_X1_analyze hI) B q1293 q1295 qs12 w4_X1_analyze w6_X1_analyze (by decide) (by decide) (by decide) kc_1 hy_X1_analyze hl_X1_analyze dX1_precision_28 trivial) ?_
    refine jlk_cons (sm_iload B.1 dX1_precision_31) ?_
    refine jlk_cons (sm_cV (x := yX8_pointsTo) (host := "") (owner := "") isRL (i_X8_pointsTo hI) B q2120 q2121 q2122 w4_X8_pointsTo w6_X8_pointsTo (by decide) (by decide) (by decide) kc_8 hy_X8_pointsTo hl_X8_pointsTo dX1_precision_33 trivial) ?_
    refine jlk_cons (sm_cS (x := yJ12_bitCount) (r9 := kr_6) (host := "") (owner := "") isSI (i_J12_bitCount hI) B q2871 q628 w4_J12_bitCount w6_J12_bitCount (by decide) hy_J12_bitCount hl_J12_bitCount dX1_precision_36 trivial) ?_
    refine jlk_cons (sm_iadd B.1 dX1_precision_39) ?_
    refine jlk_cons (sm_istore_n rfl B.1 dX1_precision_40) ?_
    refine jlk_cons (sm_iload_n rfl B.1 dX1_precision_41) ?_
    refine jlk_cons (sm_aload_n rfl B.1 dX1_precision_42) ?_
    refine jlk_cons (sm_iload B.1 dX1_precision_43) ?_
    refine jlk_cons (sm_cV (x := yX15_targets) (host := "") (owner := "") isRL (i_X15_targets hI) B q2786 q2787 q2788 w4_X15_targets w6_X15_targets (by decide) (by decide) (by decide) kc_15 hy_X15_targets hl_X15_targets dX1_precision_45 trivial) ?_
    refine jlk_cons (sm_cS (x := yJ12_bitCount) (r9 := kr_6) (host := "") (owner := "") isSI (i_J12_bitCount hI) B q2871 q628 w4_J12_bitCount w6_J12_bitCount (by decide) hy_J12_bitCount hl_J12_bitCount dX1_precision_48 trivial) ?_
    refine jlk_cons (sm_iadd B.1 dX1_precision_51) ?_
    refine jlk_cons (sm_istore_n rfl B.1 dX1_precision_52) ?_
    refine jlk_cons (sm_iinc rfl B.1 dX1_precision_53) ?_
    refine jlk_cons (sm_goto rfl B.1 dX1_precision_56) ?_
    refine jlk_cons (sm_iload_n rfl B.1 dX1_precision_59) ?_
    refine jlk_cons (sm_ifne rfl B.1 dX1_precision_60) ?_
    refine jlk_cons (sm_thr0 B hst (cls := "java/lang/ArithmeticException") (names := ["java/lang/RuntimeException", "java/lang/Exception"]) (by decide +kernel) (by decide +kernel) rfl q2872 q189 at_0 at_0g kc_33 (by first | decide | (unfold jexk; decide)) (by first | decide | (unfold jexk; decide)) (by first | decide | (unfold jexk; decide)) hz hw dX1_precision_63 dX1_precision_66 dX1_precision_67 dX1_precision_70 rfl) ?_
    refine jlk_cons (sm_iload_n rfl B.1 dX1_precision_71) ?_
    refine jlk_cons (sm_i2d B.1 dX1_precision_72) ?_
    refine jlk_cons (sm_iload_n rfl B.1 dX1_precision_73) ?_
    refine jlk_cons (sm_i2d B.1 dX1_precision_74) ?_
    refine jlk_cons (sm_ddiv B.1 dX1_precision_75) ?_
    exact jlk_nil
  · skip
    refine jlk_cons (sm_dret B.1 B.2.1 hret dX1_precision_76) ?_
    exact jlk_nil
theorem v_X1_precision (hst : l.stackTraces = false) (hz : jEz (EV (d + 1))) (hI : jIH l D dA lo cs0 d) : jMe l D dA lo cs0 (EV (d + 1)) 146 yX1_precision (ws_ yX1_precision cX1_precision 5 (Option.some Jvm.ClassFile.FieldType.double)) (d + 1) := z_meth hz rfl hp_X1_precision (r_X1_precision hst hI)
theorem r_X1_averageTargets (hst : l.stackTraces = false) (hI : jIH l D dA lo cs0 d) : jRows l D dA lo cs0 d 5 (tb_X1_averageTargets (EV d)) yX1_averageTargets cX1_averageTargets (Option.some Jvm.ClassFile.FieldType.float) [] := by
  intro p e R s m args below meth c z0 w0 zF wF Q rF hF B hz hw hret hnm
  refine jlk_cons (sm_iconst rfl B.1 dX1_averageTargets_0) ?_
  refine jlk_cons (sm_istore_n rfl B.1 dX1_averageTargets_1) ?_
  refine jlk_cons (sm_iconst rfl B.1 dX1_averageTargets_2) ?_
  refine jlk_cons (sm_istore_n rfl B.1 dX1_averageTargets_3) ?_
  refine jlk_cons (sm_iconst rfl B.1 dX1_averageTargets_4) ?_
  refine jlk_cons (sm_istore_n rfl B.1 dX1_averageTargets_5) ?_
  refine jlk_cons (sm_iload_n rfl B.1 dX1_averageTargets_6) ?_
  refine jlk_cons (sm_bipush rfl B.1 dX1_averageTargets_7) ?_
  refine jlk_cons (sm_icmpge rfl B.1 dX1_averageTargets_9) ?_
  refine jlk_cons (sm_aload_n rfl B.1 dX1_averageTargets_12) ?_
  refine jlk_cons (sm_cV (x := yX1_analyze) (host := "") (owner := "") isRP (i_X1_analyze hI) B q1293 q1295 qs12 w4_X1_analyze w6_X1_analyze (by decide) (by decide) (by decide) kc_1 hy_X1_analyze hl_X1_analyze dX1_averageTargets_13 trivial) ?_
  refine jlk_cons (sm_iload_n rfl B.1 dX1_averageTargets_16) ?_
  refine jlk_cons (sm_cV (x := yX8_pointsTo) (host := "") (owner := "") isRL (i_X8_pointsTo hI) B q2120 q2121 q2122 w4_X8_pointsTo w6_X8_pointsTo (by decide) (by decide) (by decide) kc_8 hy_X8_pointsTo hl_X8_pointsTo dX1_averageTargets_17 trivial) ?_
  refine jlk_cons (sm_cS (x := yJ12_bitCount) (r9 := kr_6) (host := "") (owner := "") isSI (i_J12_bitCount hI) B q2871 q628 w4_J12_bitCount w6_J12_bitCount (by decide) hy_J12_bitCount hl_J12_bitCount dX1_averageTargets_20 trivial) ?_
  refine jlk_cons (sm_istore B.1 dX1_averageTargets_23) ?_
  refine jlk_cons (sm_iload_n rfl B.1 dX1_averageTargets_25) ?_
  refine jlk_cons (sm_iload B.1 dX1_averageTargets_26) ?_
  refine jlk_cons (sm_iadd B.1 dX1_averageTargets_28) ?_
  refine jlk_cons (sm_istore_n rfl B.1 dX1_averageTargets_29) ?_
  refine jlk_cons (sm_iload_n rfl B.1 dX1_averageTargets_30) ?_
  refine jlk_cons (sm_iload B.1 dX1_averageTargets_31) ?_
  refine jlk_cons (sm_ifle rfl B.1 dX1_averageTargets_33) ?_
  refine jlk_cons (sm_iconst rfl B.1 dX1_averageTargets_36) ?_
  refine jlk_cons (sm_goto rfl B.1 dX1_averageTargets_37) ?_
  refine jlk_cons (sm_iconst rfl B.1 dX1_averageTargets_40) ?_
  refine jlk_cons (sm_iadd B.1 dX1_averageTargets_41) ?_
  refine jlk_cons (sm_istore_n rfl B.1 dX1_averageTargets_42) ?_
  refine jlk_cons (sm_iinc rfl B.1 dX1_averageTargets_43) ?_
  refine jlk_cons (sm_goto rfl B.1 dX1_averageTargets_46) ?_
  refine jlk_cons (sm_iload_n rfl B.1 dX1_averageTargets_49) ?_
  refine jlk_cons (sm_ifne rfl B.1 dX1_averageTargets_50) ?_
  refine jlk_cons (sm_thr0 B hst (cls := "java/lang/ArithmeticException") (names := ["java/lang/RuntimeException", "java/lang/Exception"]) (by decide +kernel) (by decide +kernel) rfl q2872 q189 at_0 at_0g kc_33 (by first | decide | (unfold jexk; decide)) (by first | decide | (unfold jexk; decide)) (by first | decide | (unfold jexk; decide)) hz hw dX1_averageTargets_53 dX1_averageTargets_56 dX1_averageTargets_57 dX1_averageTargets_60 rfl) ?_
  refine jlk_cons (sm_iload_n rfl B.1 dX1_averageTargets_61) ?_
  refine jlk_cons (sm_i2f B.1 dX1_averageTargets_62) ?_
  refine jlk_cons (sm_iload_n rfl B.1 dX1_averageTargets_63) ?_
  refine jlk_cons (sm_i2f B.1 dX1_averageTargets_64) ?_
  refine jlk_cons (sm_fdiv B.1 dX1_averageTargets_65) ?_
  refine jlk_cons (sm_fret B.1 B.2.1 hret dX1_averageTargets_66) ?_
  exact jlk_nil
theorem v_X1_averageTargets (hst : l.stackTraces = false) (hz : jEz (EV (d + 1))) (hI : jIH l D dA lo cs0 d) : jMe l D dA lo cs0 (EV (d + 1)) 147 yX1_averageTargets (ws_ yX1_averageTargets cX1_averageTargets 5 (Option.some Jvm.ClassFile.FieldType.float)) (d + 1) := z_meth hz rfl hp_X1_averageTargets (r_X1_averageTargets hst hI)
theorem r_X1_restore (hst : l.stackTraces = false) (hI : jIH l D dA lo cs0 d) : jRows l D dA lo cs0 d 1 (tb_X1_restore (EV d)) yX1_restore cX1_restore (Option.none : Option Jvm.ClassFile.FieldType) [] := by
  intro p e R s m args below meth c z0 w0 zF wF Q rF hF B hz hw hret hnm
  refine jlk_cons (sm_aload_n rfl B.1 dX1_restore_0) ?_
  refine jlk_cons (sm_getP B.1 fl_PointerAnalyzer_316_1_7 dX1_restore_1) ?_
  refine jlk_cons (sm_ifnull rfl B.1 dX1_restore_4) ?_
  refine jlk_cons (sm_iconst rfl B.1 dX1_restore_7) ?_
  refine jlk_cons (sm_goto rfl B.1 dX1_restore_8) ?_
  refine jlk_cons (sm_iconst rfl B.1 dX1_restore_11) ?_
  refine jlk_cons (sm_cS (x := yX1_requireState) (r9 := kr_6) (host := "") (owner := "") isXSV (i_X1_requireState hI) B q2407 q2408 w4_X1_requireState w6_X1_requireState (by decide) hy_X1_requireState hl_X1_requireState dX1_restore_12 rfl) ?_
  refine jlk_cons (sm_aload_n rfl B.1 dX1_restore_15) ?_
  refine jlk_cons (sm_aload_n rfl B.1 dX1_restore_16) ?_
  refine jlk_cons (sm_getI B.1 fl_PointerAnalyzer_319_1_8 dX1_restore_17) ?_
  refine jlk_cons (sm_putI B.1 fl_PointerAnalyzer_142_1_1 tyX1 tyX1_ok nmX1 (Or.inl rfl) (tyX1_ok 1 (by decide)) rfl (by decide) dX1_restore_20) ?_
  refine jlk_cons (sm_aload_n rfl B.1 dX1_restore_23) ?_
  refine jlk_cons (sm_aload_n rfl B.1 dX1_restore_24) ?_
  refine jlk_cons (sm_getP B.1 fl_PointerAnalyzer_316_1_7 dX1_restore_25) ?_
  refine jlk_cons (sm_cV (x := yX1_setProgram) (host := "") (owner := "") isRV (i_X1_setProgram hI) B q2655 q2657 qs58 w4_X1_setProgram w6_X1_setProgram (by decide) (by decide) (by decide) kc_1 hy_X1_setProgram hl_X1_setProgram dX1_restore_28 trivial) ?_
  refine jlk_cons (sm_vret B.1 B.2.1 hret dX1_restore_31) ?_
  exact jlk_nil
theorem v_X1_restore (hst : l.stackTraces = false) (hz : jEz (EV (d + 1))) (hI : jIH l D dA lo cs0 d) : jMe l D dA lo cs0 (EV (d + 1)) 149 yX1_restore (ws_ yX1_restore cX1_restore 1 (Option.none : Option Jvm.ClassFile.FieldType)) (d + 1) := z_meth hz rfl hp_X1_restore (r_X1_restore hst hI)
theorem r_X3_init (hst : l.stackTraces = false) (hI : jIH l D dA lo cs0 d) : jRows l D dA lo cs0 d 5 (tb_X3_init (EV d)) yX3_init cX3_init (Option.none : Option Jvm.ClassFile.FieldType) [] := by
  intro p e R s m args below meth c z0 w0 zF wF Q rF hF B hz hw hret hnm
  refine jlk_cons (sm_aload_n rfl B.1 dX3_init_0) ?_
  refine jlk_cons (sm_obj B.1 q1170 q196 q197 dX3_init_1) ?_
  refine jlk_cons (sm_aload_n rfl B.1 dX3_init_4) ?_
  refine jlk_cons (sm_iload_n rfl B.1 dX3_init_5) ?_
  refine jlk_cons (sm_putI B.1 fl_PointerAnalyzer_Statement_7_3_12 tyX3 tyX3_ok nmX3 (Or.inr ⟨rfl, hnm, rfl⟩) (tyX3_ok 0 (by decide)) rfl (by decide) dX3_init_6) ?_
  refine jlk_cons (sm_aload_n rfl B.1 dX3_init_9) ?_
  refine jlk_cons (sm_iload_n rfl B.1 dX3_init_10) ?_
  refine jlk_cons (sm_putI B.1 fl_PointerAnalyzer_Statement_13_3_13 tyX3 tyX3_ok nmX3 (Or.inr ⟨rfl, hnm, rfl⟩) (tyX3_ok 1 (by decide)) rfl (by decide) dX3_init_11) ?_
  refine jlk_cons (sm_aload_n rfl B.1 dX3_init_14) ?_
  refine jlk_cons (sm_aload_n rfl B.1 dX3_init_15) ?_
  refine jlk_cons (sm_putP B.1 fl_PointerAnalyzer_Statement_16_3_14 tyX3 tyX3_ok nmX3 (Or.inr ⟨rfl, hnm, rfl⟩) rfl (tyX3_ok 2 (by decide)) rfl (by decide) dX3_init_16) ?_
  refine jlk_cons (sm_aload_n rfl B.1 dX3_init_19) ?_
  refine jlk_cons (sm_iload B.1 dX3_init_20) ?_
  refine jlk_cons (sm_putI B.1 fl_PointerAnalyzer_Statement_20_3_15 tyX3 tyX3_ok nmX3 (Or.inr ⟨rfl, hnm, rfl⟩) (tyX3_ok 3 (by decide)) rfl (by decide) dX3_init_22) ?_
  refine jlk_cons (sm_vret B.1 B.2.1 hret dX3_init_25) ?_
  exact jlk_nil
theorem v_X3_init (hst : l.stackTraces = false) (hz : jEz (EV (d + 1))) (hI : jIH l D dA lo cs0 d) : jMe l D dA lo cs0 (EV (d + 1)) 157 yX3_init (ws_ yX3_init cX3_init 5 (Option.none : Option Jvm.ClassFile.FieldType)) (d + 1) := z_meth hz rfl hp_X3_init (r_X3_init hst hI)
theorem r_X1_isBetween (hst : l.stackTraces = false) (hI : jIH l D dA lo cs0 d) : jRows l D dA lo cs0 d 3 (tb_X1_isBetween (EV d)) yX1_isBetween cX1_isBetween (Option.some Jvm.ClassFile.FieldType.boolean) [] := by
  intro p e R s m args below meth c z0 w0 zF wF Q rF hF B hz hw hret hnm
  refine jlk_cons (sm_iload_n rfl B.1 dX1_isBetween_0) ?_
  refine jlk_cons (sm_iload_n rfl B.1 dX1_isBetween_1) ?_
  refine jlk_cons (sm_icmplt rfl B.1 dX1_isBetween_2) ?_
  refine jlk_cons (sm_iload_n rfl B.1 dX1_isBetween_5) ?_
  refine jlk_cons (sm_iload_n rfl B.1 dX1_isBetween_6) ?_
  refine jlk_cons (sm_icmpgt rfl B.1 dX1_isBetween_7) ?_
  refine jlk_cons (sm_iconst rfl B.1 dX1_isBetween_10) ?_
  refine jlk_cons (sm_goto rfl B.1 dX1_isBetween_11) ?_
  refine jlk_cons (sm_iconst rfl B.1 dX1_isBetween_14) ?_
  refine jlk_cons (sm_zret B.1 B.2.1 hret dX1_isBetween_15) ?_
  exact jlk_nil
theorem v_X1_isBetween (hst : l.stackTraces = false) (hz : jEz (EV (d + 1))) (hI : jIH l D dA lo cs0 d) : jMe l D dA lo cs0 (EV (d + 1)) 159 yX1_isBetween (ws_ yX1_isBetween cX1_isBetween 3 (Option.some Jvm.ClassFile.FieldType.boolean)) (d + 1) := z_meth hz rfl hp_X1_isBetween (r_X1_isBetween hst hI)
theorem r_X1_requireArgument (hst : l.stackTraces = false) (hI : jIH l D dA lo cs0 d) : jRows l D dA lo cs0 d 1 (tb_X1_requireArgument (EV d)) yX1_requireArgument cX1_requireArgument (Option.none : Option Jvm.ClassFile.FieldType) [] := by
  intro p e R s m args below meth c z0 w0 zF wF Q rF hF B hz hw hret hnm
  refine jlk_cons (sm_iload_n rfl B.1 dX1_requireArgument_0) ?_
  refine jlk_cons (sm_ifne rfl B.1 dX1_requireArgument_1) ?_
  refine jlk_cons (sm_thr0 B hst (cls := "java/lang/IllegalArgumentException") (names := ["java/lang/RuntimeException", "java/lang/Exception"]) (by decide +kernel) (by decide +kernel) rfl q2405 q161 at_1 at_1g kc_30 (by first | decide | (unfold jexk; decide)) (by first | decide | (unfold jexk; decide)) (by first | decide | (unfold jexk; decide)) hz hw dX1_requireArgument_4 dX1_requireArgument_7 dX1_requireArgument_8 dX1_requireArgument_11 rfl) ?_
  refine jlk_cons (sm_vret B.1 B.2.1 hret dX1_requireArgument_12) ?_
  exact jlk_nil
theorem v_X1_requireArgument (hst : l.stackTraces = false) (hz : jEz (EV (d + 1))) (hI : jIH l D dA lo cs0 d) : jMe l D dA lo cs0 (EV (d + 1)) 160 yX1_requireArgument (ws_ yX1_requireArgument cX1_requireArgument 1 (Option.none : Option Jvm.ClassFile.FieldType)) (d + 1) := z_meth hz rfl hp_X1_requireArgument (r_X1_requireArgument hst hI)
theorem r_X1_requireState (hst : l.stackTraces = false) (hI : jIH l D dA lo cs0 d) : jRows l D dA lo cs0 d 1 (tb_X1_requireState (EV d)) yX1_requireState cX1_requireState (Option.none : Option Jvm.ClassFile.FieldType) [] := by
  intro p e R s m args below meth c z0 w0 zF wF Q rF hF B hz hw hret hnm
  refine jlk_cons (sm_iload_n rfl B.1 dX1_requireState_0) ?_
  refine jlk_cons (sm_ifne rfl B.1 dX1_requireState_1) ?_
  refine jlk_cons (sm_thr0 B hst (cls := "java/lang/IllegalStateException") (names := ["java/lang/RuntimeException", "java/lang/Exception"]) (by decide +kernel) (by decide +kernel) rfl q2410 q162 at_2 at_2g kc_31 (by first | decide | (unfold jexk; decide)) (by first | decide | (unfold jexk; decide)) (by first | decide | (unfold jexk; decide)) hz hw dX1_requireState_4 dX1_requireState_7 dX1_requireState_8 dX1_requireState_11 rfl) ?_
  refine jlk_cons (sm_vret B.1 B.2.1 hret dX1_requireState_12) ?_
  exact jlk_nil
theorem v_X1_requireState (hst : l.stackTraces = false) (hz : jEz (EV (d + 1))) (hI : jIH l D dA lo cs0 d) : jMe l D dA lo cs0 (EV (d + 1)) 161 yX1_requireState (ws_ yX1_requireState cX1_requireState 1 (Option.none : Option Jvm.ClassFile.FieldType)) (d + 1) := z_meth hz rfl hp_X1_requireState (r_X1_requireState hst hI)
theorem r_X1_isFunction (hst : l.stackTraces = false) (hI : jIH l D dA lo cs0 d) : jRows l D dA lo cs0 d 1 (tb_X1_isFunction (EV d)) yX1_isFunction cX1_isFunction (Option.some Jvm.ClassFile.FieldType.boolean) [] := by
  intro p e R s m args below meth c z0 w0 zF wF Q rF hF B hz hw hret hnm
  refine jlk_cons (sm_iload_n rfl B.1 dX1_isFunction_0) ?_
  refine jlk_cons (sm_iconst rfl B.1 dX1_isFunction_1) ?_
  refine jlk_cons (sm_iconst rfl B.1 dX1_isFunction_2) ?_
  refine jlk_cons (sm_cS (x := yX1_isBetween) (r9 := kr_6) (host := "") (owner := "") isSI (i_X1_isBetween hI) B q2399 q2400 w4_X1_isBetween w6_X1_isBetween (by decide) hy_X1_isBetween hl_X1_isBetween dX1_isFunction_3 trivial) ?_
  refine jlk_cons (sm_zret B.1 B.2.1 hret dX1_isFunction_6) ?_
  exact jlk_nil
theorem v_X1_isFunction (hst : l.stackTraces = false) (hz : jEz (EV (d + 1))) (hI : jIH l D dA lo cs0 d) : jMe l D dA lo cs0 (EV (d + 1)) 162 yX1_isFunction (ws_ yX1_isFunction cX1_isFunction 1 (Option.some Jvm.ClassFile.FieldType.boolean)) (d + 1) := z_meth hz rfl hp_X1_isFunction (r_X1_isFunction hst hI)
theorem r_X1_requireIndex (hst : l.stackTraces = false) (hI : jIH l D dA lo cs0 d) : jRows l D dA lo cs0 d 1 (tb_X1_requireIndex (EV d)) yX1_requireIndex cX1_requireIndex (Option.none : Option Jvm.ClassFile.FieldType) [] := by
  intro p e R s m args below meth c z0 w0 zF wF Q rF hF B hz hw hret hnm
  refine jlk_cons (sm_iload_n rfl B.1 dX1_requireIndex_0) ?_
  refine jlk_cons (sm_ifne rfl B.1 dX1_requireIndex_1) ?_
  refine jlk_cons (sm_thr0 B hst (cls := "java/lang/IndexOutOfBoundsException") (names := ["java/lang/RuntimeException", "java/lang/Exception"]) (by decide +kernel) (by decide +kernel) rfl q2454 q163 at_3 at_3g kc_32 (by first | decide | (unfold jexk; decide)) (by first | decide | (unfold jexk; decide)) (by first | decide | (unfold jexk; decide)) hz hw dX1_requireIndex_4 dX1_requireIndex_7 dX1_requireIndex_8 dX1_requireIndex_11 rfl) ?_
  refine jlk_cons (sm_vret B.1 B.2.1 hret dX1_requireIndex_12) ?_
  exact jlk_nil
theorem v_X1_requireIndex (hst : l.stackTraces = false) (hz : jEz (EV (d + 1))) (hI : jIH l D dA lo cs0 d) : jMe l D dA lo cs0 (EV (d + 1)) 163 yX1_requireIndex (ws_ yX1_requireIndex cX1_requireIndex 1 (Option.none : Option Jvm.ClassFile.FieldType)) (d + 1) := z_meth hz rfl hp_X1_requireIndex (r_X1_requireIndex hst hI)
theorem r_X1_readBody (hst : l.stackTraces = false) (hI : jIH l D dA lo cs0 d) : jRows l D dA lo cs0 d 5 (tb_X1_readBody (EV d)) yX1_readBody cX1_readBody (Option.some (Jvm.ClassFile.FieldType.object "java/util/ArrayList")) [((10 : Nat), (19 : Nat), (27 : Nat), (76 : Nat)), ((10 : Nat), (19 : Nat), (44 : Nat), (0 : Nat)), ((27 : Nat), (36 : Nat), (44 : Nat), (0 : Nat)), ((44 : Nat), (46 : Nat), (44 : Nat), (0 : Nat))] := by
  intro p e R s m args below meth c z0 w0 zF wF Q rF hF B hz hw hret hnm
  refine jlk_cons (sm_new B.1 kc_5 (by decide) (by decide) in_X5 tyX5 tyX5_ok kd_5 q2464 q2465 q165 B.2.2.2 hz hw dX1_readBody_0) ?_
  refine jlk_cons (sm_dup B.1 dX1_readBody_3) ?_
  refine jlk_cons (sm_aload_n rfl B.1 dX1_readBody_4) ?_
  refine jlk_cons (sm_iload_n rfl B.1 dX1_readBody_5) ?_
  refine jlk_cons (sm_cI (x := yX5_init) (r9 := kr_6) (host := "") (owner := "") isNV (i_X5_init hI) B q2466 q2467 w4_X5_init w6_X5_init (by decide) rfl hy_X5_init hl_X5_init dX1_readBody_6 trivial) ?_
  refine jlk_cons (sm_astore_n rfl B.1 dX1_readBody_9) ?_
  refine jlk_cons (sm_aload_n rfl B.1 dX1_readBody_10) ?_
  refine jlk_cons (sm_cV (x := yX5_body) (host := "") (owner := "") isXRV (i_X5_body hI) B q2486 q2487 q2488 w4_X5_body w6_X5_body (by decide) (by decide) (by decide) kc_5 hy_X5_body hl_X5_body dX1_readBody_11 (jHok_yes (by decide) (jHm_of (by decide) q2463 (jex7 (hm_y (by decide) kc_6 (q2565)) (hm_n (by decide) kc_19 (B.1.2.2.2.2.2.2.2.2.2.1.2.2.1 _ (List.mem_of_getElem? (i := 6) rfl))) (hm_n (by decide) kc_29 (B.1.2.2.2.2.2.2.2.2.2.1.2.2.1 _ (List.mem_of_getElem? (i := 12) rfl))) (hm_n (by decide) kc_30 (B.1.2.2.2.2.2.2.2.2.2.1.2.2.1 _ (List.mem_of_getElem? (i := 18) rfl))) (hm_n (by decide) kc_31 (B.1.2.2.2.2.2.2.2.2.2.1.2.2.1 _ (List.mem_of_getElem? (i := 24) rfl))) (hm_n (by decide) kc_32 (B.1.2.2.2.2.2.2.2.2.2.1.2.2.1 _ (List.mem_of_getElem? (i := 30) rfl))) (hm_n (by decide) kc_33 (B.1.2.2.2.2.2.2.2.2.2.1.2.2.1 _ (List.mem_of_getElem? (i := 36) rfl))))) (jHok_all (by decide) rfl))) ?_
  refine jlk_cons (sm_aload_n rfl B.1 dX1_readBody_14) ?_
  refine jlk_cons (sm_iconst rfl B.1 dX1_readBody_15) ?_
  refine jlk_cons (sm_putI B.1 fl_PointerAnalyzer_54_1_6 tyX1 tyX1_ok nmX1 (Or.inl rfl) (tyX1_ok 6 (by decide)) rfl (by decide) dX1_readBody_16) ?_
  refine jlk_cons (sm_aload_n rfl B.1 dX1_readBody_19) ?_
  refine jlk_cons (sm_iconst rfl B.1 dX1_readBody_20) ?_
  refine jlk_cons (sm_putI B.1 fl_PointerAnalyzer_62_1_5 tyX1 tyX1_ok nmX1 (Or.inl rfl) (tyX1_ok 5 (by decide)) rfl (by decide) dX1_readBody_21) ?_
  refine jlk_cons (sm_goto rfl B.1 dX1_readBody_24) ?_
  refine jlk_cons (sm_astore_n rfl B.1 dX1_readBody_27) ?_
  refine jlk_cons (sm_aload_n rfl B.1 dX1_readBody_28) ?_
  refine jlk_cons (sm_aload_n rfl B.1 dX1_readBody_29) ?_
  refine jlk_cons (sm_getIN B.1 fn_PointerAnalyzer_78_6_71 dX1_readBody_30) ?_
  refine jlk_cons (sm_putI B.1 fl_PointerAnalyzer_54_1_6 tyX1 tyX1_ok nmX1 (Or.inl rfl) (tyX1_ok 6 (by decide)) rfl (by decide) dX1_readBody_33) ?_
  refine jlk_cons (sm_aload_n rfl B.1 dX1_readBody_36) ?_
  refine jlk_cons (sm_iconst rfl B.1 dX1_readBody_37) ?_
  refine jlk_cons (sm_putI B.1 fl_PointerAnalyzer_62_1_5 tyX1 tyX1_ok nmX1 (Or.inl rfl) (tyX1_ok 5 (by decide)) rfl (by decide) dX1_readBody_38) ?_
  refine jlk_cons (sm_goto rfl B.1 dX1_readBody_41) ?_
  refine jlk_cons (sm_astore B.1 dX1_readBody_44) ?_
  refine jlk_cons (sm_aload_n rfl B.1 dX1_readBody_46) ?_
  refine jlk_cons (sm_iconst rfl B.1 dX1_readBody_47) ?_
  refine jlk_cons (sm_putI B.1 fl_PointerAnalyzer_62_1_5 tyX1 tyX1_ok nmX1 (Or.inl rfl) (tyX1_ok 5 (by decide)) rfl (by decide) dX1_readBody_48) ?_
  refine jlk_cons (sm_aload B.1 dX1_readBody_51) ?_
  refine jlk_cons (sm_throw B.1 (fun ls rs a h ha k => z_hand B.1 B.2.1 B.2.2.1 ha _ [] _ rfl (by intro z hz; cases hz) (jHok_no (by decide) (jHok_no (by decide) (jHok_no (by decide) (jHok_no (by decide) rfl)))) k) dX1_readBody_53) ?_
  refine jlk_cons (sm_aload_n rfl B.1 dX1_readBody_54) ?_
  refine jlk_cons (sm_getPN B.1 fn_PointerAnalyzer_81_5_62 dX1_readBody_55) ?_
  refine jlk_cons (sm_aret B.1 B.2.1 hret (Or.inl ⟨_, rfl⟩) dX1_readBody_58) ?_
  exact jlk_nil
theorem v_X1_readBody (hst : l.stackTraces = false) (hz : jEz (EV (d + 1))) (hI : jIH l D dA lo cs0 d) : jMe l D dA lo cs0 (EV (d + 1)) 164 yX1_readBody (wsW_ yX1_readBody cX1_readBody 5 (Option.some (Jvm.ClassFile.FieldType.object "java/util/ArrayList")) [((10 : Nat), (19 : Nat), (27 : Nat), (76 : Nat)), ((10 : Nat), (19 : Nat), (44 : Nat), (0 : Nat)), ((27 : Nat), (36 : Nat), (44 : Nat), (0 : Nat)), ((44 : Nat), (46 : Nat), (44 : Nat), (0 : Nat))]) (d + 1) := z_methW hz rfl hp_X1_readBody (r_X1_readBody hst hI)
theorem r_X2_countAll (hst : l.stackTraces = false) (hI : jIH l D dA lo cs0 d) : jRows l D dA lo cs0 d 4 (tb_X2_countAll (EV d)) yX2_countAll cX2_countAll (Option.some Jvm.ClassFile.FieldType.int) [] := by
  intro p e R s m args below meth c z0 w0 zF wF Q rF hF B hz hw hret hnm
  refine jlk_cons (sm_iconst rfl B.1 dX2_countAll_0) ?_
  refine jlk_cons (sm_istore_n rfl B.1 dX2_countAll_1) ?_
  refine jlk_cons (sm_iconst rfl B.1 dX2_countAll_2) ?_
  refine jlk_cons (sm_istore_n rfl B.1 dX2_countAll_3) ?_
  refine jlk_cons (sm_iload_n rfl B.1 dX2_countAll_4) ?_
  refine jlk_cons (sm_iconst rfl B.1 dX2_countAll_5) ?_
  refine jlk_cons (sm_icmpge rfl B.1 dX2_countAll_6) ?_
  refine jlk_cons (sm_iload_n rfl B.1 dX2_countAll_9) ?_
  refine jlk_cons (sm_aload_n rfl B.1 dX2_countAll_10) ?_
  refine jlk_cons (sm_getP B.1 fl_PointerAnalyzer_Program_12_2_9 dX2_countAll_11) ?_
  refine jlk_cons (sm_iload_n rfl B.1 dX2_countAll_14) ?_
  refine jlk_cons (sm_cS (x := yJ6_valueOf) (r9 := kr_6) (host := "") (owner := "") isSP (i_J6_valueOf hI) B q268 q269 w4_J6_valueOf w6_J6_valueOf (by decide) hy_J6_valueOf hl_J6_valueOf dX2_countAll_15 trivial) ?_
  refine jlk_cons (sm_cV (x := yJ1_get) (host := "") (owner := "") isRP (i_J1_get hI) B q1132 q1133 q1134 w4_J1_get w6_J1_get (by decide) (by decide) (by decide) kc_20 hy_J1_get hl_J1_get dX2_countAll_18 trivial) ?_
  refine jlk_cons (sm_cast B.1 q239 (List.forall_mem_cons.mpr ⟨⟨by decide, by decide, _, kc_21, Or.inl rfl⟩, (List.forall_mem_nil _)⟩) dX2_countAll_21) ?_
  refine jlk_cons (sm_aload_n rfl B.1 dX2_countAll_24) ?_
  refine jlk_cons (sm_cSN (x := yX1_count) (r9 := kr_6) (owner := "") isSI (i_X1_count hI) B q2649 q2650 w4_X1_count w6_X1_count (by decide) hy_X1_count hl_X1_count dX2_countAll_25 trivial) ?_
  refine jlk_cons (sm_iadd B.1 dX2_countAll_28) ?_
  refine jlk_cons (sm_istore_n rfl B.1 dX2_countAll_29) ?_
  refine jlk_cons (sm_iinc rfl B.1 dX2_countAll_30) ?_
  refine jlk_cons (sm_goto rfl B.1 dX2_countAll_33) ?_
  refine jlk_cons (sm_iload_n rfl B.1 dX2_countAll_36) ?_
  refine jlk_cons (sm_iret B.1 B.2.1 hret dX2_countAll_37) ?_
  exact jlk_nil
theorem v_X2_countAll (hst : l.stackTraces = false) (hz : jEz (EV (d + 1))) (hI : jIH l D dA lo cs0 d) : jMe l D dA lo cs0 (EV (d + 1)) 165 yX2_countAll (ws_ yX2_countAll cX2_countAll 4 (Option.some Jvm.ClassFile.FieldType.int)) (d + 1) := z_meth hz rfl hp_X2_countAll (r_X2_countAll hst hI)
theorem r_X1_setProgram (hst : l.stackTraces = false) (hI : jIH l D dA lo cs0 d) : jRows l D dA lo cs0 d 2 (tb_X1_setProgram (EV d)) yX1_setProgram cX1_setProgram (Option.none : Option Jvm.ClassFile.FieldType) [] := by
  intro p e R s m args below meth c z0 w0 zF wF Q rF hF B hz hw hret hnm
  refine jlk_cons (sm_aload_n rfl B.1 dX1_setProgram_0) ?_
  refine jlk_cons (sm_aload_n rfl B.1 dX1_setProgram_1) ?_
  refine jlk_cons (sm_putP B.1 fl_PointerAnalyzer_46_1_0 tyX1 tyX1_ok nmX1 (Or.inl rfl) rfl (tyX1_ok 0 (by decide)) rfl (by decide) dX1_setProgram_2) ?_
  refine jlk_cons (sm_aload_n rfl B.1 dX1_setProgram_5) ?_
  refine jlk_cons (sm_null B.1 dX1_setProgram_6) ?_
  refine jlk_cons (sm_putP B.1 fl_PointerAnalyzer_85_1_2 tyX1 tyX1_ok nmX1 (Or.inl rfl) rfl (tyX1_ok 2 (by decide)) rfl (by decide) dX1_setProgram_7) ?_
  refine jlk_cons (sm_aload_n rfl B.1 dX1_setProgram_10) ?_
  refine jlk_cons (sm_null B.1 dX1_setProgram_11) ?_
  refine jlk_cons (sm_putP B.1 fl_PointerAnalyzer_89_1_3 tyX1 tyX1_ok nmX1 (Or.inl rfl) rfl (tyX1_ok 3 (by decide)) rfl (by decide) dX1_setProgram_12) ?_
  refine jlk_cons (sm_vret B.1 B.2.1 hret dX1_setProgram_15) ?_
  exact jlk_nil
theorem v_X1_setProgram (hst : l.stackTraces = false) (hz : jEz (EV (d + 1))) (hI : jIH l D dA lo cs0 d) : jMe l D dA lo cs0 (EV (d + 1)) 166 yX1_setProgram (ws_ yX1_setProgram cX1_setProgram 2 (Option.none : Option Jvm.ClassFile.FieldType)) (d + 1) := z_meth hz rfl hp_X1_setProgram (r_X1_setProgram hst hI)
theorem r_X1_statement (hst : l.stackTraces = false) (hI : jIH l D dA lo cs0 d) : jRows l D dA lo cs0 d 2 (tb_X1_statement (EV d)) yX1_statement cX1_statement (Option.some (Jvm.ClassFile.FieldType.object "PointerAnalyzer$Statement")) [] := by
  intro p e R s m args below meth c z0 w0 zF wF Q rF hF B hz hw hret hnm
  refine jlk_cons (sm_iload_n rfl B.1 dX1_statement_0) ?_
  refine jlk_cons (sm_iconst rfl B.1 dX1_statement_1) ?_
  refine jlk_cons (sm_aload_n rfl B.1 dX1_statement_2) ?_
  refine jlk_cons (sm_getP B.1 fl_PointerAnalyzer_46_1_0 dX1_statement_3) ?_
  refine jlk_cons (sm_getPN B.1 fn_PointerAnalyzer_120_2_10 dX1_statement_6) ?_
  refine jlk_cons (sm_cV (x := yJ4_size) (host := "") (owner := "") isRI (i_J4_size hI) B q1284 q1145 q1146 w4_J4_size w6_J4_size (by decide) (by decide) (by decide) kc_21 hy_J4_size hl_J4_size dX1_statement_9 trivial) ?_
  refine jlk_cons (sm_iconst rfl B.1 dX1_statement_12) ?_
  refine jlk_cons (sm_isub B.1 dX1_statement_13) ?_
  refine jlk_cons (sm_cS (x := yX1_isBetween) (r9 := kr_6) (host := "") (owner := "") isSI (i_X1_isBetween hI) B q2399 q2400 w4_X1_isBetween w6_X1_isBetween (by decide) hy_X1_isBetween hl_X1_isBetween dX1_statement_14 trivial) ?_
  refine jlk_cons (sm_cS (x := yX1_requireIndex) (r9 := kr_6) (host := "") (owner := "") isXSV (i_X1_requireIndex hI) B q2451 q2452 w4_X1_requireIndex w6_X1_requireIndex (by decide) hy_X1_requireIndex hl_X1_requireIndex dX1_statement_17 rfl) ?_
  refine jlk_cons (sm_aload_n rfl B.1 dX1_statement_20) ?_
  refine jlk_cons (sm_getP B.1 fl_PointerAnalyzer_46_1_0 dX1_statement_21) ?_
  refine jlk_cons (sm_getPN B.1 fn_PointerAnalyzer_120_2_10 dX1_statement_24) ?_
  refine jlk_cons (sm_iload_n rfl B.1 dX1_statement_27) ?_
  refine jlk_cons (sm_cV (x := yJ4_get) (host := "") (owner := "") isRP (i_J4_get hI) B q2652 q1149 q1150 w4_J4_get w6_J4_get (by decide) (by decide) (by decide) kc_21 hy_J4_get hl_J4_get dX1_statement_28 trivial) ?_
  refine jlk_cons (sm_cast B.1 q2670 (List.forall_mem_cons.mpr ⟨⟨by decide, by decide, _, kc_3, Or.inl rfl⟩, (List.forall_mem_nil _)⟩) dX1_statement_31) ?_
  refine jlk_cons (sm_aret B.1 B.2.1 hret (Or.inl ⟨_, rfl⟩) dX1_statement_34) ?_
  exact jlk_nil
theorem v_X1_statement (hst : l.stackTraces = false) (hz : jEz (EV (d + 1))) (hI : jIH l D dA lo cs0 d) : jMe l D dA lo cs0 (EV (d + 1)) 169 yX1_statement (ws_ yX1_statement cX1_statement 2 (Option.some (Jvm.ClassFile.FieldType.object "PointerAnalyzer$Statement"))) (d + 1) := z_meth hz rfl hp_X1_statement (r_X1_statement hst hI)
theorem r_X10_count (hst : l.stackTraces = false) (hI : jIH l D dA lo cs0 d) : jRows l D dA lo cs0 d 2 (tb_X10_count (EV d)) yX10_count cX10_count (Option.some Jvm.ClassFile.FieldType.int) [] := by
  intro p e R s m args below meth c z0 w0 zF wF Q rF hF B hz hw hret hnm
  refine jlk_cons (sm_aload_n rfl B.1 dX10_count_0) ?_
  refine jlk_cons (sm_getP B.1 fl_PointerAnalyzer_Contexts_12_10_82 dX10_count_1) ?_
  refine jlk_cons (sm_iload_n rfl B.1 dX10_count_4) ?_
  refine jlk_cons (sm_cV (x := yJ4_get) (host := "") (owner := "") isRP (i_J4_get hI) B q1378 q1149 q1150 w4_J4_get w6_J4_get (by decide) (by decide) (by decide) kc_21 hy_J4_get hl_J4_get dX10_count_5 trivial) ?_
  refine jlk_cons (sm_cast B.1 q1360 (List.forall_mem_cons.mpr ⟨⟨by decide, by decide, _, kc_21, Or.inl rfl⟩, (List.forall_mem_nil _)⟩) dX10_count_8) ?_
  refine jlk_cons (sm_cV (x := yJ4_size) (host := "") (owner := "") isRI (i_J4_size hI) B q1402 q1145 q1146 w4_J4_size w6_J4_size (by decide) (by decide) (by decide) kc_21 hy_J4_size hl_J4_size dX10_count_11 trivial) ?_
  refine jlk_cons (sm_iret B.1 B.2.1 hret dX10_count_14) ?_
  exact jlk_nil
theorem v_X10_count (hst : l.stackTraces = false) (hz : jEz (EV (d + 1))) (hI : jIH l D dA lo cs0 d) : jMe l D dA lo cs0 (EV (d + 1)) 171 yX10_count (ws_ yX10_count cX10_count 2 (Option.some Jvm.ClassFile.FieldType.int)) (d + 1) := z_meth hz rfl hp_X10_count (r_X10_count hst hI)
theorem r_X1_context (hst : l.stackTraces = false) (hI : jIH l D dA lo cs0 d) : jRows l D dA lo cs0 d 3 (tb_X1_context (EV d)) yX1_context cX1_context (Option.some (Jvm.ClassFile.FieldType.object "PointerAnalyzer$Context")) [] := by
  intro p e R s m args below meth c z0 w0 zF wF Q rF hF B hz hw hret hnm
  refine jlk_cons (sm_iload_n rfl B.1 dX1_context_0) ?_
  refine jlk_cons (sm_cS (x := yX1_isFunction) (r9 := kr_6) (host := "") (owner := "") isSI (i_X1_isFunction hI) B q2448 q2449 w4_X1_isFunction w6_X1_isFunction (by decide) hy_X1_isFunction hl_X1_isFunction dX1_context_1 trivial) ?_
  refine jlk_cons (sm_ifeq rfl B.1 dX1_context_4) ?_
  refine jlk_cons (sm_iload_n rfl B.1 dX1_context_7) ?_
  refine jlk_cons (sm_iconst rfl B.1 dX1_context_8) ?_
  refine jlk_cons (sm_aload_n rfl B.1 dX1_context_9) ?_
  refine jlk_cons (sm_cV (x := yX1_analyze) (host := "") (owner := "") isRP (i_X1_analyze hI) B q1293 q1295 qs12 w4_X1_analyze w6_X1_analyze (by decide) (by decide) (by decide) kc_1 hy_X1_analyze hl_X1_analyze dX1_context_10 trivial) ?_
  refine jlk_cons (sm_getPN B.1 fn_PointerAnalyzer_154_8_77 dX1_context_13) ?_
  refine jlk_cons (sm_iload_n rfl B.1 dX1_context_16) ?_
  refine jlk_cons (sm_cV (x := yX10_count) (host := "") (owner := "") isRI (i_X10_count hI) B q2693 q1637 q1638 w4_X10_count w6_X10_count (by decide) (by decide) (by decide) kc_10 hy_X10_count hl_X10_count dX1_context_17 trivial) ?_
  refine jlk_cons (sm_iconst rfl B.1 dX1_context_20) ?_
  refine jlk_cons (sm_isub B.1 dX1_context_21) ?_
  refine jlk_cons (sm_cS (x := yX1_isBetween) (r9 := kr_6) (host := "") (owner := "") isSI (i_X1_isBetween hI) B q2399 q2400 w4_X1_isBetween w6_X1_isBetween (by decide) hy_X1_isBetween hl_X1_isBetween dX1_context_22 trivial) ?_
  refine jlk_cons (sm_ifeq rfl B.1 dX1_context_25) ?_
  refine jlk_cons (sm_iconst rfl B.1 dX1_context_28) ?_
  refine jlk_cons (sm_goto rfl B.1 dX1_context_29) ?_
  refine jlk_cons (sm_iconst rfl B.1 dX1_context_32) ?_
  refine jlk_cons (sm_cS (x := yX1_requireIndex) (r9 := kr_6) (host := "") (owner := "") isXSV (i_X1_requireIndex hI) B q2451 q2452 w4_X1_requireIndex w6_X1_requireIndex (by decide) hy_X1_requireIndex hl_X1_requireIndex dX1_context_33 rfl) ?_
  refine jlk_cons (sm_aload_n rfl B.1 dX1_context_36) ?_
  refine jlk_cons (sm_cV (x := yX1_analyze) (host := "") (owner := "") isRP (i_X1_analyze hI) B q1293 q1295 qs12 w4_X1_analyze w6_X1_analyze (by decide) (by decide) (by decide) kc_1 hy_X1_analyze hl_X1_analyze dX1_context_37 trivial) ?_
  refine jlk_cons (sm_getPN B.1 fn_PointerAnalyzer_154_8_77 dX1_context_40) ?_
  refine jlk_cons (sm_getPN B.1 fn_PointerAnalyzer_164_10_82 dX1_context_43) ?_
  refine jlk_cons (sm_iload_n rfl B.1 dX1_context_46) ?_
  refine jlk_cons (sm_cV (x := yJ4_get) (host := "") (owner := "") isRP (i_J4_get hI) B q2652 q1149 q1150 w4_J4_get w6_J4_get (by decide) (by decide) (by decide) kc_21 hy_J4_get hl_J4_get dX1_context_47 trivial) ?_
  refine jlk_cons (sm_cast B.1 q717 (List.forall_mem_cons.mpr ⟨⟨by decide, by decide, _, kc_21, Or.inl rfl⟩, (List.forall_mem_nil _)⟩) dX1_context_50) ?_
  refine jlk_cons (sm_iload_n rfl B.1 dX1_context_53) ?_
  refine jlk_cons (sm_cV (x := yJ4_get) (host := "") (owner := "") isRP (i_J4_get hI) B q2652 q1149 q1150 w4_J4_get w6_J4_get (by decide) (by decide) (by decide) kc_21 hy_J4_get hl_J4_get dX1_context_54 trivial) ?_
  refine jlk_cons (sm_cast B.1 q2705 (List.forall_mem_cons.mpr ⟨⟨by decide, by decide, _, kc_11, Or.inl rfl⟩, (List.forall_mem_nil _)⟩) dX1_context_57) ?_
  refine jlk_cons (sm_aret B.1 B.2.1 hret (Or.inl ⟨_, rfl⟩) dX1_context_60) ?_
  exact jlk_nil
theorem v_X1_context (hst : l.stackTraces = false) (hz : jEz (EV (d + 1))) (hI : jIH l D dA lo cs0 d) : jMe l D dA lo cs0 (EV (d + 1)) 177 yX1_context (ws_ yX1_context cX1_context 3 (Option.some (Jvm.ClassFile.FieldType.object "PointerAnalyzer$Context"))) (d + 1) := z_meth hz rfl hp_X1_context (r_X1_context hst hI)
theorem r_X1_isVariable (hst : l.stackTraces = false) (hI : jIH l D dA lo cs0 d) : jRows l D dA lo cs0 d 1 (tb_X1_isVariable (EV d)) yX1_isVariable cX1_isVariable (Option.some Jvm.ClassFile.FieldType.boolean) [] := by
  intro p e R s m args below meth c z0 w0 zF wF Q rF hF B hz hw hret hnm
  refine jlk_cons (sm_iload_n rfl B.1 dX1_isVariable_0) ?_
  refine jlk_cons (sm_iconst rfl B.1 dX1_isVariable_1) ?_
  refine jlk_cons (sm_bipush rfl B.1 dX1_isVariable_2) ?_
  refine jlk_cons (sm_cS (x := yX1_isBetween) (r9 := kr_6) (host := "") (owner := "") isSI (i_X1_isBetween hI) B q2399 q2400 w4_X1_isBetween w6_X1_isBetween (by decide) hy_X1_isBetween hl_X1_isBetween dX1_isVariable_4 trivial) ?_
  refine jlk_cons (sm_zret B.1 B.2.1 hret dX1_isVariable_7) ?_
  exact jlk_nil
theorem v_X1_isVariable (hst : l.stackTraces = false) (hz : jEz (EV (d + 1))) (hI : jIH l D dA lo cs0 d) : jMe l D dA lo cs0 (EV (d + 1)) 178 yX1_isVariable (ws_ yX1_isVariable cX1_isVariable 1 (Option.some Jvm.ClassFile.FieldType.boolean)) (d + 1) := z_meth hz rfl hp_X1_isVariable (r_X1_isVariable hst hI)
theorem r_X8_pointsTo (hst : l.stackTraces = false) (hI : jIH l D dA lo cs0 d) : jRows l D dA lo cs0 d 5 (tb_X8_pointsTo (EV d)) yX8_pointsTo cX8_pointsTo (Option.some Jvm.ClassFile.FieldType.long) [] := by
  intro p e R s m args below meth c z0 w0 zF wF Q rF hF B hz hw hret hnm
  refine jlk_cons (sm_lconst rfl B.1 dX8_pointsTo_0) ?_
  refine jlk_cons (sm_lstore_n rfl B.1 dX8_pointsTo_1) ?_
  refine jlk_cons (sm_iconst rfl B.1 dX8_pointsTo_2) ?_
  refine jlk_cons (sm_istore B.1 dX8_pointsTo_3) ?_
  refine jlk_cons (sm_iload B.1 dX8_pointsTo_5) ?_
  refine jlk_cons (sm_aload_n rfl B.1 dX8_pointsTo_7) ?_
  refine jlk_cons (sm_getP B.1 fl_PointerAnalyzer_Analysis_12_8_78 dX8_pointsTo_8) ?_
  refine jlk_cons (sm_cV (x := yJ4_size) (host := "") (owner := "") isRI (i_J4_size hI) B q1566 q1145 q1146 w4_J4_size w6_J4_size (by decide) (by decide) (by decide) kc_21 hy_J4_size hl_J4_size dX8_pointsTo_11 trivial) ?_
  refine jlk_cons (sm_icmpge rfl B.1 dX8_pointsTo_14) ?_
  refine jlk_cons (sm_lload_n rfl B.1 dX8_pointsTo_17) ?_
  refine jlk_cons (sm_aload_n rfl B.1 dX8_pointsTo_18) ?_
  refine jlk_cons (sm_getP B.1 fl_PointerAnalyzer_Analysis_12_8_78 dX8_pointsTo_19) ?_
  refine jlk_cons (sm_iload B.1 dX8_pointsTo_22) ?_
  refine jlk_cons (sm_cV (x := yJ4_get) (host := "") (owner := "") isRP (i_J4_get hI) B q1643 q1149 q1150 w4_J4_get w6_J4_get (by decide) (by decide) (by decide) kc_21 hy_J4_get hl_J4_get dX8_pointsTo_24 trivial) ?_
  refine jlk_cons (sm_cast B.1 q1564 (List.forall_mem_cons.mpr ⟨⟨by decide, by decide, _, kc_12, Or.inl rfl⟩, (List.forall_mem_nil _)⟩) dX8_pointsTo_27) ?_
  refine jlk_cons (sm_getIN B.1 fn_PointerAnalyzer_Analysis_260_12_85 dX8_pointsTo_30) ?_
  refine jlk_cons (sm_iload_n rfl B.1 dX8_pointsTo_33) ?_
  refine jlk_cons (sm_icmpne rfl B.1 dX8_pointsTo_34) ?_
  refine jlk_cons (sm_aload_n rfl B.1 dX8_pointsTo_37) ?_
  refine jlk_cons (sm_aload_n rfl B.1 dX8_pointsTo_38) ?_
  refine jlk_cons (sm_getP B.1 fl_PointerAnalyzer_Analysis_12_8_78 dX8_pointsTo_39) ?_
  refine jlk_cons (sm_iload B.1 dX8_pointsTo_42) ?_
  refine jlk_cons (sm_cV (x := yJ4_get) (host := "") (owner := "") isRP (i_J4_get hI) B q1643 q1149 q1150 w4_J4_get w6_J4_get (by decide) (by decide) (by decide) kc_21 hy_J4_get hl_J4_get dX8_pointsTo_44 trivial) ?_
  refine jlk_cons (sm_cast B.1 q1564 (List.forall_mem_cons.mpr ⟨⟨by decide, by decide, _, kc_12, Or.inl rfl⟩, (List.forall_mem_nil _)⟩) dX8_pointsTo_47) ?_
  refine jlk_cons (sm_cV (x := yX8_codes) (host := "") (owner := "") isRL (i_X8_codes hI) B q2124 q2126 qs35 w4_X8_codes w6_X8_codes (by decide) (by decide) (by decide) kc_8 hy_X8_codes hl_X8_codes dX8_pointsTo_50 trivial) ?_
  refine jlk_cons (sm_goto rfl B.1 dX8_pointsTo_53) ?_
  refine jlk_cons (sm_lconst rfl B.1 dX8_pointsTo_56) ?_
  refine jlk_cons (sm_lor B.1 dX8_pointsTo_57) ?_
  refine jlk_cons (sm_lstore_n rfl B.1 dX8_pointsTo_58) ?_
  refine jlk_cons (sm_iinc rfl B.1 dX8_pointsTo_59) ?_
  refine jlk_cons (sm_goto rfl B.1 dX8_pointsTo_62) ?_
  refine jlk_cons (sm_lload_n rfl B.1 dX8_pointsTo_65) ?_
  refine jlk_cons (sm_lret B.1 B.2.1 hret dX8_pointsTo_66) ?_
  exact jlk_nil
theorem v_X8_pointsTo (hst : l.stackTraces = false) (hz : jEz (EV (d + 1))) (hI : jIH l D dA lo cs0 d) : jMe l D dA lo cs0 (EV (d + 1)) 179 yX8_pointsTo (ws_ yX8_pointsTo cX8_pointsTo 5 (Option.some Jvm.ClassFile.FieldType.long)) (d + 1) := z_meth hz rfl hp_X8_pointsTo (r_X8_pointsTo hst hI)
theorem r_X1_ownerOf (hst : l.stackTraces = false) (hI : jIH l D dA lo cs0 d) : jRows l D dA lo cs0 d 1 (tb_X1_ownerOf (EV d)) yX1_ownerOf cX1_ownerOf (Option.some Jvm.ClassFile.FieldType.int) [] := by
  intro p e R s m args below meth c z0 w0 zF wF Q rF hF B hz hw hret hnm
  refine jlk_cons (sm_iload_n rfl B.1 dX1_ownerOf_0) ?_
  refine jlk_cons (sm_iconst rfl B.1 dX1_ownerOf_1) ?_
  refine jlk_cons (sm_icmpge rfl B.1 dX1_ownerOf_2) ?_
  refine jlk_cons (sm_iconst rfl B.1 dX1_ownerOf_5) ?_
  refine jlk_cons (sm_goto rfl B.1 dX1_ownerOf_6) ?_
  refine jlk_cons (sm_iload_n rfl B.1 dX1_ownerOf_9) ?_
  refine jlk_cons (sm_iconst rfl B.1 dX1_ownerOf_10) ?_
  refine jlk_cons (sm_isub B.1 dX1_ownerOf_11) ?_
  refine jlk_cons (sm_iconst rfl B.1 dX1_ownerOf_12) ?_
  refine jlk_cons (sm_idiv B.1 dX1_ownerOf_13) ?_
  refine jlk_cons (sm_iret B.1 B.2.1 hret dX1_ownerOf_14) ?_
  exact jlk_nil
theorem v_X1_ownerOf (hst : l.stackTraces = false) (hz : jEz (EV (d + 1))) (hI : jIH l D dA lo cs0 d) : jMe l D dA lo cs0 (EV (d + 1)) 180 yX1_ownerOf (ws_ yX1_ownerOf cX1_ownerOf 1 (Option.some Jvm.ClassFile.FieldType.int)) (d + 1) := z_meth hz rfl hp_X1_ownerOf (r_X1_ownerOf hst hI)
theorem r_X8_cell (hst : l.stackTraces = false) (hI : jIH l D dA lo cs0 d) : jRows l D dA lo cs0 d 4 (tb_X8_cell (EV d)) yX8_cell cX8_cell (Option.some (Jvm.ClassFile.FieldType.object "PointerAnalyzer$Cell")) [] := by
  intro p e R s m args below meth c z0 w0 zF wF Q rF hF B hz hw hret hnm
  refine jlk_cons (sm_iload_n rfl B.1 dX8_cell_0) ?_
  refine jlk_cons (sm_cSN (x := yX1_ownerOf) (r9 := kr_6) (owner := "") isSI (i_X1_ownerOf hI) B q1653 q1654 w4_X1_ownerOf w6_X1_ownerOf (by decide) hy_X1_ownerOf hl_X1_ownerOf dX8_cell_1 trivial) ?_
  refine jlk_cons (sm_istore_n rfl B.1 dX8_cell_4) ?_
  refine jlk_cons (sm_aload_n rfl B.1 dX8_cell_5) ?_
  refine jlk_cons (sm_getP B.1 fl_PointerAnalyzer_Analysis_12_8_78 dX8_cell_6) ?_
  refine jlk_cons (sm_iload_n rfl B.1 dX8_cell_9) ?_
  refine jlk_cons (sm_ifge rfl B.1 dX8_cell_10) ?_
  refine jlk_cons (sm_iload_n rfl B.1 dX8_cell_13) ?_
  refine jlk_cons (sm_goto rfl B.1 dX8_cell_14) ?_
  refine jlk_cons (sm_aload_n rfl B.1 dX8_cell_17) ?_
  refine jlk_cons (sm_getP B.1 fl_PointerAnalyzer_Analysis_18_8_79 dX8_cell_18) ?_
  refine jlk_cons (sm_iload_n rfl B.1 dX8_cell_21) ?_
  refine jlk_cons (sm_iald B.1 dX8_cell_22) ?_
  refine jlk_cons (sm_iconst rfl B.1 dX8_cell_23) ?_
  refine jlk_cons (sm_iload_n rfl B.1 dX8_cell_24) ?_
  refine jlk_cons (sm_imul B.1 dX8_cell_25) ?_
  refine jlk_cons (sm_iadd B.1 dX8_cell_26) ?_
  refine jlk_cons (sm_iload_n rfl B.1 dX8_cell_27) ?_
  refine jlk_cons (sm_iconst rfl B.1 dX8_cell_28) ?_
  refine jlk_cons (sm_isub B.1 dX8_cell_29) ?_
  refine jlk_cons (sm_iconst rfl B.1 dX8_cell_30) ?_
  refine jlk_cons (sm_irem B.1 dX8_cell_31) ?_
  refine jlk_cons (sm_iadd B.1 dX8_cell_32) ?_
  refine jlk_cons (sm_cV (x := yJ4_get) (host := "") (owner := "") isRP (i_J4_get hI) B q1643 q1149 q1150 w4_J4_get w6_J4_get (by decide) (by decide) (by decide) kc_21 hy_J4_get hl_J4_get dX8_cell_33 trivial) ?_
  refine jlk_cons (sm_cast B.1 q1564 (List.forall_mem_cons.mpr ⟨⟨by decide, by decide, _, kc_12, Or.inl rfl⟩, (List.forall_mem_nil _)⟩) dX8_cell_36) ?_
  refine jlk_cons (sm_aret B.1 B.2.1 hret (Or.inl ⟨_, rfl⟩) dX8_cell_39) ?_
  exact jlk_nil
theorem v_X8_cell (hst : l.stackTraces = false) (hz : jEz (EV (d + 1))) (hI : jIH l D dA lo cs0 d) : jMe l D dA lo cs0 (EV (d + 1)) 181 yX8_cell (ws_ yX8_cell cX8_cell 4 (Option.some (Jvm.ClassFile.FieldType.object "PointerAnalyzer$Cell"))) (d + 1) := z_meth hz rfl hp_X8_cell (r_X8_cell hst hI)
theorem r_X8_codes (hst : l.stackTraces = false) (hI : jIH l D dA lo cs0 d) : jRows l D dA lo cs0 d 6 (tb_X8_codes (EV d)) yX8_codes cX8_codes (Option.some Jvm.ClassFile.FieldType.long) [] := by
  intro p e R s m args below meth c z0 w0 zF wF Q rF hF B hz hw hret hnm
  refine jlk_cons (sm_lconst rfl B.1 dX8_codes_0) ?_
  refine jlk_cons (sm_lstore_n rfl B.1 dX8_codes_1) ?_
  refine jlk_cons (sm_aload_n rfl B.1 dX8_codes_2) ?_
  refine jlk_cons (sm_cV (x := yX12_find) (host := "") (owner := "") isRP (i_X12_find hI) B q1994 q1995 q1996 w4_X12_find w6_X12_find (by decide) (by decide) (by decide) kc_12 hy_X12_find hl_X12_find dX8_codes_3 trivial) ?_
  refine jlk_cons (sm_getPN B.1 fn_PointerAnalyzer_Analysis_83_12_87 dX8_codes_6) ?_
  refine jlk_cons (sm_astore B.1 dX8_codes_9) ?_
  refine jlk_cons (sm_aload B.1 dX8_codes_11) ?_
  refine jlk_cons (sm_iconst rfl B.1 dX8_codes_13) ?_
  refine jlk_cons (sm_cV (x := yJ40_nextSetBit) (host := "") (owner := "") isRI (i_J40_nextSetBit hI) B q1965 q1966 q1967 w4_J40_nextSetBit w6_J40_nextSetBit (by decide) (by decide) (by decide) kc_36 hy_J40_nextSetBit hl_J40_nextSetBit dX8_codes_14 trivial) ?_
  refine jlk_cons (sm_istore B.1 dX8_codes_17) ?_
  refine jlk_cons (sm_iload B.1 dX8_codes_19) ?_
  refine jlk_cons (sm_iflt rfl B.1 dX8_codes_21) ?_
  refine jlk_cons (sm_lload_n rfl B.1 dX8_codes_24) ?_
  refine jlk_cons (sm_lconst rfl B.1 dX8_codes_25) ?_
  refine jlk_cons (sm_aload_n rfl B.1 dX8_codes_26) ?_
  refine jlk_cons (sm_getP B.1 fl_PointerAnalyzer_Analysis_12_8_78 dX8_codes_27) ?_
  refine jlk_cons (sm_iload B.1 dX8_codes_30) ?_
  refine jlk_cons (sm_cV (x := yJ4_get) (host := "") (owner := "") isRP (i_J4_get hI) B q1643 q1149 q1150 w4_J4_get w6_J4_get (by decide) (by decide) (by decide) kc_21 hy_J4_get hl_J4_get dX8_codes_32 trivial) ?_
  refine jlk_cons (sm_cast B.1 q1564 (List.forall_mem_cons.mpr ⟨⟨by decide, by decide, _, kc_12, Or.inl rfl⟩, (List.forall_mem_nil _)⟩) dX8_codes_35) ?_
  refine jlk_cons (sm_getIN B.1 fn_PointerAnalyzer_Analysis_260_12_85 dX8_codes_38) ?_
  refine jlk_cons (sm_lshl B.1 dX8_codes_41) ?_
  refine jlk_cons (sm_lor B.1 dX8_codes_42) ?_
  refine jlk_cons (sm_lstore_n rfl B.1 dX8_codes_43) ?_
  refine jlk_cons (sm_aload B.1 dX8_codes_44) ?_
  refine jlk_cons (sm_iload B.1 dX8_codes_46) ?_
  refine jlk_cons (sm_iconst rfl B.1 dX8_codes_48) ?_
  refine jlk_cons (sm_iadd B.1 dX8_codes_49) ?_
  refine jlk_cons (sm_cV (x := yJ40_nextSetBit) (host := "") (owner := "") isRI (i_J40_nextSetBit hI) B q1965 q1966 q1967 w4_J40_nextSetBit w6_J40_nextSetBit (by decide) (by decide) (by decide) kc_36 hy_J40_nextSetBit hl_J40_nextSetBit dX8_codes_50 trivial) ?_
  refine jlk_cons (sm_istore B.1 dX8_codes_53) ?_
  refine jlk_cons (sm_goto rfl B.1 dX8_codes_55) ?_
  refine jlk_cons (sm_lload_n rfl B.1 dX8_codes_58) ?_
  refine jlk_cons (sm_lret B.1 B.2.1 hret dX8_codes_59) ?_
  exact jlk_nil
theorem v_X8_codes (hst : l.stackTraces = false) (hz : jEz (EV (d + 1))) (hI : jIH l D dA lo cs0 d) : jMe l D dA lo cs0 (EV (d + 1)) 182 yX8_codes (ws_ yX8_codes cX8_codes 6 (Option.some Jvm.ClassFile.FieldType.long)) (d + 1) := z_meth hz rfl hp_X8_codes (r_X8_codes hst hI)
theorem r_X1_code (hst : l.stackTraces = false) (hI : jIH l D dA lo cs0 d) : jRows l D dA lo cs0 d 3 (tb_X1_code (EV d)) yX1_code cX1_code (Option.some Jvm.ClassFile.FieldType.int) [] := by
  intro p e R s m args below meth c z0 w0 zF wF Q rF hF B hz hw hret hnm
  refine jlk_cons (sm_iload_n rfl B.1 dX1_code_0) ?_
  refine jlk_cons (sm_iconst rfl B.1 dX1_code_1) ?_
  refine jlk_cons (sm_aload_n rfl B.1 dX1_code_2) ?_
  refine jlk_cons (sm_getP B.1 fl_PointerAnalyzer_46_1_0 dX1_code_3) ?_
  refine jlk_cons (sm_getIN B.1 fn_PointerAnalyzer_139_2_11 dX1_code_6) ?_
  refine jlk_cons (sm_iconst rfl B.1 dX1_code_9) ?_
  refine jlk_cons (sm_isub B.1 dX1_code_10) ?_
  refine jlk_cons (sm_cS (x := yX1_isBetween) (r9 := kr_6) (host := "") (owner := "") isSI (i_X1_isBetween hI) B q2399 q2400 w4_X1_isBetween w6_X1_isBetween (by decide) hy_X1_isBetween hl_X1_isBetween dX1_code_11 trivial) ?_
  refine jlk_cons (sm_ifeq rfl B.1 dX1_code_14) ?_
  refine jlk_cons (sm_iload_n rfl B.1 dX1_code_17) ?_
  refine jlk_cons (sm_iconst rfl B.1 dX1_code_18) ?_
  refine jlk_cons (sm_iconst rfl B.1 dX1_code_19) ?_
  refine jlk_cons (sm_cS (x := yX1_isBetween) (r9 := kr_6) (host := "") (owner := "") isSI (i_X1_isBetween hI) B q2399 q2400 w4_X1_isBetween w6_X1_isBetween (by decide) hy_X1_isBetween hl_X1_isBetween dX1_code_20 trivial) ?_
  refine jlk_cons (sm_ifeq rfl B.1 dX1_code_23) ?_
  refine jlk_cons (sm_iconst rfl B.1 dX1_code_26) ?_
  refine jlk_cons (sm_goto rfl B.1 dX1_code_27) ?_
  refine jlk_cons (sm_iconst rfl B.1 dX1_code_30) ?_
  refine jlk_cons (sm_cS (x := yX1_requireIndex) (r9 := kr_6) (host := "") (owner := "") isXSV (i_X1_requireIndex hI) B q2451 q2452 w4_X1_requireIndex w6_X1_requireIndex (by decide) hy_X1_requireIndex hl_X1_requireIndex dX1_code_31 rfl) ?_
  refine jlk_cons (sm_iload_n rfl B.1 dX1_code_34) ?_
  refine jlk_cons (sm_iload_n rfl B.1 dX1_code_35) ?_
  refine jlk_cons (sm_cS (x := yX1_fieldCode) (r9 := kr_6) (host := "") (owner := "") isSI (i_X1_fieldCode hI) B q2130 q2131 w4_X1_fieldCode w6_X1_fieldCode (by decide) hy_X1_fieldCode hl_X1_fieldCode dX1_code_36 trivial) ?_
  refine jlk_cons (sm_iret B.1 B.2.1 hret dX1_code_39) ?_
  exact jlk_nil
theorem v_X1_code (hst : l.stackTraces = false) (hz : jEz (EV (d + 1))) (hI : jIH l D dA lo cs0 d) : jMe l D dA lo cs0 (EV (d + 1)) 185 yX1_code (ws_ yX1_code cX1_code 3 (Option.some Jvm.ClassFile.FieldType.int)) (d + 1) := z_meth hz rfl hp_X1_code (r_X1_code hst hI)
theorem r_X8_init (hst : l.stackTraces = false) (hI : jIH l D dA lo cs0 d) : jRows l D dA lo cs0 d 6 (tb_X8_init (EV d)) yX8_init cX8_init (Option.none : Option Jvm.ClassFile.FieldType) [] := by
  intro p e R s m args below meth c z0 w0 zF wF Q rF hF B hz hw hret hnm
  refine jlk_app ?_ ?_
  · refine jlk_cons (sm_aload_n rfl B.1 dX8_init_0) ?_
    refine jlk_cons (sm_obj B.1 q1302 q196 q197 dX8_init_1) ?_
    refine jlk_cons (sm_aload_n rfl B.1 dX8_init_4) ?_
    refine jlk_cons (sm_new B.1 kc_21 (by decide) (by decide) in_J4 tyJ4 tyJ4_ok kd_21 q1303 q240 q129 B.2.2.2 hz hw dX8_init_5) ?_
    refine jlk_cons (sm_dup B.1 dX8_init_8) ?_
    refine jlk_cons (sm_cI (x := yJ4_init) (r9 := kr_6) (host := "") (owner := "") isNV (i_J4_init hI) B q1304 q242 w4_J4_init w6_J4_init (by decide) rfl hy_J4_init hl_J4_init dX8_init_9 trivial) ?_
    refine jlk_cons (sm_putP B.1 fl_PointerAnalyzer_Analysis_12_8_78 tyX8 tyX8_ok nmX8 (Or.inr ⟨rfl, hnm, rfl⟩) rfl (tyX8_ok 2 (by decide)) rfl (by decide) dX8_init_12) ?_
    refine jlk_cons (sm_aload_n rfl B.1 dX8_init_15) ?_
    refine jlk_cons (sm_iconst rfl B.1 dX8_init_16) ?_
    refine jlk_cons (sm_newA B.1 (at9 := .int) rfl (by decide) rfl (by decide) hc_101 (fun _ => rfl) q1314 B.2.2.2 hz hw dX8_init_17) ?_
    refine jlk_cons (sm_putP B.1 fl_PointerAnalyzer_Analysis_18_8_79 tyX8 tyX8_ok nmX8 (Or.inr ⟨rfl, hnm, rfl⟩) rfl (tyX8_ok 3 (by decide)) rfl (by decide) dX8_init_19) ?_
    refine jlk_cons (sm_aload_n rfl B.1 dX8_init_22) ?_
    refine jlk_cons (sm_new B.1 kc_34 (by decide) (by decide) in_J36 tyJ36 tyJ36_ok kd_34 q1305 q1306 q171 B.2.2.2 hz hw dX8_init_23) ?_
    refine jlk_cons (sm_dup B.1 dX8_init_26) ?_
    refine jlk_cons (sm_bipush rfl B.1 dX8_init_27) ?_
    refine jlk_cons (sm_new B.1 kc_9 (by decide) (by decide) (T := jTE) (N := 0) (fun w hw => by cases hw) (fun _ => .int) (fun k hk => absurd hk (Nat.not_lt_zero k)) (fun k hk => absurd hk (Nat.not_lt_zero k)) q1307 q1308 q172 B.2.2.2 hz hw dX8_init_29) ?_
    refine jlk_cons (sm_dup B.1 dX8_init_32) ?_
    refine jlk_cons (sm_cIN (x := yX9_init) (r9 := kr_6) (owner := "") isNV (i_X9_init hI) B q1309 q1310 w4_X9_init w6_X9_init (by decide) rfl hy_X9_init hl_X9_init dX8_init_33 trivial) ?_
    refine jlk_cons (sm_cI (x := yJ36_init) (r9 := kr_6) (host := "") (owner := "") isNV (i_J36_init hI) B q1315 q1316 w4_J36_init w6_J36_init (by decide) rfl hy_J36_init hl_J36_init dX8_init_36 trivial) ?_
    refine jlk_cons (sm_putP B.1 fl_PointerAnalyzer_Analysis_30_8_81 tyX8 tyX8_ok nmX8 (Or.inr ⟨rfl, hnm, rfl⟩) rfl (tyX8_ok 5 (by decide)) rfl (by decide) dX8_init_39) ?_
    refine jlk_cons (sm_aload_n rfl B.1 dX8_init_42) ?_
    refine jlk_cons (sm_aload_n rfl B.1 dX8_init_43) ?_
    refine jlk_cons (sm_putP B.1 fl_PointerAnalyzer_Analysis_34_8_76 tyX8 tyX8_ok nmX8 (Or.inr ⟨rfl, hnm, rfl⟩) rfl (tyX8_ok 0 (by decide)) rfl (by decide) dX8_init_44) ?_
    refine jlk_cons (sm_aload_n rfl B.1 dX8_init_47) ?_
    refine jlk_cons (sm_new B.1 kc_10 (by decide) (by decide) in_X10 tyX10 tyX10_ok kd_10 q1354 q1355 q173 B.2.2.2 hz hw dX8_init_48) ?_
    refine jlk_cons (sm_dup B.1 dX8_init_51) ?_
    refine jlk_cons (sm_aload_n rfl B.1 dX8_init_52) ?_
    refine jlk_cons (sm_iload_n rfl B.1 dX8_init_53) ?_
    refine jlk_cons (sm_cI (x := yX10_init) (r9 := kr_6) (host := "") (owner := "") isNV (i_X10_init hI) B q1356 q1357 w4_X10_init w6_X10_init (by decide) rfl hy_X10_init hl_X10_init dX8_init_54 trivial) ?_
    refine jlk_cons (sm_putP B.1 fl_PointerAnalyzer_Analysis_43_8_77 tyX8 tyX8_ok nmX8 (Or.inr ⟨rfl, hnm, rfl⟩) rfl (tyX8_ok 1 (by decide)) rfl (by decide) dX8_init_57) ?_
    refine jlk_cons (sm_aload_n rfl B.1 dX8_init_60) ?_
    refine jlk_cons (sm_iload_n rfl B.1 dX8_init_61) ?_
    refine jlk_cons (sm_cV (x := yX8_makeCells) (host := "") (owner := "") isRV (i_X8_makeCells hI) B q1556 q1558 qs13 w4_X8_makeCells w6_X8_makeCells (by decide) (by decide) (by decide) kc_8 hy_X8_makeCells hl_X8_makeCells dX8_init_62 trivial) ?_
    refine jlk_cons (sm_iconst rfl B.1 dX8_init_65) ?_
    refine jlk_cons (sm_istore_n rfl B.1 dX8_init_66) ?_
    refine jlk_cons (sm_iload_n rfl B.1 dX8_init_67) ?_
    refine jlk_cons (sm_aload_n rfl B.1 dX8_init_68) ?_
    refine jlk_cons (sm_getPN B.1 fn_PointerAnalyzer_Analysis_51_2_10 dX8_init_69) ?_
    refine jlk_cons (sm_cV (x := yJ4_size) (host := "") (owner := "") isRI (i_J4_size hI) B q1566 q1145 q1146 w4_J4_size w6_J4_size (by decide) (by decide) (by decide) kc_21 hy_J4_size hl_J4_size dX8_init_72 trivial) ?_
    refine jlk_cons (sm_icmpge rfl B.1 dX8_init_75) ?_
    exact jlk_nil
  · skip
    refine jlk_app ?_ ?_
    · refine jlk_cons (sm_aload_n rfl B.1 dX8_init_78) ?_
      refine jlk_cons (sm_getPN B.1 fn_PointerAnalyzer_Analysis_51_2_10 dX8_init_79) ?_
      refine jlk_cons (sm_iload_n rfl B.1 dX8_init_82) ?_
      refine jlk_cons (sm_cV (x := yJ4_get) (host := "") (owner := "") isRP (i_J4_get hI) B q1643 q1149 q1150 w4_J4_get w6_J4_get (by decide) (by decide) (by decide) kc_21 hy_J4_get hl_J4_get dX8_init_83 trivial) ?_
      refine jlk_cons (sm_cast B.1 q1644 (List.forall_mem_cons.mpr ⟨⟨by decide, by decide, _, kc_3, Or.inl rfl⟩, (List.forall_mem_nil _)⟩) dX8_init_86) ?_
      refine jlk_cons (sm_astore B.1 dX8_init_89) ?_
      refine jlk_cons (sm_iconst rfl B.1 dX8_init_91) ?_
      refine jlk_cons (sm_istore B.1 dX8_init_92) ?_
      refine jlk_cons (sm_iload B.1 dX8_init_94) ?_
      refine jlk_cons (sm_aload_n rfl B.1 dX8_init_96) ?_
      refine jlk_cons (sm_getP B.1 fl_PointerAnalyzer_Analysis_43_8_77 dX8_init_97) ?_
      refine jlk_cons (sm_aload B.1 dX8_init_100) ?_
      refine jlk_cons (sm_getIN B.1 fn_PointerAnalyzer_Analysis_66_3_13 dX8_init_102) ?_
      refine jlk_cons (sm_cV (x := yX10_count) (host := "") (owner := "") isRI (i_X10_count hI) B q1636 q1637 q1638 w4_X10_count w6_X10_count (by decide) (by decide) (by decide) kc_10 hy_X10_count hl_X10_count dX8_init_105 trivial) ?_
      refine jlk_cons (sm_icmpge rfl B.1 dX8_init_108) ?_
      refine jlk_cons (sm_aload_n rfl B.1 dX8_init_111) ?_
      refine jlk_cons (sm_aload B.1 dX8_init_112) ?_
      refine jlk_cons (sm_iload B.1 dX8_init_114) ?_
      refine jlk_cons (sm_iload_n rfl B.1 dX8_init_116) ?_
      refine jlk_cons (sm_cV (x := yX8_constrain) (host := "") (owner := "") isRV (i_X8_constrain hI) B q1645 q1647 qs16 w4_X8_constrain w6_X8_constrain (by decide) (by decide) (by decide) kc_8 hy_X8_constrain hl_X8_constrain dX8_init_117 trivial) ?_
      refine jlk_cons (sm_iinc rfl B.1 dX8_init_120) ?_
      refine jlk_cons (sm_goto rfl B.1 dX8_init_123) ?_
      refine jlk_cons (sm_iinc rfl B.1 dX8_init_126) ?_
      refine jlk_cons (sm_goto rfl B.1 dX8_init_129) ?_
      refine jlk_cons (sm_aload_n rfl B.1 dX8_init_132) ?_
      refine jlk_cons (sm_cV (x := yX8_collapse) (host := "") (owner := "") isRV (i_X8_collapse hI) B q1938 q1940 qs21 w4_X8_collapse w6_X8_collapse (by decide) (by decide) (by decide) kc_8 hy_X8_collapse hl_X8_collapse dX8_init_133 trivial) ?_
      refine jlk_cons (sm_iconst rfl B.1 dX8_init_136) ?_
      refine jlk_cons (sm_istore_n rfl B.1 dX8_init_137) ?_
      refine jlk_cons (sm_iload_n rfl B.1 dX8_init_138) ?_
      refine jlk_cons (sm_aload_n rfl B.1 dX8_init_139) ?_
      refine jlk_cons (sm_getP B.1 fl_PointerAnalyzer_Analysis_12_8_78 dX8_init_140) ?_
      refine jlk_cons (sm_cV (x := yJ4_size) (host := "") (owner := "") isRI (i_J4_size hI) B q1566 q1145 q1146 w4_J4_size w6_J4_size (by decide) (by decide) (by decide) kc_21 hy_J4_size hl_J4_size dX8_init_143 trivial) ?_
      refine jlk_cons (sm_icmpge rfl B.1 dX8_init_146) ?_
      refine jlk_cons (sm_aload_n rfl B.1 dX8_init_149) ?_
      refine jlk_cons (sm_getP B.1 fl_PointerAnalyzer_Analysis_12_8_78 dX8_init_150) ?_
      refine jlk_cons (sm_iload_n rfl B.1 dX8_init_153) ?_
      refine jlk_cons (sm_cV (x := yJ4_get) (host := "") (owner := "") isRP (i_J4_get hI) B q1643 q1149 q1150 w4_J4_get w6_J4_get (by decide) (by decide) (by decide) kc_21 hy_J4_get hl_J4_get dX8_init_154 trivial) ?_
      refine jlk_cons (sm_cast B.1 q1564 (List.forall_mem_cons.mpr ⟨⟨by decide, by decide, _, kc_12, Or.inl rfl⟩, (List.forall_mem_nil _)⟩) dX8_init_157) ?_
      refine jlk_cons (sm_getPN B.1 fn_PointerAnalyzer_Analysis_83_12_87 dX8_init_160) ?_
      refine jlk_cons (sm_cV (x := yJ40_isEmpty) (host := "") (owner := "") isRI (i_J40_isEmpty hI) B q1961 q1962 q1963 w4_J40_isEmpty w6_J40_isEmpty (by decide) (by decide) (by decide) kc_36 hy_J40_isEmpty hl_J40_isEmpty dX8_init_163 trivial) ?_
      exact jlk_nil
    · skip
      refine jlk_cons (sm_ifne rfl B.1 dX8_init_166) ?_
      refine jlk_cons (sm_aload_n rfl B.1 dX8_init_169) ?_
      refine jlk_cons (sm_aload_n rfl B.1 dX8_init_170) ?_
      refine jlk_cons (sm_getP B.1 fl_PointerAnalyzer_Analysis_12_8_78 dX8_init_171) ?_
      refine jlk_cons (sm_iload_n rfl B.1 dX8_init_174) ?_
      refine jlk_cons (sm_cV (x := yJ4_get) (host := "") (owner := "") isRP (i_J4_get hI) B q1643 q1149 q1150 w4_J4_get w6_J4_get (by decide) (by decide) (by decide) kc_21 hy_J4_get hl_J4_get dX8_init_175 trivial) ?_
      refine jlk_cons (sm_cast B.1 q1564 (List.forall_mem_cons.mpr ⟨⟨by decide, by decide, _, kc_12, Or.inl rfl⟩, (List.forall_mem_nil _)⟩) dX8_init_178) ?_
      refine jlk_cons (sm_cV (x := yX8_push) (host := "") (owner := "") isRV (i_X8_push hI) B q2006 q2008 qs25 w4_X8_push w6_X8_push (by decide) (by decide) (by decide) kc_8 hy_X8_push hl_X8_push dX8_init_181 trivial) ?_
      refine jlk_cons (sm_iinc rfl B.1 dX8_init_184) ?_
      refine jlk_cons (sm_goto rfl B.1 dX8_init_187) ?_
      refine jlk_cons (sm_aload_n rfl B.1 dX8_init_190) ?_
      refine jlk_cons (sm_getP B.1 fl_PointerAnalyzer_Analysis_30_8_81 dX8_init_191) ?_
      refine jlk_cons (sm_cVU (x := ⟨"java/util/PriorityQueue", "isEmpty", "()Z"⟩) (host := "") (owner := "java/util/AbstractCollection") isRI (i_J2_isEmpty hI) B q2038 q2039 q2040 ⟨by decide, by decide⟩ q2041 q2042 w4_J2_isEmpty w6_J2_isEmpty (by decide) (by decide) (by decide) kc_34 (hl_J2_isEmpty : _) dX8_init_194 trivial) ?_
      refine jlk_cons (sm_ifne rfl B.1 dX8_init_197) ?_
      refine jlk_cons (sm_aload_n rfl B.1 dX8_init_200) ?_
      refine jlk_cons (sm_getP B.1 fl_PointerAnalyzer_Analysis_30_8_81 dX8_init_201) ?_
      refine jlk_cons (sm_cV (x := yJ36_poll) (host := "") (owner := "") isRP (i_J36_poll hI) B q2044 q2045 q2046 w4_J36_poll w6_J36_poll (by decide) (by decide) (by decide) kc_34 hy_J36_poll hl_J36_poll dX8_init_204 trivial) ?_
      refine jlk_cons (sm_cast B.1 q1564 (List.forall_mem_cons.mpr ⟨⟨by decide, by decide, _, kc_12, Or.inl rfl⟩, (List.forall_mem_nil _)⟩) dX8_init_207) ?_
      refine jlk_cons (sm_astore_n rfl B.1 dX8_init_210) ?_
      refine jlk_cons (sm_aload_n rfl B.1 dX8_init_211) ?_
      refine jlk_cons (sm_iconst rfl B.1 dX8_init_212) ?_
      refine jlk_cons (sm_putZN B.1 fn_PointerAnalyzer_Analysis_102_12_92 tyX12 tyX12_ok nmX12 rfl (tyX12_ok 8 (by decide)) rfl (by decide) dX8_init_213) ?_
      refine jlk_cons (sm_aload_n rfl B.1 dX8_init_216) ?_
      refine jlk_cons (sm_aload_n rfl B.1 dX8_init_217) ?_
      refine jlk_cons (sm_cV (x := yX8_flow) (host := "") (owner := "") isRV (i_X8_flow hI) B q2054 q2056 qs28 w4_X8_flow w6_X8_flow (by decide) (by decide) (by decide) kc_8 hy_X8_flow hl_X8_flow dX8_init_218 trivial) ?_
      refine jlk_cons (sm_goto rfl B.1 dX8_init_221) ?_
      refine jlk_cons (sm_vret B.1 B.2.1 hret dX8_init_224) ?_
      exact jlk_nil
theorem v_X8_init (hst : l.stackTraces = false) (hz : jEz (EV (d + 1))) (hI : jIH l D dA lo cs0 d) : jMe l D dA lo cs0 (EV (d + 1)) 186 yX8_init (ws_ yX8_init cX8_init 6 (Option.none : Option Jvm.ClassFile.FieldType)) (d + 1) := z_meth hz rfl hp_X8_init (r_X8_init hst hI)
theorem r_X12_find (hst : l.stackTraces = false) (hI : jIH l D dA lo cs0 d) : jRows l D dA lo cs0 d 2 (tb_X12_find (EV d)) yX12_find cX12_find (Option.some (Jvm.ClassFile.FieldType.object "PointerAnalyzer$Cell")) [] := by
  intro p e R s m args below meth c z0 w0 zF wF Q rF hF B hz hw hret hnm
  refine jlk_cons (sm_aload_n rfl B.1 dX12_find_0) ?_
  refine jlk_cons (sm_astore_n rfl B.1 dX12_find_1) ?_
  refine jlk_cons (sm_aload_n rfl B.1 dX12_find_2) ?_
  refine jlk_cons (sm_getP B.1 fl_PointerAnalyzer_Cell_39_12_86 dX12_find_3) ?_
  refine jlk_cons (sm_aload_n rfl B.1 dX12_find_6) ?_
  refine jlk_cons (sm_acmpeq rfl B.1 dX12_find_7) ?_
  refine jlk_cons (sm_aload_n rfl B.1 dX12_find_10) ?_
  refine jlk_cons (sm_getP B.1 fl_PointerAnalyzer_Cell_39_12_86 dX12_find_11) ?_
  refine jlk_cons (sm_astore_n rfl B.1 dX12_find_14) ?_
  refine jlk_cons (sm_goto rfl B.1 dX12_find_15) ?_
  refine jlk_cons (sm_aload_n rfl B.1 dX12_find_18) ?_
  refine jlk_cons (sm_aret B.1 B.2.1 hret (Or.inl ⟨_, rfl⟩) dX12_find_19) ?_
  exact jlk_nil
theorem v_X12_find (hst : l.stackTraces = false) (hz : jEz (EV (d + 1))) (hI : jIH l D dA lo cs0 d) : jMe l D dA lo cs0 (EV (d + 1)) 187 yX12_find (ws_ yX12_find cX12_find 2 (Option.some (Jvm.ClassFile.FieldType.object "PointerAnalyzer$Cell"))) (d + 1) := z_meth hz rfl hp_X12_find (r_X12_find hst hI)
theorem r_X1_requireFact (hst : l.stackTraces = false) (hI : jIH l D dA lo cs0 d) : jRows l D dA lo cs0 d 4 (tb_X1_requireFact (EV d)) yX1_requireFact cX1_requireFact (Option.some (Jvm.ClassFile.FieldType.object "PointerAnalyzer$Ranks")) [] := by
  intro p e R s m args below meth c z0 w0 zF wF Q rF hF B hz hw hret hnm
  refine jlk_cons (sm_iload_n rfl B.1 dX1_requireFact_0) ?_
  refine jlk_cons (sm_cS (x := yX1_isVariable) (r9 := kr_6) (host := "") (owner := "") isSI (i_X1_isVariable hI) B q2720 q2721 w4_X1_isVariable w6_X1_isVariable (by decide) hy_X1_isVariable hl_X1_isVariable dX1_requireFact_1 trivial) ?_
  refine jlk_cons (sm_ifeq rfl B.1 dX1_requireFact_4) ?_
  refine jlk_cons (sm_iload_n rfl B.1 dX1_requireFact_7) ?_
  refine jlk_cons (sm_iconst rfl B.1 dX1_requireFact_8) ?_
  refine jlk_cons (sm_bipush rfl B.1 dX1_requireFact_9) ?_
  refine jlk_cons (sm_iconst rfl B.1 dX1_requireFact_11) ?_
  refine jlk_cons (sm_aload_n rfl B.1 dX1_requireFact_12) ?_
  refine jlk_cons (sm_getP B.1 fl_PointerAnalyzer_46_1_0 dX1_requireFact_13) ?_
  refine jlk_cons (sm_getIN B.1 fn_PointerAnalyzer_139_2_11 dX1_requireFact_16) ?_
  refine jlk_cons (sm_imul B.1 dX1_requireFact_19) ?_
  refine jlk_cons (sm_iadd B.1 dX1_requireFact_20) ?_
  refine jlk_cons (sm_iconst rfl B.1 dX1_requireFact_21) ?_
  refine jlk_cons (sm_isub B.1 dX1_requireFact_22) ?_
  refine jlk_cons (sm_cS (x := yX1_isBetween) (r9 := kr_6) (host := "") (owner := "") isSI (i_X1_isBetween hI) B q2399 q2400 w4_X1_isBetween w6_X1_isBetween (by decide) hy_X1_isBetween hl_X1_isBetween dX1_requireFact_23 trivial) ?_
  refine jlk_cons (sm_ifeq rfl B.1 dX1_requireFact_26) ?_
  refine jlk_cons (sm_iconst rfl B.1 dX1_requireFact_29) ?_
  refine jlk_cons (sm_goto rfl B.1 dX1_requireFact_30) ?_
  refine jlk_cons (sm_iconst rfl B.1 dX1_requireFact_33) ?_
  refine jlk_cons (sm_cS (x := yX1_requireIndex) (r9 := kr_6) (host := "") (owner := "") isXSV (i_X1_requireIndex hI) B q2451 q2452 w4_X1_requireIndex w6_X1_requireIndex (by decide) hy_X1_requireIndex hl_X1_requireIndex dX1_requireFact_34 rfl) ?_
  refine jlk_cons (sm_aload_n rfl B.1 dX1_requireFact_37) ?_
  refine jlk_cons (sm_cV (x := yX1_findRanks) (host := "") (owner := "") isRP (i_X1_findRanks hI) B q2138 q2140 qs36 w4_X1_findRanks w6_X1_findRanks (by decide) (by decide) (by decide) kc_1 hy_X1_findRanks hl_X1_findRanks dX1_requireFact_38 trivial) ?_
  refine jlk_cons (sm_astore_n rfl B.1 dX1_requireFact_41) ?_
  refine jlk_cons (sm_aload_n rfl B.1 dX1_requireFact_42) ?_
  refine jlk_cons (sm_getPN B.1 fn_PointerAnalyzer_231_14_97 dX1_requireFact_43) ?_
  refine jlk_cons (sm_iload_n rfl B.1 dX1_requireFact_46) ?_
  refine jlk_cons (sm_aaldA B.1 dX1_requireFact_47) ?_
  refine jlk_cons (sm_iload_n rfl B.1 dX1_requireFact_48) ?_
  refine jlk_cons (sm_iald B.1 dX1_requireFact_49) ?_
  refine jlk_cons (sm_ifne rfl B.1 dX1_requireFact_50) ?_
  refine jlk_cons (sm_thr0 B hst (cls := "java/util/NoSuchElementException") (names := ["java/lang/RuntimeException", "java/lang/Exception"]) (by decide +kernel) (by decide +kernel) rfl q2770 q153 at_4 at_4g kc_29 (by first | decide | (unfold jexk; decide)) (by first | decide | (unfold jexk; decide)) (by first | decide | (unfold jexk; decide)) hz hw dX1_requireFact_53 dX1_requireFact_56 dX1_requireFact_57 dX1_requireFact_60 rfl) ?_
  refine jlk_cons (sm_aload_n rfl B.1 dX1_requireFact_61) ?_
  refine jlk_cons (sm_aret B.1 B.2.1 hret (Or.inl ⟨_, rfl⟩) dX1_requireFact_62) ?_
  exact jlk_nil
theorem v_X1_requireFact (hst : l.stackTraces = false) (hz : jEz (EV (d + 1))) (hI : jIH l D dA lo cs0 d) : jMe l D dA lo cs0 (EV (d + 1)) 190 yX1_requireFact (ws_ yX1_requireFact cX1_requireFact 4 (Option.some (Jvm.ClassFile.FieldType.object "PointerAnalyzer$Ranks"))) (d + 1) := z_meth hz rfl hp_X1_requireFact (r_X1_requireFact hst hI)
theorem r_X2_callees (hst : l.stackTraces = false) (hI : jIH l D dA lo cs0 d) : jRows l D dA lo cs0 d 7 (tb_X2_callees (EV d)) yX2_callees cX2_callees (Option.some (Jvm.ClassFile.FieldType.array Jvm.ClassFile.FieldType.boolean)) [] := by
  intro p e R s m args below meth c z0 w0 zF wF Q rF hF B hz hw hret hnm
  refine jlk_app ?_ ?_
  · refine jlk_cons (sm_iconst rfl B.1 dX2_callees_0) ?_
    refine jlk_cons (sm_newA B.1 (at9 := .boolean) rfl (by decide) rfl (by decide) hc_103 (fun _ => rfl) q2199 B.2.2.2 hz hw dX2_callees_1) ?_
    refine jlk_cons (sm_astore_n rfl B.1 dX2_callees_3) ?_
    refine jlk_cons (sm_iconst rfl B.1 dX2_callees_4) ?_
    refine jlk_cons (sm_istore_n rfl B.1 dX2_callees_5) ?_
    refine jlk_cons (sm_iload_n rfl B.1 dX2_callees_6) ?_
    refine jlk_cons (sm_ifeq rfl B.1 dX2_callees_7) ?_
    refine jlk_cons (sm_iconst rfl B.1 dX2_callees_10) ?_
    refine jlk_cons (sm_istore_n rfl B.1 dX2_callees_11) ?_
    refine jlk_cons (sm_iconst rfl B.1 dX2_callees_12) ?_
    refine jlk_cons (sm_istore B.1 dX2_callees_13) ?_
    refine jlk_cons (sm_iload B.1 dX2_callees_15) ?_
    refine jlk_cons (sm_aload_n rfl B.1 dX2_callees_17) ?_
    refine jlk_cons (sm_getP B.1 fl_PointerAnalyzer_Program_21_2_10 dX2_callees_18) ?_
    refine jlk_cons (sm_cV (x := yJ4_size) (host := "") (owner := "") isRI (i_J4_size hI) B q1144 q1145 q1146 w4_J4_size w6_J4_size (by decide) (by decide) (by decide) kc_21 hy_J4_size hl_J4_size dX2_callees_21 trivial) ?_
    refine jlk_cons (sm_icmpge rfl B.1 dX2_callees_24) ?_
    refine jlk_cons (sm_aload_n rfl B.1 dX2_callees_27) ?_
    refine jlk_cons (sm_getP B.1 fl_PointerAnalyzer_Program_21_2_10 dX2_callees_28) ?_
    refine jlk_cons (sm_iload B.1 dX2_callees_31) ?_
    refine jlk_cons (sm_cV (x := yJ4_get) (host := "") (owner := "") isRP (i_J4_get hI) B q1148 q1149 q1150 w4_J4_get w6_J4_get (by decide) (by decide) (by decide) kc_21 hy_J4_get hl_J4_get dX2_callees_33 trivial) ?_
    refine jlk_cons (sm_cast B.1 q1163 (List.forall_mem_cons.mpr ⟨⟨by decide, by decide, _, kc_3, Or.inl rfl⟩, (List.forall_mem_nil _)⟩) dX2_callees_36) ?_
    refine jlk_cons (sm_astore B.1 dX2_callees_39) ?_
    refine jlk_cons (sm_aload B.1 dX2_callees_41) ?_
    refine jlk_cons (sm_cstS B.1 (List.mem_of_getElem? (i := 9) rfl) q2146 dX2_callees_43) ?_
    refine jlk_cons (sm_cV (x := yX3_is) (host := "") (owner := "") isRI (i_X3_is hI) B q2147 q1407 q1408 w4_X3_is w6_X3_is (by decide) (by decide) (by decide) kc_3 hy_X3_is hl_X3_is dX2_callees_46 trivial) ?_
    refine jlk_cons (sm_ifeq rfl B.1 dX2_callees_49) ?_
    refine jlk_cons (sm_aload B.1 dX2_callees_52) ?_
    refine jlk_cons (sm_getIN B.1 fn_PointerAnalyzer_Program_86_3_13 dX2_callees_54) ?_
    refine jlk_cons (sm_iload_n rfl B.1 dX2_callees_57) ?_
    refine jlk_cons (sm_icmpeq rfl B.1 dX2_callees_58) ?_
    refine jlk_cons (sm_aload_n rfl B.1 dX2_callees_61) ?_
    refine jlk_cons (sm_aload B.1 dX2_callees_62) ?_
    refine jlk_cons (sm_getIN B.1 fn_PointerAnalyzer_Program_86_3_13 dX2_callees_64) ?_
    refine jlk_cons (sm_zald B.1 dX2_callees_67) ?_
    refine jlk_cons (sm_ifeq rfl B.1 dX2_callees_68) ?_
    refine jlk_cons (sm_iconst rfl B.1 dX2_callees_71) ?_
    refine jlk_cons (sm_goto rfl B.1 dX2_callees_72) ?_
    refine jlk_cons (sm_iconst rfl B.1 dX2_callees_75) ?_
    refine jlk_cons (sm_istore B.1 dX2_callees_76) ?_
    refine jlk_cons (sm_iload_n rfl B.1 dX2_callees_78) ?_
    exact jlk_nil
  · skip
    refine jlk_cons (sm_iload B.1 dX2_callees_79) ?_
    refine jlk_cons (sm_ifeq rfl B.1 dX2_callees_81) ?_
    refine jlk_cons (sm_aload_n rfl B.1 dX2_callees_84) ?_
    refine jlk_cons (sm_aload B.1 dX2_callees_85) ?_
    refine jlk_cons (sm_getPN B.1 fn_PointerAnalyzer_Program_89_3_14 dX2_callees_87) ?_
    refine jlk_cons (sm_getIN B.1 fn_PointerAnalyzer_Program_93_7_75 dX2_callees_90) ?_
    refine jlk_cons (sm_zald B.1 dX2_callees_93) ?_
    refine jlk_cons (sm_ifne rfl B.1 dX2_callees_94) ?_
    refine jlk_cons (sm_iconst rfl B.1 dX2_callees_97) ?_
    refine jlk_cons (sm_goto rfl B.1 dX2_callees_98) ?_
    refine jlk_cons (sm_iconst rfl B.1 dX2_callees_101) ?_
    refine jlk_cons (sm_ior B.1 dX2_callees_102) ?_
    refine jlk_cons (sm_istore_n rfl B.1 dX2_callees_103) ?_
    refine jlk_cons (sm_aload_n rfl B.1 dX2_callees_104) ?_
    refine jlk_cons (sm_iload B.1 dX2_callees_105) ?_
    refine jlk_cons (sm_ifeq rfl B.1 dX2_callees_107) ?_
    refine jlk_cons (sm_aload B.1 dX2_callees_110) ?_
    refine jlk_cons (sm_getPN B.1 fn_PointerAnalyzer_Program_89_3_14 dX2_callees_112) ?_
    refine jlk_cons (sm_getIN B.1 fn_PointerAnalyzer_Program_93_7_75 dX2_callees_115) ?_
    refine jlk_cons (sm_goto rfl B.1 dX2_callees_118) ?_
    refine jlk_cons (sm_iconst rfl B.1 dX2_callees_121) ?_
    refine jlk_cons (sm_dup2 B.1 dX2_callees_122) ?_
    refine jlk_cons (sm_zald B.1 dX2_callees_123) ?_
    refine jlk_cons (sm_iload B.1 dX2_callees_124) ?_
    refine jlk_cons (sm_ior B.1 dX2_callees_126) ?_
    refine jlk_cons (sm_zast B.1 dX2_callees_127) ?_
    refine jlk_cons (sm_iinc rfl B.1 dX2_callees_128) ?_
    refine jlk_cons (sm_goto rfl B.1 dX2_callees_131) ?_
    refine jlk_cons (sm_goto rfl B.1 dX2_callees_134) ?_
    refine jlk_cons (sm_aload_n rfl B.1 dX2_callees_137) ?_
    refine jlk_cons (sm_aret B.1 B.2.1 hret (Or.inr ⟨_, rfl⟩) dX2_callees_138) ?_
    exact jlk_nil
theorem v_X2_callees (hst : l.stackTraces = false) (hz : jEz (EV (d + 1))) (hI : jIH l D dA lo cs0 d) : jMe l D dA lo cs0 (EV (d + 1)) 192 yX2_callees (ws_ yX2_callees cX2_callees 7 (Option.some (Jvm.ClassFile.FieldType.array Jvm.ClassFile.FieldType.boolean))) (d + 1) := z_meth hz rfl hp_X2_callees (r_X2_callees hst hI)
theorem r_X14_init (hst : l.stackTraces = false) (hI : jIH l D dA lo cs0 d) : jRows l D dA lo cs0 d 6 (tb_X14_init (EV d)) yX14_init cX14_init (Option.none : Option Jvm.ClassFile.FieldType) [] := by
  intro p e R s m args below meth c z0 w0 zF wF Q rF hF B hz hw hret hnm
  refine jlk_app ?_ ?_
  · refine jlk_cons (sm_aload_n rfl B.1 dX14_init_0) ?_
    refine jlk_cons (sm_obj B.1 q2153 q196 q197 dX14_init_1) ?_
    refine jlk_cons (sm_aload_n rfl B.1 dX14_init_4) ?_
    refine jlk_cons (sm_bipush rfl B.1 dX14_init_5) ?_
    refine jlk_cons (sm_newA B.1 (at9 := .long) rfl (by decide) rfl (by decide) hc_105 (fun _ => rfl) q1594 B.2.2.2 hz hw dX14_init_7) ?_
    refine jlk_cons (sm_putP B.1 fl_PointerAnalyzer_Ranks_9_14_95 tyX14 tyX14_ok nmX14 (Or.inl rfl) rfl (tyX14_ok 0 (by decide)) rfl (by decide) dX14_init_9) ?_
    refine jlk_cons (sm_aload_n rfl B.1 dX14_init_12) ?_
    refine jlk_cons (sm_bipush rfl B.1 dX14_init_13) ?_
    refine jlk_cons (sm_bipush rfl B.1 dX14_init_15) ?_
    refine jlk_cons (sm_maa B.1 q2154 q2155 q1314 (by decide +kernel) (by decide +kernel) (by decide +kernel) B.2.2.2 hz hw dX14_init_17) ?_
    refine jlk_cons (sm_putP B.1 fl_PointerAnalyzer_Ranks_17_14_97 tyX14 tyX14_ok nmX14 (Or.inr ⟨rfl, hnm, rfl⟩) rfl (tyX14_ok 2 (by decide)) rfl (by decide) dX14_init_21) ?_
    refine jlk_cons (sm_aload_n rfl B.1 dX14_init_24) ?_
    refine jlk_cons (sm_bipush rfl B.1 dX14_init_25) ?_
    refine jlk_cons (sm_bipush rfl B.1 dX14_init_27) ?_
    refine jlk_cons (sm_maa B.1 q2154 q2155 q1314 (by decide +kernel) (by decide +kernel) (by decide +kernel) B.2.2.2 hz hw dX14_init_29) ?_
    refine jlk_cons (sm_putP B.1 fl_PointerAnalyzer_Ranks_20_14_98 tyX14 tyX14_ok nmX14 (Or.inr ⟨rfl, hnm, rfl⟩) rfl (tyX14_ok 3 (by decide)) rfl (by decide) dX14_init_33) ?_
    refine jlk_cons (sm_iconst rfl B.1 dX14_init_36) ?_
    refine jlk_cons (sm_istore_n rfl B.1 dX14_init_37) ?_
    refine jlk_cons (sm_iload_n rfl B.1 dX14_init_38) ?_
    refine jlk_cons (sm_ifeq rfl B.1 dX14_init_39) ?_
    refine jlk_cons (sm_iconst rfl B.1 dX14_init_42) ?_
    refine jlk_cons (sm_istore_n rfl B.1 dX14_init_43) ?_
    refine jlk_cons (sm_aload_n rfl B.1 dX14_init_44) ?_
    refine jlk_cons (sm_aload_n rfl B.1 dX14_init_45) ?_
    refine jlk_cons (sm_getP B.1 fl_PointerAnalyzer_Ranks_9_14_95 dX14_init_46) ?_
    refine jlk_cons (sm_cloL B.1 q2156 q1906 q1731 q1732 q1907 q1908 nmA_105 B.2.2.2 hz hw dX14_init_49) ?_
    refine jlk_cons (sm_castA B.1 (t := 105) (by decide) rfl nmA_105 q2157 dX14_init_52) ?_
    refine jlk_cons (sm_putP B.1 fl_PointerAnalyzer_Ranks_28_14_96 tyX14 tyX14_ok nmX14 (Or.inl rfl) rfl (tyX14_ok 1 (by decide)) rfl (by decide) dX14_init_55) ?_
    refine jlk_cons (sm_aload_n rfl B.1 dX14_init_58) ?_
    refine jlk_cons (sm_dup B.1 dX14_init_59) ?_
    refine jlk_cons (sm_getI B.1 fl_PointerAnalyzer_Ranks_31_14_99 dX14_init_60) ?_
    refine jlk_cons (sm_iconst rfl B.1 dX14_init_63) ?_
    refine jlk_cons (sm_iadd B.1 dX14_init_64) ?_
    refine jlk_cons (sm_putI B.1 fl_PointerAnalyzer_Ranks_31_14_99 tyX14 tyX14_ok nmX14 (Or.inl rfl) (tyX14_ok 4 (by decide)) rfl (by decide) dX14_init_65) ?_
    refine jlk_cons (sm_iconst rfl B.1 dX14_init_68) ?_
    refine jlk_cons (sm_istore B.1 dX14_init_69) ?_
    refine jlk_cons (sm_iload B.1 dX14_init_71) ?_
    refine jlk_cons (sm_aload_n rfl B.1 dX14_init_73) ?_
    refine jlk_cons (sm_getPN B.1 fn_PointerAnalyzer_Ranks_35_2_10 dX14_init_74) ?_
    refine jlk_cons (sm_cV (x := yJ4_size) (host := "") (owner := "") isRI (i_J4_size hI) B q2158 q1145 q1146 w4_J4_size w6_J4_size (by decide) (by decide) (by decide) kc_21 hy_J4_size hl_J4_size dX14_init_77 trivial) ?_
    exact jlk_nil
  · skip
    refine jlk_app ?_ ?_
    · refine jlk_cons (sm_icmpge rfl B.1 dX14_init_80) ?_
      refine jlk_cons (sm_aload_n rfl B.1 dX14_init_83) ?_
      refine jlk_cons (sm_getPN B.1 fn_PointerAnalyzer_Ranks_35_2_10 dX14_init_84) ?_
      refine jlk_cons (sm_iload B.1 dX14_init_87) ?_
      refine jlk_cons (sm_cV (x := yJ4_get) (host := "") (owner := "") isRP (i_J4_get hI) B q2159 q1149 q1150 w4_J4_get w6_J4_get (by decide) (by decide) (by decide) kc_21 hy_J4_get hl_J4_get dX14_init_89 trivial) ?_
      refine jlk_cons (sm_cast B.1 q2160 (List.forall_mem_cons.mpr ⟨⟨by decide, by decide, _, kc_3, Or.inl rfl⟩, (List.forall_mem_nil _)⟩) dX14_init_92) ?_
      refine jlk_cons (sm_astore B.1 dX14_init_95) ?_
      refine jlk_cons (sm_aload_n rfl B.1 dX14_init_97) ?_
      refine jlk_cons (sm_aload B.1 dX14_init_98) ?_
      refine jlk_cons (sm_getIN B.1 fn_PointerAnalyzer_Ranks_53_3_13 dX14_init_100) ?_
      refine jlk_cons (sm_zald B.1 dX14_init_103) ?_
      refine jlk_cons (sm_ifeq rfl B.1 dX14_init_104) ?_
      refine jlk_cons (sm_aload_n rfl B.1 dX14_init_107) ?_
      refine jlk_cons (sm_iload B.1 dX14_init_108) ?_
      refine jlk_cons (sm_putI B.1 fl_PointerAnalyzer_Ranks_56_14_100 tyX14 tyX14_ok nmX14 (Or.inl rfl) (tyX14_ok 5 (by decide)) rfl (by decide) dX14_init_110) ?_
      refine jlk_cons (sm_aload_n rfl B.1 dX14_init_113) ?_
      refine jlk_cons (sm_aload B.1 dX14_init_114) ?_
      refine jlk_cons (sm_cV (x := yX14_derive) (host := "") (owner := "") isRV (i_X14_derive hI) B q2161 q2163 qs37 w4_X14_derive w6_X14_derive (by decide) (by decide) (by decide) kc_14 hy_X14_derive hl_X14_derive dX14_init_116 trivial) ?_
      refine jlk_cons (sm_iinc rfl B.1 dX14_init_119) ?_
      refine jlk_cons (sm_goto rfl B.1 dX14_init_122) ?_
      refine jlk_cons (sm_iconst rfl B.1 dX14_init_125) ?_
      refine jlk_cons (sm_istore B.1 dX14_init_126) ?_
      refine jlk_cons (sm_iload B.1 dX14_init_128) ?_
      refine jlk_cons (sm_bipush rfl B.1 dX14_init_130) ?_
      refine jlk_cons (sm_icmpge rfl B.1 dX14_init_132) ?_
      refine jlk_cons (sm_iload_n rfl B.1 dX14_init_135) ?_
      refine jlk_cons (sm_aload_n rfl B.1 dX14_init_136) ?_
      refine jlk_cons (sm_getP B.1 fl_PointerAnalyzer_Ranks_28_14_96 dX14_init_137) ?_
      refine jlk_cons (sm_iload B.1 dX14_init_140) ?_
      refine jlk_cons (sm_lald B.1 dX14_init_142) ?_
      refine jlk_cons (sm_aload_n rfl B.1 dX14_init_143) ?_
      refine jlk_cons (sm_getP B.1 fl_PointerAnalyzer_Ranks_9_14_95 dX14_init_144) ?_
      refine jlk_cons (sm_iload B.1 dX14_init_147) ?_
      refine jlk_cons (sm_lald B.1 dX14_init_149) ?_
      refine jlk_cons (sm_lcmp B.1 dX14_init_150) ?_
      refine jlk_cons (sm_ifeq rfl B.1 dX14_init_151) ?_
      refine jlk_cons (sm_iconst rfl B.1 dX14_init_154) ?_
      refine jlk_cons (sm_goto rfl B.1 dX14_init_155) ?_
      refine jlk_cons (sm_iconst rfl B.1 dX14_init_158) ?_
      refine jlk_cons (sm_ior B.1 dX14_init_159) ?_
      exact jlk_nil
    · skip
      refine jlk_cons (sm_istore_n rfl B.1 dX14_init_160) ?_
      refine jlk_cons (sm_iinc rfl B.1 dX14_init_161) ?_
      refine jlk_cons (sm_goto rfl B.1 dX14_init_164) ?_
      refine jlk_cons (sm_aload_n rfl B.1 dX14_init_167) ?_
      refine jlk_cons (sm_aload_n rfl B.1 dX14_init_168) ?_
      refine jlk_cons (sm_getP B.1 fl_PointerAnalyzer_Ranks_28_14_96 dX14_init_169) ?_
      refine jlk_cons (sm_putP B.1 fl_PointerAnalyzer_Ranks_9_14_95 tyX14 tyX14_ok nmX14 (Or.inl rfl) rfl (tyX14_ok 0 (by decide)) rfl (by decide) dX14_init_172) ?_
      refine jlk_cons (sm_goto rfl B.1 dX14_init_175) ?_
      refine jlk_cons (sm_aload_n rfl B.1 dX14_init_178) ?_
      refine jlk_cons (sm_dup B.1 dX14_init_179) ?_
      refine jlk_cons (sm_getI B.1 fl_PointerAnalyzer_Ranks_31_14_99 dX14_init_180) ?_
      refine jlk_cons (sm_iconst rfl B.1 dX14_init_183) ?_
      refine jlk_cons (sm_isub B.1 dX14_init_184) ?_
      refine jlk_cons (sm_putI B.1 fl_PointerAnalyzer_Ranks_31_14_99 tyX14 tyX14_ok nmX14 (Or.inl rfl) (tyX14_ok 4 (by decide)) rfl (by decide) dX14_init_185) ?_
      refine jlk_cons (sm_vret B.1 B.2.1 hret dX14_init_188) ?_
      exact jlk_nil
theorem v_X14_init (hst : l.stackTraces = false) (hz : jEz (EV (d + 1))) (hI : jIH l D dA lo cs0 d) : jMe l D dA lo cs0 (EV (d + 1)) 193 yX14_init (ws_ yX14_init cX14_init 6 (Option.none : Option Jvm.ClassFile.FieldType)) (d + 1) := z_meth hz rfl hp_X14_init (r_X14_init hst hI)
theorem r_X15_targets (hst : l.stackTraces = false) (hI : jIH l D dA lo cs0 d) : jRows l D dA lo cs0 d 7 (tb_X15_targets (EV d)) yX15_targets cX15_targets (Option.some Jvm.ClassFile.FieldType.long) [] := by
  intro p e R s m args below meth c z0 w0 zF wF Q rF hF B hz hw hret hnm
  refine jlk_app ?_ ?_
  · refine jlk_cons (sm_aload_n rfl B.1 dX15_targets_0) ?_
    refine jlk_cons (sm_getP B.1 fl_PointerAnalyzer_Unification_17_15_101 dX15_targets_1) ?_
    refine jlk_cons (sm_iload_n rfl B.1 dX15_targets_4) ?_
    refine jlk_cons (sm_aald B.1 (t := 109) (by decide) rfl dX15_targets_5) ?_
    refine jlk_cons (sm_cV (x := yX16_find) (host := "") (owner := "") isRP (i_X16_find hI) B q2248 q2239 q2240 w4_X16_find w6_X16_find (by decide) (by decide) (by decide) kc_16 hy_X16_find hl_X16_find dX15_targets_6 trivial) ?_
    refine jlk_cons (sm_getPN B.1 fn_PointerAnalyzer_Unification_52_16_103 dX15_targets_9) ?_
    refine jlk_cons (sm_astore_n rfl B.1 dX15_targets_12) ?_
    refine jlk_cons (sm_lconst rfl B.1 dX15_targets_13) ?_
    refine jlk_cons (sm_lstore_n rfl B.1 dX15_targets_14) ?_
    refine jlk_cons (sm_iconst rfl B.1 dX15_targets_15) ?_
    refine jlk_cons (sm_istore B.1 dX15_targets_16) ?_
    refine jlk_cons (sm_iload B.1 dX15_targets_18) ?_
    refine jlk_cons (sm_aload_n rfl B.1 dX15_targets_20) ?_
    refine jlk_cons (sm_getP B.1 fl_PointerAnalyzer_Unification_17_15_101 dX15_targets_21) ?_
    refine jlk_cons (sm_alen B.1 (t := 109) (by decide) rfl dX15_targets_24) ?_
    refine jlk_cons (sm_icmpge rfl B.1 dX15_targets_25) ?_
    refine jlk_cons (sm_aload_n rfl B.1 dX15_targets_28) ?_
    refine jlk_cons (sm_ifnull rfl B.1 dX15_targets_29) ?_
    refine jlk_cons (sm_aload_n rfl B.1 dX15_targets_32) ?_
    refine jlk_cons (sm_getP B.1 fl_PointerAnalyzer_Unification_17_15_101 dX15_targets_33) ?_
    refine jlk_cons (sm_iload B.1 dX15_targets_36) ?_
    refine jlk_cons (sm_aald B.1 (t := 109) (by decide) rfl dX15_targets_38) ?_
    refine jlk_cons (sm_cV (x := yX16_find) (host := "") (owner := "") isRP (i_X16_find hI) B q2248 q2239 q2240 w4_X16_find w6_X16_find (by decide) (by decide) (by decide) kc_16 hy_X16_find hl_X16_find dX15_targets_39 trivial) ?_
    refine jlk_cons (sm_aload_n rfl B.1 dX15_targets_42) ?_
    refine jlk_cons (sm_cV (x := yX16_find) (host := "") (owner := "") isRP (i_X16_find hI) B q2248 q2239 q2240 w4_X16_find w6_X16_find (by decide) (by decide) (by decide) kc_16 hy_X16_find hl_X16_find dX15_targets_43 trivial) ?_
    refine jlk_cons (sm_acmpne rfl B.1 dX15_targets_46) ?_
    refine jlk_cons (sm_iconst rfl B.1 dX15_targets_49) ?_
    refine jlk_cons (sm_goto rfl B.1 dX15_targets_50) ?_
    refine jlk_cons (sm_iconst rfl B.1 dX15_targets_53) ?_
    refine jlk_cons (sm_istore B.1 dX15_targets_54) ?_
    refine jlk_cons (sm_lload_n rfl B.1 dX15_targets_56) ?_
    refine jlk_cons (sm_iload B.1 dX15_targets_57) ?_
    refine jlk_cons (sm_ifne rfl B.1 dX15_targets_59) ?_
    refine jlk_cons (sm_lconst rfl B.1 dX15_targets_62) ?_
    refine jlk_cons (sm_goto rfl B.1 dX15_targets_63) ?_
    refine jlk_cons (sm_iload B.1 dX15_targets_66) ?_
    refine jlk_cons (sm_bipush rfl B.1 dX15_targets_68) ?_
    refine jlk_cons (sm_icmpge rfl B.1 dX15_targets_70) ?_
    refine jlk_cons (sm_lconst rfl B.1 dX15_targets_73) ?_
    refine jlk_cons (sm_iload B.1 dX15_targets_74) ?_
    exact jlk_nil
  · skip
    refine jlk_cons (sm_lshl B.1 dX15_targets_76) ?_
    refine jlk_cons (sm_goto rfl B.1 dX15_targets_77) ?_
    refine jlk_cons (sm_ldc2 q2790 B.1 dX15_targets_80) ?_
    refine jlk_cons (sm_iload B.1 dX15_targets_83) ?_
    refine jlk_cons (sm_bipush rfl B.1 dX15_targets_85) ?_
    refine jlk_cons (sm_isub B.1 dX15_targets_87) ?_
    refine jlk_cons (sm_iconst rfl B.1 dX15_targets_88) ?_
    refine jlk_cons (sm_cSN (x := yX1_fieldCode) (r9 := kr_6) (owner := "") isSI (i_X1_fieldCode hI) B q2791 q2131 w4_X1_fieldCode w6_X1_fieldCode (by decide) hy_X1_fieldCode hl_X1_fieldCode dX15_targets_89 trivial) ?_
    refine jlk_cons (sm_lshl B.1 dX15_targets_92) ?_
    refine jlk_cons (sm_lor B.1 dX15_targets_93) ?_
    refine jlk_cons (sm_lstore_n rfl B.1 dX15_targets_94) ?_
    refine jlk_cons (sm_iinc rfl B.1 dX15_targets_95) ?_
    refine jlk_cons (sm_goto rfl B.1 dX15_targets_98) ?_
    refine jlk_cons (sm_lload_n rfl B.1 dX15_targets_101) ?_
    refine jlk_cons (sm_lret B.1 B.2.1 hret dX15_targets_102) ?_
    exact jlk_nil
theorem v_X15_targets (hst : l.stackTraces = false) (hz : jEz (EV (d + 1))) (hI : jIH l D dA lo cs0 d) : jMe l D dA lo cs0 (EV (d + 1)) 194 yX15_targets (ws_ yX15_targets cX15_targets 7 (Option.some Jvm.ClassFile.FieldType.long)) (d + 1) := z_meth hz rfl hp_X15_targets (r_X15_targets hst hI)
theorem r_X16_find (hst : l.stackTraces = false) (hI : jIH l D dA lo cs0 d) : jRows l D dA lo cs0 d 2 (tb_X16_find (EV d)) yX16_find cX16_find (Option.some (Jvm.ClassFile.FieldType.object "PointerAnalyzer$Term")) [] := by
  intro p e R s m args below meth c z0 w0 zF wF Q rF hF B hz hw hret hnm
  refine jlk_cons (sm_aload_n rfl B.1 dX16_find_0) ?_
  refine jlk_cons (sm_astore_n rfl B.1 dX16_find_1) ?_
  refine jlk_cons (sm_aload_n rfl B.1 dX16_find_2) ?_
  refine jlk_cons (sm_getP B.1 fl_PointerAnalyzer_Term_7_16_102 dX16_find_3) ?_
  refine jlk_cons (sm_aload_n rfl B.1 dX16_find_6) ?_
  refine jlk_cons (sm_acmpeq rfl B.1 dX16_find_7) ?_
  refine jlk_cons (sm_aload_n rfl B.1 dX16_find_10) ?_
  refine jlk_cons (sm_getP B.1 fl_PointerAnalyzer_Term_7_16_102 dX16_find_11) ?_
  refine jlk_cons (sm_astore_n rfl B.1 dX16_find_14) ?_
  refine jlk_cons (sm_goto rfl B.1 dX16_find_15) ?_
  refine jlk_cons (sm_aload_n rfl B.1 dX16_find_18) ?_
  refine jlk_cons (sm_aret B.1 B.2.1 hret (Or.inl ⟨_, rfl⟩) dX16_find_19) ?_
  exact jlk_nil
theorem v_X16_find (hst : l.stackTraces = false) (hz : jEz (EV (d + 1))) (hI : jIH l D dA lo cs0 d) : jMe l D dA lo cs0 (EV (d + 1)) 196 yX16_find (ws_ yX16_find cX16_find 2 (Option.some (Jvm.ClassFile.FieldType.object "PointerAnalyzer$Term"))) (d + 1) := z_meth hz rfl hp_X16_find (r_X16_find hst hI)
theorem r_X16_init (hst : l.stackTraces = false) (hI : jIH l D dA lo cs0 d) : jRows l D dA lo cs0 d 1 (tb_X16_init (EV d)) yX16_init cX16_init (Option.none : Option Jvm.ClassFile.FieldType) [] := by
  intro p e R s m args below meth c z0 w0 zF wF Q rF hF B hz hw hret hnm
  refine jlk_cons (sm_aload_n rfl B.1 dX16_init_0) ?_
  refine jlk_cons (sm_obj B.1 q2216 q196 q197 dX16_init_1) ?_
  refine jlk_cons (sm_aload_n rfl B.1 dX16_init_4) ?_
  refine jlk_cons (sm_aload_n rfl B.1 dX16_init_5) ?_
  refine jlk_cons (sm_putP B.1 fl_PointerAnalyzer_Term_7_16_102 tyX16 tyX16_ok nmX16 (Or.inl rfl) rfl (tyX16_ok 0 (by decide)) rfl (by decide) dX16_init_6) ?_
  refine jlk_cons (sm_vret B.1 B.2.1 hret dX16_init_9) ?_
  exact jlk_nil
theorem v_X16_init (hst : l.stackTraces = false) (hz : jEz (EV (d + 1))) (hI : jIH l D dA lo cs0 d) : jMe l D dA lo cs0 (EV (d + 1)) 197 yX16_init (ws_ yX16_init cX16_init 1 (Option.none : Option Jvm.ClassFile.FieldType)) (d + 1) := z_meth hz rfl hp_X16_init (r_X16_init hst hI)
theorem r_X15_unify (hst : l.stackTraces = false) (hI : jIH l D dA lo cs0 d) : jRows l D dA lo cs0 d 5 (tb_X15_unify (EV d)) yX15_unify cX15_unify (Option.none : Option Jvm.ClassFile.FieldType) [] := by
  intro p e R s m args below meth c z0 w0 zF wF Q rF hF B hz hw hret hnm
  refine jlk_app ?_ ?_
  · refine jlk_cons (sm_aload_n rfl B.1 dX15_unify_0) ?_
    refine jlk_cons (sm_getPN B.1 fn_PointerAnalyzer_Unification_59_3_14 dX15_unify_1) ?_
    refine jlk_cons (sm_astore_n rfl B.1 dX15_unify_4) ?_
    refine jlk_cons (sm_aload_n rfl B.1 dX15_unify_5) ?_
    refine jlk_cons (sm_getP B.1 fl_PointerAnalyzer_Unification_17_15_101 dX15_unify_6) ?_
    refine jlk_cons (sm_aload_n rfl B.1 dX15_unify_9) ?_
    refine jlk_cons (sm_getIN B.1 fn_PointerAnalyzer_Unification_63_7_73 dX15_unify_10) ?_
    refine jlk_cons (sm_aald B.1 (t := 109) (by decide) rfl dX15_unify_13) ?_
    refine jlk_cons (sm_astore_n rfl B.1 dX15_unify_14) ?_
    refine jlk_cons (sm_aload_n rfl B.1 dX15_unify_15) ?_
    refine jlk_cons (sm_getIN B.1 fn_PointerAnalyzer_Unification_68_7_74 dX15_unify_16) ?_
    refine jlk_cons (sm_ifge rfl B.1 dX15_unify_19) ?_
    refine jlk_cons (sm_null B.1 dX15_unify_22) ?_
    refine jlk_cons (sm_goto rfl B.1 dX15_unify_23) ?_
    refine jlk_cons (sm_aload_n rfl B.1 dX15_unify_26) ?_
    refine jlk_cons (sm_getP B.1 fl_PointerAnalyzer_Unification_17_15_101 dX15_unify_27) ?_
    refine jlk_cons (sm_aload_n rfl B.1 dX15_unify_30) ?_
    refine jlk_cons (sm_getIN B.1 fn_PointerAnalyzer_Unification_68_7_74 dX15_unify_31) ?_
    refine jlk_cons (sm_aald B.1 (t := 109) (by decide) rfl dX15_unify_34) ?_
    refine jlk_cons (sm_astore B.1 dX15_unify_35) ?_
    refine jlk_cons (sm_aload_n rfl B.1 dX15_unify_37) ?_
    refine jlk_cons (sm_getPN B.1 fn_PointerAnalyzer_Unification_71_7_72 dX15_unify_38) ?_
    refine jlk_cons (sm_oord B q2233 q1657 q1658 q1659 q1660 w4_J28_ordinal w6_J28_ordinal hp_J28_ordinal q3517 dJ28_ordinal_0 dJ28_ordinal_1 dJ28_ordinal_4 dX15_unify_41) ?_
    refine jlk_cons (sm_switch B.1 rfl (List.forall_mem_cons.mpr ⟨⟨by decide, by decide, 40, rfl, rfl⟩, (List.forall_mem_cons.mpr ⟨⟨by decide, by decide, 53, rfl, rfl⟩, (List.forall_mem_cons.mpr ⟨⟨by decide, by decide, 69, rfl, rfl⟩, (List.forall_mem_cons.mpr ⟨⟨by decide, by decide, 88, rfl, rfl⟩, (List.forall_mem_cons.mpr ⟨⟨by decide, by decide, 107, rfl, rfl⟩, (List.forall_mem_cons.mpr ⟨⟨by decide, by decide, 53, rfl, rfl⟩, (List.forall_mem_nil _)⟩)⟩)⟩)⟩)⟩)⟩) (sw_hall 6 (by decide) (by decide)) dX15_unify_44) ?_
    refine jlk_cons (sm_aload_n rfl B.1 dX15_unify_84) ?_
    refine jlk_cons (sm_aload_n rfl B.1 dX15_unify_85) ?_
    refine jlk_cons (sm_cV (x := yX16_target) (host := "") (owner := "") isRP (i_X16_target hI) B q2234 q2235 q2236 w4_X16_target w6_X16_target (by decide) (by decide) (by decide) kc_16 hy_X16_target hl_X16_target dX15_unify_86 trivial) ?_
    refine jlk_cons (sm_aload B.1 dX15_unify_89) ?_
    refine jlk_cons (sm_cV (x := yX15_join) (host := "") (owner := "") isRV (i_X15_join hI) B q2244 q2246 qs40 w4_X15_join w6_X15_join (by decide) (by decide) (by decide) kc_15 hy_X15_join hl_X15_join dX15_unify_91 trivial) ?_
    refine jlk_cons (sm_goto rfl B.1 dX15_unify_94) ?_
    refine jlk_cons (sm_aload_n rfl B.1 dX15_unify_97) ?_
    refine jlk_cons (sm_aload_n rfl B.1 dX15_unify_98) ?_
    refine jlk_cons (sm_cV (x := yX16_target) (host := "") (owner := "") isRP (i_X16_target hI) B q2234 q2235 q2236 w4_X16_target w6_X16_target (by decide) (by decide) (by decide) kc_16 hy_X16_target hl_X16_target dX15_unify_99 trivial) ?_
    refine jlk_cons (sm_aload B.1 dX15_unify_102) ?_
    refine jlk_cons (sm_cV (x := yX16_target) (host := "") (owner := "") isRP (i_X16_target hI) B q2234 q2235 q2236 w4_X16_target w6_X16_target (by decide) (by decide) (by decide) kc_16 hy_X16_target hl_X16_target dX15_unify_104 trivial) ?_
    refine jlk_cons (sm_cV (x := yX15_join) (host := "") (owner := "") isRV (i_X15_join hI) B q2244 q2246 qs40 w4_X15_join w6_X15_join (by decide) (by decide) (by decide) kc_15 hy_X15_join hl_X15_join dX15_unify_107 trivial) ?_
    refine jlk_cons (sm_goto rfl B.1 dX15_unify_110) ?_
    refine jlk_cons (sm_aload_n rfl B.1 dX15_unify_113) ?_
    refine jlk_cons (sm_aload_n rfl B.1 dX15_unify_114) ?_
    refine jlk_cons (sm_cV (x := yX16_target) (host := "") (owner := "") isRP (i_X16_target hI) B q2234 q2235 q2236 w4_X16_target w6_X16_target (by decide) (by decide) (by decide) kc_16 hy_X16_target hl_X16_target dX15_unify_115 trivial) ?_
    exact jlk_nil
  · skip
    refine jlk_app ?_ ?_
    · refine jlk_cons (sm_aload B.1 dX15_unify_118) ?_
      refine jlk_cons (sm_cV (x := yX16_target) (host := "") (owner := "") isRP (i_X16_target hI) B q2234 q2235 q2236 w4_X16_target w6_X16_target (by decide) (by decide) (by decide) kc_16 hy_X16_target hl_X16_target dX15_unify_120 trivial) ?_
      refine jlk_cons (sm_cV (x := yX16_target) (host := "") (owner := "") isRP (i_X16_target hI) B q2234 q2235 q2236 w4_X16_target w6_X16_target (by decide) (by decide) (by decide) kc_16 hy_X16_target hl_X16_target dX15_unify_123 trivial) ?_
      refine jlk_cons (sm_cV (x := yX15_join) (host := "") (owner := "") isRV (i_X15_join hI) B q2244 q2246 qs40 w4_X15_join w6_X15_join (by decide) (by decide) (by decide) kc_15 hy_X15_join hl_X15_join dX15_unify_126 trivial) ?_
      refine jlk_cons (sm_goto rfl B.1 dX15_unify_129) ?_
      refine jlk_cons (sm_aload_n rfl B.1 dX15_unify_132) ?_
      refine jlk_cons (sm_aload_n rfl B.1 dX15_unify_133) ?_
      refine jlk_cons (sm_cV (x := yX16_target) (host := "") (owner := "") isRP (i_X16_target hI) B q2234 q2235 q2236 w4_X16_target w6_X16_target (by decide) (by decide) (by decide) kc_16 hy_X16_target hl_X16_target dX15_unify_134 trivial) ?_
      refine jlk_cons (sm_cV (x := yX16_target) (host := "") (owner := "") isRP (i_X16_target hI) B q2234 q2235 q2236 w4_X16_target w6_X16_target (by decide) (by decide) (by decide) kc_16 hy_X16_target hl_X16_target dX15_unify_137 trivial) ?_
      refine jlk_cons (sm_aload B.1 dX15_unify_140) ?_
      refine jlk_cons (sm_cV (x := yX16_target) (host := "") (owner := "") isRP (i_X16_target hI) B q2234 q2235 q2236 w4_X16_target w6_X16_target (by decide) (by decide) (by decide) kc_16 hy_X16_target hl_X16_target dX15_unify_142 trivial) ?_
      refine jlk_cons (sm_cV (x := yX15_join) (host := "") (owner := "") isRV (i_X15_join hI) B q2244 q2246 qs40 w4_X15_join w6_X15_join (by decide) (by decide) (by decide) kc_15 hy_X15_join hl_X15_join dX15_unify_145 trivial) ?_
      refine jlk_cons (sm_goto rfl B.1 dX15_unify_148) ?_
      refine jlk_cons (sm_aload_n rfl B.1 dX15_unify_151) ?_
      refine jlk_cons (sm_aload_n rfl B.1 dX15_unify_152) ?_
      refine jlk_cons (sm_cV (x := yX16_target) (host := "") (owner := "") isRP (i_X16_target hI) B q2234 q2235 q2236 w4_X16_target w6_X16_target (by decide) (by decide) (by decide) kc_16 hy_X16_target hl_X16_target dX15_unify_153 trivial) ?_
      refine jlk_cons (sm_aload_n rfl B.1 dX15_unify_156) ?_
      refine jlk_cons (sm_getP B.1 fl_PointerAnalyzer_Unification_17_15_101 dX15_unify_157) ?_
      refine jlk_cons (sm_bipush rfl B.1 dX15_unify_160) ?_
      refine jlk_cons (sm_aload_n rfl B.1 dX15_unify_162) ?_
      refine jlk_cons (sm_getIN B.1 fn_PointerAnalyzer_Unification_82_3_15 dX15_unify_163) ?_
      refine jlk_cons (sm_iadd B.1 dX15_unify_166) ?_
      refine jlk_cons (sm_aald B.1 (t := 109) (by decide) rfl dX15_unify_167) ?_
      refine jlk_cons (sm_cV (x := yX15_join) (host := "") (owner := "") isRV (i_X15_join hI) B q2244 q2246 qs40 w4_X15_join w6_X15_join (by decide) (by decide) (by decide) kc_15 hy_X15_join hl_X15_join dX15_unify_168 trivial) ?_
      refine jlk_cons (sm_goto rfl B.1 dX15_unify_171) ?_
      refine jlk_cons (sm_aload_n rfl B.1 dX15_unify_174) ?_
      refine jlk_cons (sm_aload_n rfl B.1 dX15_unify_175) ?_
      refine jlk_cons (sm_getP B.1 fl_PointerAnalyzer_Unification_17_15_101 dX15_unify_176) ?_
      refine jlk_cons (sm_aload_n rfl B.1 dX15_unify_179) ?_
      refine jlk_cons (sm_getIN B.1 fn_PointerAnalyzer_Unification_85_7_75 dX15_unify_180) ?_
      refine jlk_cons (sm_iconst rfl B.1 dX15_unify_183) ?_
      refine jlk_cons (sm_cSN (x := yX1_local) (r9 := kr_6) (owner := "") isSI (i_X1_local hI) B q2249 q1641 w4_X1_local w6_X1_local (by decide) hy_X1_local hl_X1_local dX15_unify_184 trivial) ?_
      refine jlk_cons (sm_aald B.1 (t := 109) (by decide) rfl dX15_unify_187) ?_
      refine jlk_cons (sm_cV (x := yX16_target) (host := "") (owner := "") isRP (i_X16_target hI) B q2234 q2235 q2236 w4_X16_target w6_X16_target (by decide) (by decide) (by decide) kc_16 hy_X16_target hl_X16_target dX15_unify_188 trivial) ?_
      refine jlk_cons (sm_aload B.1 dX15_unify_191) ?_
      refine jlk_cons (sm_cV (x := yX16_target) (host := "") (owner := "") isRP (i_X16_target hI) B q2234 q2235 q2236 w4_X16_target w6_X16_target (by decide) (by decide) (by decide) kc_16 hy_X16_target hl_X16_target dX15_unify_193 trivial) ?_
      refine jlk_cons (sm_cV (x := yX15_join) (host := "") (owner := "") isRV (i_X15_join hI) B q2244 q2246 qs40 w4_X15_join w6_X15_join (by decide) (by decide) (by decide) kc_15 hy_X15_join hl_X15_join dX15_unify_196 trivial) ?_
      refine jlk_cons (sm_aload_n rfl B.1 dX15_unify_199) ?_
      refine jlk_cons (sm_aload_n rfl B.1 dX15_unify_200) ?_
      refine jlk_cons (sm_cV (x := yX16_target) (host := "") (owner := "") isRP (i_X16_target hI) B q2234 q2235 q2236 w4_X16_target w6_X16_target (by decide) (by decide) (by decide) kc_16 hy_X16_target hl_X16_target dX15_unify_201 trivial) ?_
      exact jlk_nil
    · skip
      refine jlk_cons (sm_aload_n rfl B.1 dX15_unify_204) ?_
      refine jlk_cons (sm_getP B.1 fl_PointerAnalyzer_Unification_17_15_101 dX15_unify_205) ?_
      refine jlk_cons (sm_aload_n rfl B.1 dX15_unify_208) ?_
      refine jlk_cons (sm_getIN B.1 fn_PointerAnalyzer_Unification_85_7_75 dX15_unify_209) ?_
      refine jlk_cons (sm_iconst rfl B.1 dX15_unify_212) ?_
      refine jlk_cons (sm_cSN (x := yX1_local) (r9 := kr_6) (owner := "") isSI (i_X1_local hI) B q2249 q1641 w4_X1_local w6_X1_local (by decide) hy_X1_local hl_X1_local dX15_unify_213 trivial) ?_
      refine jlk_cons (sm_aald B.1 (t := 109) (by decide) rfl dX15_unify_216) ?_
      refine jlk_cons (sm_cV (x := yX16_target) (host := "") (owner := "") isRP (i_X16_target hI) B q2234 q2235 q2236 w4_X16_target w6_X16_target (by decide) (by decide) (by decide) kc_16 hy_X16_target hl_X16_target dX15_unify_217 trivial) ?_
      refine jlk_cons (sm_cV (x := yX15_join) (host := "") (owner := "") isRV (i_X15_join hI) B q2244 q2246 qs40 w4_X15_join w6_X15_join (by decide) (by decide) (by decide) kc_15 hy_X15_join hl_X15_join dX15_unify_220 trivial) ?_
      refine jlk_cons (sm_vret B.1 B.2.1 hret dX15_unify_223) ?_
      exact jlk_nil
theorem v_X15_unify (hst : l.stackTraces = false) (hz : jEz (EV (d + 1))) (hI : jIH l D dA lo cs0 d) : jMe l D dA lo cs0 (EV (d + 1)) 198 yX15_unify (ws_ yX15_unify cX15_unify 5 (Option.none : Option Jvm.ClassFile.FieldType)) (d + 1) := z_meth hz rfl hp_X15_unify (r_X15_unify hst hI)
theorem r_X3_is (hst : l.stackTraces = false) (hI : jIH l D dA lo cs0 d) : jRows l D dA lo cs0 d 2 (tb_X3_is (EV d)) yX3_is cX3_is (Option.some Jvm.ClassFile.FieldType.boolean) [] := by
  intro p e R s m args below meth c z0 w0 zF wF Q rF hF B hz hw hret hnm
  refine jlk_cons (sm_aload_n rfl B.1 dX3_is_0) ?_
  refine jlk_cons (sm_getP B.1 fl_PointerAnalyzer_Statement_16_3_14 dX3_is_1) ?_
  refine jlk_cons (sm_getPN B.1 fn_PointerAnalyzer_Statement_23_7_72 dX3_is_4) ?_
  refine jlk_cons (sm_aload_n rfl B.1 dX3_is_7) ?_
  refine jlk_cons (sm_acmpne rfl B.1 dX3_is_8) ?_
  refine jlk_cons (sm_iconst rfl B.1 dX3_is_11) ?_
  refine jlk_cons (sm_goto rfl B.1 dX3_is_12) ?_
  refine jlk_cons (sm_iconst rfl B.1 dX3_is_15) ?_
  refine jlk_cons (sm_zret B.1 B.2.1 hret dX3_is_16) ?_
  exact jlk_nil
theorem v_X3_is (hst : l.stackTraces = false) (hz : jEz (EV (d + 1))) (hI : jIH l D dA lo cs0 d) : jMe l D dA lo cs0 (EV (d + 1)) 199 yX3_is (ws_ yX3_is cX3_is 2 (Option.some Jvm.ClassFile.FieldType.boolean)) (d + 1) := z_meth hz rfl hp_X3_is (r_X3_is hst hI)
theorem r_X1_paths (hst : l.stackTraces = false) (hI : jIH l D dA lo cs0 d) : jRows l D dA lo cs0 d 4 (tb_X1_paths (EV d)) yX1_paths cX1_paths (Option.some (Jvm.ClassFile.FieldType.array Jvm.ClassFile.FieldType.int)) [] := by
  intro p e R s m args below meth c z0 w0 zF wF Q rF hF B hz hw hret hnm
  refine jlk_app ?_ ?_
  · refine jlk_cons (sm_bipush rfl B.1 dX1_paths_0) ?_
    refine jlk_cons (sm_newA B.1 (at9 := .int) rfl (by decide) rfl (by decide) hc_101 (fun _ => rfl) q1314 B.2.2.2 hz hw dX1_paths_2) ?_
    refine jlk_cons (sm_astore_n rfl B.1 dX1_paths_4) ?_
    refine jlk_cons (sm_iconst rfl B.1 dX1_paths_5) ?_
    refine jlk_cons (sm_istore_n rfl B.1 dX1_paths_6) ?_
    refine jlk_cons (sm_iload_n rfl B.1 dX1_paths_7) ?_
    refine jlk_cons (sm_aload_n rfl B.1 dX1_paths_8) ?_
    refine jlk_cons (sm_getP B.1 fl_PointerAnalyzer_46_1_0 dX1_paths_9) ?_
    refine jlk_cons (sm_getPN B.1 fn_PointerAnalyzer_120_2_10 dX1_paths_12) ?_
    refine jlk_cons (sm_cV (x := yJ4_size) (host := "") (owner := "") isRI (i_J4_size hI) B q1284 q1145 q1146 w4_J4_size w6_J4_size (by decide) (by decide) (by decide) kc_21 hy_J4_size hl_J4_size dX1_paths_15 trivial) ?_
    refine jlk_cons (sm_icmpge rfl B.1 dX1_paths_18) ?_
    refine jlk_cons (sm_aload_n rfl B.1 dX1_paths_21) ?_
    refine jlk_cons (sm_getP B.1 fl_PointerAnalyzer_46_1_0 dX1_paths_22) ?_
    refine jlk_cons (sm_getPN B.1 fn_PointerAnalyzer_120_2_10 dX1_paths_25) ?_
    refine jlk_cons (sm_iload_n rfl B.1 dX1_paths_28) ?_
    refine jlk_cons (sm_cV (x := yJ4_get) (host := "") (owner := "") isRP (i_J4_get hI) B q2652 q1149 q1150 w4_J4_get w6_J4_get (by decide) (by decide) (by decide) kc_21 hy_J4_get hl_J4_get dX1_paths_29 trivial) ?_
    refine jlk_cons (sm_cast B.1 q2670 (List.forall_mem_cons.mpr ⟨⟨by decide, by decide, _, kc_3, Or.inl rfl⟩, (List.forall_mem_nil _)⟩) dX1_paths_32) ?_
    refine jlk_cons (sm_getPN B.1 fn_PointerAnalyzer_129_3_14 dX1_paths_35) ?_
    refine jlk_cons (sm_astore_n rfl B.1 dX1_paths_38) ?_
    refine jlk_cons (sm_aload_n rfl B.1 dX1_paths_39) ?_
    refine jlk_cons (sm_getPN B.1 fn_PointerAnalyzer_31_7_72 dX1_paths_40) ?_
    refine jlk_cons (sm_cstS B.1 (List.mem_of_getElem? (i := 4) rfl) q2834 dX1_paths_43) ?_
    refine jlk_cons (sm_acmpne rfl B.1 dX1_paths_46) ?_
    refine jlk_cons (sm_aload_n rfl B.1 dX1_paths_49) ?_
    refine jlk_cons (sm_aload_n rfl B.1 dX1_paths_50) ?_
    refine jlk_cons (sm_getIN B.1 fn_PointerAnalyzer_281_7_74 dX1_paths_51) ?_
    refine jlk_cons (sm_dup2 B.1 dX1_paths_54) ?_
    refine jlk_cons (sm_iald B.1 dX1_paths_55) ?_
    refine jlk_cons (sm_iconst rfl B.1 dX1_paths_56) ?_
    refine jlk_cons (sm_aload_n rfl B.1 dX1_paths_57) ?_
    refine jlk_cons (sm_getIN B.1 fn_PointerAnalyzer_275_7_73 dX1_paths_58) ?_
    refine jlk_cons (sm_ishl B.1 dX1_paths_61) ?_
    refine jlk_cons (sm_ior B.1 dX1_paths_62) ?_
    refine jlk_cons (sm_iast B.1 dX1_paths_63) ?_
    refine jlk_cons (sm_goto rfl B.1 dX1_paths_64) ?_
    refine jlk_cons (sm_aload_n rfl B.1 dX1_paths_67) ?_
    refine jlk_cons (sm_getPN B.1 fn_PointerAnalyzer_31_7_72 dX1_paths_68) ?_
    refine jlk_cons (sm_cstS B.1 (List.mem_of_getElem? (i := 9) rfl) q2654 dX1_paths_71) ?_
    refine jlk_cons (sm_acmpne rfl B.1 dX1_paths_74) ?_
    refine jlk_cons (sm_aload_n rfl B.1 dX1_paths_77) ?_
    exact jlk_nil
  · skip
    refine jlk_app ?_ ?_
    · refine jlk_cons (sm_aload_n rfl B.1 dX1_paths_78) ?_
      refine jlk_cons (sm_getIN B.1 fn_PointerAnalyzer_281_7_74 dX1_paths_79) ?_
      refine jlk_cons (sm_dup2 B.1 dX1_paths_82) ?_
      refine jlk_cons (sm_iald B.1 dX1_paths_83) ?_
      refine jlk_cons (sm_iconst rfl B.1 dX1_paths_84) ?_
      refine jlk_cons (sm_aload_n rfl B.1 dX1_paths_85) ?_
      refine jlk_cons (sm_getIN B.1 fn_PointerAnalyzer_284_7_75 dX1_paths_86) ?_
      refine jlk_cons (sm_iconst rfl B.1 dX1_paths_89) ?_
      refine jlk_cons (sm_cS (x := yX1_local) (r9 := kr_6) (host := "") (owner := "") isSI (i_X1_local hI) B q2835 q1641 w4_X1_local w6_X1_local (by decide) hy_X1_local hl_X1_local dX1_paths_90 trivial) ?_
      refine jlk_cons (sm_ishl B.1 dX1_paths_93) ?_
      refine jlk_cons (sm_ior B.1 dX1_paths_94) ?_
      refine jlk_cons (sm_iast B.1 dX1_paths_95) ?_
      refine jlk_cons (sm_aload_n rfl B.1 dX1_paths_96) ?_
      refine jlk_cons (sm_aload_n rfl B.1 dX1_paths_97) ?_
      refine jlk_cons (sm_getIN B.1 fn_PointerAnalyzer_284_7_75 dX1_paths_98) ?_
      refine jlk_cons (sm_iconst rfl B.1 dX1_paths_101) ?_
      refine jlk_cons (sm_cS (x := yX1_local) (r9 := kr_6) (host := "") (owner := "") isSI (i_X1_local hI) B q2835 q1641 w4_X1_local w6_X1_local (by decide) hy_X1_local hl_X1_local dX1_paths_102 trivial) ?_
      refine jlk_cons (sm_dup2 B.1 dX1_paths_105) ?_
      refine jlk_cons (sm_iald B.1 dX1_paths_106) ?_
      refine jlk_cons (sm_iconst rfl B.1 dX1_paths_107) ?_
      refine jlk_cons (sm_aload_n rfl B.1 dX1_paths_108) ?_
      refine jlk_cons (sm_getIN B.1 fn_PointerAnalyzer_275_7_73 dX1_paths_109) ?_
      refine jlk_cons (sm_ishl B.1 dX1_paths_112) ?_
      refine jlk_cons (sm_ior B.1 dX1_paths_113) ?_
      refine jlk_cons (sm_iast B.1 dX1_paths_114) ?_
      refine jlk_cons (sm_iinc rfl B.1 dX1_paths_115) ?_
      refine jlk_cons (sm_goto rfl B.1 dX1_paths_118) ?_
      refine jlk_cons (sm_iconst rfl B.1 dX1_paths_121) ?_
      refine jlk_cons (sm_istore_n rfl B.1 dX1_paths_122) ?_
      refine jlk_cons (sm_iload_n rfl B.1 dX1_paths_123) ?_
      refine jlk_cons (sm_bipush rfl B.1 dX1_paths_124) ?_
      refine jlk_cons (sm_icmpge rfl B.1 dX1_paths_126) ?_
      refine jlk_cons (sm_iconst rfl B.1 dX1_paths_129) ?_
      refine jlk_cons (sm_istore_n rfl B.1 dX1_paths_130) ?_
      refine jlk_cons (sm_iload_n rfl B.1 dX1_paths_131) ?_
      refine jlk_cons (sm_bipush rfl B.1 dX1_paths_132) ?_
      refine jlk_cons (sm_icmpge rfl B.1 dX1_paths_134) ?_
      refine jlk_cons (sm_aload_n rfl B.1 dX1_paths_137) ?_
      refine jlk_cons (sm_iload_n rfl B.1 dX1_paths_138) ?_
      refine jlk_cons (sm_dup2 B.1 dX1_paths_139) ?_
      exact jlk_nil
    · skip
      refine jlk_cons (sm_iald B.1 dX1_paths_140) ?_
      refine jlk_cons (sm_aload_n rfl B.1 dX1_paths_141) ?_
      refine jlk_cons (sm_iload_n rfl B.1 dX1_paths_142) ?_
      refine jlk_cons (sm_iald B.1 dX1_paths_143) ?_
      refine jlk_cons (sm_iload_n rfl B.1 dX1_paths_144) ?_
      refine jlk_cons (sm_ishr B.1 dX1_paths_145) ?_
      refine jlk_cons (sm_iconst rfl B.1 dX1_paths_146) ?_
      refine jlk_cons (sm_iand B.1 dX1_paths_147) ?_
      refine jlk_cons (sm_iconst rfl B.1 dX1_paths_148) ?_
      refine jlk_cons (sm_icmpne rfl B.1 dX1_paths_149) ?_
      refine jlk_cons (sm_aload_n rfl B.1 dX1_paths_152) ?_
      refine jlk_cons (sm_iload_n rfl B.1 dX1_paths_153) ?_
      refine jlk_cons (sm_iald B.1 dX1_paths_154) ?_
      refine jlk_cons (sm_goto rfl B.1 dX1_paths_155) ?_
      refine jlk_cons (sm_iconst rfl B.1 dX1_paths_158) ?_
      refine jlk_cons (sm_ior B.1 dX1_paths_159) ?_
      refine jlk_cons (sm_iast B.1 dX1_paths_160) ?_
      refine jlk_cons (sm_iinc rfl B.1 dX1_paths_161) ?_
      refine jlk_cons (sm_goto rfl B.1 dX1_paths_164) ?_
      refine jlk_cons (sm_iinc rfl B.1 dX1_paths_167) ?_
      refine jlk_cons (sm_goto rfl B.1 dX1_paths_170) ?_
      refine jlk_cons (sm_aload_n rfl B.1 dX1_paths_173) ?_
      refine jlk_cons (sm_aret B.1 B.2.1 hret (Or.inr ⟨_, rfl⟩) dX1_paths_174) ?_
      exact jlk_nil
theorem v_X1_paths (hst : l.stackTraces = false) (hz : jEz (EV (d + 1))) (hI : jIH l D dA lo cs0 d) : jMe l D dA lo cs0 (EV (d + 1)) 200 yX1_paths (ws_ yX1_paths cX1_paths 4 (Option.some (Jvm.ClassFile.FieldType.array Jvm.ClassFile.FieldType.int))) (d + 1) := z_meth hz rfl hp_X1_paths (r_X1_paths hst hI)
theorem r_X18_init (hst : l.stackTraces = false) (hI : jIH l D dA lo cs0 d) : jRows l D dA lo cs0 d 3 (tb_X18_init (EV d)) yX18_init cX18_init (Option.none : Option Jvm.ClassFile.FieldType) [] := by
  intro p e R s m args below meth c z0 w0 zF wF Q rF hF B hz hw hret hnm
  refine jlk_cons (sm_aload_n rfl B.1 dX18_init_0) ?_
  refine jlk_cons (sm_obj B.1 q2276 q196 q197 dX18_init_1) ?_
  refine jlk_cons (sm_aload_n rfl B.1 dX18_init_4) ?_
  refine jlk_cons (sm_iload_n rfl B.1 dX18_init_5) ?_
  refine jlk_cons (sm_putI B.1 fl_PointerAnalyzer_Place_7_18_111 tyX18 tyX18_ok nmX18 (Or.inr ⟨rfl, hnm, rfl⟩) (tyX18_ok 0 (by decide)) rfl (by decide) dX18_init_6) ?_
  refine jlk_cons (sm_aload_n rfl B.1 dX18_init_9) ?_
  refine jlk_cons (sm_aload_n rfl B.1 dX18_init_10) ?_
  refine jlk_cons (sm_putP B.1 fl_PointerAnalyzer_Place_13_18_112 tyX18 tyX18_ok nmX18 (Or.inr ⟨rfl, hnm, rfl⟩) rfl (tyX18_ok 1 (by decide)) rfl (by decide) dX18_init_11) ?_
  refine jlk_cons (sm_vret B.1 B.2.1 hret dX18_init_14) ?_
  exact jlk_nil
theorem v_X18_init (hst : l.stackTraces = false) (hz : jEz (EV (d + 1))) (hI : jIH l D dA lo cs0 d) : jMe l D dA lo cs0 (EV (d + 1)) 202 yX18_init (ws_ yX18_init cX18_init 3 (Option.none : Option Jvm.ClassFile.FieldType)) (d + 1) := z_meth hz rfl hp_X18_init (r_X18_init hst hI)
theorem r_X17_activate (hst : l.stackTraces = false) (hI : jIH l D dA lo cs0 d) : jRows l D dA lo cs0 d 5 (tb_X17_activate (EV d)) yX17_activate cX17_activate (Option.some (Jvm.ClassFile.FieldType.object "PointerAnalyzer$Place")) [] := by
  intro p e R s m args below meth c z0 w0 zF wF Q rF hF B hz hw hret hnm
  refine jlk_app ?_ ?_
  · refine jlk_cons (sm_iconst rfl B.1 dX17_activate_0) ?_
    refine jlk_cons (sm_anew B.1 (by decide) rfl q2270 q2271 B.2.2.2 hz hw dX17_activate_1) ?_
    refine jlk_cons (sm_astore_n rfl B.1 dX17_activate_4) ?_
    refine jlk_cons (sm_iconst rfl B.1 dX17_activate_5) ?_
    refine jlk_cons (sm_istore B.1 dX17_activate_6) ?_
    refine jlk_cons (sm_iload B.1 dX17_activate_8) ?_
    refine jlk_cons (sm_iconst rfl B.1 dX17_activate_10) ?_
    refine jlk_cons (sm_icmpge rfl B.1 dX17_activate_11) ?_
    refine jlk_cons (sm_aload_n rfl B.1 dX17_activate_14) ?_
    refine jlk_cons (sm_iload B.1 dX17_activate_15) ?_
    refine jlk_cons (sm_new B.1 kc_18 (by decide) (by decide) in_X18 tyX18 tyX18_ok kd_18 q2270 q2272 q187 B.2.2.2 hz hw dX17_activate_17) ?_
    refine jlk_cons (sm_dup B.1 dX17_activate_20) ?_
    refine jlk_cons (sm_iload_n rfl B.1 dX17_activate_21) ?_
    refine jlk_cons (sm_iload B.1 dX17_activate_22) ?_
    refine jlk_cons (sm_cSN (x := yX1_local) (r9 := kr_6) (owner := "") isSI (i_X1_local hI) B q2293 q1641 w4_X1_local w6_X1_local (by decide) hy_X1_local hl_X1_local dX17_activate_24 trivial) ?_
    refine jlk_cons (sm_null B.1 dX17_activate_27) ?_
    refine jlk_cons (sm_cI (x := yX18_init) (r9 := kr_6) (host := "") (owner := "") isNV (i_X18_init hI) B q2273 q2274 w4_X18_init w6_X18_init (by decide) rfl hy_X18_init hl_X18_init dX17_activate_28 trivial) ?_
    refine jlk_cons (sm_aast B.1 (t := 108) (by decide) (by decide) rfl (List.forall_mem_cons.mpr ⟨⟨by decide, by decide, _, kc_18, Or.inl rfl⟩, (List.forall_mem_nil _)⟩) dX17_activate_31) ?_
    refine jlk_cons (sm_iinc rfl B.1 dX17_activate_32) ?_
    refine jlk_cons (sm_goto rfl B.1 dX17_activate_35) ?_
    refine jlk_cons (sm_aload_n rfl B.1 dX17_activate_38) ?_
    refine jlk_cons (sm_aload_n rfl B.1 dX17_activate_39) ?_
    refine jlk_cons (sm_iconst rfl B.1 dX17_activate_40) ?_
    refine jlk_cons (sm_aald B.1 (t := 108) (by decide) rfl dX17_activate_41) ?_
    refine jlk_cons (sm_aload_n rfl B.1 dX17_activate_42) ?_
    refine jlk_cons (sm_cV (x := yX17_assign) (host := "") (owner := "") isRV (i_X17_assign hI) B q2294 q2296 qs42 w4_X17_assign w6_X17_assign (by decide) (by decide) (by decide) kc_17 hy_X17_assign hl_X17_assign dX17_activate_43 trivial) ?_
    refine jlk_cons (sm_aload_n rfl B.1 dX17_activate_46) ?_
    refine jlk_cons (sm_dup B.1 dX17_activate_47) ?_
    refine jlk_cons (sm_getI B.1 fl_PointerAnalyzer_Run_34_17_110 dX17_activate_48) ?_
    refine jlk_cons (sm_iconst rfl B.1 dX17_activate_51) ?_
    refine jlk_cons (sm_iadd B.1 dX17_activate_52) ?_
    refine jlk_cons (sm_putI B.1 fl_PointerAnalyzer_Run_34_17_110 tyX17 tyX17_ok nmX17 (Or.inl rfl) (tyX17_ok 6 (by decide)) rfl (by decide) dX17_activate_53) ?_
    refine jlk_cons (sm_iconst rfl B.1 dX17_activate_56) ?_
    refine jlk_cons (sm_istore B.1 dX17_activate_57) ?_
    refine jlk_cons (sm_iload B.1 dX17_activate_59) ?_
    refine jlk_cons (sm_aload_n rfl B.1 dX17_activate_61) ?_
    refine jlk_cons (sm_getP B.1 fl_PointerAnalyzer_Run_21_17_104 dX17_activate_62) ?_
    refine jlk_cons (sm_getPN B.1 fn_PointerAnalyzer_Run_53_2_10 dX17_activate_65) ?_
    refine jlk_cons (sm_cV (x := yJ4_size) (host := "") (owner := "") isRI (i_J4_size hI) B q2298 q1145 q1146 w4_J4_size w6_J4_size (by decide) (by decide) (by decide) kc_21 hy_J4_size hl_J4_size dX17_activate_68 trivial) ?_
    refine jlk_cons (sm_icmpge rfl B.1 dX17_activate_71) ?_
    exact jlk_nil
  · skip
    refine jlk_cons (sm_aload_n rfl B.1 dX17_activate_74) ?_
    refine jlk_cons (sm_getP B.1 fl_PointerAnalyzer_Run_21_17_104 dX17_activate_75) ?_
    refine jlk_cons (sm_getPN B.1 fn_PointerAnalyzer_Run_53_2_10 dX17_activate_78) ?_
    refine jlk_cons (sm_iload B.1 dX17_activate_81) ?_
    refine jlk_cons (sm_cV (x := yJ4_get) (host := "") (owner := "") isRP (i_J4_get hI) B q2299 q1149 q1150 w4_J4_get w6_J4_get (by decide) (by decide) (by decide) kc_21 hy_J4_get hl_J4_get dX17_activate_83 trivial) ?_
    refine jlk_cons (sm_cast B.1 q2300 (List.forall_mem_cons.mpr ⟨⟨by decide, by decide, _, kc_3, Or.inl rfl⟩, (List.forall_mem_nil _)⟩) dX17_activate_86) ?_
    refine jlk_cons (sm_getIN B.1 fn_PointerAnalyzer_Run_71_3_13 dX17_activate_89) ?_
    refine jlk_cons (sm_iload_n rfl B.1 dX17_activate_92) ?_
    refine jlk_cons (sm_icmpne rfl B.1 dX17_activate_93) ?_
    refine jlk_cons (sm_aload_n rfl B.1 dX17_activate_96) ?_
    refine jlk_cons (sm_aload_n rfl B.1 dX17_activate_97) ?_
    refine jlk_cons (sm_getP B.1 fl_PointerAnalyzer_Run_21_17_104 dX17_activate_98) ?_
    refine jlk_cons (sm_getPN B.1 fn_PointerAnalyzer_Run_53_2_10 dX17_activate_101) ?_
    refine jlk_cons (sm_iload B.1 dX17_activate_104) ?_
    refine jlk_cons (sm_cV (x := yJ4_get) (host := "") (owner := "") isRP (i_J4_get hI) B q2299 q1149 q1150 w4_J4_get w6_J4_get (by decide) (by decide) (by decide) kc_21 hy_J4_get hl_J4_get dX17_activate_106 trivial) ?_
    refine jlk_cons (sm_cast B.1 q2300 (List.forall_mem_cons.mpr ⟨⟨by decide, by decide, _, kc_3, Or.inl rfl⟩, (List.forall_mem_nil _)⟩) dX17_activate_109) ?_
    refine jlk_cons (sm_aload_n rfl B.1 dX17_activate_112) ?_
    refine jlk_cons (sm_cV (x := yX17_execute) (host := "") (owner := "") isXRV (i_X17_execute hI) B q2301 q2303 qs43 w4_X17_execute w6_X17_execute (by decide) (by decide) (by decide) kc_17 hy_X17_execute hl_X17_execute dX17_activate_113 rfl) ?_
    refine jlk_cons (sm_iinc rfl B.1 dX17_activate_116) ?_
    refine jlk_cons (sm_goto rfl B.1 dX17_activate_119) ?_
    refine jlk_cons (sm_aload_n rfl B.1 dX17_activate_122) ?_
    refine jlk_cons (sm_dup B.1 dX17_activate_123) ?_
    refine jlk_cons (sm_getI B.1 fl_PointerAnalyzer_Run_34_17_110 dX17_activate_124) ?_
    refine jlk_cons (sm_iconst rfl B.1 dX17_activate_127) ?_
    refine jlk_cons (sm_isub B.1 dX17_activate_128) ?_
    refine jlk_cons (sm_putI B.1 fl_PointerAnalyzer_Run_34_17_110 tyX17 tyX17_ok nmX17 (Or.inl rfl) (tyX17_ok 6 (by decide)) rfl (by decide) dX17_activate_129) ?_
    refine jlk_cons (sm_aload_n rfl B.1 dX17_activate_132) ?_
    refine jlk_cons (sm_iconst rfl B.1 dX17_activate_133) ?_
    refine jlk_cons (sm_aald B.1 (t := 108) (by decide) rfl dX17_activate_134) ?_
    refine jlk_cons (sm_getPN B.1 fn_PointerAnalyzer_Run_38_18_113 dX17_activate_135) ?_
    refine jlk_cons (sm_aret B.1 B.2.1 hret (Or.inl ⟨_, rfl⟩) dX17_activate_138) ?_
    exact jlk_nil
theorem v_X17_activate (hst : l.stackTraces = false) (hz : jEz (EV (d + 1))) (hI : jIH l D dA lo cs0 d) : jMe l D dA lo cs0 (EV (d + 1)) 203 yX17_activate (ws_ yX17_activate cX17_activate 5 (Option.some (Jvm.ClassFile.FieldType.object "PointerAnalyzer$Place"))) (d + 1) := z_meth hz rfl hp_X17_activate (r_X17_activate hst hI)
theorem r_X5_init (hst : l.stackTraces = false) (hI : jIH l D dA lo cs0 d) : jRows l D dA lo cs0 d 3 (tb_X5_init (EV d)) yX5_init cX5_init (Option.none : Option Jvm.ClassFile.FieldType) [] := by
  intro p e R s m args below meth c z0 w0 zF wF Q rF hF B hz hw hret hnm
  refine jlk_cons (sm_aload_n rfl B.1 dX5_init_0) ?_
  refine jlk_cons (sm_aload_n rfl B.1 dX5_init_1) ?_
  refine jlk_cons (sm_putP B.1 fl_PointerAnalyzer_Reader_3_5_64 tyX5 tyX5_ok nmX5 (Or.inr ⟨rfl, hnm, rfl⟩) rfl (tyX5_ok 3 (by decide)) rfl (by decide) dX5_init_2) ?_
  refine jlk_cons (sm_aload_n rfl B.1 dX5_init_5) ?_
  refine jlk_cons (sm_obj B.1 q2469 q196 q197 dX5_init_6) ?_
  refine jlk_cons (sm_aload_n rfl B.1 dX5_init_9) ?_
  refine jlk_cons (sm_new B.1 kc_21 (by decide) (by decide) in_J4 tyJ4 tyJ4_ok kd_21 q2470 q240 q129 B.2.2.2 hz hw dX5_init_10) ?_
  refine jlk_cons (sm_dup B.1 dX5_init_13) ?_
  refine jlk_cons (sm_cI (x := yJ4_init) (r9 := kr_6) (host := "") (owner := "") isNV (i_J4_init hI) B q2471 q242 w4_J4_init w6_J4_init (by decide) rfl hy_J4_init hl_J4_init dX5_init_14 trivial) ?_
  refine jlk_cons (sm_putP B.1 fl_PointerAnalyzer_Reader_18_5_62 tyX5 tyX5_ok nmX5 (Or.inr ⟨rfl, hnm, rfl⟩) rfl (tyX5_ok 1 (by decide)) rfl (by decide) dX5_init_17) ?_
  refine jlk_cons (sm_aload_n rfl B.1 dX5_init_20) ?_
  refine jlk_cons (sm_iload_n rfl B.1 dX5_init_21) ?_
  refine jlk_cons (sm_putI B.1 fl_PointerAnalyzer_Reader_22_5_61 tyX5 tyX5_ok nmX5 (Or.inr ⟨rfl, hnm, rfl⟩) (tyX5_ok 0 (by decide)) rfl (by decide) dX5_init_22) ?_
  refine jlk_cons (sm_vret B.1 B.2.1 hret dX5_init_25) ?_
  exact jlk_nil
theorem v_X5_init (hst : l.stackTraces = false) (hz : jEz (EV (d + 1))) (hI : jIH l D dA lo cs0 d) : jMe l D dA lo cs0 (EV (d + 1)) 226 yX5_init (ws_ yX5_init cX5_init 3 (Option.none : Option Jvm.ClassFile.FieldType)) (d + 1) := z_meth hz rfl hp_X5_init (r_X5_init hst hI)
theorem r_X5_body (hst : l.stackTraces = false) (hI : jIH l D dA lo cs0 d) : jRows l D dA lo cs0 d 1 (tb_X5_body (EV d)) yX5_body cX5_body (Option.none : Option Jvm.ClassFile.FieldType) [] := by
  intro p e R s m args below meth c z0 w0 zF wF Q rF hF B hz hw hret hnm
  refine jlk_cons (sm_aload_n rfl B.1 dX5_body_0) ?_
  refine jlk_cons (sm_getP B.1 fl_PointerAnalyzer_Reader_3_5_64 dX5_body_1) ?_
  refine jlk_cons (sm_getIN B.1 fn_PointerAnalyzer_Reader_29_1_5 dX5_body_4) ?_
  refine jlk_cons (sm_ifle rfl B.1 dX5_body_7) ?_
  refine jlk_cons (sm_aload_n rfl B.1 dX5_body_10) ?_
  refine jlk_cons (sm_getP B.1 fl_PointerAnalyzer_Reader_18_5_62 dX5_body_11) ?_
  refine jlk_cons (sm_aload_n rfl B.1 dX5_body_14) ?_
  refine jlk_cons (sm_cV (x := yX5_statement) (host := "") (owner := "") isXRP (i_X5_statement hI) B q2490 q2492 qs51 w4_X5_statement w6_X5_statement (by decide) (by decide) (by decide) kc_5 hy_X5_statement hl_X5_statement dX5_body_15 rfl) ?_
  refine jlk_cons (sm_cV (x := yJ4_add) (host := "") (owner := "") isRI (i_J4_add hI) B q2643 q1204 q1205 w4_J4_add w6_J4_add (by decide) (by decide) (by decide) kc_21 hy_J4_add hl_J4_add dX5_body_18 trivial) ?_
  refine jlk_cons (sm_pop B.1 dX5_body_21) ?_
  refine jlk_cons (sm_aload_n rfl B.1 dX5_body_22) ?_
  refine jlk_cons (sm_getI B.1 fl_PointerAnalyzer_Reader_26_5_63 dX5_body_23) ?_
  refine jlk_cons (sm_aload_n rfl B.1 dX5_body_26) ?_
  refine jlk_cons (sm_getP B.1 fl_PointerAnalyzer_Reader_3_5_64 dX5_body_27) ?_
  refine jlk_cons (sm_getIN B.1 fn_PointerAnalyzer_Reader_29_1_5 dX5_body_30) ?_
  refine jlk_cons (sm_icmpge rfl B.1 dX5_body_33) ?_
  refine jlk_cons (sm_aload_n rfl B.1 dX5_body_36) ?_
  refine jlk_cons (sm_aload_n rfl B.1 dX5_body_37) ?_
  refine jlk_cons (sm_bipush rfl B.1 dX5_body_38) ?_
  refine jlk_cons (sm_cV (x := yX5_passes) (host := "") (owner := "") isRI (i_X5_passes hI) B q2494 q2496 qs52 w4_X5_passes w6_X5_passes (by decide) (by decide) (by decide) kc_5 hy_X5_passes hl_X5_passes dX5_body_40 trivial) ?_
  refine jlk_cons (sm_cV (x := yX5_must) (host := "") (owner := "") isXRV (i_X5_must hI) B q2559 q2561 qs56 w4_X5_must w6_X5_must (by decide) (by decide) (by decide) kc_5 hy_X5_must hl_X5_must dX5_body_43 rfl) ?_
  refine jlk_cons (sm_aload_n rfl B.1 dX5_body_46) ?_
  refine jlk_cons (sm_getP B.1 fl_PointerAnalyzer_Reader_18_5_62 dX5_body_47) ?_
  refine jlk_cons (sm_aload_n rfl B.1 dX5_body_50) ?_
  refine jlk_cons (sm_cV (x := yX5_statement) (host := "") (owner := "") isXRP (i_X5_statement hI) B q2490 q2492 qs51 w4_X5_statement w6_X5_statement (by decide) (by decide) (by decide) kc_5 hy_X5_statement hl_X5_statement dX5_body_51 rfl) ?_
  refine jlk_cons (sm_cV (x := yJ4_add) (host := "") (owner := "") isRI (i_J4_add hI) B q2643 q1204 q1205 w4_J4_add w6_J4_add (by decide) (by decide) (by decide) kc_21 hy_J4_add hl_J4_add dX5_body_54 trivial) ?_
  refine jlk_cons (sm_pop B.1 dX5_body_57) ?_
  refine jlk_cons (sm_goto rfl B.1 dX5_body_58) ?_
  refine jlk_cons (sm_vret B.1 B.2.1 hret dX5_body_61) ?_
  exact jlk_nil
theorem v_X5_body (hst : l.stackTraces = false) (hz : jEz (EV (d + 1))) (hI : jIH l D dA lo cs0 d) : jMe l D dA lo cs0 (EV (d + 1)) 227 yX5_body (ws_ yX5_body cX5_body 1 (Option.none : Option Jvm.ClassFile.FieldType)) (d + 1) := z_meth hz rfl hp_X5_body (r_X5_body hst hI)
theorem r_X1_count (hst : l.stackTraces = false) (hI : jIH l D dA lo cs0 d) : jRows l D dA lo cs0 d 4 (tb_X1_count (EV d)) yX1_count cX1_count (Option.some Jvm.ClassFile.FieldType.int) [] := by
  intro p e R s m args below meth c z0 w0 zF wF Q rF hF B hz hw hret hnm
  refine jlk_cons (sm_iconst rfl B.1 dX1_count_0) ?_
  refine jlk_cons (sm_istore_n rfl B.1 dX1_count_1) ?_
  refine jlk_cons (sm_iconst rfl B.1 dX1_count_2) ?_
  refine jlk_cons (sm_istore_n rfl B.1 dX1_count_3) ?_
  refine jlk_cons (sm_iload_n rfl B.1 dX1_count_4) ?_
  refine jlk_cons (sm_aload_n rfl B.1 dX1_count_5) ?_
  refine jlk_cons (sm_cV (x := yJ4_size) (host := "") (owner := "") isRI (i_J4_size hI) B q1284 q1145 q1146 w4_J4_size w6_J4_size (by decide) (by decide) (by decide) kc_21 hy_J4_size hl_J4_size dX1_count_6 trivial) ?_
  refine jlk_cons (sm_icmpge rfl B.1 dX1_count_9) ?_
  refine jlk_cons (sm_iload_n rfl B.1 dX1_count_12) ?_
  refine jlk_cons (sm_aload_n rfl B.1 dX1_count_13) ?_
  refine jlk_cons (sm_iload_n rfl B.1 dX1_count_14) ?_
  refine jlk_cons (sm_cV (x := yJ4_get) (host := "") (owner := "") isRP (i_J4_get hI) B q2652 q1149 q1150 w4_J4_get w6_J4_get (by decide) (by decide) (by decide) kc_21 hy_J4_get hl_J4_get dX1_count_15 trivial) ?_
  refine jlk_cons (sm_cast B.1 q2653 (List.forall_mem_cons.mpr ⟨⟨by decide, by decide, _, kc_7, Or.inl rfl⟩, (List.forall_mem_nil _)⟩) dX1_count_18) ?_
  refine jlk_cons (sm_getPN B.1 fn_PointerAnalyzer_31_7_72 dX1_count_21) ?_
  refine jlk_cons (sm_aload_n rfl B.1 dX1_count_24) ?_
  refine jlk_cons (sm_acmpne rfl B.1 dX1_count_25) ?_
  refine jlk_cons (sm_iconst rfl B.1 dX1_count_28) ?_
  refine jlk_cons (sm_goto rfl B.1 dX1_count_29) ?_
  refine jlk_cons (sm_iconst rfl B.1 dX1_count_32) ?_
  refine jlk_cons (sm_iadd B.1 dX1_count_33) ?_
  refine jlk_cons (sm_istore_n rfl B.1 dX1_count_34) ?_
  refine jlk_cons (sm_iinc rfl B.1 dX1_count_35) ?_
  refine jlk_cons (sm_goto rfl B.1 dX1_count_38) ?_
  refine jlk_cons (sm_iload_n rfl B.1 dX1_count_41) ?_
  refine jlk_cons (sm_iret B.1 B.2.1 hret dX1_count_42) ?_
  exact jlk_nil
theorem v_X1_count (hst : l.stackTraces = false) (hz : jEz (EV (d + 1))) (hI : jIH l D dA lo cs0 d) : jMe l D dA lo cs0 (EV (d + 1)) 228 yX1_count (ws_ yX1_count cX1_count 4 (Option.some Jvm.ClassFile.FieldType.int)) (d + 1) := z_meth hz rfl hp_X1_count (r_X1_count hst hI)
theorem r_X9_init (hst : l.stackTraces = false) (hI : jIH l D dA lo cs0 d) : jRows l D dA lo cs0 d 1 (tb_X9_init (EV d)) yX9_init cX9_init (Option.none : Option Jvm.ClassFile.FieldType) [] := by
  intro p e R s m args below meth c z0 w0 zF wF Q rF hF B hz hw hret hnm
  refine jlk_cons (sm_aload_n rfl B.1 dX9_init_0) ?_
  refine jlk_cons (sm_obj B.1 q1312 q196 q197 dX9_init_1) ?_
  refine jlk_cons (sm_vret B.1 B.2.1 hret dX9_init_4) ?_
  exact jlk_nil
theorem v_X9_init (hst : l.stackTraces = false) (hz : jEz (EV (d + 1))) (hI : jIH l D dA lo cs0 d) : jMe l D dA lo cs0 (EV (d + 1)) 245 yX9_init (ws_ yX9_init cX9_init 1 (Option.none : Option Jvm.ClassFile.FieldType)) (d + 1) := z_meth hz rfl hp_X9_init (r_X9_init hst hI)
theorem r_X10_init (hst : l.stackTraces = false) (hI : jIH l D dA lo cs0 d) : jRows l D dA lo cs0 d 9 (tb_X10_init (EV d)) yX10_init cX10_init (Option.none : Option Jvm.ClassFile.FieldType) [] := by
  intro p e R s m args below meth c z0 w0 zF wF Q rF hF B hz hw hret hnm
  refine jlk_app ?_ ?_
  · refine jlk_cons (sm_aload_n rfl B.1 dX10_init_0) ?_
    refine jlk_cons (sm_obj B.1 q1359 q196 q197 dX10_init_1) ?_
    refine jlk_cons (sm_aload_n rfl B.1 dX10_init_4) ?_
    refine jlk_cons (sm_new B.1 kc_21 (by decide) (by decide) in_J4 tyJ4 tyJ4_ok kd_21 q1360 q240 q129 B.2.2.2 hz hw dX10_init_5) ?_
    refine jlk_cons (sm_dup B.1 dX10_init_8) ?_
    refine jlk_cons (sm_cI (x := yJ4_init) (r9 := kr_6) (host := "") (owner := "") isNV (i_J4_init hI) B q1361 q242 w4_J4_init w6_J4_init (by decide) rfl hy_J4_init hl_J4_init dX10_init_9 trivial) ?_
    refine jlk_cons (sm_putP B.1 fl_PointerAnalyzer_Contexts_12_10_82 tyX10 tyX10_ok nmX10 (Or.inr ⟨rfl, hnm, rfl⟩) rfl (tyX10_ok 0 (by decide)) rfl (by decide) dX10_init_12) ?_
    refine jlk_cons (sm_new B.1 kc_21 (by decide) (by decide) in_J4 tyJ4 tyJ4_ok kd_21 q1360 q240 q129 B.2.2.2 hz hw dX10_init_15) ?_
    refine jlk_cons (sm_dup B.1 dX10_init_18) ?_
    refine jlk_cons (sm_cI (x := yJ4_init) (r9 := kr_6) (host := "") (owner := "") isNV (i_J4_init hI) B q1361 q242 w4_J4_init w6_J4_init (by decide) rfl hy_J4_init hl_J4_init dX10_init_19 trivial) ?_
    refine jlk_cons (sm_astore_n rfl B.1 dX10_init_22) ?_
    refine jlk_cons (sm_iconst rfl B.1 dX10_init_23) ?_
    refine jlk_cons (sm_istore B.1 dX10_init_24) ?_
    refine jlk_cons (sm_iload B.1 dX10_init_26) ?_
    refine jlk_cons (sm_iconst rfl B.1 dX10_init_28) ?_
    refine jlk_cons (sm_icmpge rfl B.1 dX10_init_29) ?_
    refine jlk_cons (sm_aload_n rfl B.1 dX10_init_32) ?_
    refine jlk_cons (sm_new B.1 kc_35 (by decide) (by decide) in_J37 tyJ37 tyJ37_ok kd_35 q1362 q1363 q174 B.2.2.2 hz hw dX10_init_33) ?_
    refine jlk_cons (sm_dup B.1 dX10_init_36) ?_
    refine jlk_cons (sm_cI (x := yJ37_init) (r9 := kr_6) (host := "") (owner := "") isNV (i_J37_init hI) B q1364 q1365 w4_J37_init w6_J37_init (by decide) rfl hy_J37_init hl_J37_init dX10_init_37 trivial) ?_
    refine jlk_cons (sm_cV (x := yJ4_add) (host := "") (owner := "") isRI (i_J4_add hI) B q1377 q1204 q1205 w4_J4_add w6_J4_add (by decide) (by decide) (by decide) kc_21 hy_J4_add hl_J4_add dX10_init_40 trivial) ?_
    refine jlk_cons (sm_pop B.1 dX10_init_43) ?_
    refine jlk_cons (sm_iinc rfl B.1 dX10_init_44) ?_
    refine jlk_cons (sm_goto rfl B.1 dX10_init_47) ?_
    refine jlk_cons (sm_aload_n rfl B.1 dX10_init_50) ?_
    refine jlk_cons (sm_iconst rfl B.1 dX10_init_51) ?_
    refine jlk_cons (sm_cV (x := yJ4_get) (host := "") (owner := "") isRP (i_J4_get hI) B q1378 q1149 q1150 w4_J4_get w6_J4_get (by decide) (by decide) (by decide) kc_21 hy_J4_get hl_J4_get dX10_init_52 trivial) ?_
    refine jlk_cons (sm_cast B.1 q1362 (List.forall_mem_cons.mpr ⟨⟨by decide, by decide, _, kc_35, Or.inl rfl⟩, (List.forall_mem_nil _)⟩) dX10_init_55) ?_
    refine jlk_cons (sm_new B.1 kc_11 (by decide) (by decide) in_X11 tyX11 tyX11_ok kd_11 q1379 q1380 q175 B.2.2.2 hz hw dX10_init_58) ?_
    refine jlk_cons (sm_dup B.1 dX10_init_61) ?_
    refine jlk_cons (sm_iconst rfl B.1 dX10_init_62) ?_
    refine jlk_cons (sm_newA B.1 (at9 := .int) rfl (by decide) rfl (by decide) hc_101 (fun _ => rfl) q1314 B.2.2.2 hz hw dX10_init_63) ?_
    refine jlk_cons (sm_cI (x := yX11_init) (r9 := kr_6) (host := "") (owner := "") isNV (i_X11_init hI) B q1381 q1382 w4_X11_init w6_X11_init (by decide) rfl hy_X11_init hl_X11_init dX10_init_65 trivial) ?_
    refine jlk_cons (sm_cV (x := yJ37_add) (host := "") (owner := "") isRI (i_J37_add hI) B q1390 q1391 q1392 w4_J37_add w6_J37_add (by decide) (by decide) (by decide) kc_35 hy_J37_add hl_J37_add dX10_init_68 trivial) ?_
    refine jlk_cons (sm_pop B.1 dX10_init_71) ?_
    refine jlk_cons (sm_iconst rfl B.1 dX10_init_72) ?_
    refine jlk_cons (sm_istore B.1 dX10_init_73) ?_
    refine jlk_cons (sm_iload B.1 dX10_init_75) ?_
    refine jlk_cons (sm_ifeq rfl B.1 dX10_init_77) ?_
    refine jlk_cons (sm_iconst rfl B.1 dX10_init_80) ?_
    exact jlk_nil
  · skip
    refine jlk_app ?_ ?_
    · refine jlk_cons (sm_istore B.1 dX10_init_81) ?_
      refine jlk_cons (sm_iconst rfl B.1 dX10_init_83) ?_
      refine jlk_cons (sm_istore B.1 dX10_init_84) ?_
      refine jlk_cons (sm_iload B.1 dX10_init_86) ?_
      refine jlk_cons (sm_aload_n rfl B.1 dX10_init_88) ?_
      refine jlk_cons (sm_getPN B.1 fn_PointerAnalyzer_Contexts_35_2_10 dX10_init_89) ?_
      refine jlk_cons (sm_cV (x := yJ4_size) (host := "") (owner := "") isRI (i_J4_size hI) B q1402 q1145 q1146 w4_J4_size w6_J4_size (by decide) (by decide) (by decide) kc_21 hy_J4_size hl_J4_size dX10_init_92 trivial) ?_
      refine jlk_cons (sm_icmpge rfl B.1 dX10_init_95) ?_
      refine jlk_cons (sm_aload_n rfl B.1 dX10_init_98) ?_
      refine jlk_cons (sm_getPN B.1 fn_PointerAnalyzer_Contexts_35_2_10 dX10_init_99) ?_
      refine jlk_cons (sm_iload B.1 dX10_init_102) ?_
      refine jlk_cons (sm_cV (x := yJ4_get) (host := "") (owner := "") isRP (i_J4_get hI) B q1378 q1149 q1150 w4_J4_get w6_J4_get (by decide) (by decide) (by decide) kc_21 hy_J4_get hl_J4_get dX10_init_104 trivial) ?_
      refine jlk_cons (sm_cast B.1 q1403 (List.forall_mem_cons.mpr ⟨⟨by decide, by decide, _, kc_3, Or.inl rfl⟩, (List.forall_mem_nil _)⟩) dX10_init_107) ?_
      refine jlk_cons (sm_astore B.1 dX10_init_110) ?_
      refine jlk_cons (sm_aload B.1 dX10_init_112) ?_
      refine jlk_cons (sm_cstS B.1 (List.mem_of_getElem? (i := 9) rfl) q1404 dX10_init_114) ?_
      refine jlk_cons (sm_cV (x := yX3_is) (host := "") (owner := "") isRI (i_X3_is hI) B q1406 q1407 q1408 w4_X3_is w6_X3_is (by decide) (by decide) (by decide) kc_3 hy_X3_is hl_X3_is dX10_init_117 trivial) ?_
      refine jlk_cons (sm_ifeq rfl B.1 dX10_init_120) ?_
      refine jlk_cons (sm_new B.1 kc_21 (by decide) (by decide) in_J4 tyJ4 tyJ4_ok kd_21 q1360 q240 q129 B.2.2.2 hz hw dX10_init_123) ?_
      refine jlk_cons (sm_dup B.1 dX10_init_126) ?_
      refine jlk_cons (sm_aload_n rfl B.1 dX10_init_127) ?_
      refine jlk_cons (sm_aload B.1 dX10_init_128) ?_
      refine jlk_cons (sm_getIN B.1 fn_PointerAnalyzer_Contexts_56_3_13 dX10_init_130) ?_
      refine jlk_cons (sm_cV (x := yJ4_get) (host := "") (owner := "") isRP (i_J4_get hI) B q1378 q1149 q1150 w4_J4_get w6_J4_get (by decide) (by decide) (by decide) kc_21 hy_J4_get hl_J4_get dX10_init_133 trivial) ?_
      refine jlk_cons (sm_cast B.1 q1410 (List.forall_mem_cons.mpr ⟨⟨by decide, by decide, _, kc_35, Or.inr q1526⟩, (List.forall_mem_nil _)⟩) dX10_init_136) ?_
      refine jlk_cons (sm_cI (x := yJ4_init_2) (r9 := kr_6) (host := "") (owner := "") isNV (i_J4_init_2 hI) B q1411 q1412 w4_J4_init_2 w6_J4_init_2 (by decide) rfl hy_J4_init_2 hl_J4_init_2 dX10_init_139 trivial) ?_
      refine jlk_cons (sm_astore B.1 dX10_init_142) ?_
      refine jlk_cons (sm_iconst rfl B.1 dX10_init_144) ?_
      refine jlk_cons (sm_istore B.1 dX10_init_145) ?_
      refine jlk_cons (sm_iload B.1 dX10_init_147) ?_
      refine jlk_cons (sm_aload B.1 dX10_init_149) ?_
      refine jlk_cons (sm_cV (x := yJ4_size) (host := "") (owner := "") isRI (i_J4_size hI) B q1402 q1145 q1146 w4_J4_size w6_J4_size (by decide) (by decide) (by decide) kc_21 hy_J4_size hl_J4_size dX10_init_151 trivial) ?_
      refine jlk_cons (sm_icmpge rfl B.1 dX10_init_154) ?_
      refine jlk_cons (sm_iload B.1 dX10_init_157) ?_
      refine jlk_cons (sm_aload_n rfl B.1 dX10_init_159) ?_
      refine jlk_cons (sm_aload B.1 dX10_init_160) ?_
      refine jlk_cons (sm_getPN B.1 fn_PointerAnalyzer_Contexts_65_3_14 dX10_init_162) ?_
      refine jlk_cons (sm_getIN B.1 fn_PointerAnalyzer_Contexts_69_7_75 dX10_init_165) ?_
      refine jlk_cons (sm_cV (x := yJ4_get) (host := "") (owner := "") isRP (i_J4_get hI) B q1378 q1149 q1150 w4_J4_get w6_J4_get (by decide) (by decide) (by decide) kc_21 hy_J4_get hl_J4_get dX10_init_168 trivial) ?_
      refine jlk_cons (sm_cast B.1 q1362 (List.forall_mem_cons.mpr ⟨⟨by decide, by decide, _, kc_35, Or.inl rfl⟩, (List.forall_mem_nil _)⟩) dX10_init_171) ?_
      exact jlk_nil
    · skip
      refine jlk_cons (sm_aload B.1 dX10_init_174) ?_
      refine jlk_cons (sm_iload B.1 dX10_init_176) ?_
      refine jlk_cons (sm_cV (x := yJ4_get) (host := "") (owner := "") isRP (i_J4_get hI) B q1378 q1149 q1150 w4_J4_get w6_J4_get (by decide) (by decide) (by decide) kc_21 hy_J4_get hl_J4_get dX10_init_178 trivial) ?_
      refine jlk_cons (sm_cast B.1 q1379 (List.forall_mem_cons.mpr ⟨⟨by decide, by decide, _, kc_11, Or.inl rfl⟩, (List.forall_mem_nil _)⟩) dX10_init_181) ?_
      refine jlk_cons (sm_aload B.1 dX10_init_184) ?_
      refine jlk_cons (sm_getIN B.1 fn_PointerAnalyzer_Contexts_74_3_12 dX10_init_186) ?_
      refine jlk_cons (sm_iload_n rfl B.1 dX10_init_189) ?_
      refine jlk_cons (sm_cV (x := yX11_with) (host := "") (owner := "") isRP (i_X11_with hI) B q1544 q1545 q1546 w4_X11_with w6_X11_with (by decide) (by decide) (by decide) kc_11 hy_X11_with hl_X11_with dX10_init_190 trivial) ?_
      refine jlk_cons (sm_cV (x := yJ37_add) (host := "") (owner := "") isRI (i_J37_add hI) B q1390 q1391 q1392 w4_J37_add w6_J37_add (by decide) (by decide) (by decide) kc_35 hy_J37_add hl_J37_add dX10_init_193 trivial) ?_
      refine jlk_cons (sm_ior B.1 dX10_init_196) ?_
      refine jlk_cons (sm_istore B.1 dX10_init_197) ?_
      refine jlk_cons (sm_iinc rfl B.1 dX10_init_199) ?_
      refine jlk_cons (sm_goto rfl B.1 dX10_init_202) ?_
      refine jlk_cons (sm_iinc rfl B.1 dX10_init_205) ?_
      refine jlk_cons (sm_goto rfl B.1 dX10_init_208) ?_
      refine jlk_cons (sm_goto rfl B.1 dX10_init_211) ?_
      refine jlk_cons (sm_iconst rfl B.1 dX10_init_214) ?_
      refine jlk_cons (sm_istore B.1 dX10_init_215) ?_
      refine jlk_cons (sm_iload B.1 dX10_init_217) ?_
      refine jlk_cons (sm_iconst rfl B.1 dX10_init_219) ?_
      refine jlk_cons (sm_icmpge rfl B.1 dX10_init_220) ?_
      refine jlk_cons (sm_aload_n rfl B.1 dX10_init_223) ?_
      refine jlk_cons (sm_getP B.1 fl_PointerAnalyzer_Contexts_12_10_82 dX10_init_224) ?_
      refine jlk_cons (sm_new B.1 kc_21 (by decide) (by decide) in_J4 tyJ4 tyJ4_ok kd_21 q1360 q240 q129 B.2.2.2 hz hw dX10_init_227) ?_
      refine jlk_cons (sm_dup B.1 dX10_init_230) ?_
      refine jlk_cons (sm_aload_n rfl B.1 dX10_init_231) ?_
      refine jlk_cons (sm_iload B.1 dX10_init_232) ?_
      refine jlk_cons (sm_cV (x := yJ4_get) (host := "") (owner := "") isRP (i_J4_get hI) B q1378 q1149 q1150 w4_J4_get w6_J4_get (by decide) (by decide) (by decide) kc_21 hy_J4_get hl_J4_get dX10_init_234 trivial) ?_
      refine jlk_cons (sm_cast B.1 q1410 (List.forall_mem_cons.mpr ⟨⟨by decide, by decide, _, kc_35, Or.inr q1526⟩, (List.forall_mem_nil _)⟩) dX10_init_237) ?_
      refine jlk_cons (sm_cI (x := yJ4_init_2) (r9 := kr_6) (host := "") (owner := "") isNV (i_J4_init_2 hI) B q1411 q1412 w4_J4_init_2 w6_J4_init_2 (by decide) rfl hy_J4_init_2 hl_J4_init_2 dX10_init_240 trivial) ?_
      refine jlk_cons (sm_cV (x := yJ4_add) (host := "") (owner := "") isRI (i_J4_add hI) B q1377 q1204 q1205 w4_J4_add w6_J4_add (by decide) (by decide) (by decide) kc_21 hy_J4_add hl_J4_add dX10_init_243 trivial) ?_
      refine jlk_cons (sm_pop B.1 dX10_init_246) ?_
      refine jlk_cons (sm_iinc rfl B.1 dX10_init_247) ?_
      refine jlk_cons (sm_goto rfl B.1 dX10_init_250) ?_
      refine jlk_cons (sm_vret B.1 B.2.1 hret dX10_init_253) ?_
      exact jlk_nil
theorem v_X10_init (hst : l.stackTraces = false) (hz : jEz (EV (d + 1))) (hI : jIH l D dA lo cs0 d) : jMe l D dA lo cs0 (EV (d + 1)) 247 yX10_init (ws_ yX10_init cX10_init 9 (Option.none : Option Jvm.ClassFile.FieldType)) (d + 1) := z_meth hz rfl hp_X10_init (r_X10_init hst hI)
theorem r_X8_makeCells (hst : l.stackTraces = false) (hI : jIH l D dA lo cs0 d) : jRows l D dA lo cs0 d 4 (tb_X8_makeCells (EV d)) yX8_makeCells cX8_makeCells (Option.none : Option Jvm.ClassFile.FieldType) [] := by
  intro p e R s m args below meth c z0 w0 zF wF Q rF hF B hz hw hret hnm
  refine jlk_app ?_ ?_
  · refine jlk_cons (sm_iconst rfl B.1 dX8_makeCells_0) ?_
    refine jlk_cons (sm_istore_n rfl B.1 dX8_makeCells_1) ?_
    refine jlk_cons (sm_iload_n rfl B.1 dX8_makeCells_2) ?_
    refine jlk_cons (sm_iconst rfl B.1 dX8_makeCells_3) ?_
    refine jlk_cons (sm_icmpge rfl B.1 dX8_makeCells_4) ?_
    refine jlk_cons (sm_aload_n rfl B.1 dX8_makeCells_7) ?_
    refine jlk_cons (sm_iload_n rfl B.1 dX8_makeCells_8) ?_
    refine jlk_cons (sm_cV (x := yX8_add) (host := "") (owner := "") isRV (i_X8_add hI) B q1560 q1562 qs14 w4_X8_add w6_X8_add (by decide) (by decide) (by decide) kc_8 hy_X8_add hl_X8_add dX8_makeCells_9 trivial) ?_
    refine jlk_cons (sm_iinc rfl B.1 dX8_makeCells_12) ?_
    refine jlk_cons (sm_goto rfl B.1 dX8_makeCells_15) ?_
    refine jlk_cons (sm_iconst rfl B.1 dX8_makeCells_18) ?_
    refine jlk_cons (sm_istore_n rfl B.1 dX8_makeCells_19) ?_
    refine jlk_cons (sm_iload_n rfl B.1 dX8_makeCells_20) ?_
    refine jlk_cons (sm_iconst rfl B.1 dX8_makeCells_21) ?_
    refine jlk_cons (sm_icmpge rfl B.1 dX8_makeCells_22) ?_
    refine jlk_cons (sm_aload_n rfl B.1 dX8_makeCells_25) ?_
    refine jlk_cons (sm_getP B.1 fl_PointerAnalyzer_Analysis_18_8_79 dX8_makeCells_26) ?_
    refine jlk_cons (sm_iload_n rfl B.1 dX8_makeCells_29) ?_
    refine jlk_cons (sm_aload_n rfl B.1 dX8_makeCells_30) ?_
    refine jlk_cons (sm_getP B.1 fl_PointerAnalyzer_Analysis_12_8_78 dX8_makeCells_31) ?_
    refine jlk_cons (sm_cV (x := yJ4_size) (host := "") (owner := "") isRI (i_J4_size hI) B q1566 q1145 q1146 w4_J4_size w6_J4_size (by decide) (by decide) (by decide) kc_21 hy_J4_size hl_J4_size dX8_makeCells_34 trivial) ?_
    refine jlk_cons (sm_iast B.1 dX8_makeCells_37) ?_
    refine jlk_cons (sm_iconst rfl B.1 dX8_makeCells_38) ?_
    refine jlk_cons (sm_istore_n rfl B.1 dX8_makeCells_39) ?_
    refine jlk_cons (sm_iload_n rfl B.1 dX8_makeCells_40) ?_
    refine jlk_cons (sm_iconst rfl B.1 dX8_makeCells_41) ?_
    refine jlk_cons (sm_aload_n rfl B.1 dX8_makeCells_42) ?_
    refine jlk_cons (sm_getP B.1 fl_PointerAnalyzer_Analysis_43_8_77 dX8_makeCells_43) ?_
    refine jlk_cons (sm_iload_n rfl B.1 dX8_makeCells_46) ?_
    refine jlk_cons (sm_cV (x := yX10_count) (host := "") (owner := "") isRI (i_X10_count hI) B q1636 q1637 q1638 w4_X10_count w6_X10_count (by decide) (by decide) (by decide) kc_10 hy_X10_count hl_X10_count dX8_makeCells_47 trivial) ?_
    refine jlk_cons (sm_imul B.1 dX8_makeCells_50) ?_
    refine jlk_cons (sm_icmpge rfl B.1 dX8_makeCells_51) ?_
    refine jlk_cons (sm_aload_n rfl B.1 dX8_makeCells_54) ?_
    refine jlk_cons (sm_iload_n rfl B.1 dX8_makeCells_55) ?_
    refine jlk_cons (sm_iload_n rfl B.1 dX8_makeCells_56) ?_
    refine jlk_cons (sm_iconst rfl B.1 dX8_makeCells_57) ?_
    refine jlk_cons (sm_irem B.1 dX8_makeCells_58) ?_
    refine jlk_cons (sm_cSN (x := yX1_local) (r9 := kr_6) (owner := "") isSI (i_X1_local hI) B q1640 q1641 w4_X1_local w6_X1_local (by decide) hy_X1_local hl_X1_local dX8_makeCells_59 trivial) ?_
    refine jlk_cons (sm_cV (x := yX8_add) (host := "") (owner := "") isRV (i_X8_add hI) B q1560 q1562 qs14 w4_X8_add w6_X8_add (by decide) (by decide) (by decide) kc_8 hy_X8_add hl_X8_add dX8_makeCells_62 trivial) ?_
    refine jlk_cons (sm_iinc rfl B.1 dX8_makeCells_65) ?_
    exact jlk_nil
  · skip
    refine jlk_cons (sm_goto rfl B.1 dX8_makeCells_68) ?_
    refine jlk_cons (sm_iinc rfl B.1 dX8_makeCells_71) ?_
    refine jlk_cons (sm_goto rfl B.1 dX8_makeCells_74) ?_
    refine jlk_cons (sm_aload_n rfl B.1 dX8_makeCells_77) ?_
    refine jlk_cons (sm_aload_n rfl B.1 dX8_makeCells_78) ?_
    refine jlk_cons (sm_getP B.1 fl_PointerAnalyzer_Analysis_12_8_78 dX8_makeCells_79) ?_
    refine jlk_cons (sm_cV (x := yJ4_size) (host := "") (owner := "") isRI (i_J4_size hI) B q1566 q1145 q1146 w4_J4_size w6_J4_size (by decide) (by decide) (by decide) kc_21 hy_J4_size hl_J4_size dX8_makeCells_82 trivial) ?_
    refine jlk_cons (sm_putI B.1 fl_PointerAnalyzer_Analysis_122_8_80 tyX8 tyX8_ok nmX8 (Or.inl rfl) (tyX8_ok 4 (by decide)) rfl (by decide) dX8_makeCells_85) ?_
    refine jlk_cons (sm_iconst rfl B.1 dX8_makeCells_88) ?_
    refine jlk_cons (sm_istore_n rfl B.1 dX8_makeCells_89) ?_
    refine jlk_cons (sm_iload_n rfl B.1 dX8_makeCells_90) ?_
    refine jlk_cons (sm_iconst rfl B.1 dX8_makeCells_91) ?_
    refine jlk_cons (sm_aload_n rfl B.1 dX8_makeCells_92) ?_
    refine jlk_cons (sm_getP B.1 fl_PointerAnalyzer_Analysis_34_8_76 dX8_makeCells_93) ?_
    refine jlk_cons (sm_getIN B.1 fn_PointerAnalyzer_Analysis_125_2_11 dX8_makeCells_96) ?_
    refine jlk_cons (sm_imul B.1 dX8_makeCells_99) ?_
    refine jlk_cons (sm_icmpge rfl B.1 dX8_makeCells_100) ?_
    refine jlk_cons (sm_aload_n rfl B.1 dX8_makeCells_103) ?_
    refine jlk_cons (sm_bipush rfl B.1 dX8_makeCells_104) ?_
    refine jlk_cons (sm_iload_n rfl B.1 dX8_makeCells_106) ?_
    refine jlk_cons (sm_iadd B.1 dX8_makeCells_107) ?_
    refine jlk_cons (sm_cV (x := yX8_add) (host := "") (owner := "") isRV (i_X8_add hI) B q1560 q1562 qs14 w4_X8_add w6_X8_add (by decide) (by decide) (by decide) kc_8 hy_X8_add hl_X8_add dX8_makeCells_108 trivial) ?_
    refine jlk_cons (sm_iinc rfl B.1 dX8_makeCells_111) ?_
    refine jlk_cons (sm_goto rfl B.1 dX8_makeCells_114) ?_
    refine jlk_cons (sm_vret B.1 B.2.1 hret dX8_makeCells_117) ?_
    exact jlk_nil
theorem v_X8_makeCells (hst : l.stackTraces = false) (hz : jEz (EV (d + 1))) (hI : jIH l D dA lo cs0 d) : jMe l D dA lo cs0 (EV (d + 1)) 248 yX8_makeCells (ws_ yX8_makeCells cX8_makeCells 4 (Option.none : Option Jvm.ClassFile.FieldType)) (d + 1) := z_meth hz rfl hp_X8_makeCells (r_X8_makeCells hst hI)
theorem r_X8_constrain (hst : l.stackTraces = false) (hI : jIH l D dA lo cs0 d) : jRows l D dA lo cs0 d 9 (tb_X8_constrain (EV d)) yX8_constrain cX8_constrain (Option.none : Option Jvm.ClassFile.FieldType) [] := by
  intro p e R s m args below meth c z0 w0 zF wF Q rF hF B hz hw hret hnm
  refine jlk_app ?_ ?_
  · refine jlk_cons (sm_aload_n rfl B.1 dX8_constrain_0) ?_
    refine jlk_cons (sm_getPN B.1 fn_PointerAnalyzer_Analysis_131_3_14 dX8_constrain_1) ?_
    refine jlk_cons (sm_astore B.1 dX8_constrain_4) ?_
    refine jlk_cons (sm_aload_n rfl B.1 dX8_constrain_6) ?_
    refine jlk_cons (sm_aload B.1 dX8_constrain_7) ?_
    refine jlk_cons (sm_getIN B.1 fn_PointerAnalyzer_Analysis_135_7_73 dX8_constrain_9) ?_
    refine jlk_cons (sm_iload_n rfl B.1 dX8_constrain_12) ?_
    refine jlk_cons (sm_cV (x := yX8_cell) (host := "") (owner := "") isRP (i_X8_cell hI) B q1649 q1651 qs17 w4_X8_cell w6_X8_cell (by decide) (by decide) (by decide) kc_8 hy_X8_cell hl_X8_cell dX8_constrain_13 trivial) ?_
    refine jlk_cons (sm_astore B.1 dX8_constrain_16) ?_
    refine jlk_cons (sm_aload B.1 dX8_constrain_18) ?_
    refine jlk_cons (sm_getIN B.1 fn_PointerAnalyzer_Analysis_144_7_74 dX8_constrain_20) ?_
    refine jlk_cons (sm_ifge rfl B.1 dX8_constrain_23) ?_
    refine jlk_cons (sm_null B.1 dX8_constrain_26) ?_
    refine jlk_cons (sm_goto rfl B.1 dX8_constrain_27) ?_
    refine jlk_cons (sm_aload_n rfl B.1 dX8_constrain_30) ?_
    refine jlk_cons (sm_aload B.1 dX8_constrain_31) ?_
    refine jlk_cons (sm_getIN B.1 fn_PointerAnalyzer_Analysis_144_7_74 dX8_constrain_33) ?_
    refine jlk_cons (sm_iload_n rfl B.1 dX8_constrain_36) ?_
    refine jlk_cons (sm_cV (x := yX8_cell) (host := "") (owner := "") isRP (i_X8_cell hI) B q1649 q1651 qs17 w4_X8_cell w6_X8_cell (by decide) (by decide) (by decide) kc_8 hy_X8_cell hl_X8_cell dX8_constrain_37 trivial) ?_
    refine jlk_cons (sm_astore B.1 dX8_constrain_40) ?_
    refine jlk_cons (sm_aload B.1 dX8_constrain_42) ?_
    refine jlk_cons (sm_getPN B.1 fn_PointerAnalyzer_Analysis_147_7_72 dX8_constrain_44) ?_
    refine jlk_cons (sm_oord B q1656 q1657 q1658 q1659 q1660 w4_J28_ordinal w6_J28_ordinal hp_J28_ordinal q3517 dJ28_ordinal_0 dJ28_ordinal_1 dJ28_ordinal_4 dX8_constrain_47) ?_
    refine jlk_cons (sm_switch B.1 rfl (List.forall_mem_cons.mpr ⟨⟨by decide, by decide, 38, rfl, rfl⟩, (List.forall_mem_cons.mpr ⟨⟨by decide, by decide, 54, rfl, rfl⟩, (List.forall_mem_cons.mpr ⟨⟨by decide, by decide, 70, rfl, rfl⟩, (List.forall_mem_cons.mpr ⟨⟨by decide, by decide, 84, rfl, rfl⟩, (List.forall_mem_cons.mpr ⟨⟨by decide, by decide, 98, rfl, rfl⟩, (List.forall_mem_cons.mpr ⟨⟨by decide, by decide, 120, rfl, rfl⟩, (List.forall_mem_nil _)⟩)⟩)⟩)⟩)⟩)⟩) (sw_hall 6 (by decide) (by decide)) dX8_constrain_50) ?_
    refine jlk_cons (sm_aload B.1 dX8_constrain_88) ?_
    refine jlk_cons (sm_getPN B.1 fn_PointerAnalyzer_Analysis_83_12_87 dX8_constrain_90) ?_
    refine jlk_cons (sm_aload B.1 dX8_constrain_93) ?_
    refine jlk_cons (sm_getIN B.1 fn_PointerAnalyzer_Analysis_156_12_84 dX8_constrain_95) ?_
    refine jlk_cons (sm_cV (x := yJ40_set) (host := "") (owner := "") isRV (i_J40_set hI) B q1662 q1663 q1664 w4_J40_set w6_J40_set (by decide) (by decide) (by decide) kc_36 hy_J40_set hl_J40_set dX8_constrain_98 trivial) ?_
    refine jlk_cons (sm_goto rfl B.1 dX8_constrain_101) ?_
    refine jlk_cons (sm_aload B.1 dX8_constrain_104) ?_
    refine jlk_cons (sm_getPN B.1 fn_PointerAnalyzer_Analysis_162_12_88 dX8_constrain_106) ?_
    refine jlk_cons (sm_aload B.1 dX8_constrain_109) ?_
    refine jlk_cons (sm_getIN B.1 fn_PointerAnalyzer_Analysis_156_12_84 dX8_constrain_111) ?_
    refine jlk_cons (sm_cV (x := yJ40_set) (host := "") (owner := "") isRV (i_J40_set hI) B q1662 q1663 q1664 w4_J40_set w6_J40_set (by decide) (by decide) (by decide) kc_36 hy_J40_set hl_J40_set dX8_constrain_114 trivial) ?_
    refine jlk_cons (sm_goto rfl B.1 dX8_constrain_117) ?_
    refine jlk_cons (sm_aload B.1 dX8_constrain_120) ?_
    refine jlk_cons (sm_getPN B.1 fn_PointerAnalyzer_Analysis_165_12_89 dX8_constrain_122) ?_
    refine jlk_cons (sm_aload B.1 dX8_constrain_125) ?_
    refine jlk_cons (sm_cV (x := yJ4_add) (host := "") (owner := "") isRI (i_J4_add hI) B q1635 q1204 q1205 w4_J4_add w6_J4_add (by decide) (by decide) (by decide) kc_21 hy_J4_add hl_J4_add dX8_constrain_127 trivial) ?_
    exact jlk_nil
  · skip
    refine jlk_app ?_ ?_
    · refine jlk_cons (sm_pop B.1 dX8_constrain_130) ?_
      refine jlk_cons (sm_goto rfl B.1 dX8_constrain_131) ?_
      refine jlk_cons (sm_aload B.1 dX8_constrain_134) ?_
      refine jlk_cons (sm_getPN B.1 fn_PointerAnalyzer_Analysis_168_12_90 dX8_constrain_136) ?_
      refine jlk_cons (sm_aload B.1 dX8_constrain_139) ?_
      refine jlk_cons (sm_cV (x := yJ4_add) (host := "") (owner := "") isRI (i_J4_add hI) B q1635 q1204 q1205 w4_J4_add w6_J4_add (by decide) (by decide) (by decide) kc_21 hy_J4_add hl_J4_add dX8_constrain_141 trivial) ?_
      refine jlk_cons (sm_pop B.1 dX8_constrain_144) ?_
      refine jlk_cons (sm_goto rfl B.1 dX8_constrain_145) ?_
      refine jlk_cons (sm_aload B.1 dX8_constrain_148) ?_
      refine jlk_cons (sm_getPN B.1 fn_PointerAnalyzer_Analysis_83_12_87 dX8_constrain_150) ?_
      refine jlk_cons (sm_aload_n rfl B.1 dX8_constrain_153) ?_
      refine jlk_cons (sm_getI B.1 fl_PointerAnalyzer_Analysis_122_8_80 dX8_constrain_154) ?_
      refine jlk_cons (sm_iconst rfl B.1 dX8_constrain_157) ?_
      refine jlk_cons (sm_aload_n rfl B.1 dX8_constrain_158) ?_
      refine jlk_cons (sm_getIN B.1 fn_PointerAnalyzer_Analysis_171_3_15 dX8_constrain_159) ?_
      refine jlk_cons (sm_imul B.1 dX8_constrain_162) ?_
      refine jlk_cons (sm_iadd B.1 dX8_constrain_163) ?_
      refine jlk_cons (sm_cV (x := yJ40_set) (host := "") (owner := "") isRV (i_J40_set hI) B q1662 q1663 q1664 w4_J40_set w6_J40_set (by decide) (by decide) (by decide) kc_36 hy_J40_set hl_J40_set dX8_constrain_164 trivial) ?_
      refine jlk_cons (sm_goto rfl B.1 dX8_constrain_167) ?_
      refine jlk_cons (sm_aload B.1 dX8_constrain_170) ?_
      refine jlk_cons (sm_getPN B.1 fn_PointerAnalyzer_Analysis_174_12_91 dX8_constrain_172) ?_
      refine jlk_cons (sm_new B.1 kc_13 (by decide) (by decide) in_X13 tyX13 tyX13_ok kd_13 q1916 q1917 q182 B.2.2.2 hz hw dX8_constrain_175) ?_
      refine jlk_cons (sm_dup B.1 dX8_constrain_178) ?_
      refine jlk_cons (sm_aload B.1 dX8_constrain_179) ?_
      refine jlk_cons (sm_aload B.1 dX8_constrain_181) ?_
      refine jlk_cons (sm_getIN B.1 fn_PointerAnalyzer_Analysis_179_7_75 dX8_constrain_183) ?_
      refine jlk_cons (sm_cI (x := yX13_init) (r9 := kr_6) (host := "") (owner := "") isNV (i_X13_init hI) B q1918 q1919 w4_X13_init w6_X13_init (by decide) rfl hy_X13_init hl_X13_init dX8_constrain_186 trivial) ?_
      refine jlk_cons (sm_cV (x := yJ4_add) (host := "") (owner := "") isRI (i_J4_add hI) B q1635 q1204 q1205 w4_J4_add w6_J4_add (by decide) (by decide) (by decide) kc_21 hy_J4_add hl_J4_add dX8_constrain_189 trivial) ?_
      refine jlk_cons (sm_pop B.1 dX8_constrain_192) ?_
      refine jlk_cons (sm_goto rfl B.1 dX8_constrain_193) ?_
      refine jlk_cons (sm_aload_n rfl B.1 dX8_constrain_196) ?_
      refine jlk_cons (sm_getP B.1 fl_PointerAnalyzer_Analysis_43_8_77 dX8_constrain_197) ?_
      refine jlk_cons (sm_getPN B.1 fn_PointerAnalyzer_Analysis_185_10_82 dX8_constrain_200) ?_
      refine jlk_cons (sm_aload_n rfl B.1 dX8_constrain_203) ?_
      refine jlk_cons (sm_getIN B.1 fn_PointerAnalyzer_Analysis_66_3_13 dX8_constrain_204) ?_
      refine jlk_cons (sm_cV (x := yJ4_get) (host := "") (owner := "") isRP (i_J4_get hI) B q1643 q1149 q1150 w4_J4_get w6_J4_get (by decide) (by decide) (by decide) kc_21 hy_J4_get hl_J4_get dX8_constrain_207 trivial) ?_
      refine jlk_cons (sm_cast B.1 q1303 (List.forall_mem_cons.mpr ⟨⟨by decide, by decide, _, kc_21, Or.inl rfl⟩, (List.forall_mem_nil _)⟩) dX8_constrain_210) ?_
      refine jlk_cons (sm_iload_n rfl B.1 dX8_constrain_213) ?_
      refine jlk_cons (sm_cV (x := yJ4_get) (host := "") (owner := "") isRP (i_J4_get hI) B q1643 q1149 q1150 w4_J4_get w6_J4_get (by decide) (by decide) (by decide) kc_21 hy_J4_get hl_J4_get dX8_constrain_214 trivial) ?_
      refine jlk_cons (sm_cast B.1 q1931 (List.forall_mem_cons.mpr ⟨⟨by decide, by decide, _, kc_11, Or.inl rfl⟩, (List.forall_mem_nil _)⟩) dX8_constrain_217) ?_
      exact jlk_nil
    · skip
      refine jlk_cons (sm_aload_n rfl B.1 dX8_constrain_220) ?_
      refine jlk_cons (sm_getIN B.1 fn_PointerAnalyzer_Analysis_190_3_12 dX8_constrain_221) ?_
      refine jlk_cons (sm_iload_n rfl B.1 dX8_constrain_224) ?_
      refine jlk_cons (sm_cV (x := yX11_with) (host := "") (owner := "") isRP (i_X11_with hI) B q1932 q1545 q1546 w4_X11_with w6_X11_with (by decide) (by decide) (by decide) kc_11 hy_X11_with hl_X11_with dX8_constrain_225 trivial) ?_
      refine jlk_cons (sm_astore B.1 dX8_constrain_228) ?_
      refine jlk_cons (sm_aload_n rfl B.1 dX8_constrain_230) ?_
      refine jlk_cons (sm_getP B.1 fl_PointerAnalyzer_Analysis_43_8_77 dX8_constrain_231) ?_
      refine jlk_cons (sm_aload B.1 dX8_constrain_234) ?_
      refine jlk_cons (sm_getIN B.1 fn_PointerAnalyzer_Analysis_179_7_75 dX8_constrain_236) ?_
      refine jlk_cons (sm_aload B.1 dX8_constrain_239) ?_
      refine jlk_cons (sm_cV (x := yX10_indexOf) (host := "") (owner := "") isRI (i_X10_indexOf hI) B q1933 q1934 q1935 w4_X10_indexOf w6_X10_indexOf (by decide) (by decide) (by decide) kc_10 hy_X10_indexOf hl_X10_indexOf dX8_constrain_241 trivial) ?_
      refine jlk_cons (sm_istore B.1 dX8_constrain_244) ?_
      refine jlk_cons (sm_aload B.1 dX8_constrain_246) ?_
      refine jlk_cons (sm_getPN B.1 fn_PointerAnalyzer_Analysis_162_12_88 dX8_constrain_248) ?_
      refine jlk_cons (sm_aload_n rfl B.1 dX8_constrain_251) ?_
      refine jlk_cons (sm_aload B.1 dX8_constrain_252) ?_
      refine jlk_cons (sm_getIN B.1 fn_PointerAnalyzer_Analysis_179_7_75 dX8_constrain_254) ?_
      refine jlk_cons (sm_iconst rfl B.1 dX8_constrain_257) ?_
      refine jlk_cons (sm_cSN (x := yX1_local) (r9 := kr_6) (owner := "") isSI (i_X1_local hI) B q1640 q1641 w4_X1_local w6_X1_local (by decide) hy_X1_local hl_X1_local dX8_constrain_258 trivial) ?_
      refine jlk_cons (sm_iload B.1 dX8_constrain_261) ?_
      refine jlk_cons (sm_cV (x := yX8_cell) (host := "") (owner := "") isRP (i_X8_cell hI) B q1649 q1651 qs17 w4_X8_cell w6_X8_cell (by decide) (by decide) (by decide) kc_8 hy_X8_cell hl_X8_cell dX8_constrain_263 trivial) ?_
      refine jlk_cons (sm_getIN B.1 fn_PointerAnalyzer_Analysis_156_12_84 dX8_constrain_266) ?_
      refine jlk_cons (sm_cV (x := yJ40_set) (host := "") (owner := "") isRV (i_J40_set hI) B q1662 q1663 q1664 w4_J40_set w6_J40_set (by decide) (by decide) (by decide) kc_36 hy_J40_set hl_J40_set dX8_constrain_269 trivial) ?_
      refine jlk_cons (sm_aload_n rfl B.1 dX8_constrain_272) ?_
      refine jlk_cons (sm_aload B.1 dX8_constrain_273) ?_
      refine jlk_cons (sm_getIN B.1 fn_PointerAnalyzer_Analysis_179_7_75 dX8_constrain_275) ?_
      refine jlk_cons (sm_iconst rfl B.1 dX8_constrain_278) ?_
      refine jlk_cons (sm_cSN (x := yX1_local) (r9 := kr_6) (owner := "") isSI (i_X1_local hI) B q1640 q1641 w4_X1_local w6_X1_local (by decide) hy_X1_local hl_X1_local dX8_constrain_279 trivial) ?_
      refine jlk_cons (sm_iload B.1 dX8_constrain_282) ?_
      refine jlk_cons (sm_cV (x := yX8_cell) (host := "") (owner := "") isRP (i_X8_cell hI) B q1649 q1651 qs17 w4_X8_cell w6_X8_cell (by decide) (by decide) (by decide) kc_8 hy_X8_cell hl_X8_cell dX8_constrain_284 trivial) ?_
      refine jlk_cons (sm_getPN B.1 fn_PointerAnalyzer_Analysis_162_12_88 dX8_constrain_287) ?_
      refine jlk_cons (sm_aload B.1 dX8_constrain_290) ?_
      refine jlk_cons (sm_getIN B.1 fn_PointerAnalyzer_Analysis_156_12_84 dX8_constrain_292) ?_
      refine jlk_cons (sm_cV (x := yJ40_set) (host := "") (owner := "") isRV (i_J40_set hI) B q1662 q1663 q1664 w4_J40_set w6_J40_set (by decide) (by decide) (by decide) kc_36 hy_J40_set hl_J40_set dX8_constrain_295 trivial) ?_
      refine jlk_cons (sm_vret B.1 B.2.1 hret dX8_constrain_298) ?_
      exact jlk_nil
theorem v_X8_constrain (hst : l.stackTraces = false) (hz : jEz (EV (d + 1))) (hI : jIH l D dA lo cs0 d) : jMe l D dA lo cs0 (EV (d + 1)) 249 yX8_constrain (ws_ yX8_constrain cX8_constrain 9 (Option.none : Option Jvm.ClassFile.FieldType)) (d + 1) := z_meth hz rfl hp_X8_constrain (r_X8_constrain hst hI)
theorem r_X8_collapse (hst : l.stackTraces = false) (hI : jIH l D dA lo cs0 d) : jRows l D dA lo cs0 d 6 (tb_X8_collapse (EV d)) yX8_collapse cX8_collapse (Option.none : Option Jvm.ClassFile.FieldType) [] := by
  intro p e R s m args below meth c z0 w0 zF wF Q rF hF B hz hw hret hnm
  refine jlk_app ?_ ?_
  · refine jlk_cons (sm_aload_n rfl B.1 dX8_collapse_0) ?_
    refine jlk_cons (sm_getP B.1 fl_PointerAnalyzer_Analysis_12_8_78 dX8_collapse_1) ?_
    refine jlk_cons (sm_cV (x := yJ4_size) (host := "") (owner := "") isRI (i_J4_size hI) B q1566 q1145 q1146 w4_J4_size w6_J4_size (by decide) (by decide) (by decide) kc_21 hy_J4_size hl_J4_size dX8_collapse_4 trivial) ?_
    refine jlk_cons (sm_istore_n rfl B.1 dX8_collapse_7) ?_
    refine jlk_cons (sm_iload_n rfl B.1 dX8_collapse_8) ?_
    refine jlk_cons (sm_anew B.1 (by decide) rfl q1942 q1943 B.2.2.2 hz hw dX8_collapse_9) ?_
    refine jlk_cons (sm_astore_n rfl B.1 dX8_collapse_12) ?_
    refine jlk_cons (sm_iconst rfl B.1 dX8_collapse_13) ?_
    refine jlk_cons (sm_istore_n rfl B.1 dX8_collapse_14) ?_
    refine jlk_cons (sm_iload_n rfl B.1 dX8_collapse_15) ?_
    refine jlk_cons (sm_iload_n rfl B.1 dX8_collapse_16) ?_
    refine jlk_cons (sm_icmpge rfl B.1 dX8_collapse_17) ?_
    refine jlk_cons (sm_aload_n rfl B.1 dX8_collapse_20) ?_
    refine jlk_cons (sm_iload_n rfl B.1 dX8_collapse_21) ?_
    refine jlk_cons (sm_aload_n rfl B.1 dX8_collapse_22) ?_
    refine jlk_cons (sm_iload_n rfl B.1 dX8_collapse_23) ?_
    refine jlk_cons (sm_cV (x := yX8_reachedFrom) (host := "") (owner := "") isRP (i_X8_reachedFrom hI) B q1944 q1946 qs22 w4_X8_reachedFrom w6_X8_reachedFrom (by decide) (by decide) (by decide) kc_8 hy_X8_reachedFrom hl_X8_reachedFrom dX8_collapse_24 trivial) ?_
    refine jlk_cons (sm_aast B.1 (t := 110) (by decide) (by decide) rfl (List.forall_mem_cons.mpr ⟨⟨by decide, by decide, _, kc_36, Or.inl rfl⟩, (List.forall_mem_nil _)⟩) dX8_collapse_27) ?_
    refine jlk_cons (sm_iinc rfl B.1 dX8_collapse_28) ?_
    refine jlk_cons (sm_goto rfl B.1 dX8_collapse_31) ?_
    refine jlk_cons (sm_iconst rfl B.1 dX8_collapse_34) ?_
    refine jlk_cons (sm_istore_n rfl B.1 dX8_collapse_35) ?_
    refine jlk_cons (sm_iload_n rfl B.1 dX8_collapse_36) ?_
    refine jlk_cons (sm_iload_n rfl B.1 dX8_collapse_37) ?_
    refine jlk_cons (sm_icmpge rfl B.1 dX8_collapse_38) ?_
    refine jlk_cons (sm_aload_n rfl B.1 dX8_collapse_41) ?_
    refine jlk_cons (sm_getP B.1 fl_PointerAnalyzer_Analysis_12_8_78 dX8_collapse_42) ?_
    refine jlk_cons (sm_iload_n rfl B.1 dX8_collapse_45) ?_
    refine jlk_cons (sm_cV (x := yJ4_get) (host := "") (owner := "") isRP (i_J4_get hI) B q1643 q1149 q1150 w4_J4_get w6_J4_get (by decide) (by decide) (by decide) kc_21 hy_J4_get hl_J4_get dX8_collapse_46 trivial) ?_
    refine jlk_cons (sm_cast B.1 q1564 (List.forall_mem_cons.mpr ⟨⟨by decide, by decide, _, kc_12, Or.inl rfl⟩, (List.forall_mem_nil _)⟩) dX8_collapse_49) ?_
    refine jlk_cons (sm_astore B.1 dX8_collapse_52) ?_
    refine jlk_cons (sm_aload_n rfl B.1 dX8_collapse_54) ?_
    refine jlk_cons (sm_iload_n rfl B.1 dX8_collapse_55) ?_
    refine jlk_cons (sm_aald B.1 (t := 110) (by decide) rfl dX8_collapse_56) ?_
    refine jlk_cons (sm_iconst rfl B.1 dX8_collapse_57) ?_
    refine jlk_cons (sm_cV (x := yJ40_nextSetBit) (host := "") (owner := "") isRI (i_J40_nextSetBit hI) B q1965 q1966 q1967 w4_J40_nextSetBit w6_J40_nextSetBit (by decide) (by decide) (by decide) kc_36 hy_J40_nextSetBit hl_J40_nextSetBit dX8_collapse_58 trivial) ?_
    refine jlk_cons (sm_istore B.1 dX8_collapse_61) ?_
    refine jlk_cons (sm_iload B.1 dX8_collapse_63) ?_
    refine jlk_cons (sm_iflt rfl B.1 dX8_collapse_65) ?_
    refine jlk_cons (sm_iload B.1 dX8_collapse_68) ?_
    exact jlk_nil
  · skip
    refine jlk_cons (sm_iload_n rfl B.1 dX8_collapse_70) ?_
    refine jlk_cons (sm_icmpge rfl B.1 dX8_collapse_71) ?_
    refine jlk_cons (sm_aload_n rfl B.1 dX8_collapse_74) ?_
    refine jlk_cons (sm_iload B.1 dX8_collapse_75) ?_
    refine jlk_cons (sm_aald B.1 (t := 110) (by decide) rfl dX8_collapse_77) ?_
    refine jlk_cons (sm_iload_n rfl B.1 dX8_collapse_78) ?_
    refine jlk_cons (sm_cV (x := yJ40_get) (host := "") (owner := "") isRI (i_J40_get hI) B q1990 q1991 q1992 w4_J40_get w6_J40_get (by decide) (by decide) (by decide) kc_36 hy_J40_get hl_J40_get dX8_collapse_79 trivial) ?_
    refine jlk_cons (sm_ifeq rfl B.1 dX8_collapse_82) ?_
    refine jlk_cons (sm_aload B.1 dX8_collapse_85) ?_
    refine jlk_cons (sm_getPN B.1 fn_PointerAnalyzer_Analysis_209_12_86 dX8_collapse_87) ?_
    refine jlk_cons (sm_aload B.1 dX8_collapse_90) ?_
    refine jlk_cons (sm_acmpne rfl B.1 dX8_collapse_92) ?_
    refine jlk_cons (sm_aload B.1 dX8_collapse_95) ?_
    refine jlk_cons (sm_aload_n rfl B.1 dX8_collapse_97) ?_
    refine jlk_cons (sm_getP B.1 fl_PointerAnalyzer_Analysis_12_8_78 dX8_collapse_98) ?_
    refine jlk_cons (sm_iload B.1 dX8_collapse_101) ?_
    refine jlk_cons (sm_cV (x := yJ4_get) (host := "") (owner := "") isRP (i_J4_get hI) B q1643 q1149 q1150 w4_J4_get w6_J4_get (by decide) (by decide) (by decide) kc_21 hy_J4_get hl_J4_get dX8_collapse_103 trivial) ?_
    refine jlk_cons (sm_cast B.1 q1564 (List.forall_mem_cons.mpr ⟨⟨by decide, by decide, _, kc_12, Or.inl rfl⟩, (List.forall_mem_nil _)⟩) dX8_collapse_106) ?_
    refine jlk_cons (sm_cV (x := yX12_find) (host := "") (owner := "") isRP (i_X12_find hI) B q1994 q1995 q1996 w4_X12_find w6_X12_find (by decide) (by decide) (by decide) kc_12 hy_X12_find hl_X12_find dX8_collapse_109 trivial) ?_
    refine jlk_cons (sm_cS (x := yX8_merge) (r9 := kr_6) (host := "") (owner := "") isSV (i_X8_merge hI) B q1998 q1999 w4_X8_merge w6_X8_merge (by decide) hy_X8_merge hl_X8_merge dX8_collapse_112 trivial) ?_
    refine jlk_cons (sm_aload_n rfl B.1 dX8_collapse_115) ?_
    refine jlk_cons (sm_iload_n rfl B.1 dX8_collapse_116) ?_
    refine jlk_cons (sm_aald B.1 (t := 110) (by decide) rfl dX8_collapse_117) ?_
    refine jlk_cons (sm_iload B.1 dX8_collapse_118) ?_
    refine jlk_cons (sm_iconst rfl B.1 dX8_collapse_120) ?_
    refine jlk_cons (sm_iadd B.1 dX8_collapse_121) ?_
    refine jlk_cons (sm_cV (x := yJ40_nextSetBit) (host := "") (owner := "") isRI (i_J40_nextSetBit hI) B q1965 q1966 q1967 w4_J40_nextSetBit w6_J40_nextSetBit (by decide) (by decide) (by decide) kc_36 hy_J40_nextSetBit hl_J40_nextSetBit dX8_collapse_122 trivial) ?_
    refine jlk_cons (sm_istore B.1 dX8_collapse_125) ?_
    refine jlk_cons (sm_goto rfl B.1 dX8_collapse_127) ?_
    refine jlk_cons (sm_iinc rfl B.1 dX8_collapse_130) ?_
    refine jlk_cons (sm_goto rfl B.1 dX8_collapse_133) ?_
    refine jlk_cons (sm_vret B.1 B.2.1 hret dX8_collapse_136) ?_
    exact jlk_nil
theorem v_X8_collapse (hst : l.stackTraces = false) (hz : jEz (EV (d + 1))) (hI : jIH l D dA lo cs0 d) : jMe l D dA lo cs0 (EV (d + 1)) 250 yX8_collapse (ws_ yX8_collapse cX8_collapse 6 (Option.none : Option Jvm.ClassFile.FieldType)) (d + 1) := z_meth hz rfl hp_X8_collapse (r_X8_collapse hst hI)
theorem r_X8_push (hst : l.stackTraces = false) (hI : jIH l D dA lo cs0 d) : jRows l D dA lo cs0 d 3 (tb_X8_push (EV d)) yX8_push cX8_push (Option.none : Option Jvm.ClassFile.FieldType) [] := by
  intro p e R s m args below meth c z0 w0 zF wF Q rF hF B hz hw hret hnm
  refine jlk_cons (sm_aload_n rfl B.1 dX8_push_0) ?_
  refine jlk_cons (sm_cV (x := yX12_find) (host := "") (owner := "") isRP (i_X12_find hI) B q1994 q1995 q1996 w4_X12_find w6_X12_find (by decide) (by decide) (by decide) kc_12 hy_X12_find hl_X12_find dX8_push_1 trivial) ?_
  refine jlk_cons (sm_astore_n rfl B.1 dX8_push_4) ?_
  refine jlk_cons (sm_aload_n rfl B.1 dX8_push_5) ?_
  refine jlk_cons (sm_getIN B.1 fn_PointerAnalyzer_Analysis_102_12_92 dX8_push_6) ?_
  refine jlk_cons (sm_ifne rfl B.1 dX8_push_9) ?_
  refine jlk_cons (sm_aload_n rfl B.1 dX8_push_12) ?_
  refine jlk_cons (sm_iconst rfl B.1 dX8_push_13) ?_
  refine jlk_cons (sm_putZN B.1 fn_PointerAnalyzer_Analysis_102_12_92 tyX12 tyX12_ok nmX12 rfl (tyX12_ok 8 (by decide)) rfl (by decide) dX8_push_14) ?_
  refine jlk_cons (sm_aload_n rfl B.1 dX8_push_17) ?_
  refine jlk_cons (sm_getP B.1 fl_PointerAnalyzer_Analysis_30_8_81 dX8_push_18) ?_
  refine jlk_cons (sm_aload_n rfl B.1 dX8_push_21) ?_
  refine jlk_cons (sm_cV (x := yJ36_add) (host := "") (owner := "") isRI (i_J36_add hI) B q2010 q2011 q2012 w4_J36_add w6_J36_add (by decide) (by decide) (by decide) kc_34 hy_J36_add hl_J36_add dX8_push_22 trivial) ?_
  refine jlk_cons (sm_pop B.1 dX8_push_25) ?_
  refine jlk_cons (sm_vret B.1 B.2.1 hret dX8_push_26) ?_
  exact jlk_nil
theorem v_X8_push (hst : l.stackTraces = false) (hz : jEz (EV (d + 1))) (hI : jIH l D dA lo cs0 d) : jMe l D dA lo cs0 (EV (d + 1)) 252 yX8_push (ws_ yX8_push cX8_push 3 (Option.none : Option Jvm.ClassFile.FieldType)) (d + 1) := z_meth hz rfl hp_X8_push (r_X8_push hst hI)
theorem r_X8_flow (hst : l.stackTraces = false) (hI : jIH l D dA lo cs0 d) : jRows l D dA lo cs0 d 5 (tb_X8_flow (EV d)) yX8_flow cX8_flow (Option.none : Option Jvm.ClassFile.FieldType) [] := by
  intro p e R s m args below meth c z0 w0 zF wF Q rF hF B hz hw hret hnm
  refine jlk_app ?_ ?_
  · refine jlk_cons (sm_aload_n rfl B.1 dX8_flow_0) ?_
    refine jlk_cons (sm_getPN B.1 fn_PointerAnalyzer_Analysis_83_12_87 dX8_flow_1) ?_
    refine jlk_cons (sm_cVW (x := yJ40_clone) (host := "") (owner := "") isRP (i_J40_clone hI) B q1949 q1950 q1951 w4_J40_clone w6_J40_clone (by decide) (by decide) (by decide) kc_36 hy_J40_clone hl_J40_clone dX8_flow_4 trivial) ?_
    refine jlk_cons (sm_cast B.1 q1942 (List.forall_mem_cons.mpr ⟨⟨by decide, by decide, _, kc_36, Or.inl rfl⟩, (List.forall_mem_nil _)⟩) dX8_flow_7) ?_
    refine jlk_cons (sm_astore_n rfl B.1 dX8_flow_10) ?_
    refine jlk_cons (sm_aload_n rfl B.1 dX8_flow_11) ?_
    refine jlk_cons (sm_iconst rfl B.1 dX8_flow_12) ?_
    refine jlk_cons (sm_cV (x := yJ40_nextSetBit) (host := "") (owner := "") isRI (i_J40_nextSetBit hI) B q1965 q1966 q1967 w4_J40_nextSetBit w6_J40_nextSetBit (by decide) (by decide) (by decide) kc_36 hy_J40_nextSetBit hl_J40_nextSetBit dX8_flow_13 trivial) ?_
    refine jlk_cons (sm_istore_n rfl B.1 dX8_flow_16) ?_
    refine jlk_cons (sm_iload_n rfl B.1 dX8_flow_17) ?_
    refine jlk_cons (sm_iflt rfl B.1 dX8_flow_18) ?_
    refine jlk_cons (sm_iconst rfl B.1 dX8_flow_21) ?_
    refine jlk_cons (sm_istore B.1 dX8_flow_22) ?_
    refine jlk_cons (sm_iload B.1 dX8_flow_24) ?_
    refine jlk_cons (sm_aload_n rfl B.1 dX8_flow_26) ?_
    refine jlk_cons (sm_getPN B.1 fn_PointerAnalyzer_Analysis_165_12_89 dX8_flow_27) ?_
    refine jlk_cons (sm_cV (x := yJ4_size) (host := "") (owner := "") isRI (i_J4_size hI) B q1566 q1145 q1146 w4_J4_size w6_J4_size (by decide) (by decide) (by decide) kc_21 hy_J4_size hl_J4_size dX8_flow_30 trivial) ?_
    refine jlk_cons (sm_icmpge rfl B.1 dX8_flow_33) ?_
    refine jlk_cons (sm_aload_n rfl B.1 dX8_flow_36) ?_
    refine jlk_cons (sm_aload_n rfl B.1 dX8_flow_37) ?_
    refine jlk_cons (sm_getP B.1 fl_PointerAnalyzer_Analysis_12_8_78 dX8_flow_38) ?_
    refine jlk_cons (sm_iload_n rfl B.1 dX8_flow_41) ?_
    refine jlk_cons (sm_cV (x := yJ4_get) (host := "") (owner := "") isRP (i_J4_get hI) B q1643 q1149 q1150 w4_J4_get w6_J4_get (by decide) (by decide) (by decide) kc_21 hy_J4_get hl_J4_get dX8_flow_42 trivial) ?_
    refine jlk_cons (sm_cast B.1 q1564 (List.forall_mem_cons.mpr ⟨⟨by decide, by decide, _, kc_12, Or.inl rfl⟩, (List.forall_mem_nil _)⟩) dX8_flow_45) ?_
    refine jlk_cons (sm_aload_n rfl B.1 dX8_flow_48) ?_
    refine jlk_cons (sm_getPN B.1 fn_PointerAnalyzer_Analysis_165_12_89 dX8_flow_49) ?_
    refine jlk_cons (sm_iload B.1 dX8_flow_52) ?_
    refine jlk_cons (sm_cV (x := yJ4_get) (host := "") (owner := "") isRP (i_J4_get hI) B q1643 q1149 q1150 w4_J4_get w6_J4_get (by decide) (by decide) (by decide) kc_21 hy_J4_get hl_J4_get dX8_flow_54 trivial) ?_
    refine jlk_cons (sm_cast B.1 q1564 (List.forall_mem_cons.mpr ⟨⟨by decide, by decide, _, kc_12, Or.inl rfl⟩, (List.forall_mem_nil _)⟩) dX8_flow_57) ?_
    refine jlk_cons (sm_cV (x := yX8_connect) (host := "") (owner := "") isRV (i_X8_connect hI) B q2058 q2060 qs29 w4_X8_connect w6_X8_connect (by decide) (by decide) (by decide) kc_8 hy_X8_connect hl_X8_connect dX8_flow_60 trivial) ?_
    refine jlk_cons (sm_iinc rfl B.1 dX8_flow_63) ?_
    refine jlk_cons (sm_goto rfl B.1 dX8_flow_66) ?_
    refine jlk_cons (sm_iconst rfl B.1 dX8_flow_69) ?_
    refine jlk_cons (sm_istore B.1 dX8_flow_70) ?_
    refine jlk_cons (sm_iload B.1 dX8_flow_72) ?_
    refine jlk_cons (sm_aload_n rfl B.1 dX8_flow_74) ?_
    refine jlk_cons (sm_getPN B.1 fn_PointerAnalyzer_Analysis_168_12_90 dX8_flow_75) ?_
    refine jlk_cons (sm_cV (x := yJ4_size) (host := "") (owner := "") isRI (i_J4_size hI) B q1566 q1145 q1146 w4_J4_size w6_J4_size (by decide) (by decide) (by decide) kc_21 hy_J4_size hl_J4_size dX8_flow_78 trivial) ?_
    refine jlk_cons (sm_icmpge rfl B.1 dX8_flow_81) ?_
    refine jlk_cons (sm_aload_n rfl B.1 dX8_flow_84) ?_
    exact jlk_nil
  · skip
    refine jlk_app ?_ ?_
    · refine jlk_cons (sm_aload_n rfl B.1 dX8_flow_85) ?_
      refine jlk_cons (sm_getPN B.1 fn_PointerAnalyzer_Analysis_168_12_90 dX8_flow_86) ?_
      refine jlk_cons (sm_iload B.1 dX8_flow_89) ?_
      refine jlk_cons (sm_cV (x := yJ4_get) (host := "") (owner := "") isRP (i_J4_get hI) B q1643 q1149 q1150 w4_J4_get w6_J4_get (by decide) (by decide) (by decide) kc_21 hy_J4_get hl_J4_get dX8_flow_91 trivial) ?_
      refine jlk_cons (sm_cast B.1 q1564 (List.forall_mem_cons.mpr ⟨⟨by decide, by decide, _, kc_12, Or.inl rfl⟩, (List.forall_mem_nil _)⟩) dX8_flow_94) ?_
      refine jlk_cons (sm_aload_n rfl B.1 dX8_flow_97) ?_
      refine jlk_cons (sm_getP B.1 fl_PointerAnalyzer_Analysis_12_8_78 dX8_flow_98) ?_
      refine jlk_cons (sm_iload_n rfl B.1 dX8_flow_101) ?_
      refine jlk_cons (sm_cV (x := yJ4_get) (host := "") (owner := "") isRP (i_J4_get hI) B q1643 q1149 q1150 w4_J4_get w6_J4_get (by decide) (by decide) (by decide) kc_21 hy_J4_get hl_J4_get dX8_flow_102 trivial) ?_
      refine jlk_cons (sm_cast B.1 q1564 (List.forall_mem_cons.mpr ⟨⟨by decide, by decide, _, kc_12, Or.inl rfl⟩, (List.forall_mem_nil _)⟩) dX8_flow_105) ?_
      refine jlk_cons (sm_cV (x := yX8_connect) (host := "") (owner := "") isRV (i_X8_connect hI) B q2058 q2060 qs29 w4_X8_connect w6_X8_connect (by decide) (by decide) (by decide) kc_8 hy_X8_connect hl_X8_connect dX8_flow_108 trivial) ?_
      refine jlk_cons (sm_iinc rfl B.1 dX8_flow_111) ?_
      refine jlk_cons (sm_goto rfl B.1 dX8_flow_114) ?_
      refine jlk_cons (sm_aload_n rfl B.1 dX8_flow_117) ?_
      refine jlk_cons (sm_iload_n rfl B.1 dX8_flow_118) ?_
      refine jlk_cons (sm_iconst rfl B.1 dX8_flow_119) ?_
      refine jlk_cons (sm_iadd B.1 dX8_flow_120) ?_
      refine jlk_cons (sm_cV (x := yJ40_nextSetBit) (host := "") (owner := "") isRI (i_J40_nextSetBit hI) B q1965 q1966 q1967 w4_J40_nextSetBit w6_J40_nextSetBit (by decide) (by decide) (by decide) kc_36 hy_J40_nextSetBit hl_J40_nextSetBit dX8_flow_121 trivial) ?_
      refine jlk_cons (sm_istore_n rfl B.1 dX8_flow_124) ?_
      refine jlk_cons (sm_goto rfl B.1 dX8_flow_125) ?_
      refine jlk_cons (sm_iconst rfl B.1 dX8_flow_128) ?_
      refine jlk_cons (sm_istore_n rfl B.1 dX8_flow_129) ?_
      refine jlk_cons (sm_iload_n rfl B.1 dX8_flow_130) ?_
      refine jlk_cons (sm_aload_n rfl B.1 dX8_flow_131) ?_
      refine jlk_cons (sm_getPN B.1 fn_PointerAnalyzer_Analysis_174_12_91 dX8_flow_132) ?_
      refine jlk_cons (sm_cV (x := yJ4_size) (host := "") (owner := "") isRI (i_J4_size hI) B q1566 q1145 q1146 w4_J4_size w6_J4_size (by decide) (by decide) (by decide) kc_21 hy_J4_size hl_J4_size dX8_flow_135 trivial) ?_
      refine jlk_cons (sm_icmpge rfl B.1 dX8_flow_138) ?_
      refine jlk_cons (sm_aload_n rfl B.1 dX8_flow_141) ?_
      refine jlk_cons (sm_aload_n rfl B.1 dX8_flow_142) ?_
      refine jlk_cons (sm_getPN B.1 fn_PointerAnalyzer_Analysis_174_12_91 dX8_flow_143) ?_
      refine jlk_cons (sm_iload_n rfl B.1 dX8_flow_146) ?_
      refine jlk_cons (sm_cV (x := yJ4_get) (host := "") (owner := "") isRP (i_J4_get hI) B q1643 q1149 q1150 w4_J4_get w6_J4_get (by decide) (by decide) (by decide) kc_21 hy_J4_get hl_J4_get dX8_flow_147 trivial) ?_
      refine jlk_cons (sm_cast B.1 q1916 (List.forall_mem_cons.mpr ⟨⟨by decide, by decide, _, kc_13, Or.inl rfl⟩, (List.forall_mem_nil _)⟩) dX8_flow_150) ?_
      refine jlk_cons (sm_getPN B.1 fn_PointerAnalyzer_Analysis_250_13_93 dX8_flow_153) ?_
      refine jlk_cons (sm_aload_n rfl B.1 dX8_flow_156) ?_
      refine jlk_cons (sm_aload_n rfl B.1 dX8_flow_157) ?_
      refine jlk_cons (sm_aload_n rfl B.1 dX8_flow_158) ?_
      refine jlk_cons (sm_getPN B.1 fn_PointerAnalyzer_Analysis_174_12_91 dX8_flow_159) ?_
      refine jlk_cons (sm_iload_n rfl B.1 dX8_flow_162) ?_
      refine jlk_cons (sm_cV (x := yJ4_get) (host := "") (owner := "") isRP (i_J4_get hI) B q1643 q1149 q1150 w4_J4_get w6_J4_get (by decide) (by decide) (by decide) kc_21 hy_J4_get hl_J4_get dX8_flow_163 trivial) ?_
      exact jlk_nil
    · skip
      refine jlk_cons (sm_cast B.1 q1916 (List.forall_mem_cons.mpr ⟨⟨by decide, by decide, _, kc_13, Or.inl rfl⟩, (List.forall_mem_nil _)⟩) dX8_flow_166) ?_
      refine jlk_cons (sm_getIN B.1 fn_PointerAnalyzer_Analysis_253_13_94 dX8_flow_169) ?_
      refine jlk_cons (sm_cV (x := yX8_moved) (host := "") (owner := "") isRP (i_X8_moved hI) B q2083 q2085 qs33 w4_X8_moved w6_X8_moved (by decide) (by decide) (by decide) kc_8 hy_X8_moved hl_X8_moved dX8_flow_172 trivial) ?_
      refine jlk_cons (sm_cV (x := yX8_grow) (host := "") (owner := "") isRV (i_X8_grow hI) B q2062 q2064 qs30 w4_X8_grow w6_X8_grow (by decide) (by decide) (by decide) kc_8 hy_X8_grow hl_X8_grow dX8_flow_175 trivial) ?_
      refine jlk_cons (sm_iinc rfl B.1 dX8_flow_178) ?_
      refine jlk_cons (sm_goto rfl B.1 dX8_flow_181) ?_
      refine jlk_cons (sm_aload_n rfl B.1 dX8_flow_184) ?_
      refine jlk_cons (sm_getPN B.1 fn_PointerAnalyzer_Analysis_162_12_88 dX8_flow_185) ?_
      refine jlk_cons (sm_iconst rfl B.1 dX8_flow_188) ?_
      refine jlk_cons (sm_cV (x := yJ40_nextSetBit) (host := "") (owner := "") isRI (i_J40_nextSetBit hI) B q1965 q1966 q1967 w4_J40_nextSetBit w6_J40_nextSetBit (by decide) (by decide) (by decide) kc_36 hy_J40_nextSetBit hl_J40_nextSetBit dX8_flow_189 trivial) ?_
      refine jlk_cons (sm_istore_n rfl B.1 dX8_flow_192) ?_
      refine jlk_cons (sm_iload_n rfl B.1 dX8_flow_193) ?_
      refine jlk_cons (sm_iflt rfl B.1 dX8_flow_194) ?_
      refine jlk_cons (sm_aload_n rfl B.1 dX8_flow_197) ?_
      refine jlk_cons (sm_aload_n rfl B.1 dX8_flow_198) ?_
      refine jlk_cons (sm_getP B.1 fl_PointerAnalyzer_Analysis_12_8_78 dX8_flow_199) ?_
      refine jlk_cons (sm_iload_n rfl B.1 dX8_flow_202) ?_
      refine jlk_cons (sm_cV (x := yJ4_get) (host := "") (owner := "") isRP (i_J4_get hI) B q1643 q1149 q1150 w4_J4_get w6_J4_get (by decide) (by decide) (by decide) kc_21 hy_J4_get hl_J4_get dX8_flow_203 trivial) ?_
      refine jlk_cons (sm_cast B.1 q1564 (List.forall_mem_cons.mpr ⟨⟨by decide, by decide, _, kc_12, Or.inl rfl⟩, (List.forall_mem_nil _)⟩) dX8_flow_206) ?_
      refine jlk_cons (sm_aload_n rfl B.1 dX8_flow_209) ?_
      refine jlk_cons (sm_cV (x := yX8_grow) (host := "") (owner := "") isRV (i_X8_grow hI) B q2062 q2064 qs30 w4_X8_grow w6_X8_grow (by decide) (by decide) (by decide) kc_8 hy_X8_grow hl_X8_grow dX8_flow_210 trivial) ?_
      refine jlk_cons (sm_aload_n rfl B.1 dX8_flow_213) ?_
      refine jlk_cons (sm_getPN B.1 fn_PointerAnalyzer_Analysis_162_12_88 dX8_flow_214) ?_
      refine jlk_cons (sm_iload_n rfl B.1 dX8_flow_217) ?_
      refine jlk_cons (sm_iconst rfl B.1 dX8_flow_218) ?_
      refine jlk_cons (sm_iadd B.1 dX8_flow_219) ?_
      refine jlk_cons (sm_cV (x := yJ40_nextSetBit) (host := "") (owner := "") isRI (i_J40_nextSetBit hI) B q1965 q1966 q1967 w4_J40_nextSetBit w6_J40_nextSetBit (by decide) (by decide) (by decide) kc_36 hy_J40_nextSetBit hl_J40_nextSetBit dX8_flow_220 trivial) ?_
      refine jlk_cons (sm_istore_n rfl B.1 dX8_flow_223) ?_
      refine jlk_cons (sm_goto rfl B.1 dX8_flow_224) ?_
      refine jlk_cons (sm_vret B.1 B.2.1 hret dX8_flow_227) ?_
      exact jlk_nil
theorem v_X8_flow (hst : l.stackTraces = false) (hz : jEz (EV (d + 1))) (hI : jIH l D dA lo cs0 d) : jMe l D dA lo cs0 (EV (d + 1)) 255 yX8_flow (ws_ yX8_flow cX8_flow 5 (Option.none : Option Jvm.ClassFile.FieldType)) (d + 1) := z_meth hz rfl hp_X8_flow (r_X8_flow hst hI)
theorem r_X14_derive (hst : l.stackTraces = false) (hI : jIH l D dA lo cs0 d) : jRows l D dA lo cs0 d 7 (tb_X14_derive (EV d)) yX14_derive cX14_derive (Option.none : Option Jvm.ClassFile.FieldType) [] := by
  intro p e R s m args below meth c z0 w0 zF wF Q rF hF B hz hw hret hnm
  refine jlk_app ?_ ?_
  · refine jlk_cons (sm_aload_n rfl B.1 dX14_derive_0) ?_
    refine jlk_cons (sm_getPN B.1 fn_PointerAnalyzer_Ranks_71_3_14 dX14_derive_1) ?_
    refine jlk_cons (sm_astore_n rfl B.1 dX14_derive_4) ?_
    refine jlk_cons (sm_aload_n rfl B.1 dX14_derive_5) ?_
    refine jlk_cons (sm_getIN B.1 fn_PointerAnalyzer_Ranks_75_7_74 dX14_derive_6) ?_
    refine jlk_cons (sm_ifge rfl B.1 dX14_derive_9) ?_
    refine jlk_cons (sm_lconst rfl B.1 dX14_derive_12) ?_
    refine jlk_cons (sm_goto rfl B.1 dX14_derive_13) ?_
    refine jlk_cons (sm_aload_n rfl B.1 dX14_derive_16) ?_
    refine jlk_cons (sm_getP B.1 fl_PointerAnalyzer_Ranks_9_14_95 dX14_derive_17) ?_
    refine jlk_cons (sm_aload_n rfl B.1 dX14_derive_20) ?_
    refine jlk_cons (sm_getIN B.1 fn_PointerAnalyzer_Ranks_75_7_74 dX14_derive_21) ?_
    refine jlk_cons (sm_lald B.1 dX14_derive_24) ?_
    refine jlk_cons (sm_lstore_n rfl B.1 dX14_derive_25) ?_
    refine jlk_cons (sm_aload_n rfl B.1 dX14_derive_26) ?_
    refine jlk_cons (sm_getPN B.1 fn_PointerAnalyzer_Ranks_80_7_72 dX14_derive_27) ?_
    refine jlk_cons (sm_oord B q2165 q1657 q1658 q1659 q1660 w4_J28_ordinal w6_J28_ordinal hp_J28_ordinal q3517 dJ28_ordinal_0 dJ28_ordinal_1 dJ28_ordinal_4 dX14_derive_30) ?_
    refine jlk_cons (sm_switch B.1 rfl (List.forall_mem_cons.mpr ⟨⟨by decide, by decide, 39, rfl, rfl⟩, (List.forall_mem_cons.mpr ⟨⟨by decide, by decide, 56, rfl, rfl⟩, (List.forall_mem_cons.mpr ⟨⟨by decide, by decide, 68, rfl, rfl⟩, (List.forall_mem_cons.mpr ⟨⟨by decide, by decide, 111, rfl, rfl⟩, (List.forall_mem_cons.mpr ⟨⟨by decide, by decide, 154, rfl, rfl⟩, (List.forall_mem_cons.mpr ⟨⟨by decide, by decide, 175, rfl, rfl⟩, (List.forall_mem_nil _)⟩)⟩)⟩)⟩)⟩)⟩) (sw_hall 6 (by decide) (by decide)) dX14_derive_33) ?_
    refine jlk_cons (sm_aload_n rfl B.1 dX14_derive_72) ?_
    refine jlk_cons (sm_aload_n rfl B.1 dX14_derive_73) ?_
    refine jlk_cons (sm_getIN B.1 fn_PointerAnalyzer_Ranks_89_7_73 dX14_derive_74) ?_
    refine jlk_cons (sm_lconst rfl B.1 dX14_derive_77) ?_
    refine jlk_cons (sm_aload_n rfl B.1 dX14_derive_78) ?_
    refine jlk_cons (sm_getIN B.1 fn_PointerAnalyzer_Ranks_75_7_74 dX14_derive_79) ?_
    refine jlk_cons (sm_lshl B.1 dX14_derive_82) ?_
    refine jlk_cons (sm_cV (x := yX14_add) (host := "") (owner := "") isRV (i_X14_add hI) B q2166 q2168 qs38 w4_X14_add w6_X14_add (by decide) (by decide) (by decide) kc_14 hy_X14_add hl_X14_add dX14_derive_83 trivial) ?_
    refine jlk_cons (sm_goto rfl B.1 dX14_derive_86) ?_
    refine jlk_cons (sm_aload_n rfl B.1 dX14_derive_89) ?_
    refine jlk_cons (sm_aload_n rfl B.1 dX14_derive_90) ?_
    refine jlk_cons (sm_getIN B.1 fn_PointerAnalyzer_Ranks_89_7_73 dX14_derive_91) ?_
    refine jlk_cons (sm_lload_n rfl B.1 dX14_derive_94) ?_
    refine jlk_cons (sm_cV (x := yX14_add) (host := "") (owner := "") isRV (i_X14_add hI) B q2166 q2168 qs38 w4_X14_add w6_X14_add (by decide) (by decide) (by decide) kc_14 hy_X14_add hl_X14_add dX14_derive_95 trivial) ?_
    refine jlk_cons (sm_goto rfl B.1 dX14_derive_98) ?_
    refine jlk_cons (sm_lload_n rfl B.1 dX14_derive_101) ?_
    refine jlk_cons (sm_lstore B.1 dX14_derive_102) ?_
    refine jlk_cons (sm_lload B.1 dX14_derive_104) ?_
    refine jlk_cons (sm_lconst rfl B.1 dX14_derive_106) ?_
    refine jlk_cons (sm_lcmp B.1 dX14_derive_107) ?_
    refine jlk_cons (sm_ifeq rfl B.1 dX14_derive_108) ?_
    refine jlk_cons (sm_aload_n rfl B.1 dX14_derive_111) ?_
    exact jlk_nil
  · skip
    refine jlk_app ?_ ?_
    · refine jlk_cons (sm_aload_n rfl B.1 dX14_derive_112) ?_
      refine jlk_cons (sm_getIN B.1 fn_PointerAnalyzer_Ranks_89_7_73 dX14_derive_113) ?_
      refine jlk_cons (sm_aload_n rfl B.1 dX14_derive_116) ?_
      refine jlk_cons (sm_getP B.1 fl_PointerAnalyzer_Ranks_9_14_95 dX14_derive_117) ?_
      refine jlk_cons (sm_lload B.1 dX14_derive_120) ?_
      refine jlk_cons (sm_cS (x := yJ12_numberOfTrailingZeros) (r9 := kr_6) (host := "") (owner := "") isSI (i_J12_numberOfTrailingZeros hI) B q2171 q501 w4_J12_numberOfTrailingZeros w6_J12_numberOfTrailingZeros (by decide) hy_J12_numberOfTrailingZeros hl_J12_numberOfTrailingZeros dX14_derive_122 trivial) ?_
      refine jlk_cons (sm_lald B.1 dX14_derive_125) ?_
      refine jlk_cons (sm_cV (x := yX14_add) (host := "") (owner := "") isRV (i_X14_add hI) B q2166 q2168 qs38 w4_X14_add w6_X14_add (by decide) (by decide) (by decide) kc_14 hy_X14_add hl_X14_add dX14_derive_126 trivial) ?_
      refine jlk_cons (sm_lload B.1 dX14_derive_129) ?_
      refine jlk_cons (sm_lload B.1 dX14_derive_131) ?_
      refine jlk_cons (sm_lconst rfl B.1 dX14_derive_133) ?_
      refine jlk_cons (sm_lsub B.1 dX14_derive_134) ?_
      refine jlk_cons (sm_land B.1 dX14_derive_135) ?_
      refine jlk_cons (sm_lstore B.1 dX14_derive_136) ?_
      refine jlk_cons (sm_goto rfl B.1 dX14_derive_138) ?_
      refine jlk_cons (sm_goto rfl B.1 dX14_derive_141) ?_
      refine jlk_cons (sm_aload_n rfl B.1 dX14_derive_144) ?_
      refine jlk_cons (sm_getP B.1 fl_PointerAnalyzer_Ranks_9_14_95 dX14_derive_145) ?_
      refine jlk_cons (sm_aload_n rfl B.1 dX14_derive_148) ?_
      refine jlk_cons (sm_getIN B.1 fn_PointerAnalyzer_Ranks_89_7_73 dX14_derive_149) ?_
      refine jlk_cons (sm_lald B.1 dX14_derive_152) ?_
      refine jlk_cons (sm_lstore B.1 dX14_derive_153) ?_
      refine jlk_cons (sm_lload B.1 dX14_derive_155) ?_
      refine jlk_cons (sm_lconst rfl B.1 dX14_derive_157) ?_
      refine jlk_cons (sm_lcmp B.1 dX14_derive_158) ?_
      refine jlk_cons (sm_ifeq rfl B.1 dX14_derive_159) ?_
      refine jlk_cons (sm_aload_n rfl B.1 dX14_derive_162) ?_
      refine jlk_cons (sm_lload B.1 dX14_derive_163) ?_
      refine jlk_cons (sm_cS (x := yJ12_numberOfTrailingZeros) (r9 := kr_6) (host := "") (owner := "") isSI (i_J12_numberOfTrailingZeros hI) B q2171 q501 w4_J12_numberOfTrailingZeros w6_J12_numberOfTrailingZeros (by decide) hy_J12_numberOfTrailingZeros hl_J12_numberOfTrailingZeros dX14_derive_165 trivial) ?_
      refine jlk_cons (sm_lload_n rfl B.1 dX14_derive_168) ?_
      refine jlk_cons (sm_cV (x := yX14_add) (host := "") (owner := "") isRV (i_X14_add hI) B q2166 q2168 qs38 w4_X14_add w6_X14_add (by decide) (by decide) (by decide) kc_14 hy_X14_add hl_X14_add dX14_derive_169 trivial) ?_
      refine jlk_cons (sm_lload B.1 dX14_derive_172) ?_
      refine jlk_cons (sm_lload B.1 dX14_derive_174) ?_
      refine jlk_cons (sm_lconst rfl B.1 dX14_derive_176) ?_
      refine jlk_cons (sm_lsub B.1 dX14_derive_177) ?_
      refine jlk_cons (sm_land B.1 dX14_derive_178) ?_
      refine jlk_cons (sm_lstore B.1 dX14_derive_179) ?_
      refine jlk_cons (sm_goto rfl B.1 dX14_derive_181) ?_
      refine jlk_cons (sm_goto rfl B.1 dX14_derive_184) ?_
      refine jlk_cons (sm_aload_n rfl B.1 dX14_derive_187) ?_
      exact jlk_nil
    · skip
      refine jlk_cons (sm_aload_n rfl B.1 dX14_derive_188) ?_
      refine jlk_cons (sm_getIN B.1 fn_PointerAnalyzer_Ranks_89_7_73 dX14_derive_189) ?_
      refine jlk_cons (sm_lconst rfl B.1 dX14_derive_192) ?_
      refine jlk_cons (sm_aload_n rfl B.1 dX14_derive_193) ?_
      refine jlk_cons (sm_getIN B.1 fn_PointerAnalyzer_Ranks_96_3_15 dX14_derive_194) ?_
      refine jlk_cons (sm_iconst rfl B.1 dX14_derive_197) ?_
      refine jlk_cons (sm_cSN (x := yX1_fieldCode) (r9 := kr_6) (owner := "") isSI (i_X1_fieldCode hI) B q2172 q2131 w4_X1_fieldCode w6_X1_fieldCode (by decide) hy_X1_fieldCode hl_X1_fieldCode dX14_derive_198 trivial) ?_
      refine jlk_cons (sm_lshl B.1 dX14_derive_201) ?_
      refine jlk_cons (sm_cV (x := yX14_add) (host := "") (owner := "") isRV (i_X14_add hI) B q2166 q2168 qs38 w4_X14_add w6_X14_add (by decide) (by decide) (by decide) kc_14 hy_X14_add hl_X14_add dX14_derive_202 trivial) ?_
      refine jlk_cons (sm_goto rfl B.1 dX14_derive_205) ?_
      refine jlk_cons (sm_aload_n rfl B.1 dX14_derive_208) ?_
      refine jlk_cons (sm_aload_n rfl B.1 dX14_derive_209) ?_
      refine jlk_cons (sm_getIN B.1 fn_PointerAnalyzer_Ranks_89_7_73 dX14_derive_210) ?_
      refine jlk_cons (sm_lload_n rfl B.1 dX14_derive_213) ?_
      refine jlk_cons (sm_aload_n rfl B.1 dX14_derive_214) ?_
      refine jlk_cons (sm_getIN B.1 fn_PointerAnalyzer_Ranks_103_7_75 dX14_derive_215) ?_
      refine jlk_cons (sm_cS (x := yX14_moved) (r9 := kr_6) (host := "") (owner := "") isSL (i_X14_moved hI) B q2173 q2174 w4_X14_moved w6_X14_moved (by decide) hy_X14_moved hl_X14_moved dX14_derive_218 trivial) ?_
      refine jlk_cons (sm_cV (x := yX14_add) (host := "") (owner := "") isRV (i_X14_add hI) B q2166 q2168 qs38 w4_X14_add w6_X14_add (by decide) (by decide) (by decide) kc_14 hy_X14_add hl_X14_add dX14_derive_221 trivial) ?_
      refine jlk_cons (sm_goto rfl B.1 dX14_derive_224) ?_
      refine jlk_cons (sm_aload_n rfl B.1 dX14_derive_227) ?_
      refine jlk_cons (sm_aload_n rfl B.1 dX14_derive_228) ?_
      refine jlk_cons (sm_getIN B.1 fn_PointerAnalyzer_Ranks_103_7_75 dX14_derive_229) ?_
      refine jlk_cons (sm_iconst rfl B.1 dX14_derive_232) ?_
      refine jlk_cons (sm_cSN (x := yX1_local) (r9 := kr_6) (owner := "") isSI (i_X1_local hI) B q2176 q1641 w4_X1_local w6_X1_local (by decide) hy_X1_local hl_X1_local dX14_derive_233 trivial) ?_
      refine jlk_cons (sm_lload_n rfl B.1 dX14_derive_236) ?_
      refine jlk_cons (sm_cV (x := yX14_add) (host := "") (owner := "") isRV (i_X14_add hI) B q2166 q2168 qs38 w4_X14_add w6_X14_add (by decide) (by decide) (by decide) kc_14 hy_X14_add hl_X14_add dX14_derive_237 trivial) ?_
      refine jlk_cons (sm_aload_n rfl B.1 dX14_derive_240) ?_
      refine jlk_cons (sm_aload_n rfl B.1 dX14_derive_241) ?_
      refine jlk_cons (sm_getIN B.1 fn_PointerAnalyzer_Ranks_89_7_73 dX14_derive_242) ?_
      refine jlk_cons (sm_aload_n rfl B.1 dX14_derive_245) ?_
      refine jlk_cons (sm_getP B.1 fl_PointerAnalyzer_Ranks_9_14_95 dX14_derive_246) ?_
      refine jlk_cons (sm_aload_n rfl B.1 dX14_derive_249) ?_
      refine jlk_cons (sm_getIN B.1 fn_PointerAnalyzer_Ranks_103_7_75 dX14_derive_250) ?_
      refine jlk_cons (sm_iconst rfl B.1 dX14_derive_253) ?_
      refine jlk_cons (sm_cSN (x := yX1_local) (r9 := kr_6) (owner := "") isSI (i_X1_local hI) B q2176 q1641 w4_X1_local w6_X1_local (by decide) hy_X1_local hl_X1_local dX14_derive_254 trivial) ?_
      refine jlk_cons (sm_lald B.1 dX14_derive_257) ?_
      refine jlk_cons (sm_cV (x := yX14_add) (host := "") (owner := "") isRV (i_X14_add hI) B q2166 q2168 qs38 w4_X14_add w6_X14_add (by decide) (by decide) (by decide) kc_14 hy_X14_add hl_X14_add dX14_derive_258 trivial) ?_
      refine jlk_cons (sm_vret B.1 B.2.1 hret dX14_derive_261) ?_
      exact jlk_nil
theorem v_X14_derive (hst : l.stackTraces = false) (hz : jEz (EV (d + 1))) (hI : jIH l D dA lo cs0 d) : jMe l D dA lo cs0 (EV (d + 1)) 258 yX14_derive (ws_ yX14_derive cX14_derive 7 (Option.none : Option Jvm.ClassFile.FieldType)) (d + 1) := z_meth hz rfl hp_X14_derive (r_X14_derive hst hI)
theorem r_X16_target (hst : l.stackTraces = false) (hI : jIH l D dA lo cs0 d) : jRows l D dA lo cs0 d 2 (tb_X16_target (EV d)) yX16_target cX16_target (Option.some (Jvm.ClassFile.FieldType.object "PointerAnalyzer$Term")) [] := by
  intro p e R s m args below meth c z0 w0 zF wF Q rF hF B hz hw hret hnm
  refine jlk_cons (sm_aload_n rfl B.1 dX16_target_0) ?_
  refine jlk_cons (sm_cV (x := yX16_find) (host := "") (owner := "") isRP (i_X16_find hI) B q2238 q2239 q2240 w4_X16_find w6_X16_find (by decide) (by decide) (by decide) kc_16 hy_X16_find hl_X16_find dX16_target_1 trivial) ?_
  refine jlk_cons (sm_astore_n rfl B.1 dX16_target_4) ?_
  refine jlk_cons (sm_aload_n rfl B.1 dX16_target_5) ?_
  refine jlk_cons (sm_getP B.1 fl_PointerAnalyzer_Term_17_16_103 dX16_target_6) ?_
  refine jlk_cons (sm_ifnonnull rfl B.1 dX16_target_9) ?_
  refine jlk_cons (sm_aload_n rfl B.1 dX16_target_12) ?_
  refine jlk_cons (sm_new B.1 kc_16 (by decide) (by decide) in_X16 tyX16 tyX16_ok kd_16 q2242 q2212 q185 B.2.2.2 hz hw dX16_target_13) ?_
  refine jlk_cons (sm_dup B.1 dX16_target_16) ?_
  refine jlk_cons (sm_cI (x := yX16_init) (r9 := kr_6) (host := "") (owner := "") isNV (i_X16_init hI) B q2243 q2214 w4_X16_init w6_X16_init (by decide) rfl hy_X16_init hl_X16_init dX16_target_17 trivial) ?_
  refine jlk_cons (sm_putP B.1 fl_PointerAnalyzer_Term_17_16_103 tyX16 tyX16_ok nmX16 (Or.inl rfl) rfl (tyX16_ok 1 (by decide)) rfl (by decide) dX16_target_20) ?_
  refine jlk_cons (sm_aload_n rfl B.1 dX16_target_23) ?_
  refine jlk_cons (sm_getP B.1 fl_PointerAnalyzer_Term_17_16_103 dX16_target_24) ?_
  refine jlk_cons (sm_cV (x := yX16_find) (host := "") (owner := "") isRP (i_X16_find hI) B q2238 q2239 q2240 w4_X16_find w6_X16_find (by decide) (by decide) (by decide) kc_16 hy_X16_find hl_X16_find dX16_target_27 trivial) ?_
  refine jlk_cons (sm_aret B.1 B.2.1 hret (Or.inl ⟨_, rfl⟩) dX16_target_30) ?_
  exact jlk_nil
theorem v_X16_target (hst : l.stackTraces = false) (hz : jEz (EV (d + 1))) (hI : jIH l D dA lo cs0 d) : jMe l D dA lo cs0 (EV (d + 1)) 259 yX16_target (ws_ yX16_target cX16_target 2 (Option.some (Jvm.ClassFile.FieldType.object "PointerAnalyzer$Term"))) (d + 1) := z_meth hz rfl hp_X16_target (r_X16_target hst hI)
theorem r_X15_join (hst : l.stackTraces = false) (hI : jIH l D dA lo cs0 d) : jRows l D dA lo cs0 d 5 (tb_X15_join (EV d)) yX15_join cX15_join (Option.none : Option Jvm.ClassFile.FieldType) [] := by
  intro p e R s m args below meth c z0 w0 zF wF Q rF hF B hz hw hret hnm
  refine jlk_cons (sm_aload_n rfl B.1 dX15_join_0) ?_
  refine jlk_cons (sm_cV (x := yX16_find) (host := "") (owner := "") isRP (i_X16_find hI) B q2248 q2239 q2240 w4_X16_find w6_X16_find (by decide) (by decide) (by decide) kc_16 hy_X16_find hl_X16_find dX15_join_1 trivial) ?_
  refine jlk_cons (sm_astore_n rfl B.1 dX15_join_4) ?_
  refine jlk_cons (sm_aload_n rfl B.1 dX15_join_5) ?_
  refine jlk_cons (sm_cV (x := yX16_find) (host := "") (owner := "") isRP (i_X16_find hI) B q2248 q2239 q2240 w4_X16_find w6_X16_find (by decide) (by decide) (by decide) kc_16 hy_X16_find hl_X16_find dX15_join_6 trivial) ?_
  refine jlk_cons (sm_astore B.1 dX15_join_9) ?_
  refine jlk_cons (sm_aload_n rfl B.1 dX15_join_11) ?_
  refine jlk_cons (sm_aload B.1 dX15_join_12) ?_
  refine jlk_cons (sm_acmpne rfl B.1 dX15_join_14) ?_
  refine jlk_cons (sm_vret B.1 B.2.1 hret dX15_join_17) ?_
  refine jlk_cons (sm_aload B.1 dX15_join_18) ?_
  refine jlk_cons (sm_aload_n rfl B.1 dX15_join_20) ?_
  refine jlk_cons (sm_putPN B.1 fn_PointerAnalyzer_Unification_48_16_102 tyX16 tyX16_ok nmX16 rfl rfl (tyX16_ok 0 (by decide)) rfl (by decide) dX15_join_21) ?_
  refine jlk_cons (sm_aload_n rfl B.1 dX15_join_24) ?_
  refine jlk_cons (sm_getPN B.1 fn_PointerAnalyzer_Unification_52_16_103 dX15_join_25) ?_
  refine jlk_cons (sm_ifnonnull rfl B.1 dX15_join_28) ?_
  refine jlk_cons (sm_aload_n rfl B.1 dX15_join_31) ?_
  refine jlk_cons (sm_aload B.1 dX15_join_32) ?_
  refine jlk_cons (sm_getPN B.1 fn_PointerAnalyzer_Unification_52_16_103 dX15_join_34) ?_
  refine jlk_cons (sm_putPN B.1 fn_PointerAnalyzer_Unification_52_16_103 tyX16 tyX16_ok nmX16 rfl rfl (tyX16_ok 1 (by decide)) rfl (by decide) dX15_join_37) ?_
  refine jlk_cons (sm_goto rfl B.1 dX15_join_40) ?_
  refine jlk_cons (sm_aload B.1 dX15_join_43) ?_
  refine jlk_cons (sm_getPN B.1 fn_PointerAnalyzer_Unification_52_16_103 dX15_join_45) ?_
  refine jlk_cons (sm_ifnull rfl B.1 dX15_join_48) ?_
  refine jlk_cons (sm_aload_n rfl B.1 dX15_join_51) ?_
  refine jlk_cons (sm_aload_n rfl B.1 dX15_join_52) ?_
  refine jlk_cons (sm_getPN B.1 fn_PointerAnalyzer_Unification_52_16_103 dX15_join_53) ?_
  refine jlk_cons (sm_aload B.1 dX15_join_56) ?_
  refine jlk_cons (sm_getPN B.1 fn_PointerAnalyzer_Unification_52_16_103 dX15_join_58) ?_
  refine jlk_cons (sm_cV (x := yX15_join) (host := "") (owner := "") isRV (i_X15_join hI) B q2244 q2246 qs40 w4_X15_join w6_X15_join (by decide) (by decide) (by decide) kc_15 hy_X15_join hl_X15_join dX15_join_61 trivial) ?_
  refine jlk_cons (sm_vret B.1 B.2.1 hret dX15_join_64) ?_
  exact jlk_nil
theorem v_X15_join (hst : l.stackTraces = false) (hz : jEz (EV (d + 1))) (hI : jIH l D dA lo cs0 d) : jMe l D dA lo cs0 (EV (d + 1)) 260 yX15_join (ws_ yX15_join cX15_join 5 (Option.none : Option Jvm.ClassFile.FieldType)) (d + 1) := z_meth hz rfl hp_X15_join (r_X15_join hst hI)
theorem r_X1_local (hst : l.stackTraces = false) (hI : jIH l D dA lo cs0 d) : jRows l D dA lo cs0 d 2 (tb_X1_local (EV d)) yX1_local cX1_local (Option.some Jvm.ClassFile.FieldType.int) [] := by
  intro p e R s m args below meth c z0 w0 zF wF Q rF hF B hz hw hret hnm
  refine jlk_cons (sm_iconst rfl B.1 dX1_local_0) ?_
  refine jlk_cons (sm_iconst rfl B.1 dX1_local_1) ?_
  refine jlk_cons (sm_iload_n rfl B.1 dX1_local_2) ?_
  refine jlk_cons (sm_imul B.1 dX1_local_3) ?_
  refine jlk_cons (sm_iadd B.1 dX1_local_4) ?_
  refine jlk_cons (sm_iload_n rfl B.1 dX1_local_5) ?_
  refine jlk_cons (sm_iadd B.1 dX1_local_6) ?_
  refine jlk_cons (sm_iret B.1 B.2.1 hret dX1_local_7) ?_
  exact jlk_nil
theorem v_X1_local (hst : l.stackTraces = false) (hz : jEz (EV (d + 1))) (hI : jIH l D dA lo cs0 d) : jMe l D dA lo cs0 (EV (d + 1)) 261 yX1_local (ws_ yX1_local cX1_local 2 (Option.some Jvm.ClassFile.FieldType.int)) (d + 1) := z_meth hz rfl hp_X1_local (r_X1_local hst hI)
theorem r_X17_assign (hst : l.stackTraces = false) (hI : jIH l D dA lo cs0 d) : jRows l D dA lo cs0 d 3 (tb_X17_assign (EV d)) yX17_assign cX17_assign (Option.none : Option Jvm.ClassFile.FieldType) [] := by
  intro p e R s m args below meth c z0 w0 zF wF Q rF hF B hz hw hret hnm
  refine jlk_cons (sm_aload_n rfl B.1 dX17_assign_0) ?_
  refine jlk_cons (sm_aload_n rfl B.1 dX17_assign_1) ?_
  refine jlk_cons (sm_putPN B.1 fn_PointerAnalyzer_Run_38_18_113 tyX18 tyX18_ok nmX18 rfl rfl (tyX18_ok 2 (by decide)) rfl (by decide) dX17_assign_2) ?_
  refine jlk_cons (sm_aload_n rfl B.1 dX17_assign_5) ?_
  refine jlk_cons (sm_getP B.1 fl_PointerAnalyzer_Run_17_17_106 dX17_assign_6) ?_
  refine jlk_cons (sm_aload_n rfl B.1 dX17_assign_9) ?_
  refine jlk_cons (sm_getIN B.1 fn_PointerAnalyzer_Run_42_18_111 dX17_assign_10) ?_
  refine jlk_cons (sm_dup2 B.1 dX17_assign_13) ?_
  refine jlk_cons (sm_lald B.1 dX17_assign_14) ?_
  refine jlk_cons (sm_aload_n rfl B.1 dX17_assign_15) ?_
  refine jlk_cons (sm_ifnonnull rfl B.1 dX17_assign_16) ?_
  refine jlk_cons (sm_lconst rfl B.1 dX17_assign_19) ?_
  refine jlk_cons (sm_goto rfl B.1 dX17_assign_20) ?_
  refine jlk_cons (sm_lconst rfl B.1 dX17_assign_23) ?_
  refine jlk_cons (sm_aload_n rfl B.1 dX17_assign_24) ?_
  refine jlk_cons (sm_getIN B.1 fn_PointerAnalyzer_Run_42_18_111 dX17_assign_25) ?_
  refine jlk_cons (sm_lshl B.1 dX17_assign_28) ?_
  refine jlk_cons (sm_lor B.1 dX17_assign_29) ?_
  refine jlk_cons (sm_last B.1 dX17_assign_30) ?_
  refine jlk_cons (sm_vret B.1 B.2.1 hret dX17_assign_31) ?_
  exact jlk_nil
theorem v_X17_assign (hst : l.stackTraces = false) (hz : jEz (EV (d + 1))) (hI : jIH l D dA lo cs0 d) : jMe l D dA lo cs0 (EV (d + 1)) 262 yX17_assign (ws_ yX17_assign cX17_assign 3 (Option.none : Option Jvm.ClassFile.FieldType)) (d + 1) := z_meth hz rfl hp_X17_assign (r_X17_assign hst hI)
theorem r_X17_execute (hst : l.stackTraces = false) (hI : jIH l D dA lo cs0 d) : jRows l D dA lo cs0 d 6 (tb_X17_execute (EV d)) yX17_execute cX17_execute (Option.none : Option Jvm.ClassFile.FieldType) [] := by
  intro p e R s m args below meth c z0 w0 zF wF Q rF hF B hz hw hret hnm
  refine jlk_app ?_ ?_
  · refine jlk_cons (sm_aload_n rfl B.1 dX17_execute_0) ?_
    refine jlk_cons (sm_dup B.1 dX17_execute_1) ?_
    refine jlk_cons (sm_getI B.1 fl_PointerAnalyzer_Run_78_17_107 dX17_execute_2) ?_
    refine jlk_cons (sm_iconst rfl B.1 dX17_execute_5) ?_
    refine jlk_cons (sm_iadd B.1 dX17_execute_6) ?_
    refine jlk_cons (sm_putI B.1 fl_PointerAnalyzer_Run_78_17_107 tyX17 tyX17_ok nmX17 (Or.inl rfl) (tyX17_ok 3 (by decide)) rfl (by decide) dX17_execute_7) ?_
    refine jlk_cons (sm_aload_n rfl B.1 dX17_execute_10) ?_
    refine jlk_cons (sm_aload_n rfl B.1 dX17_execute_11) ?_
    refine jlk_cons (sm_cstS B.1 (List.mem_of_getElem? (i := 9) rfl) q2305 dX17_execute_12) ?_
    refine jlk_cons (sm_cV (x := yX3_is) (host := "") (owner := "") isRI (i_X3_is hI) B q2306 q1407 q1408 w4_X3_is w6_X3_is (by decide) (by decide) (by decide) kc_3 hy_X3_is hl_X3_is dX17_execute_15 trivial) ?_
    refine jlk_cons (sm_cV (x := yX17_requireTime) (host := "") (owner := "") isXRV (i_X17_requireTime hI) B q2307 q2309 qs44 w4_X17_requireTime w6_X17_requireTime (by decide) (by decide) (by decide) kc_17 hy_X17_requireTime hl_X17_requireTime dX17_execute_18 rfl) ?_
    refine jlk_cons (sm_aload_n rfl B.1 dX17_execute_21) ?_
    refine jlk_cons (sm_getPN B.1 fn_PointerAnalyzer_Run_95_3_14 dX17_execute_22) ?_
    refine jlk_cons (sm_astore_n rfl B.1 dX17_execute_25) ?_
    refine jlk_cons (sm_aload_n rfl B.1 dX17_execute_26) ?_
    refine jlk_cons (sm_aload_n rfl B.1 dX17_execute_27) ?_
    refine jlk_cons (sm_getIN B.1 fn_PointerAnalyzer_Run_99_7_73 dX17_execute_28) ?_
    refine jlk_cons (sm_aload_n rfl B.1 dX17_execute_31) ?_
    refine jlk_cons (sm_cV (x := yX17_place) (host := "") (owner := "") isRP (i_X17_place hI) B q2330 q2332 qs45 w4_X17_place w6_X17_place (by decide) (by decide) (by decide) kc_17 hy_X17_place hl_X17_place dX17_execute_32 trivial) ?_
    refine jlk_cons (sm_astore B.1 dX17_execute_35) ?_
    refine jlk_cons (sm_aload_n rfl B.1 dX17_execute_37) ?_
    refine jlk_cons (sm_getIN B.1 fn_PointerAnalyzer_Run_108_7_74 dX17_execute_38) ?_
    refine jlk_cons (sm_ifge rfl B.1 dX17_execute_41) ?_
    refine jlk_cons (sm_null B.1 dX17_execute_44) ?_
    refine jlk_cons (sm_goto rfl B.1 dX17_execute_45) ?_
    refine jlk_cons (sm_aload_n rfl B.1 dX17_execute_48) ?_
    refine jlk_cons (sm_aload_n rfl B.1 dX17_execute_49) ?_
    refine jlk_cons (sm_getIN B.1 fn_PointerAnalyzer_Run_108_7_74 dX17_execute_50) ?_
    refine jlk_cons (sm_aload_n rfl B.1 dX17_execute_53) ?_
    refine jlk_cons (sm_cV (x := yX17_place) (host := "") (owner := "") isRP (i_X17_place hI) B q2330 q2332 qs45 w4_X17_place w6_X17_place (by decide) (by decide) (by decide) kc_17 hy_X17_place hl_X17_place dX17_execute_54 trivial) ?_
    refine jlk_cons (sm_astore B.1 dX17_execute_57) ?_
    refine jlk_cons (sm_aload_n rfl B.1 dX17_execute_59) ?_
    refine jlk_cons (sm_getPN B.1 fn_PointerAnalyzer_Run_111_7_72 dX17_execute_60) ?_
    refine jlk_cons (sm_oord B q2334 q1657 q1658 q1659 q1660 w4_J28_ordinal w6_J28_ordinal hp_J28_ordinal q3517 dJ28_ordinal_0 dJ28_ordinal_1 dJ28_ordinal_4 dX17_execute_63) ?_
    refine jlk_cons (sm_switch B.1 rfl (List.forall_mem_cons.mpr ⟨⟨by decide, by decide, 38, rfl, rfl⟩, (List.forall_mem_cons.mpr ⟨⟨by decide, by decide, 49, rfl, rfl⟩, (List.forall_mem_cons.mpr ⟨⟨by decide, by decide, 63, rfl, rfl⟩, (List.forall_mem_cons.mpr ⟨⟨by decide, by decide, 77, rfl, rfl⟩, (List.forall_mem_cons.mpr ⟨⟨by decide, by decide, 94, rfl, rfl⟩, (List.forall_mem_cons.mpr ⟨⟨by decide, by decide, 111, rfl, rfl⟩, (List.forall_mem_nil _)⟩)⟩)⟩)⟩)⟩)⟩) (sw_hall 6 (by decide) (by decide)) dX17_execute_66) ?_
    refine jlk_cons (sm_aload_n rfl B.1 dX17_execute_104) ?_
    refine jlk_cons (sm_aload B.1 dX17_execute_105) ?_
    refine jlk_cons (sm_aload B.1 dX17_execute_107) ?_
    refine jlk_cons (sm_cV (x := yX17_assign) (host := "") (owner := "") isRV (i_X17_assign hI) B q2294 q2296 qs42 w4_X17_assign w6_X17_assign (by decide) (by decide) (by decide) kc_17 hy_X17_assign hl_X17_assign dX17_execute_109 trivial) ?_
    refine jlk_cons (sm_goto rfl B.1 dX17_execute_112) ?_
    exact jlk_nil
  · skip
    refine jlk_app ?_ ?_
    · refine jlk_cons (sm_aload_n rfl B.1 dX17_execute_115) ?_
      refine jlk_cons (sm_aload B.1 dX17_execute_116) ?_
      refine jlk_cons (sm_aload B.1 dX17_execute_118) ?_
      refine jlk_cons (sm_getPN B.1 fn_PointerAnalyzer_Run_38_18_113 dX17_execute_120) ?_
      refine jlk_cons (sm_cV (x := yX17_assign) (host := "") (owner := "") isRV (i_X17_assign hI) B q2294 q2296 qs42 w4_X17_assign w6_X17_assign (by decide) (by decide) (by decide) kc_17 hy_X17_assign hl_X17_assign dX17_execute_123 trivial) ?_
      refine jlk_cons (sm_goto rfl B.1 dX17_execute_126) ?_
      refine jlk_cons (sm_aload_n rfl B.1 dX17_execute_129) ?_
      refine jlk_cons (sm_aload B.1 dX17_execute_130) ?_
      refine jlk_cons (sm_aload B.1 dX17_execute_132) ?_
      refine jlk_cons (sm_getPN B.1 fn_PointerAnalyzer_Run_38_18_113 dX17_execute_134) ?_
      refine jlk_cons (sm_cV (x := yX17_load) (host := "") (owner := "") isRV (i_X17_load hI) B q2335 q2337 qs46 w4_X17_load w6_X17_load (by decide) (by decide) (by decide) kc_17 hy_X17_load hl_X17_load dX17_execute_137 trivial) ?_
      refine jlk_cons (sm_goto rfl B.1 dX17_execute_140) ?_
      refine jlk_cons (sm_aload_n rfl B.1 dX17_execute_143) ?_
      refine jlk_cons (sm_aload B.1 dX17_execute_144) ?_
      refine jlk_cons (sm_getPN B.1 fn_PointerAnalyzer_Run_38_18_113 dX17_execute_146) ?_
      refine jlk_cons (sm_aload B.1 dX17_execute_149) ?_
      refine jlk_cons (sm_getPN B.1 fn_PointerAnalyzer_Run_38_18_113 dX17_execute_151) ?_
      refine jlk_cons (sm_cV (x := yX17_store) (host := "") (owner := "") isRV (i_X17_store hI) B q2339 q2341 qs47 w4_X17_store w6_X17_store (by decide) (by decide) (by decide) kc_17 hy_X17_store hl_X17_store dX17_execute_154 trivial) ?_
      refine jlk_cons (sm_goto rfl B.1 dX17_execute_157) ?_
      refine jlk_cons (sm_aload_n rfl B.1 dX17_execute_160) ?_
      refine jlk_cons (sm_aload B.1 dX17_execute_161) ?_
      refine jlk_cons (sm_aload_n rfl B.1 dX17_execute_163) ?_
      refine jlk_cons (sm_aload_n rfl B.1 dX17_execute_164) ?_
      refine jlk_cons (sm_getIN B.1 fn_PointerAnalyzer_Run_123_3_15 dX17_execute_165) ?_
      refine jlk_cons (sm_cV (x := yX17_allocate) (host := "") (owner := "") isRP (i_X17_allocate hI) B q2343 q2345 qs48 w4_X17_allocate w6_X17_allocate (by decide) (by decide) (by decide) kc_17 hy_X17_allocate hl_X17_allocate dX17_execute_168 trivial) ?_
      refine jlk_cons (sm_cV (x := yX17_assign) (host := "") (owner := "") isRV (i_X17_assign hI) B q2294 q2296 qs42 w4_X17_assign w6_X17_assign (by decide) (by decide) (by decide) kc_17 hy_X17_assign hl_X17_assign dX17_execute_171 trivial) ?_
      refine jlk_cons (sm_goto rfl B.1 dX17_execute_174) ?_
      refine jlk_cons (sm_aload_n rfl B.1 dX17_execute_177) ?_
      refine jlk_cons (sm_aload B.1 dX17_execute_178) ?_
      refine jlk_cons (sm_aload B.1 dX17_execute_180) ?_
      refine jlk_cons (sm_getPN B.1 fn_PointerAnalyzer_Run_38_18_113 dX17_execute_182) ?_
      refine jlk_cons (sm_aload_n rfl B.1 dX17_execute_185) ?_
      refine jlk_cons (sm_getIN B.1 fn_PointerAnalyzer_Run_130_7_75 dX17_execute_186) ?_
      refine jlk_cons (sm_cV (x := yX17_move) (host := "") (owner := "") isRV (i_X17_move hI) B q2348 q2350 qs49 w4_X17_move w6_X17_move (by decide) (by decide) (by decide) kc_17 hy_X17_move hl_X17_move dX17_execute_189 trivial) ?_
      refine jlk_cons (sm_goto rfl B.1 dX17_execute_192) ?_
      refine jlk_cons (sm_aload_n rfl B.1 dX17_execute_195) ?_
      refine jlk_cons (sm_getI B.1 fl_PointerAnalyzer_Run_34_17_110 dX17_execute_196) ?_
      refine jlk_cons (sm_bipush rfl B.1 dX17_execute_199) ?_
      refine jlk_cons (sm_icmpge rfl B.1 dX17_execute_201) ?_
      refine jlk_cons (sm_aload_n rfl B.1 dX17_execute_204) ?_
      exact jlk_nil
    · skip
      refine jlk_cons (sm_aload B.1 dX17_execute_205) ?_
      refine jlk_cons (sm_aload_n rfl B.1 dX17_execute_207) ?_
      refine jlk_cons (sm_aload_n rfl B.1 dX17_execute_208) ?_
      refine jlk_cons (sm_getIN B.1 fn_PointerAnalyzer_Run_130_7_75 dX17_execute_209) ?_
      refine jlk_cons (sm_aload B.1 dX17_execute_212) ?_
      refine jlk_cons (sm_getPN B.1 fn_PointerAnalyzer_Run_38_18_113 dX17_execute_214) ?_
      refine jlk_cons (sm_cV (x := yX17_activate) (host := "") (owner := "") isXRP (i_X17_activate hI) B q2289 q2291 qs41 w4_X17_activate w6_X17_activate (by decide) (by decide) (by decide) kc_17 hy_X17_activate hl_X17_activate dX17_execute_217 rfl) ?_
      refine jlk_cons (sm_cV (x := yX17_assign) (host := "") (owner := "") isRV (i_X17_assign hI) B q2294 q2296 qs42 w4_X17_assign w6_X17_assign (by decide) (by decide) (by decide) kc_17 hy_X17_assign hl_X17_assign dX17_execute_220 trivial) ?_
      refine jlk_cons (sm_aload_n rfl B.1 dX17_execute_223) ?_
      refine jlk_cons (sm_iconst rfl B.1 dX17_execute_224) ?_
      refine jlk_cons (sm_cV (x := yX17_requireTime) (host := "") (owner := "") isXRV (i_X17_requireTime hI) B q2307 q2309 qs44 w4_X17_requireTime w6_X17_requireTime (by decide) (by decide) (by decide) kc_17 hy_X17_requireTime hl_X17_requireTime dX17_execute_225 rfl) ?_
      refine jlk_cons (sm_vret B.1 B.2.1 hret dX17_execute_228) ?_
      exact jlk_nil
theorem v_X17_execute (hst : l.stackTraces = false) (hz : jEz (EV (d + 1))) (hI : jIH l D dA lo cs0 d) : jMe l D dA lo cs0 (EV (d + 1)) 263 yX17_execute (ws_ yX17_execute cX17_execute 6 (Option.none : Option Jvm.ClassFile.FieldType)) (d + 1) := z_meth hz rfl hp_X17_execute (r_X17_execute hst hI)
theorem r_X9_compare (hst : l.stackTraces = false) (hI : jIH l D dA lo cs0 d) : jRows l D dA lo cs0 d 3 (tb_X9_compare (EV d)) yX9_compare cX9_compare (Option.some Jvm.ClassFile.FieldType.int) [] := by
  intro p e R s m args below meth c z0 w0 zF wF Q rF hF B hz hw hret hnm
  refine jlk_cons (sm_aload_n rfl B.1 dX9_compare_0) ?_
  refine jlk_cons (sm_aload_n rfl B.1 dX9_compare_1) ?_
  refine jlk_cons (sm_cast B.1 q618 (List.forall_mem_cons.mpr ⟨⟨by decide, by decide, _, kc_12, Or.inl rfl⟩, (List.forall_mem_nil _)⟩) dX9_compare_2) ?_
  refine jlk_cons (sm_aload_n rfl B.1 dX9_compare_5) ?_
  refine jlk_cons (sm_cast B.1 q618 (List.forall_mem_cons.mpr ⟨⟨by decide, by decide, _, kc_12, Or.inl rfl⟩, (List.forall_mem_nil _)⟩) dX9_compare_6) ?_
  refine jlk_cons (sm_cV (x := yX9_compare_2) (host := "") (owner := "") isRI (i_X9_compare_2 hI) B q619 q620 q621 w4_X9_compare_2 w6_X9_compare_2 (by decide) (by decide) (by decide) kc_9 hy_X9_compare_2 hl_X9_compare_2 dX9_compare_9 trivial) ?_
  refine jlk_cons (sm_iret B.1 B.2.1 hret dX9_compare_12) ?_
  exact jlk_nil
theorem v_X9_compare (hst : l.stackTraces = false) (hz : jEz (EV (d + 1))) (hI : jIH l D dA lo cs0 d) : jMe l D dA lo cs0 (EV (d + 1)) 265 yX9_compare (ws_ yX9_compare cX9_compare 3 (Option.some Jvm.ClassFile.FieldType.int)) (d + 1) := z_meth hz rfl hp_X9_compare (r_X9_compare hst hI)
theorem r_X11_compareTo (hst : l.stackTraces = false) (hI : jIH l D dA lo cs0 d) : jRows l D dA lo cs0 d 2 (tb_X11_compareTo (EV d)) yX11_compareTo cX11_compareTo (Option.some Jvm.ClassFile.FieldType.int) [] := by
  intro p e R s m args below meth c z0 w0 zF wF Q rF hF B hz hw hret hnm
  refine jlk_cons (sm_aload_n rfl B.1 dX11_compareTo_0) ?_
  refine jlk_cons (sm_aload_n rfl B.1 dX11_compareTo_1) ?_
  refine jlk_cons (sm_cast B.1 q315 (List.forall_mem_cons.mpr ⟨⟨by decide, by decide, _, kc_11, Or.inl rfl⟩, (List.forall_mem_nil _)⟩) dX11_compareTo_2) ?_
  refine jlk_cons (sm_cV (x := yX11_compareTo_2) (host := "") (owner := "") isRI (i_X11_compareTo_2 hI) B q316 q317 q318 w4_X11_compareTo_2 w6_X11_compareTo_2 (by decide) (by decide) (by decide) kc_11 hy_X11_compareTo_2 hl_X11_compareTo_2 dX11_compareTo_5 trivial) ?_
  refine jlk_cons (sm_iret B.1 B.2.1 hret dX11_compareTo_8) ?_
  exact jlk_nil
theorem v_X11_compareTo (hst : l.stackTraces = false) (hz : jEz (EV (d + 1))) (hI : jIH l D dA lo cs0 d) : jMe l D dA lo cs0 (EV (d + 1)) 268 yX11_compareTo (ws_ yX11_compareTo cX11_compareTo 2 (Option.some Jvm.ClassFile.FieldType.int)) (d + 1) := z_meth hz rfl hp_X11_compareTo (r_X11_compareTo hst hI)
theorem r_X5_statement (hst : l.stackTraces = false) (hI : jIH l D dA lo cs0 d) : jRows l D dA lo cs0 d 2 (tb_X5_statement (EV d)) yX5_statement cX5_statement (Option.some (Jvm.ClassFile.FieldType.object "PointerAnalyzer$Line")) [] := by
  intro p e R s m args below meth c z0 w0 zF wF Q rF hF B hz hw hret hnm
  refine jlk_cons (sm_aload_n rfl B.1 dX5_statement_0) ?_
  refine jlk_cons (sm_bipush rfl B.1 dX5_statement_1) ?_
  refine jlk_cons (sm_cV (x := yX5_passes) (host := "") (owner := "") isRI (i_X5_passes hI) B q2494 q2496 qs52 w4_X5_passes w6_X5_passes (by decide) (by decide) (by decide) kc_5 hy_X5_passes hl_X5_passes dX5_statement_3 trivial) ?_
  refine jlk_cons (sm_ifne rfl B.1 dX5_statement_6) ?_
  refine jlk_cons (sm_aload_n rfl B.1 dX5_statement_9) ?_
  refine jlk_cons (sm_cV (x := yX5_assignment) (host := "") (owner := "") isXRP (i_X5_assignment hI) B q2502 q2504 qs54 w4_X5_assignment w6_X5_assignment (by decide) (by decide) (by decide) kc_5 hy_X5_assignment hl_X5_assignment dX5_statement_10 rfl) ?_
  refine jlk_cons (sm_aret B.1 B.2.1 hret (Or.inl ⟨_, rfl⟩) dX5_statement_13) ?_
  refine jlk_cons (sm_aload_n rfl B.1 dX5_statement_14) ?_
  refine jlk_cons (sm_cV (x := yX5_variable) (host := "") (owner := "") isXRI (i_X5_variable hI) B q2506 q2508 qs55 w4_X5_variable w6_X5_variable (by decide) (by decide) (by decide) kc_5 hy_X5_variable hl_X5_variable dX5_statement_15 rfl) ?_
  refine jlk_cons (sm_istore_n rfl B.1 dX5_statement_18) ?_
  refine jlk_cons (sm_aload_n rfl B.1 dX5_statement_19) ?_
  refine jlk_cons (sm_aload_n rfl B.1 dX5_statement_20) ?_
  refine jlk_cons (sm_bipush rfl B.1 dX5_statement_21) ?_
  refine jlk_cons (sm_cV (x := yX5_passes) (host := "") (owner := "") isRI (i_X5_passes hI) B q2494 q2496 qs52 w4_X5_passes w6_X5_passes (by decide) (by decide) (by decide) kc_5 hy_X5_passes hl_X5_passes dX5_statement_23 trivial) ?_
  refine jlk_cons (sm_cV (x := yX5_must) (host := "") (owner := "") isXRV (i_X5_must hI) B q2559 q2561 qs56 w4_X5_must w6_X5_must (by decide) (by decide) (by decide) kc_5 hy_X5_must hl_X5_must dX5_statement_26 rfl) ?_
  refine jlk_cons (sm_new B.1 kc_7 (by decide) (by decide) in_X7 tyX7 tyX7_ok kd_7 q2583 q2584 q168 B.2.2.2 hz hw dX5_statement_29) ?_
  refine jlk_cons (sm_dup B.1 dX5_statement_32) ?_
  refine jlk_cons (sm_cstS B.1 (List.mem_of_getElem? (i := 6) rfl) q2641 dX5_statement_33) ?_
  refine jlk_cons (sm_iload_n rfl B.1 dX5_statement_36) ?_
  refine jlk_cons (sm_aload_n rfl B.1 dX5_statement_37) ?_
  refine jlk_cons (sm_cV (x := yX5_variable) (host := "") (owner := "") isXRI (i_X5_variable hI) B q2506 q2508 qs55 w4_X5_variable w6_X5_variable (by decide) (by decide) (by decide) kc_5 hy_X5_variable hl_X5_variable dX5_statement_38 rfl) ?_
  refine jlk_cons (sm_iconst rfl B.1 dX5_statement_41) ?_
  refine jlk_cons (sm_cI (x := yX7_init) (r9 := kr_6) (host := "") (owner := "") isNV (i_X7_init hI) B q2587 q2588 w4_X7_init w6_X7_init (by decide) rfl hy_X7_init hl_X7_init dX5_statement_42 trivial) ?_
  refine jlk_cons (sm_aret B.1 B.2.1 hret (Or.inl ⟨_, rfl⟩) dX5_statement_45) ?_
  exact jlk_nil
theorem v_X5_statement (hst : l.stackTraces = false) (hz : jEz (EV (d + 1))) (hI : jIH l D dA lo cs0 d) : jMe l D dA lo cs0 (EV (d + 1)) 285 yX5_statement (ws_ yX5_statement cX5_statement 2 (Option.some (Jvm.ClassFile.FieldType.object "PointerAnalyzer$Line"))) (d + 1) := z_meth hz rfl hp_X5_statement (r_X5_statement hst hI)
theorem r_X5_passes (hst : l.stackTraces = false) (hI : jIH l D dA lo cs0 d) : jRows l D dA lo cs0 d 3 (tb_X5_passes (EV d)) yX5_passes cX5_passes (Option.some Jvm.ClassFile.FieldType.boolean) [] := by
  intro p e R s m args below meth c z0 w0 zF wF Q rF hF B hz hw hret hnm
  refine jlk_cons (sm_aload_n rfl B.1 dX5_passes_0) ?_
  refine jlk_cons (sm_cV (x := yX5_here) (host := "") (owner := "") isRI (i_X5_here hI) B q2498 q2500 qs53 w4_X5_here w6_X5_here (by decide) (by decide) (by decide) kc_5 hy_X5_here hl_X5_here dX5_passes_1 trivial) ?_
  refine jlk_cons (sm_iload_n rfl B.1 dX5_passes_4) ?_
  refine jlk_cons (sm_icmpne rfl B.1 dX5_passes_5) ?_
  refine jlk_cons (sm_iconst rfl B.1 dX5_passes_8) ?_
  refine jlk_cons (sm_goto rfl B.1 dX5_passes_9) ?_
  refine jlk_cons (sm_iconst rfl B.1 dX5_passes_12) ?_
  refine jlk_cons (sm_istore_n rfl B.1 dX5_passes_13) ?_
  refine jlk_cons (sm_aload_n rfl B.1 dX5_passes_14) ?_
  refine jlk_cons (sm_dup B.1 dX5_passes_15) ?_
  refine jlk_cons (sm_getI B.1 fl_PointerAnalyzer_Reader_26_5_63 dX5_passes_16) ?_
  refine jlk_cons (sm_iload_n rfl B.1 dX5_passes_19) ?_
  refine jlk_cons (sm_ifeq rfl B.1 dX5_passes_20) ?_
  refine jlk_cons (sm_iconst rfl B.1 dX5_passes_23) ?_
  refine jlk_cons (sm_goto rfl B.1 dX5_passes_24) ?_
  refine jlk_cons (sm_iconst rfl B.1 dX5_passes_27) ?_
  refine jlk_cons (sm_iadd B.1 dX5_passes_28) ?_
  refine jlk_cons (sm_putI B.1 fl_PointerAnalyzer_Reader_26_5_63 tyX5 tyX5_ok nmX5 (Or.inl rfl) (tyX5_ok 2 (by decide)) rfl (by decide) dX5_passes_29) ?_
  refine jlk_cons (sm_iload_n rfl B.1 dX5_passes_32) ?_
  refine jlk_cons (sm_zret B.1 B.2.1 hret dX5_passes_33) ?_
  exact jlk_nil
theorem v_X5_passes (hst : l.stackTraces = false) (hz : jEz (EV (d + 1))) (hI : jIH l D dA lo cs0 d) : jMe l D dA lo cs0 (EV (d + 1)) 286 yX5_passes (ws_ yX5_passes cX5_passes 3 (Option.some Jvm.ClassFile.FieldType.boolean)) (d + 1) := z_meth hz rfl hp_X5_passes (r_X5_passes hst hI)
theorem r_X5_must (hst : l.stackTraces = false) (hI : jIH l D dA lo cs0 d) : jRows l D dA lo cs0 d 2 (tb_X5_must (EV d)) yX5_must cX5_must (Option.none : Option Jvm.ClassFile.FieldType) [] := by
  intro p e R s m args below meth c z0 w0 zF wF Q rF hF B hz hw hret hnm
  refine jlk_cons (sm_iload_n rfl B.1 dX5_must_0) ?_
  refine jlk_cons (sm_ifne rfl B.1 dX5_must_1) ?_
  refine jlk_cons (sm_new B.1 kc_6 (by decide) (by decide) in_X6 tyX6 tyX6_ok kd_6 q2563 q2564 q167 B.2.2.2 hz hw dX5_must_4) ?_
  refine jlk_cons (sm_dup B.1 dX5_must_7) ?_
  refine jlk_cons (sm_aload_n rfl B.1 dX5_must_8) ?_
  refine jlk_cons (sm_getI B.1 fl_PointerAnalyzer_Reader_26_5_63 dX5_must_9) ?_
  refine jlk_cons (sm_cI (x := yX6_init) (r9 := kr_6) (host := "") (owner := "") isNV (i_X6_init hI) B q2572 q2573 w4_X6_init w6_X6_init (by decide) rfl hy_X6_init hl_X6_init dX5_must_12 trivial) ?_
  refine jlk_cons (sm_throw B.1 (fun ls rs a h ha k => z_hand B.1 B.2.1 B.2.2.1 ha _ [] _ rfl (by intro z hz; cases hz) rfl k) dX5_must_15) ?_
  refine jlk_cons (sm_vret B.1 B.2.1 hret dX5_must_16) ?_
  exact jlk_nil
theorem v_X5_must (hst : l.stackTraces = false) (hz : jEz (EV (d + 1))) (hI : jIH l D dA lo cs0 d) : jMe l D dA lo cs0 (EV (d + 1)) 287 yX5_must (ws_ yX5_must cX5_must 2 (Option.none : Option Jvm.ClassFile.FieldType)) (d + 1) := z_meth hz rfl hp_X5_must (r_X5_must hst hI)
theorem r_X11_init (hst : l.stackTraces = false) (hI : jIH l D dA lo cs0 d) : jRows l D dA lo cs0 d 2 (tb_X11_init (EV d)) yX11_init cX11_init (Option.none : Option Jvm.ClassFile.FieldType) [] := by
  intro p e R s m args below meth c z0 w0 zF wF Q rF hF B hz hw hret hnm
  refine jlk_cons (sm_aload_n rfl B.1 dX11_init_0) ?_
  refine jlk_cons (sm_obj B.1 q1384 q196 q197 dX11_init_1) ?_
  refine jlk_cons (sm_aload_n rfl B.1 dX11_init_4) ?_
  refine jlk_cons (sm_aload_n rfl B.1 dX11_init_5) ?_
  refine jlk_cons (sm_putP B.1 fl_PointerAnalyzer_Context_7_11_83 tyX11 tyX11_ok nmX11 (Or.inr ⟨rfl, hnm, rfl⟩) rfl (tyX11_ok 0 (by decide)) rfl (by decide) dX11_init_6) ?_
  refine jlk_cons (sm_vret B.1 B.2.1 hret dX11_init_9) ?_
  exact jlk_nil
theorem v_X11_init (hst : l.stackTraces = false) (hz : jEz (EV (d + 1))) (hI : jIH l D dA lo cs0 d) : jMe l D dA lo cs0 (EV (d + 1)) 293 yX11_init (ws_ yX11_init cX11_init 2 (Option.none : Option Jvm.ClassFile.FieldType)) (d + 1) := z_meth hz rfl hp_X11_init (r_X11_init hst hI)
theorem r_X11_with (hst : l.stackTraces = false) (hI : jIH l D dA lo cs0 d) : jRows l D dA lo cs0 d 7 (tb_X11_with (EV d)) yX11_with cX11_with (Option.some (Jvm.ClassFile.FieldType.object "PointerAnalyzer$Context")) [] := by
  intro p e R s m args below meth c z0 w0 zF wF Q rF hF B hz hw hret hnm
  refine jlk_app ?_ ?_
  · refine jlk_cons (sm_aload_n rfl B.1 dX11_with_0) ?_
    refine jlk_cons (sm_getP B.1 fl_PointerAnalyzer_Context_7_11_83 dX11_with_1) ?_
    refine jlk_cons (sm_alen B.1 (t := 101) (by decide) rfl dX11_with_4) ?_
    refine jlk_cons (sm_iconst rfl B.1 dX11_with_5) ?_
    refine jlk_cons (sm_iadd B.1 dX11_with_6) ?_
    refine jlk_cons (sm_iload_n rfl B.1 dX11_with_7) ?_
    refine jlk_cons (sm_cS (x := yJ9_min) (r9 := kr_6) (host := "") (owner := "") isSI (i_J9_min hI) B q1548 q421 w4_J9_min w6_J9_min (by decide) hy_J9_min hl_J9_min dX11_with_8 trivial) ?_
    refine jlk_cons (sm_istore_n rfl B.1 dX11_with_11) ?_
    refine jlk_cons (sm_iload_n rfl B.1 dX11_with_12) ?_
    refine jlk_cons (sm_newA B.1 (at9 := .int) rfl (by decide) rfl (by decide) hc_101 (fun _ => rfl) q1314 B.2.2.2 hz hw dX11_with_13) ?_
    refine jlk_cons (sm_astore B.1 dX11_with_15) ?_
    refine jlk_cons (sm_iconst rfl B.1 dX11_with_17) ?_
    refine jlk_cons (sm_istore B.1 dX11_with_18) ?_
    refine jlk_cons (sm_iload B.1 dX11_with_20) ?_
    refine jlk_cons (sm_iload_n rfl B.1 dX11_with_22) ?_
    refine jlk_cons (sm_icmpge rfl B.1 dX11_with_23) ?_
    refine jlk_cons (sm_aload_n rfl B.1 dX11_with_26) ?_
    refine jlk_cons (sm_getP B.1 fl_PointerAnalyzer_Context_7_11_83 dX11_with_27) ?_
    refine jlk_cons (sm_alen B.1 (t := 101) (by decide) rfl dX11_with_30) ?_
    refine jlk_cons (sm_iconst rfl B.1 dX11_with_31) ?_
    refine jlk_cons (sm_iadd B.1 dX11_with_32) ?_
    refine jlk_cons (sm_iload_n rfl B.1 dX11_with_33) ?_
    refine jlk_cons (sm_isub B.1 dX11_with_34) ?_
    refine jlk_cons (sm_iload B.1 dX11_with_35) ?_
    refine jlk_cons (sm_iadd B.1 dX11_with_37) ?_
    refine jlk_cons (sm_istore B.1 dX11_with_38) ?_
    refine jlk_cons (sm_aload B.1 dX11_with_40) ?_
    refine jlk_cons (sm_iload B.1 dX11_with_42) ?_
    refine jlk_cons (sm_iload B.1 dX11_with_44) ?_
    refine jlk_cons (sm_aload_n rfl B.1 dX11_with_46) ?_
    refine jlk_cons (sm_getP B.1 fl_PointerAnalyzer_Context_7_11_83 dX11_with_47) ?_
    refine jlk_cons (sm_alen B.1 (t := 101) (by decide) rfl dX11_with_50) ?_
    refine jlk_cons (sm_icmpge rfl B.1 dX11_with_51) ?_
    refine jlk_cons (sm_aload_n rfl B.1 dX11_with_54) ?_
    refine jlk_cons (sm_getP B.1 fl_PointerAnalyzer_Context_7_11_83 dX11_with_55) ?_
    refine jlk_cons (sm_iload B.1 dX11_with_58) ?_
    refine jlk_cons (sm_iald B.1 dX11_with_60) ?_
    refine jlk_cons (sm_goto rfl B.1 dX11_with_61) ?_
    refine jlk_cons (sm_iload_n rfl B.1 dX11_with_64) ?_
    refine jlk_cons (sm_iast B.1 dX11_with_65) ?_
    exact jlk_nil
  · skip
    refine jlk_cons (sm_iinc rfl B.1 dX11_with_66) ?_
    refine jlk_cons (sm_goto rfl B.1 dX11_with_69) ?_
    refine jlk_cons (sm_new B.1 kc_11 (by decide) (by decide) in_X11 tyX11 tyX11_ok kd_11 q315 q1380 q175 B.2.2.2 hz hw dX11_with_72) ?_
    refine jlk_cons (sm_dup B.1 dX11_with_75) ?_
    refine jlk_cons (sm_aload B.1 dX11_with_76) ?_
    refine jlk_cons (sm_cI (x := yX11_init) (r9 := kr_6) (host := "") (owner := "") isNV (i_X11_init hI) B q1549 q1382 w4_X11_init w6_X11_init (by decide) rfl hy_X11_init hl_X11_init dX11_with_78 trivial) ?_
    refine jlk_cons (sm_aret B.1 B.2.1 hret (Or.inl ⟨_, rfl⟩) dX11_with_81) ?_
    exact jlk_nil
theorem v_X11_with (hst : l.stackTraces = false) (hz : jEz (EV (d + 1))) (hI : jIH l D dA lo cs0 d) : jMe l D dA lo cs0 (EV (d + 1)) 296 yX11_with (ws_ yX11_with cX11_with 7 (Option.some (Jvm.ClassFile.FieldType.object "PointerAnalyzer$Context"))) (d + 1) := z_meth hz rfl hp_X11_with (r_X11_with hst hI)
theorem r_X8_add (hst : l.stackTraces = false) (hI : jIH l D dA lo cs0 d) : jRows l D dA lo cs0 d 2 (tb_X8_add (EV d)) yX8_add cX8_add (Option.none : Option Jvm.ClassFile.FieldType) [] := by
  intro p e R s m args below meth c z0 w0 zF wF Q rF hF B hz hw hret hnm
  refine jlk_cons (sm_aload_n rfl B.1 dX8_add_0) ?_
  refine jlk_cons (sm_getP B.1 fl_PointerAnalyzer_Analysis_12_8_78 dX8_add_1) ?_
  refine jlk_cons (sm_new B.1 kc_12 (by decide) (by decide) in_X12 tyX12 tyX12_ok kd_12 q1564 q1565 q178 B.2.2.2 hz hw dX8_add_4) ?_
  refine jlk_cons (sm_dup B.1 dX8_add_7) ?_
  refine jlk_cons (sm_aload_n rfl B.1 dX8_add_8) ?_
  refine jlk_cons (sm_getP B.1 fl_PointerAnalyzer_Analysis_12_8_78 dX8_add_9) ?_
  refine jlk_cons (sm_cV (x := yJ4_size) (host := "") (owner := "") isRI (i_J4_size hI) B q1566 q1145 q1146 w4_J4_size w6_J4_size (by decide) (by decide) (by decide) kc_21 hy_J4_size hl_J4_size dX8_add_12 trivial) ?_
  refine jlk_cons (sm_iload_n rfl B.1 dX8_add_15) ?_
  refine jlk_cons (sm_cI (x := yX12_init) (r9 := kr_6) (host := "") (owner := "") isNV (i_X12_init hI) B q1567 q1568 w4_X12_init w6_X12_init (by decide) rfl hy_X12_init hl_X12_init dX8_add_16 trivial) ?_
  refine jlk_cons (sm_cV (x := yJ4_add) (host := "") (owner := "") isRI (i_J4_add hI) B q1635 q1204 q1205 w4_J4_add w6_J4_add (by decide) (by decide) (by decide) kc_21 hy_J4_add hl_J4_add dX8_add_19 trivial) ?_
  refine jlk_cons (sm_pop B.1 dX8_add_22) ?_
  refine jlk_cons (sm_vret B.1 B.2.1 hret dX8_add_23) ?_
  exact jlk_nil
theorem v_X8_add (hst : l.stackTraces = false) (hz : jEz (EV (d + 1))) (hI : jIH l D dA lo cs0 d) : jMe l D dA lo cs0 (EV (d + 1)) 297 yX8_add (ws_ yX8_add cX8_add 2 (Option.none : Option Jvm.ClassFile.FieldType)) (d + 1) := z_meth hz rfl hp_X8_add (r_X8_add hst hI)
theorem r_X13_init (hst : l.stackTraces = false) (hI : jIH l D dA lo cs0 d) : jRows l D dA lo cs0 d 3 (tb_X13_init (EV d)) yX13_init cX13_init (Option.none : Option Jvm.ClassFile.FieldType) [] := by
  intro p e R s m args below meth c z0 w0 zF wF Q rF hF B hz hw hret hnm
  refine jlk_cons (sm_aload_n rfl B.1 dX13_init_0) ?_
  refine jlk_cons (sm_obj B.1 q1921 q196 q197 dX13_init_1) ?_
  refine jlk_cons (sm_aload_n rfl B.1 dX13_init_4) ?_
  refine jlk_cons (sm_aload_n rfl B.1 dX13_init_5) ?_
  refine jlk_cons (sm_putP B.1 fl_PointerAnalyzer_Shift_7_13_93 tyX13 tyX13_ok nmX13 (Or.inr ⟨rfl, hnm, rfl⟩) rfl (tyX13_ok 0 (by decide)) rfl (by decide) dX13_init_6) ?_
  refine jlk_cons (sm_aload_n rfl B.1 dX13_init_9) ?_
  refine jlk_cons (sm_iload_n rfl B.1 dX13_init_10) ?_
  refine jlk_cons (sm_putI B.1 fl_PointerAnalyzer_Shift_13_13_94 tyX13 tyX13_ok nmX13 (Or.inr ⟨rfl, hnm, rfl⟩) (tyX13_ok 1 (by decide)) rfl (by decide) dX13_init_11) ?_
  refine jlk_cons (sm_vret B.1 B.2.1 hret dX13_init_14) ?_
  exact jlk_nil
theorem v_X13_init (hst : l.stackTraces = false) (hz : jEz (EV (d + 1))) (hI : jIH l D dA lo cs0 d) : jMe l D dA lo cs0 (EV (d + 1)) 299 yX13_init (ws_ yX13_init cX13_init 3 (Option.none : Option Jvm.ClassFile.FieldType)) (d + 1) := z_meth hz rfl hp_X13_init (r_X13_init hst hI)
theorem r_X10_indexOf (hst : l.stackTraces = false) (hI : jIH l D dA lo cs0 d) : jRows l D dA lo cs0 d 4 (tb_X10_indexOf (EV d)) yX10_indexOf cX10_indexOf (Option.some Jvm.ClassFile.FieldType.int) [] := by
  intro p e R s m args below meth c z0 w0 zF wF Q rF hF B hz hw hret hnm
  refine jlk_cons (sm_iconst rfl B.1 dX10_indexOf_0) ?_
  refine jlk_cons (sm_istore_n rfl B.1 dX10_indexOf_1) ?_
  refine jlk_cons (sm_aload_n rfl B.1 dX10_indexOf_2) ?_
  refine jlk_cons (sm_getP B.1 fl_PointerAnalyzer_Contexts_12_10_82 dX10_indexOf_3) ?_
  refine jlk_cons (sm_iload_n rfl B.1 dX10_indexOf_6) ?_
  refine jlk_cons (sm_cV (x := yJ4_get) (host := "") (owner := "") isRP (i_J4_get hI) B q1378 q1149 q1150 w4_J4_get w6_J4_get (by decide) (by decide) (by decide) kc_21 hy_J4_get hl_J4_get dX10_indexOf_7 trivial) ?_
  refine jlk_cons (sm_cast B.1 q1360 (List.forall_mem_cons.mpr ⟨⟨by decide, by decide, _, kc_21, Or.inl rfl⟩, (List.forall_mem_nil _)⟩) dX10_indexOf_10) ?_
  refine jlk_cons (sm_iload_n rfl B.1 dX10_indexOf_13) ?_
  refine jlk_cons (sm_cV (x := yJ4_get) (host := "") (owner := "") isRP (i_J4_get hI) B q1378 q1149 q1150 w4_J4_get w6_J4_get (by decide) (by decide) (by decide) kc_21 hy_J4_get hl_J4_get dX10_indexOf_14 trivial) ?_
  refine jlk_cons (sm_cast B.1 q1379 (List.forall_mem_cons.mpr ⟨⟨by decide, by decide, _, kc_11, Or.inl rfl⟩, (List.forall_mem_nil _)⟩) dX10_indexOf_17) ?_
  refine jlk_cons (sm_aload_n rfl B.1 dX10_indexOf_20) ?_
  refine jlk_cons (sm_cV (x := yX11_compareTo_2) (host := "") (owner := "") isRI (i_X11_compareTo_2 hI) B q1937 q317 q318 w4_X11_compareTo_2 w6_X11_compareTo_2 (by decide) (by decide) (by decide) kc_11 hy_X11_compareTo_2 hl_X11_compareTo_2 dX10_indexOf_21 trivial) ?_
  refine jlk_cons (sm_ifeq rfl B.1 dX10_indexOf_24) ?_
  refine jlk_cons (sm_iinc rfl B.1 dX10_indexOf_27) ?_
  refine jlk_cons (sm_goto rfl B.1 dX10_indexOf_30) ?_
  refine jlk_cons (sm_iload_n rfl B.1 dX10_indexOf_33) ?_
  refine jlk_cons (sm_iret B.1 B.2.1 hret dX10_indexOf_34) ?_
  exact jlk_nil
theorem v_X10_indexOf (hst : l.stackTraces = false) (hz : jEz (EV (d + 1))) (hI : jIH l D dA lo cs0 d) : jMe l D dA lo cs0 (EV (d + 1)) 300 yX10_indexOf (ws_ yX10_indexOf cX10_indexOf 4 (Option.some Jvm.ClassFile.FieldType.int)) (d + 1) := z_meth hz rfl hp_X10_indexOf (r_X10_indexOf hst hI)
theorem r_X8_reachedFrom (hst : l.stackTraces = false) (hI : jIH l D dA lo cs0 d) : jRows l D dA lo cs0 d 5 (tb_X8_reachedFrom (EV d)) yX8_reachedFrom cX8_reachedFrom (Option.some (Jvm.ClassFile.FieldType.object "java/util/BitSet")) [] := by
  intro p e R s m args below meth c z0 w0 zF wF Q rF hF B hz hw hret hnm
  refine jlk_cons (sm_new B.1 kc_36 (by decide) (by decide) in_J40 tyJ40 tyJ40_ok kd_36 q1942 q1572 q179 B.2.2.2 hz hw dX8_reachedFrom_0) ?_
  refine jlk_cons (sm_dup B.1 dX8_reachedFrom_3) ?_
  refine jlk_cons (sm_cI (x := yJ40_init) (r9 := kr_6) (host := "") (owner := "") isNV (i_J40_init hI) B q1948 q1574 w4_J40_init w6_J40_init (by decide) rfl hy_J40_init hl_J40_init dX8_reachedFrom_4 trivial) ?_
  refine jlk_cons (sm_astore_n rfl B.1 dX8_reachedFrom_7) ?_
  refine jlk_cons (sm_aload_n rfl B.1 dX8_reachedFrom_8) ?_
  refine jlk_cons (sm_getP B.1 fl_PointerAnalyzer_Analysis_12_8_78 dX8_reachedFrom_9) ?_
  refine jlk_cons (sm_iload_n rfl B.1 dX8_reachedFrom_12) ?_
  refine jlk_cons (sm_cV (x := yJ4_get) (host := "") (owner := "") isRP (i_J4_get hI) B q1643 q1149 q1150 w4_J4_get w6_J4_get (by decide) (by decide) (by decide) kc_21 hy_J4_get hl_J4_get dX8_reachedFrom_13 trivial) ?_
  refine jlk_cons (sm_cast B.1 q1564 (List.forall_mem_cons.mpr ⟨⟨by decide, by decide, _, kc_12, Or.inl rfl⟩, (List.forall_mem_nil _)⟩) dX8_reachedFrom_16) ?_
  refine jlk_cons (sm_getPN B.1 fn_PointerAnalyzer_Analysis_162_12_88 dX8_reachedFrom_19) ?_
  refine jlk_cons (sm_cVW (x := yJ40_clone) (host := "") (owner := "") isRP (i_J40_clone hI) B q1949 q1950 q1951 w4_J40_clone w6_J40_clone (by decide) (by decide) (by decide) kc_36 hy_J40_clone hl_J40_clone dX8_reachedFrom_22 trivial) ?_
  refine jlk_cons (sm_cast B.1 q1942 (List.forall_mem_cons.mpr ⟨⟨by decide, by decide, _, kc_36, Or.inl rfl⟩, (List.forall_mem_nil _)⟩) dX8_reachedFrom_25) ?_
  refine jlk_cons (sm_astore_n rfl B.1 dX8_reachedFrom_28) ?_
  refine jlk_cons (sm_aload_n rfl B.1 dX8_reachedFrom_29) ?_
  refine jlk_cons (sm_cV (x := yJ40_isEmpty) (host := "") (owner := "") isRI (i_J40_isEmpty hI) B q1961 q1962 q1963 w4_J40_isEmpty w6_J40_isEmpty (by decide) (by decide) (by decide) kc_36 hy_J40_isEmpty hl_J40_isEmpty dX8_reachedFrom_30 trivial) ?_
  refine jlk_cons (sm_ifne rfl B.1 dX8_reachedFrom_33) ?_
  refine jlk_cons (sm_aload_n rfl B.1 dX8_reachedFrom_36) ?_
  refine jlk_cons (sm_iconst rfl B.1 dX8_reachedFrom_37) ?_
  refine jlk_cons (sm_cV (x := yJ40_nextSetBit) (host := "") (owner := "") isRI (i_J40_nextSetBit hI) B q1965 q1966 q1967 w4_J40_nextSetBit w6_J40_nextSetBit (by decide) (by decide) (by decide) kc_36 hy_J40_nextSetBit hl_J40_nextSetBit dX8_reachedFrom_38 trivial) ?_
  refine jlk_cons (sm_istore B.1 dX8_reachedFrom_41) ?_
  refine jlk_cons (sm_aload_n rfl B.1 dX8_reachedFrom_43) ?_
  refine jlk_cons (sm_iload B.1 dX8_reachedFrom_44) ?_
  refine jlk_cons (sm_cV (x := yJ40_clear) (host := "") (owner := "") isRV (i_J40_clear hI) B q1972 q1973 q1974 w4_J40_clear w6_J40_clear (by decide) (by decide) (by decide) kc_36 hy_J40_clear hl_J40_clear dX8_reachedFrom_46 trivial) ?_
  refine jlk_cons (sm_aload_n rfl B.1 dX8_reachedFrom_49) ?_
  refine jlk_cons (sm_iload B.1 dX8_reachedFrom_50) ?_
  refine jlk_cons (sm_cV (x := yJ40_set) (host := "") (owner := "") isRV (i_J40_set hI) B q1662 q1663 q1664 w4_J40_set w6_J40_set (by decide) (by decide) (by decide) kc_36 hy_J40_set hl_J40_set dX8_reachedFrom_52 trivial) ?_
  refine jlk_cons (sm_aload_n rfl B.1 dX8_reachedFrom_55) ?_
  refine jlk_cons (sm_aload_n rfl B.1 dX8_reachedFrom_56) ?_
  refine jlk_cons (sm_getP B.1 fl_PointerAnalyzer_Analysis_12_8_78 dX8_reachedFrom_57) ?_
  refine jlk_cons (sm_iload B.1 dX8_reachedFrom_60) ?_
  refine jlk_cons (sm_cV (x := yJ4_get) (host := "") (owner := "") isRP (i_J4_get hI) B q1643 q1149 q1150 w4_J4_get w6_J4_get (by decide) (by decide) (by decide) kc_21 hy_J4_get hl_J4_get dX8_reachedFrom_62 trivial) ?_
  refine jlk_cons (sm_cast B.1 q1564 (List.forall_mem_cons.mpr ⟨⟨by decide, by decide, _, kc_12, Or.inl rfl⟩, (List.forall_mem_nil _)⟩) dX8_reachedFrom_65) ?_
  refine jlk_cons (sm_getPN B.1 fn_PointerAnalyzer_Analysis_162_12_88 dX8_reachedFrom_68) ?_
  refine jlk_cons (sm_cV (x := yJ40_or) (host := "") (owner := "") isRV (i_J40_or hI) B q1980 q1981 q1982 w4_J40_or w6_J40_or (by decide) (by decide) (by decide) kc_36 hy_J40_or hl_J40_or dX8_reachedFrom_71 trivial) ?_
  refine jlk_cons (sm_aload_n rfl B.1 dX8_reachedFrom_74) ?_
  refine jlk_cons (sm_aload_n rfl B.1 dX8_reachedFrom_75) ?_
  refine jlk_cons (sm_cV (x := yJ40_andNot) (host := "") (owner := "") isRV (i_J40_andNot hI) B q1986 q1987 q1988 w4_J40_andNot w6_J40_andNot (by decide) (by decide) (by decide) kc_36 hy_J40_andNot hl_J40_andNot dX8_reachedFrom_76 trivial) ?_
  refine jlk_cons (sm_goto rfl B.1 dX8_reachedFrom_79) ?_
  refine jlk_cons (sm_aload_n rfl B.1 dX8_reachedFrom_82) ?_
  refine jlk_cons (sm_aret B.1 B.2.1 hret (Or.inl ⟨_, rfl⟩) dX8_reachedFrom_83) ?_
  exact jlk_nil
theorem v_X8_reachedFrom (hst : l.stackTraces = false) (hz : jEz (EV (d + 1))) (hI : jIH l D dA lo cs0 d) : jMe l D dA lo cs0 (EV (d + 1)) 301 yX8_reachedFrom (ws_ yX8_reachedFrom cX8_reachedFrom 5 (Option.some (Jvm.ClassFile.FieldType.object "java/util/BitSet"))) (d + 1) := z_meth hz rfl hp_X8_reachedFrom (r_X8_reachedFrom hst hI)
theorem r_X8_merge (hst : l.stackTraces = false) (hI : jIH l D dA lo cs0 d) : jRows l D dA lo cs0 d 2 (tb_X8_merge (EV d)) yX8_merge cX8_merge (Option.none : Option Jvm.ClassFile.FieldType) [] := by
  intro p e R s m args below meth c z0 w0 zF wF Q rF hF B hz hw hret hnm
  refine jlk_cons (sm_aload_n rfl B.1 dX8_merge_0) ?_
  refine jlk_cons (sm_aload_n rfl B.1 dX8_merge_1) ?_
  refine jlk_cons (sm_putPN B.1 fn_PointerAnalyzer_Analysis_209_12_86 tyX12 tyX12_ok nmX12 rfl rfl (tyX12_ok 2 (by decide)) rfl (by decide) dX8_merge_2) ?_
  refine jlk_cons (sm_aload_n rfl B.1 dX8_merge_5) ?_
  refine jlk_cons (sm_getPN B.1 fn_PointerAnalyzer_Analysis_83_12_87 dX8_merge_6) ?_
  refine jlk_cons (sm_aload_n rfl B.1 dX8_merge_9) ?_
  refine jlk_cons (sm_getPN B.1 fn_PointerAnalyzer_Analysis_83_12_87 dX8_merge_10) ?_
  refine jlk_cons (sm_cV (x := yJ40_or) (host := "") (owner := "") isRV (i_J40_or hI) B q1980 q1981 q1982 w4_J40_or w6_J40_or (by decide) (by decide) (by decide) kc_36 hy_J40_or hl_J40_or dX8_merge_13 trivial) ?_
  refine jlk_cons (sm_aload_n rfl B.1 dX8_merge_16) ?_
  refine jlk_cons (sm_getPN B.1 fn_PointerAnalyzer_Analysis_162_12_88 dX8_merge_17) ?_
  refine jlk_cons (sm_aload_n rfl B.1 dX8_merge_20) ?_
  refine jlk_cons (sm_getPN B.1 fn_PointerAnalyzer_Analysis_162_12_88 dX8_merge_21) ?_
  refine jlk_cons (sm_cV (x := yJ40_or) (host := "") (owner := "") isRV (i_J40_or hI) B q1980 q1981 q1982 w4_J40_or w6_J40_or (by decide) (by decide) (by decide) kc_36 hy_J40_or hl_J40_or dX8_merge_24 trivial) ?_
  refine jlk_cons (sm_aload_n rfl B.1 dX8_merge_27) ?_
  refine jlk_cons (sm_getPN B.1 fn_PointerAnalyzer_Analysis_165_12_89 dX8_merge_28) ?_
  refine jlk_cons (sm_aload_n rfl B.1 dX8_merge_31) ?_
  refine jlk_cons (sm_getPN B.1 fn_PointerAnalyzer_Analysis_165_12_89 dX8_merge_32) ?_
  refine jlk_cons (sm_cV (x := yJ4_addAll) (host := "") (owner := "") isRI (i_J4_addAll hI) B q2001 q2002 q2003 w4_J4_addAll w6_J4_addAll (by decide) (by decide) (by decide) kc_21 hy_J4_addAll hl_J4_addAll dX8_merge_35 trivial) ?_
  refine jlk_cons (sm_pop B.1 dX8_merge_38) ?_
  refine jlk_cons (sm_aload_n rfl B.1 dX8_merge_39) ?_
  refine jlk_cons (sm_getPN B.1 fn_PointerAnalyzer_Analysis_168_12_90 dX8_merge_40) ?_
  refine jlk_cons (sm_aload_n rfl B.1 dX8_merge_43) ?_
  refine jlk_cons (sm_getPN B.1 fn_PointerAnalyzer_Analysis_168_12_90 dX8_merge_44) ?_
  refine jlk_cons (sm_cV (x := yJ4_addAll) (host := "") (owner := "") isRI (i_J4_addAll hI) B q2001 q2002 q2003 w4_J4_addAll w6_J4_addAll (by decide) (by decide) (by decide) kc_21 hy_J4_addAll hl_J4_addAll dX8_merge_47 trivial) ?_
  refine jlk_cons (sm_pop B.1 dX8_merge_50) ?_
  refine jlk_cons (sm_aload_n rfl B.1 dX8_merge_51) ?_
  refine jlk_cons (sm_getPN B.1 fn_PointerAnalyzer_Analysis_174_12_91 dX8_merge_52) ?_
  refine jlk_cons (sm_aload_n rfl B.1 dX8_merge_55) ?_
  refine jlk_cons (sm_getPN B.1 fn_PointerAnalyzer_Analysis_174_12_91 dX8_merge_56) ?_
  refine jlk_cons (sm_cV (x := yJ4_addAll) (host := "") (owner := "") isRI (i_J4_addAll hI) B q2001 q2002 q2003 w4_J4_addAll w6_J4_addAll (by decide) (by decide) (by decide) kc_21 hy_J4_addAll hl_J4_addAll dX8_merge_59 trivial) ?_
  refine jlk_cons (sm_pop B.1 dX8_merge_62) ?_
  refine jlk_cons (sm_vret B.1 B.2.1 hret dX8_merge_63) ?_
  exact jlk_nil
theorem v_X8_merge (hst : l.stackTraces = false) (hz : jEz (EV (d + 1))) (hI : jIH l D dA lo cs0 d) : jMe l D dA lo cs0 (EV (d + 1)) 303 yX8_merge (ws_ yX8_merge cX8_merge 2 (Option.none : Option Jvm.ClassFile.FieldType)) (d + 1) := z_meth hz rfl hp_X8_merge (r_X8_merge hst hI)
theorem r_X8_connect (hst : l.stackTraces = false) (hI : jIH l D dA lo cs0 d) : jRows l D dA lo cs0 d 4 (tb_X8_connect (EV d)) yX8_connect cX8_connect (Option.none : Option Jvm.ClassFile.FieldType) [] := by
  intro p e R s m args below meth c z0 w0 zF wF Q rF hF B hz hw hret hnm
  refine jlk_cons (sm_aload_n rfl B.1 dX8_connect_0) ?_
  refine jlk_cons (sm_cV (x := yX12_find) (host := "") (owner := "") isRP (i_X12_find hI) B q1994 q1995 q1996 w4_X12_find w6_X12_find (by decide) (by decide) (by decide) kc_12 hy_X12_find hl_X12_find dX8_connect_1 trivial) ?_
  refine jlk_cons (sm_astore_n rfl B.1 dX8_connect_4) ?_
  refine jlk_cons (sm_aload_n rfl B.1 dX8_connect_5) ?_
  refine jlk_cons (sm_getPN B.1 fn_PointerAnalyzer_Analysis_162_12_88 dX8_connect_6) ?_
  refine jlk_cons (sm_aload_n rfl B.1 dX8_connect_9) ?_
  refine jlk_cons (sm_getIN B.1 fn_PointerAnalyzer_Analysis_156_12_84 dX8_connect_10) ?_
  refine jlk_cons (sm_cV (x := yJ40_get) (host := "") (owner := "") isRI (i_J40_get hI) B q1990 q1991 q1992 w4_J40_get w6_J40_get (by decide) (by decide) (by decide) kc_36 hy_J40_get hl_J40_get dX8_connect_13 trivial) ?_
  refine jlk_cons (sm_ifne rfl B.1 dX8_connect_16) ?_
  refine jlk_cons (sm_aload_n rfl B.1 dX8_connect_19) ?_
  refine jlk_cons (sm_getPN B.1 fn_PointerAnalyzer_Analysis_162_12_88 dX8_connect_20) ?_
  refine jlk_cons (sm_aload_n rfl B.1 dX8_connect_23) ?_
  refine jlk_cons (sm_getIN B.1 fn_PointerAnalyzer_Analysis_156_12_84 dX8_connect_24) ?_
  refine jlk_cons (sm_cV (x := yJ40_set) (host := "") (owner := "") isRV (i_J40_set hI) B q1662 q1663 q1664 w4_J40_set w6_J40_set (by decide) (by decide) (by decide) kc_36 hy_J40_set hl_J40_set dX8_connect_27 trivial) ?_
  refine jlk_cons (sm_aload_n rfl B.1 dX8_connect_30) ?_
  refine jlk_cons (sm_aload_n rfl B.1 dX8_connect_31) ?_
  refine jlk_cons (sm_aload_n rfl B.1 dX8_connect_32) ?_
  refine jlk_cons (sm_getPN B.1 fn_PointerAnalyzer_Analysis_83_12_87 dX8_connect_33) ?_
  refine jlk_cons (sm_cV (x := yX8_grow) (host := "") (owner := "") isRV (i_X8_grow hI) B q2062 q2064 qs30 w4_X8_grow w6_X8_grow (by decide) (by decide) (by decide) kc_8 hy_X8_grow hl_X8_grow dX8_connect_36 trivial) ?_
  refine jlk_cons (sm_vret B.1 B.2.1 hret dX8_connect_39) ?_
  exact jlk_nil
theorem v_X8_connect (hst : l.stackTraces = false) (hz : jEz (EV (d + 1))) (hI : jIH l D dA lo cs0 d) : jMe l D dA lo cs0 (EV (d + 1)) 308 yX8_connect (ws_ yX8_connect cX8_connect 4 (Option.none : Option Jvm.ClassFile.FieldType)) (d + 1) := z_meth hz rfl hp_X8_connect (r_X8_connect hst hI)
theorem r_X8_moved (hst : l.stackTraces = false) (hI : jIH l D dA lo cs0 d) : jRows l D dA lo cs0 d 6 (tb_X8_moved (EV d)) yX8_moved cX8_moved (Option.some (Jvm.ClassFile.FieldType.object "java/util/BitSet")) [] := by
  intro p e R s m args below meth c z0 w0 zF wF Q rF hF B hz hw hret hnm
  refine jlk_app ?_ ?_
  · refine jlk_cons (sm_new B.1 kc_36 (by decide) (by decide) in_J40 tyJ40 tyJ40_ok kd_36 q1942 q1572 q179 B.2.2.2 hz hw dX8_moved_0) ?_
    refine jlk_cons (sm_dup B.1 dX8_moved_3) ?_
    refine jlk_cons (sm_cI (x := yJ40_init) (r9 := kr_6) (host := "") (owner := "") isNV (i_J40_init hI) B q1948 q1574 w4_J40_init w6_J40_init (by decide) rfl hy_J40_init hl_J40_init dX8_moved_4 trivial) ?_
    refine jlk_cons (sm_astore_n rfl B.1 dX8_moved_7) ?_
    refine jlk_cons (sm_aload_n rfl B.1 dX8_moved_8) ?_
    refine jlk_cons (sm_iconst rfl B.1 dX8_moved_9) ?_
    refine jlk_cons (sm_cV (x := yJ40_nextSetBit) (host := "") (owner := "") isRI (i_J40_nextSetBit hI) B q1965 q1966 q1967 w4_J40_nextSetBit w6_J40_nextSetBit (by decide) (by decide) (by decide) kc_36 hy_J40_nextSetBit hl_J40_nextSetBit dX8_moved_10 trivial) ?_
    refine jlk_cons (sm_istore B.1 dX8_moved_13) ?_
    refine jlk_cons (sm_iload B.1 dX8_moved_15) ?_
    refine jlk_cons (sm_iflt rfl B.1 dX8_moved_17) ?_
    refine jlk_cons (sm_iload B.1 dX8_moved_20) ?_
    refine jlk_cons (sm_aload_n rfl B.1 dX8_moved_22) ?_
    refine jlk_cons (sm_getI B.1 fl_PointerAnalyzer_Analysis_122_8_80 dX8_moved_23) ?_
    refine jlk_cons (sm_icmplt rfl B.1 dX8_moved_26) ?_
    refine jlk_cons (sm_iload B.1 dX8_moved_29) ?_
    refine jlk_cons (sm_aload_n rfl B.1 dX8_moved_31) ?_
    refine jlk_cons (sm_getI B.1 fl_PointerAnalyzer_Analysis_122_8_80 dX8_moved_32) ?_
    refine jlk_cons (sm_isub B.1 dX8_moved_35) ?_
    refine jlk_cons (sm_iconst rfl B.1 dX8_moved_36) ?_
    refine jlk_cons (sm_irem B.1 dX8_moved_37) ?_
    refine jlk_cons (sm_iload_n rfl B.1 dX8_moved_38) ?_
    refine jlk_cons (sm_iadd B.1 dX8_moved_39) ?_
    refine jlk_cons (sm_iconst rfl B.1 dX8_moved_40) ?_
    refine jlk_cons (sm_icmpge rfl B.1 dX8_moved_41) ?_
    refine jlk_cons (sm_iconst rfl B.1 dX8_moved_44) ?_
    refine jlk_cons (sm_goto rfl B.1 dX8_moved_45) ?_
    refine jlk_cons (sm_iconst rfl B.1 dX8_moved_48) ?_
    refine jlk_cons (sm_istore B.1 dX8_moved_49) ?_
    refine jlk_cons (sm_iload_n rfl B.1 dX8_moved_51) ?_
    refine jlk_cons (sm_ifeq rfl B.1 dX8_moved_52) ?_
    refine jlk_cons (sm_iload B.1 dX8_moved_55) ?_
    refine jlk_cons (sm_ifeq rfl B.1 dX8_moved_57) ?_
    refine jlk_cons (sm_aload_n rfl B.1 dX8_moved_60) ?_
    refine jlk_cons (sm_iload B.1 dX8_moved_61) ?_
    refine jlk_cons (sm_iload_n rfl B.1 dX8_moved_63) ?_
    refine jlk_cons (sm_iadd B.1 dX8_moved_64) ?_
    refine jlk_cons (sm_cV (x := yJ40_set) (host := "") (owner := "") isRV (i_J40_set hI) B q1662 q1663 q1664 w4_J40_set w6_J40_set (by decide) (by decide) (by decide) kc_36 hy_J40_set hl_J40_set dX8_moved_65 trivial) ?_
    refine jlk_cons (sm_aload_n rfl B.1 dX8_moved_68) ?_
    refine jlk_cons (sm_iload B.1 dX8_moved_69) ?_
    refine jlk_cons (sm_iconst rfl B.1 dX8_moved_71) ?_
    exact jlk_nil
  · skip
    refine jlk_cons (sm_iadd B.1 dX8_moved_72) ?_
    refine jlk_cons (sm_cV (x := yJ40_nextSetBit) (host := "") (owner := "") isRI (i_J40_nextSetBit hI) B q1965 q1966 q1967 w4_J40_nextSetBit w6_J40_nextSetBit (by decide) (by decide) (by decide) kc_36 hy_J40_nextSetBit hl_J40_nextSetBit dX8_moved_73 trivial) ?_
    refine jlk_cons (sm_istore B.1 dX8_moved_76) ?_
    refine jlk_cons (sm_goto rfl B.1 dX8_moved_78) ?_
    refine jlk_cons (sm_aload_n rfl B.1 dX8_moved_81) ?_
    refine jlk_cons (sm_aret B.1 B.2.1 hret (Or.inl ⟨_, rfl⟩) dX8_moved_82) ?_
    exact jlk_nil
theorem v_X8_moved (hst : l.stackTraces = false) (hz : jEz (EV (d + 1))) (hI : jIH l D dA lo cs0 d) : jMe l D dA lo cs0 (EV (d + 1)) 309 yX8_moved (ws_ yX8_moved cX8_moved 6 (Option.some (Jvm.ClassFile.FieldType.object "java/util/BitSet"))) (d + 1) := z_meth hz rfl hp_X8_moved (r_X8_moved hst hI)
theorem r_X8_grow (hst : l.stackTraces = false) (hI : jIH l D dA lo cs0 d) : jRows l D dA lo cs0 d 5 (tb_X8_grow (EV d)) yX8_grow cX8_grow (Option.none : Option Jvm.ClassFile.FieldType) [] := by
  intro p e R s m args below meth c z0 w0 zF wF Q rF hF B hz hw hret hnm
  refine jlk_cons (sm_aload_n rfl B.1 dX8_grow_0) ?_
  refine jlk_cons (sm_cV (x := yX12_find) (host := "") (owner := "") isRP (i_X12_find hI) B q1994 q1995 q1996 w4_X12_find w6_X12_find (by decide) (by decide) (by decide) kc_12 hy_X12_find hl_X12_find dX8_grow_1 trivial) ?_
  refine jlk_cons (sm_astore_n rfl B.1 dX8_grow_4) ?_
  refine jlk_cons (sm_aload_n rfl B.1 dX8_grow_5) ?_
  refine jlk_cons (sm_cVW (x := yJ40_clone) (host := "") (owner := "") isRP (i_J40_clone hI) B q1949 q1950 q1951 w4_J40_clone w6_J40_clone (by decide) (by decide) (by decide) kc_36 hy_J40_clone hl_J40_clone dX8_grow_6 trivial) ?_
  refine jlk_cons (sm_cast B.1 q1942 (List.forall_mem_cons.mpr ⟨⟨by decide, by decide, _, kc_36, Or.inl rfl⟩, (List.forall_mem_nil _)⟩) dX8_grow_9) ?_
  refine jlk_cons (sm_astore B.1 dX8_grow_12) ?_
  refine jlk_cons (sm_aload B.1 dX8_grow_14) ?_
  refine jlk_cons (sm_aload_n rfl B.1 dX8_grow_16) ?_
  refine jlk_cons (sm_getPN B.1 fn_PointerAnalyzer_Analysis_83_12_87 dX8_grow_17) ?_
  refine jlk_cons (sm_cV (x := yJ40_andNot) (host := "") (owner := "") isRV (i_J40_andNot hI) B q1986 q1987 q1988 w4_J40_andNot w6_J40_andNot (by decide) (by decide) (by decide) kc_36 hy_J40_andNot hl_J40_andNot dX8_grow_20 trivial) ?_
  refine jlk_cons (sm_aload B.1 dX8_grow_23) ?_
  refine jlk_cons (sm_cV (x := yJ40_isEmpty) (host := "") (owner := "") isRI (i_J40_isEmpty hI) B q1961 q1962 q1963 w4_J40_isEmpty w6_J40_isEmpty (by decide) (by decide) (by decide) kc_36 hy_J40_isEmpty hl_J40_isEmpty dX8_grow_25 trivial) ?_
  refine jlk_cons (sm_ifne rfl B.1 dX8_grow_28) ?_
  refine jlk_cons (sm_aload_n rfl B.1 dX8_grow_31) ?_
  refine jlk_cons (sm_getP B.1 fl_PointerAnalyzer_Analysis_30_8_81 dX8_grow_32) ?_
  refine jlk_cons (sm_aload_n rfl B.1 dX8_grow_35) ?_
  refine jlk_cons (sm_cV (x := yJ36_remove) (host := "") (owner := "") isRI (i_J36_remove hI) B q2066 q2067 q2068 w4_J36_remove w6_J36_remove (by decide) (by decide) (by decide) kc_34 hy_J36_remove hl_J36_remove dX8_grow_36 trivial) ?_
  refine jlk_cons (sm_pop B.1 dX8_grow_39) ?_
  refine jlk_cons (sm_aload_n rfl B.1 dX8_grow_40) ?_
  refine jlk_cons (sm_iconst rfl B.1 dX8_grow_41) ?_
  refine jlk_cons (sm_putZN B.1 fn_PointerAnalyzer_Analysis_102_12_92 tyX12 tyX12_ok nmX12 rfl (tyX12_ok 8 (by decide)) rfl (by decide) dX8_grow_42) ?_
  refine jlk_cons (sm_aload_n rfl B.1 dX8_grow_45) ?_
  refine jlk_cons (sm_getPN B.1 fn_PointerAnalyzer_Analysis_83_12_87 dX8_grow_46) ?_
  refine jlk_cons (sm_aload B.1 dX8_grow_49) ?_
  refine jlk_cons (sm_cV (x := yJ40_or) (host := "") (owner := "") isRV (i_J40_or hI) B q1980 q1981 q1982 w4_J40_or w6_J40_or (by decide) (by decide) (by decide) kc_36 hy_J40_or hl_J40_or dX8_grow_51 trivial) ?_
  refine jlk_cons (sm_aload_n rfl B.1 dX8_grow_54) ?_
  refine jlk_cons (sm_aload_n rfl B.1 dX8_grow_55) ?_
  refine jlk_cons (sm_cV (x := yX8_push) (host := "") (owner := "") isRV (i_X8_push hI) B q2006 q2008 qs25 w4_X8_push w6_X8_push (by decide) (by decide) (by decide) kc_8 hy_X8_push hl_X8_push dX8_grow_56 trivial) ?_
  refine jlk_cons (sm_vret B.1 B.2.1 hret dX8_grow_59) ?_
  exact jlk_nil
theorem v_X8_grow (hst : l.stackTraces = false) (hz : jEz (EV (d + 1))) (hI : jIH l D dA lo cs0 d) : jMe l D dA lo cs0 (EV (d + 1)) 310 yX8_grow (ws_ yX8_grow cX8_grow 5 (Option.none : Option Jvm.ClassFile.FieldType)) (d + 1) := z_meth hz rfl hp_X8_grow (r_X8_grow hst hI)
theorem r_X14_add (hst : l.stackTraces = false) (hI : jIH l D dA lo cs0 d) : jRows l D dA lo cs0 d 7 (tb_X14_add (EV d)) yX14_add cX14_add (Option.none : Option Jvm.ClassFile.FieldType) [] := by
  intro p e R s m args below meth c z0 w0 zF wF Q rF hF B hz hw hret hnm
  refine jlk_app ?_ ?_
  · refine jlk_cons (sm_lload_n rfl B.1 dX14_add_0) ?_
    refine jlk_cons (sm_aload_n rfl B.1 dX14_add_1) ?_
    refine jlk_cons (sm_getP B.1 fl_PointerAnalyzer_Ranks_28_14_96 dX14_add_2) ?_
    refine jlk_cons (sm_iload_n rfl B.1 dX14_add_5) ?_
    refine jlk_cons (sm_lald B.1 dX14_add_6) ?_
    refine jlk_cons (sm_ldc2 q2170 B.1 dX14_add_7) ?_
    refine jlk_cons (sm_lxor B.1 dX14_add_10) ?_
    refine jlk_cons (sm_land B.1 dX14_add_11) ?_
    refine jlk_cons (sm_lstore B.1 dX14_add_12) ?_
    refine jlk_cons (sm_aload_n rfl B.1 dX14_add_14) ?_
    refine jlk_cons (sm_getP B.1 fl_PointerAnalyzer_Ranks_28_14_96 dX14_add_15) ?_
    refine jlk_cons (sm_iload_n rfl B.1 dX14_add_18) ?_
    refine jlk_cons (sm_dup2 B.1 dX14_add_19) ?_
    refine jlk_cons (sm_lald B.1 dX14_add_20) ?_
    refine jlk_cons (sm_lload B.1 dX14_add_21) ?_
    refine jlk_cons (sm_lor B.1 dX14_add_23) ?_
    refine jlk_cons (sm_last B.1 dX14_add_24) ?_
    refine jlk_cons (sm_lload B.1 dX14_add_25) ?_
    refine jlk_cons (sm_lconst rfl B.1 dX14_add_27) ?_
    refine jlk_cons (sm_lcmp B.1 dX14_add_28) ?_
    refine jlk_cons (sm_ifeq rfl B.1 dX14_add_29) ?_
    refine jlk_cons (sm_lload B.1 dX14_add_32) ?_
    refine jlk_cons (sm_cS (x := yJ12_numberOfTrailingZeros) (r9 := kr_6) (host := "") (owner := "") isSI (i_J12_numberOfTrailingZeros hI) B q2171 q501 w4_J12_numberOfTrailingZeros w6_J12_numberOfTrailingZeros (by decide) hy_J12_numberOfTrailingZeros hl_J12_numberOfTrailingZeros dX14_add_34 trivial) ?_
    refine jlk_cons (sm_istore B.1 dX14_add_37) ?_
    refine jlk_cons (sm_aload_n rfl B.1 dX14_add_39) ?_
    refine jlk_cons (sm_getP B.1 fl_PointerAnalyzer_Ranks_17_14_97 dX14_add_40) ?_
    refine jlk_cons (sm_iload_n rfl B.1 dX14_add_43) ?_
    refine jlk_cons (sm_aaldA B.1 dX14_add_44) ?_
    refine jlk_cons (sm_iload B.1 dX14_add_45) ?_
    refine jlk_cons (sm_aload_n rfl B.1 dX14_add_47) ?_
    refine jlk_cons (sm_getI B.1 fl_PointerAnalyzer_Ranks_31_14_99 dX14_add_48) ?_
    refine jlk_cons (sm_iast B.1 dX14_add_51) ?_
    refine jlk_cons (sm_aload_n rfl B.1 dX14_add_52) ?_
    refine jlk_cons (sm_getP B.1 fl_PointerAnalyzer_Ranks_20_14_98 dX14_add_53) ?_
    refine jlk_cons (sm_iload_n rfl B.1 dX14_add_56) ?_
    refine jlk_cons (sm_aaldA B.1 dX14_add_57) ?_
    refine jlk_cons (sm_iload B.1 dX14_add_58) ?_
    refine jlk_cons (sm_aload_n rfl B.1 dX14_add_60) ?_
    refine jlk_cons (sm_getI B.1 fl_PointerAnalyzer_Ranks_56_14_100 dX14_add_61) ?_
    refine jlk_cons (sm_iast B.1 dX14_add_64) ?_
    exact jlk_nil
  · skip
    refine jlk_cons (sm_lload B.1 dX14_add_65) ?_
    refine jlk_cons (sm_lload B.1 dX14_add_67) ?_
    refine jlk_cons (sm_lconst rfl B.1 dX14_add_69) ?_
    refine jlk_cons (sm_lsub B.1 dX14_add_70) ?_
    refine jlk_cons (sm_land B.1 dX14_add_71) ?_
    refine jlk_cons (sm_lstore B.1 dX14_add_72) ?_
    refine jlk_cons (sm_goto rfl B.1 dX14_add_74) ?_
    refine jlk_cons (sm_vret B.1 B.2.1 hret dX14_add_77) ?_
    exact jlk_nil
theorem v_X14_add (hst : l.stackTraces = false) (hz : jEz (EV (d + 1))) (hI : jIH l D dA lo cs0 d) : jMe l D dA lo cs0 (EV (d + 1)) 312 yX14_add (ws_ yX14_add cX14_add 7 (Option.none : Option Jvm.ClassFile.FieldType)) (d + 1) := z_meth hz rfl hp_X14_add (r_X14_add hst hI)
theorem r_X14_moved (hst : l.stackTraces = false) (hI : jIH l D dA lo cs0 d) : jRows l D dA lo cs0 d 9 (tb_X14_moved (EV d)) yX14_moved cX14_moved (Option.some Jvm.ClassFile.FieldType.long) [] := by
  intro p e R s m args below meth c z0 w0 zF wF Q rF hF B hz hw hret hnm
  refine jlk_app ?_ ?_
  · refine jlk_cons (sm_iload_n rfl B.1 dX14_moved_0) ?_
    refine jlk_cons (sm_ifne rfl B.1 dX14_moved_1) ?_
    refine jlk_cons (sm_lload_n rfl B.1 dX14_moved_4) ?_
    refine jlk_cons (sm_goto rfl B.1 dX14_moved_5) ?_
    refine jlk_cons (sm_lconst rfl B.1 dX14_moved_8) ?_
    refine jlk_cons (sm_lstore_n rfl B.1 dX14_moved_9) ?_
    refine jlk_cons (sm_lload_n rfl B.1 dX14_moved_10) ?_
    refine jlk_cons (sm_lstore B.1 dX14_moved_11) ?_
    refine jlk_cons (sm_lload B.1 dX14_moved_13) ?_
    refine jlk_cons (sm_lconst rfl B.1 dX14_moved_15) ?_
    refine jlk_cons (sm_lcmp B.1 dX14_moved_16) ?_
    refine jlk_cons (sm_ifeq rfl B.1 dX14_moved_17) ?_
    refine jlk_cons (sm_lload B.1 dX14_moved_20) ?_
    refine jlk_cons (sm_cS (x := yJ12_numberOfTrailingZeros) (r9 := kr_6) (host := "") (owner := "") isSI (i_J12_numberOfTrailingZeros hI) B q2171 q501 w4_J12_numberOfTrailingZeros w6_J12_numberOfTrailingZeros (by decide) hy_J12_numberOfTrailingZeros hl_J12_numberOfTrailingZeros dX14_moved_22 trivial) ?_
    refine jlk_cons (sm_istore B.1 dX14_moved_25) ?_
    refine jlk_cons (sm_iload B.1 dX14_moved_27) ?_
    refine jlk_cons (sm_bipush rfl B.1 dX14_moved_29) ?_
    refine jlk_cons (sm_icmplt rfl B.1 dX14_moved_31) ?_
    refine jlk_cons (sm_iload B.1 dX14_moved_34) ?_
    refine jlk_cons (sm_bipush rfl B.1 dX14_moved_36) ?_
    refine jlk_cons (sm_isub B.1 dX14_moved_38) ?_
    refine jlk_cons (sm_iconst rfl B.1 dX14_moved_39) ?_
    refine jlk_cons (sm_irem B.1 dX14_moved_40) ?_
    refine jlk_cons (sm_iload_n rfl B.1 dX14_moved_41) ?_
    refine jlk_cons (sm_iadd B.1 dX14_moved_42) ?_
    refine jlk_cons (sm_iconst rfl B.1 dX14_moved_43) ?_
    refine jlk_cons (sm_icmpge rfl B.1 dX14_moved_44) ?_
    refine jlk_cons (sm_iconst rfl B.1 dX14_moved_47) ?_
    refine jlk_cons (sm_goto rfl B.1 dX14_moved_48) ?_
    refine jlk_cons (sm_iconst rfl B.1 dX14_moved_51) ?_
    refine jlk_cons (sm_istore B.1 dX14_moved_52) ?_
    refine jlk_cons (sm_lload_n rfl B.1 dX14_moved_54) ?_
    refine jlk_cons (sm_iload B.1 dX14_moved_55) ?_
    refine jlk_cons (sm_ifeq rfl B.1 dX14_moved_57) ?_
    refine jlk_cons (sm_lconst rfl B.1 dX14_moved_60) ?_
    refine jlk_cons (sm_iload B.1 dX14_moved_61) ?_
    refine jlk_cons (sm_iload_n rfl B.1 dX14_moved_63) ?_
    refine jlk_cons (sm_iadd B.1 dX14_moved_64) ?_
    refine jlk_cons (sm_lshl B.1 dX14_moved_65) ?_
    refine jlk_cons (sm_goto rfl B.1 dX14_moved_66) ?_
    exact jlk_nil
  · skip
    refine jlk_cons (sm_lconst rfl B.1 dX14_moved_69) ?_
    refine jlk_cons (sm_lor B.1 dX14_moved_70) ?_
    refine jlk_cons (sm_lstore_n rfl B.1 dX14_moved_71) ?_
    refine jlk_cons (sm_lload B.1 dX14_moved_72) ?_
    refine jlk_cons (sm_lload B.1 dX14_moved_74) ?_
    refine jlk_cons (sm_lconst rfl B.1 dX14_moved_76) ?_
    refine jlk_cons (sm_lsub B.1 dX14_moved_77) ?_
    refine jlk_cons (sm_land B.1 dX14_moved_78) ?_
    refine jlk_cons (sm_lstore B.1 dX14_moved_79) ?_
    refine jlk_cons (sm_goto rfl B.1 dX14_moved_81) ?_
    refine jlk_cons (sm_lload_n rfl B.1 dX14_moved_84) ?_
    refine jlk_cons (sm_lret B.1 B.2.1 hret dX14_moved_85) ?_
    exact jlk_nil
theorem v_X14_moved (hst : l.stackTraces = false) (hz : jEz (EV (d + 1))) (hI : jIH l D dA lo cs0 d) : jMe l D dA lo cs0 (EV (d + 1)) 313 yX14_moved (ws_ yX14_moved cX14_moved 9 (Option.some Jvm.ClassFile.FieldType.long)) (d + 1) := z_meth hz rfl hp_X14_moved (r_X14_moved hst hI)
theorem r_X17_requireTime (hst : l.stackTraces = false) (hI : jIH l D dA lo cs0 d) : jRows l D dA lo cs0 d 2 (tb_X17_requireTime (EV d)) yX17_requireTime cX17_requireTime (Option.none : Option Jvm.ClassFile.FieldType) [] := by
  intro p e R s m args below meth c z0 w0 zF wF Q rF hF B hz hw hret hnm
  refine jlk_cons (sm_iload_n rfl B.1 dX17_requireTime_0) ?_
  refine jlk_cons (sm_ifeq rfl B.1 dX17_requireTime_1) ?_
  refine jlk_cons (sm_aload_n rfl B.1 dX17_requireTime_4) ?_
  refine jlk_cons (sm_getI B.1 fl_PointerAnalyzer_Run_78_17_107 dX17_requireTime_5) ?_
  refine jlk_cons (sm_sipush rfl B.1 dX17_requireTime_8) ?_
  refine jlk_cons (sm_icmpne rfl B.1 dX17_requireTime_11) ?_
  refine jlk_cons (sm_new B.1 kc_19 (by decide) (by decide) in_X19 tyX19 tyX19_ok kd_19 q2268 q2311 q188 B.2.2.2 hz hw dX17_requireTime_14) ?_
  refine jlk_cons (sm_dup B.1 dX17_requireTime_17) ?_
  refine jlk_cons (sm_cI (x := yX19_init) (r9 := kr_6) (host := "") (owner := "") isNV (i_X19_init hI) B q2319 q2320 w4_X19_init w6_X19_init (by decide) rfl hy_X19_init hl_X19_init dX17_requireTime_18 trivial) ?_
  refine jlk_cons (sm_throw B.1 (fun ls rs a h ha k => z_hand B.1 B.2.1 B.2.2.1 ha _ [] _ rfl (by intro z hz; cases hz) rfl k) dX17_requireTime_21) ?_
  refine jlk_cons (sm_vret B.1 B.2.1 hret dX17_requireTime_22) ?_
  exact jlk_nil
theorem v_X17_requireTime (hst : l.stackTraces = false) (hz : jEz (EV (d + 1))) (hI : jIH l D dA lo cs0 d) : jMe l D dA lo cs0 (EV (d + 1)) 314 yX17_requireTime (ws_ yX17_requireTime cX17_requireTime 2 (Option.none : Option Jvm.ClassFile.FieldType)) (d + 1) := z_meth hz rfl hp_X17_requireTime (r_X17_requireTime hst hI)
theorem r_X17_place (hst : l.stackTraces = false) (hI : jIH l D dA lo cs0 d) : jRows l D dA lo cs0 d 3 (tb_X17_place (EV d)) yX17_place cX17_place (Option.some (Jvm.ClassFile.FieldType.object "PointerAnalyzer$Place")) [] := by
  intro p e R s m args below meth c z0 w0 zF wF Q rF hF B hz hw hret hnm
  refine jlk_cons (sm_iload_n rfl B.1 dX17_place_0) ?_
  refine jlk_cons (sm_iconst rfl B.1 dX17_place_1) ?_
  refine jlk_cons (sm_icmpge rfl B.1 dX17_place_2) ?_
  refine jlk_cons (sm_aload_n rfl B.1 dX17_place_5) ?_
  refine jlk_cons (sm_getP B.1 fl_PointerAnalyzer_Run_11_17_105 dX17_place_6) ?_
  refine jlk_cons (sm_iload_n rfl B.1 dX17_place_9) ?_
  refine jlk_cons (sm_aald B.1 (t := 108) (by decide) rfl dX17_place_10) ?_
  refine jlk_cons (sm_goto rfl B.1 dX17_place_11) ?_
  refine jlk_cons (sm_aload_n rfl B.1 dX17_place_14) ?_
  refine jlk_cons (sm_iload_n rfl B.1 dX17_place_15) ?_
  refine jlk_cons (sm_iconst rfl B.1 dX17_place_16) ?_
  refine jlk_cons (sm_isub B.1 dX17_place_17) ?_
  refine jlk_cons (sm_iconst rfl B.1 dX17_place_18) ?_
  refine jlk_cons (sm_irem B.1 dX17_place_19) ?_
  refine jlk_cons (sm_aald B.1 (t := 108) (by decide) rfl dX17_place_20) ?_
  refine jlk_cons (sm_aret B.1 B.2.1 hret (Or.inl ⟨_, rfl⟩) dX17_place_21) ?_
  exact jlk_nil
theorem v_X17_place (hst : l.stackTraces = false) (hz : jEz (EV (d + 1))) (hI : jIH l D dA lo cs0 d) : jMe l D dA lo cs0 (EV (d + 1)) 315 yX17_place (ws_ yX17_place cX17_place 3 (Option.some (Jvm.ClassFile.FieldType.object "PointerAnalyzer$Place"))) (d + 1) := z_meth hz rfl hp_X17_place (r_X17_place hst hI)
theorem r_X17_load (hst : l.stackTraces = false) (hI : jIH l D dA lo cs0 d) : jRows l D dA lo cs0 d 3 (tb_X17_load (EV d)) yX17_load cX17_load (Option.none : Option Jvm.ClassFile.FieldType) [] := by
  intro p e R s m args below meth c z0 w0 zF wF Q rF hF B hz hw hret hnm
  refine jlk_cons (sm_aload_n rfl B.1 dX17_load_0) ?_
  refine jlk_cons (sm_ifnonnull rfl B.1 dX17_load_1) ?_
  refine jlk_cons (sm_aload_n rfl B.1 dX17_load_4) ?_
  refine jlk_cons (sm_dup B.1 dX17_load_5) ?_
  refine jlk_cons (sm_getI B.1 fl_PointerAnalyzer_Run_138_17_108 dX17_load_6) ?_
  refine jlk_cons (sm_iconst rfl B.1 dX17_load_9) ?_
  refine jlk_cons (sm_iadd B.1 dX17_load_10) ?_
  refine jlk_cons (sm_putI B.1 fl_PointerAnalyzer_Run_138_17_108 tyX17 tyX17_ok nmX17 (Or.inl rfl) (tyX17_ok 4 (by decide)) rfl (by decide) dX17_load_11) ?_
  refine jlk_cons (sm_goto rfl B.1 dX17_load_14) ?_
  refine jlk_cons (sm_aload_n rfl B.1 dX17_load_17) ?_
  refine jlk_cons (sm_aload_n rfl B.1 dX17_load_18) ?_
  refine jlk_cons (sm_aload_n rfl B.1 dX17_load_19) ?_
  refine jlk_cons (sm_getPN B.1 fn_PointerAnalyzer_Run_38_18_113 dX17_load_20) ?_
  refine jlk_cons (sm_cV (x := yX17_assign) (host := "") (owner := "") isRV (i_X17_assign hI) B q2294 q2296 qs42 w4_X17_assign w6_X17_assign (by decide) (by decide) (by decide) kc_17 hy_X17_assign hl_X17_assign dX17_load_23 trivial) ?_
  refine jlk_cons (sm_vret B.1 B.2.1 hret dX17_load_26) ?_
  exact jlk_nil
theorem v_X17_load (hst : l.stackTraces = false) (hz : jEz (EV (d + 1))) (hI : jIH l D dA lo cs0 d) : jMe l D dA lo cs0 (EV (d + 1)) 316 yX17_load (ws_ yX17_load cX17_load 3 (Option.none : Option Jvm.ClassFile.FieldType)) (d + 1) := z_meth hz rfl hp_X17_load (r_X17_load hst hI)
theorem r_X17_store (hst : l.stackTraces = false) (hI : jIH l D dA lo cs0 d) : jRows l D dA lo cs0 d 3 (tb_X17_store (EV d)) yX17_store cX17_store (Option.none : Option Jvm.ClassFile.FieldType) [] := by
  intro p e R s m args below meth c z0 w0 zF wF Q rF hF B hz hw hret hnm
  refine jlk_cons (sm_aload_n rfl B.1 dX17_store_0) ?_
  refine jlk_cons (sm_ifnonnull rfl B.1 dX17_store_1) ?_
  refine jlk_cons (sm_aload_n rfl B.1 dX17_store_4) ?_
  refine jlk_cons (sm_dup B.1 dX17_store_5) ?_
  refine jlk_cons (sm_getI B.1 fl_PointerAnalyzer_Run_138_17_108 dX17_store_6) ?_
  refine jlk_cons (sm_iconst rfl B.1 dX17_store_9) ?_
  refine jlk_cons (sm_iadd B.1 dX17_store_10) ?_
  refine jlk_cons (sm_putI B.1 fl_PointerAnalyzer_Run_138_17_108 tyX17 tyX17_ok nmX17 (Or.inl rfl) (tyX17_ok 4 (by decide)) rfl (by decide) dX17_store_11) ?_
  refine jlk_cons (sm_goto rfl B.1 dX17_store_14) ?_
  refine jlk_cons (sm_aload_n rfl B.1 dX17_store_17) ?_
  refine jlk_cons (sm_aload_n rfl B.1 dX17_store_18) ?_
  refine jlk_cons (sm_aload_n rfl B.1 dX17_store_19) ?_
  refine jlk_cons (sm_cV (x := yX17_assign) (host := "") (owner := "") isRV (i_X17_assign hI) B q2294 q2296 qs42 w4_X17_assign w6_X17_assign (by decide) (by decide) (by decide) kc_17 hy_X17_assign hl_X17_assign dX17_store_20 trivial) ?_
  refine jlk_cons (sm_vret B.1 B.2.1 hret dX17_store_23) ?_
  exact jlk_nil
theorem v_X17_store (hst : l.stackTraces = false) (hz : jEz (EV (d + 1))) (hI : jIH l D dA lo cs0 d) : jMe l D dA lo cs0 (EV (d + 1)) 317 yX17_store (ws_ yX17_store cX17_store 3 (Option.none : Option Jvm.ClassFile.FieldType)) (d + 1) := z_meth hz rfl hp_X17_store (r_X17_store hst hI)
theorem r_X17_allocate (hst : l.stackTraces = false) (hI : jIH l D dA lo cs0 d) : jRows l D dA lo cs0 d 4 (tb_X17_allocate (EV d)) yX17_allocate cX17_allocate (Option.some (Jvm.ClassFile.FieldType.object "PointerAnalyzer$Place")) [] := by
  intro p e R s m args below meth c z0 w0 zF wF Q rF hF B hz hw hret hnm
  refine jlk_cons (sm_iconst rfl B.1 dX17_allocate_0) ?_
  refine jlk_cons (sm_anew B.1 (by decide) rfl q2270 q2271 B.2.2.2 hz hw dX17_allocate_1) ?_
  refine jlk_cons (sm_astore_n rfl B.1 dX17_allocate_4) ?_
  refine jlk_cons (sm_iconst rfl B.1 dX17_allocate_5) ?_
  refine jlk_cons (sm_istore_n rfl B.1 dX17_allocate_6) ?_
  refine jlk_cons (sm_iload_n rfl B.1 dX17_allocate_7) ?_
  refine jlk_cons (sm_iconst rfl B.1 dX17_allocate_8) ?_
  refine jlk_cons (sm_icmpge rfl B.1 dX17_allocate_9) ?_
  refine jlk_cons (sm_aload_n rfl B.1 dX17_allocate_12) ?_
  refine jlk_cons (sm_iload_n rfl B.1 dX17_allocate_13) ?_
  refine jlk_cons (sm_new B.1 kc_18 (by decide) (by decide) in_X18 tyX18 tyX18_ok kd_18 q2270 q2272 q187 B.2.2.2 hz hw dX17_allocate_14) ?_
  refine jlk_cons (sm_dup B.1 dX17_allocate_17) ?_
  refine jlk_cons (sm_iload_n rfl B.1 dX17_allocate_18) ?_
  refine jlk_cons (sm_iload_n rfl B.1 dX17_allocate_19) ?_
  refine jlk_cons (sm_cSN (x := yX1_fieldCode) (r9 := kr_6) (owner := "") isSI (i_X1_fieldCode hI) B q2347 q2131 w4_X1_fieldCode w6_X1_fieldCode (by decide) hy_X1_fieldCode hl_X1_fieldCode dX17_allocate_20 trivial) ?_
  refine jlk_cons (sm_aload_n rfl B.1 dX17_allocate_23) ?_
  refine jlk_cons (sm_cI (x := yX18_init) (r9 := kr_6) (host := "") (owner := "") isNV (i_X18_init hI) B q2273 q2274 w4_X18_init w6_X18_init (by decide) rfl hy_X18_init hl_X18_init dX17_allocate_24 trivial) ?_
  refine jlk_cons (sm_aast B.1 (t := 108) (by decide) (by decide) rfl (List.forall_mem_cons.mpr ⟨⟨by decide, by decide, _, kc_18, Or.inl rfl⟩, (List.forall_mem_nil _)⟩) dX17_allocate_27) ?_
  refine jlk_cons (sm_iinc rfl B.1 dX17_allocate_28) ?_
  refine jlk_cons (sm_goto rfl B.1 dX17_allocate_31) ?_
  refine jlk_cons (sm_aload_n rfl B.1 dX17_allocate_34) ?_
  refine jlk_cons (sm_dup B.1 dX17_allocate_35) ?_
  refine jlk_cons (sm_getI B.1 fl_PointerAnalyzer_Run_144_17_109 dX17_allocate_36) ?_
  refine jlk_cons (sm_iconst rfl B.1 dX17_allocate_39) ?_
  refine jlk_cons (sm_iadd B.1 dX17_allocate_40) ?_
  refine jlk_cons (sm_putI B.1 fl_PointerAnalyzer_Run_144_17_109 tyX17 tyX17_ok nmX17 (Or.inl rfl) (tyX17_ok 5 (by decide)) rfl (by decide) dX17_allocate_41) ?_
  refine jlk_cons (sm_aload_n rfl B.1 dX17_allocate_44) ?_
  refine jlk_cons (sm_iconst rfl B.1 dX17_allocate_45) ?_
  refine jlk_cons (sm_aald B.1 (t := 108) (by decide) rfl dX17_allocate_46) ?_
  refine jlk_cons (sm_aret B.1 B.2.1 hret (Or.inl ⟨_, rfl⟩) dX17_allocate_47) ?_
  exact jlk_nil
theorem v_X17_allocate (hst : l.stackTraces = false) (hz : jEz (EV (d + 1))) (hI : jIH l D dA lo cs0 d) : jMe l D dA lo cs0 (EV (d + 1)) 318 yX17_allocate (ws_ yX17_allocate cX17_allocate 4 (Option.some (Jvm.ClassFile.FieldType.object "PointerAnalyzer$Place"))) (d + 1) := z_meth hz rfl hp_X17_allocate (r_X17_allocate hst hI)
theorem r_X17_move (hst : l.stackTraces = false) (hI : jIH l D dA lo cs0 d) : jRows l D dA lo cs0 d 5 (tb_X17_move (EV d)) yX17_move cX17_move (Option.none : Option Jvm.ClassFile.FieldType) [] := by
  intro p e R s m args below meth c z0 w0 zF wF Q rF hF B hz hw hret hnm
  refine jlk_cons (sm_aload_n rfl B.1 dX17_move_0) ?_
  refine jlk_cons (sm_ifnull rfl B.1 dX17_move_1) ?_
  refine jlk_cons (sm_iload_n rfl B.1 dX17_move_4) ?_
  refine jlk_cons (sm_ifne rfl B.1 dX17_move_5) ?_
  refine jlk_cons (sm_aload_n rfl B.1 dX17_move_8) ?_
  refine jlk_cons (sm_aload_n rfl B.1 dX17_move_9) ?_
  refine jlk_cons (sm_aload_n rfl B.1 dX17_move_10) ?_
  refine jlk_cons (sm_cV (x := yX17_assign) (host := "") (owner := "") isRV (i_X17_assign hI) B q2294 q2296 qs42 w4_X17_assign w6_X17_assign (by decide) (by decide) (by decide) kc_17 hy_X17_assign hl_X17_assign dX17_move_11 trivial) ?_
  refine jlk_cons (sm_vret B.1 B.2.1 hret dX17_move_14) ?_
  refine jlk_cons (sm_aload_n rfl B.1 dX17_move_15) ?_
  refine jlk_cons (sm_getIN B.1 fn_PointerAnalyzer_Run_42_18_111 dX17_move_16) ?_
  refine jlk_cons (sm_bipush rfl B.1 dX17_move_19) ?_
  refine jlk_cons (sm_isub B.1 dX17_move_21) ?_
  refine jlk_cons (sm_iconst rfl B.1 dX17_move_22) ?_
  refine jlk_cons (sm_irem B.1 dX17_move_23) ?_
  refine jlk_cons (sm_iload_n rfl B.1 dX17_move_24) ?_
  refine jlk_cons (sm_iadd B.1 dX17_move_25) ?_
  refine jlk_cons (sm_istore B.1 dX17_move_26) ?_
  refine jlk_cons (sm_aload_n rfl B.1 dX17_move_28) ?_
  refine jlk_cons (sm_getPN B.1 fn_PointerAnalyzer_Run_147_18_112 dX17_move_29) ?_
  refine jlk_cons (sm_ifnull rfl B.1 dX17_move_32) ?_
  refine jlk_cons (sm_iload B.1 dX17_move_35) ?_
  refine jlk_cons (sm_iconst rfl B.1 dX17_move_37) ?_
  refine jlk_cons (sm_icmplt rfl B.1 dX17_move_38) ?_
  refine jlk_cons (sm_aload_n rfl B.1 dX17_move_41) ?_
  refine jlk_cons (sm_dup B.1 dX17_move_42) ?_
  refine jlk_cons (sm_getI B.1 fl_PointerAnalyzer_Run_138_17_108 dX17_move_43) ?_
  refine jlk_cons (sm_iconst rfl B.1 dX17_move_46) ?_
  refine jlk_cons (sm_iadd B.1 dX17_move_47) ?_
  refine jlk_cons (sm_putI B.1 fl_PointerAnalyzer_Run_138_17_108 tyX17 tyX17_ok nmX17 (Or.inl rfl) (tyX17_ok 4 (by decide)) rfl (by decide) dX17_move_48) ?_
  refine jlk_cons (sm_goto rfl B.1 dX17_move_51) ?_
  refine jlk_cons (sm_aload_n rfl B.1 dX17_move_54) ?_
  refine jlk_cons (sm_aload_n rfl B.1 dX17_move_55) ?_
  refine jlk_cons (sm_aload_n rfl B.1 dX17_move_56) ?_
  refine jlk_cons (sm_getPN B.1 fn_PointerAnalyzer_Run_147_18_112 dX17_move_57) ?_
  refine jlk_cons (sm_iload B.1 dX17_move_60) ?_
  refine jlk_cons (sm_aald B.1 (t := 108) (by decide) rfl dX17_move_62) ?_
  refine jlk_cons (sm_cV (x := yX17_assign) (host := "") (owner := "") isRV (i_X17_assign hI) B q2294 q2296 qs42 w4_X17_assign w6_X17_assign (by decide) (by decide) (by decide) kc_17 hy_X17_assign hl_X17_assign dX17_move_63 trivial) ?_
  refine jlk_cons (sm_vret B.1 B.2.1 hret dX17_move_66) ?_
  exact jlk_nil
theorem v_X17_move (hst : l.stackTraces = false) (hz : jEz (EV (d + 1))) (hI : jIH l D dA lo cs0 d) : jMe l D dA lo cs0 (EV (d + 1)) 319 yX17_move (ws_ yX17_move cX17_move 5 (Option.none : Option Jvm.ClassFile.FieldType)) (d + 1) := z_meth hz rfl hp_X17_move (r_X17_move hst hI)
theorem r_X9_compare_2 (hst : l.stackTraces = false) (hI : jIH l D dA lo cs0 d) : jRows l D dA lo cs0 d 4 (tb_X9_compare_2 (EV d)) yX9_compare_2 cX9_compare_2 (Option.some Jvm.ClassFile.FieldType.int) [] := by
  intro p e R s m args below meth c z0 w0 zF wF Q rF hF B hz hw hret hnm
  refine jlk_cons (sm_aload_n rfl B.1 dX9_compare_2_0) ?_
  refine jlk_cons (sm_getPN B.1 fn_PointerAnalyzer_FewestFirst_7_12_87 dX9_compare_2_1) ?_
  refine jlk_cons (sm_cV (x := yJ40_cardinality) (host := "") (owner := "") isRI (i_J40_cardinality hI) B q623 q624 q625 w4_J40_cardinality w6_J40_cardinality (by decide) (by decide) (by decide) kc_36 hy_J40_cardinality hl_J40_cardinality dX9_compare_2_4 trivial) ?_
  refine jlk_cons (sm_aload_n rfl B.1 dX9_compare_2_7) ?_
  refine jlk_cons (sm_getPN B.1 fn_PointerAnalyzer_FewestFirst_7_12_87 dX9_compare_2_8) ?_
  refine jlk_cons (sm_cV (x := yJ40_cardinality) (host := "") (owner := "") isRI (i_J40_cardinality hI) B q623 q624 q625 w4_J40_cardinality w6_J40_cardinality (by decide) (by decide) (by decide) kc_36 hy_J40_cardinality hl_J40_cardinality dX9_compare_2_11 trivial) ?_
  refine jlk_cons (sm_cS (x := yJ6_compare) (r9 := kr_6) (host := "") (owner := "") isSI (i_J6_compare hI) B q633 q321 w4_J6_compare w6_J6_compare (by decide) hy_J6_compare hl_J6_compare dX9_compare_2_14 trivial) ?_
  refine jlk_cons (sm_istore_n rfl B.1 dX9_compare_2_17) ?_
  refine jlk_cons (sm_iload_n rfl B.1 dX9_compare_2_18) ?_
  refine jlk_cons (sm_ifeq rfl B.1 dX9_compare_2_19) ?_
  refine jlk_cons (sm_iload_n rfl B.1 dX9_compare_2_22) ?_
  refine jlk_cons (sm_goto rfl B.1 dX9_compare_2_23) ?_
  refine jlk_cons (sm_aload_n rfl B.1 dX9_compare_2_26) ?_
  refine jlk_cons (sm_getIN B.1 fn_PointerAnalyzer_FewestFirst_25_12_84 dX9_compare_2_27) ?_
  refine jlk_cons (sm_aload_n rfl B.1 dX9_compare_2_30) ?_
  refine jlk_cons (sm_getIN B.1 fn_PointerAnalyzer_FewestFirst_25_12_84 dX9_compare_2_31) ?_
  refine jlk_cons (sm_cS (x := yJ6_compare) (r9 := kr_6) (host := "") (owner := "") isSI (i_J6_compare hI) B q633 q321 w4_J6_compare w6_J6_compare (by decide) hy_J6_compare hl_J6_compare dX9_compare_2_34 trivial) ?_
  refine jlk_cons (sm_iret B.1 B.2.1 hret dX9_compare_2_37) ?_
  exact jlk_nil
theorem v_X9_compare_2 (hst : l.stackTraces = false) (hz : jEz (EV (d + 1))) (hI : jIH l D dA lo cs0 d) : jMe l D dA lo cs0 (EV (d + 1)) 322 yX9_compare_2 (ws_ yX9_compare_2 cX9_compare_2 4 (Option.some Jvm.ClassFile.FieldType.int)) (d + 1) := z_meth hz rfl hp_X9_compare_2 (r_X9_compare_2 hst hI)
theorem r_X11_compareTo_2 (hst : l.stackTraces = false) (hI : jIH l D dA lo cs0 d) : jRows l D dA lo cs0 d 4 (tb_X11_compareTo_2 (EV d)) yX11_compareTo_2 cX11_compareTo_2 (Option.some Jvm.ClassFile.FieldType.int) [] := by
  intro p e R s m args below meth c z0 w0 zF wF Q rF hF B hz hw hret hnm
  refine jlk_cons (sm_aload_n rfl B.1 dX11_compareTo_2_0) ?_
  refine jlk_cons (sm_getP B.1 fl_PointerAnalyzer_Context_7_11_83 dX11_compareTo_2_1) ?_
  refine jlk_cons (sm_alen B.1 (t := 101) (by decide) rfl dX11_compareTo_2_4) ?_
  refine jlk_cons (sm_aload_n rfl B.1 dX11_compareTo_2_5) ?_
  refine jlk_cons (sm_getP B.1 fl_PointerAnalyzer_Context_7_11_83 dX11_compareTo_2_6) ?_
  refine jlk_cons (sm_alen B.1 (t := 101) (by decide) rfl dX11_compareTo_2_9) ?_
  refine jlk_cons (sm_cS (x := yJ6_compare) (r9 := kr_6) (host := "") (owner := "") isSI (i_J6_compare hI) B q320 q321 w4_J6_compare w6_J6_compare (by decide) hy_J6_compare hl_J6_compare dX11_compareTo_2_10 trivial) ?_
  refine jlk_cons (sm_istore_n rfl B.1 dX11_compareTo_2_13) ?_
  refine jlk_cons (sm_iconst rfl B.1 dX11_compareTo_2_14) ?_
  refine jlk_cons (sm_istore_n rfl B.1 dX11_compareTo_2_15) ?_
  refine jlk_cons (sm_iload_n rfl B.1 dX11_compareTo_2_16) ?_
  refine jlk_cons (sm_aload_n rfl B.1 dX11_compareTo_2_17) ?_
  refine jlk_cons (sm_getP B.1 fl_PointerAnalyzer_Context_7_11_83 dX11_compareTo_2_18) ?_
  refine jlk_cons (sm_alen B.1 (t := 101) (by decide) rfl dX11_compareTo_2_21) ?_
  refine jlk_cons (sm_icmpge rfl B.1 dX11_compareTo_2_22) ?_
  refine jlk_cons (sm_iload_n rfl B.1 dX11_compareTo_2_25) ?_
  refine jlk_cons (sm_ifne rfl B.1 dX11_compareTo_2_26) ?_
  refine jlk_cons (sm_aload_n rfl B.1 dX11_compareTo_2_29) ?_
  refine jlk_cons (sm_getP B.1 fl_PointerAnalyzer_Context_7_11_83 dX11_compareTo_2_30) ?_
  refine jlk_cons (sm_iload_n rfl B.1 dX11_compareTo_2_33) ?_
  refine jlk_cons (sm_iald B.1 dX11_compareTo_2_34) ?_
  refine jlk_cons (sm_aload_n rfl B.1 dX11_compareTo_2_35) ?_
  refine jlk_cons (sm_getP B.1 fl_PointerAnalyzer_Context_7_11_83 dX11_compareTo_2_36) ?_
  refine jlk_cons (sm_iload_n rfl B.1 dX11_compareTo_2_39) ?_
  refine jlk_cons (sm_iald B.1 dX11_compareTo_2_40) ?_
  refine jlk_cons (sm_cS (x := yJ6_compare) (r9 := kr_6) (host := "") (owner := "") isSI (i_J6_compare hI) B q320 q321 w4_J6_compare w6_J6_compare (by decide) hy_J6_compare hl_J6_compare dX11_compareTo_2_41 trivial) ?_
  refine jlk_cons (sm_istore_n rfl B.1 dX11_compareTo_2_44) ?_
  refine jlk_cons (sm_iinc rfl B.1 dX11_compareTo_2_45) ?_
  refine jlk_cons (sm_goto rfl B.1 dX11_compareTo_2_48) ?_
  refine jlk_cons (sm_iload_n rfl B.1 dX11_compareTo_2_51) ?_
  refine jlk_cons (sm_iret B.1 B.2.1 hret dX11_compareTo_2_52) ?_
  exact jlk_nil
theorem v_X11_compareTo_2 (hst : l.stackTraces = false) (hz : jEz (EV (d + 1))) (hI : jIH l D dA lo cs0 d) : jMe l D dA lo cs0 (EV (d + 1)) 324 yX11_compareTo_2 (ws_ yX11_compareTo_2 cX11_compareTo_2 4 (Option.some Jvm.ClassFile.FieldType.int)) (d + 1) := z_meth hz rfl hp_X11_compareTo_2 (r_X11_compareTo_2 hst hI)
theorem r_X5_assignment (hst : l.stackTraces = false) (hI : jIH l D dA lo cs0 d) : jRows l D dA lo cs0 d 4 (tb_X5_assignment (EV d)) yX5_assignment cX5_assignment (Option.some (Jvm.ClassFile.FieldType.object "PointerAnalyzer$Line")) [] := by
  intro p e R s m args below meth c z0 w0 zF wF Q rF hF B hz hw hret hnm
  refine jlk_app ?_ ?_
  · refine jlk_cons (sm_aload_n rfl B.1 dX5_assignment_0) ?_
    refine jlk_cons (sm_cV (x := yX5_variable) (host := "") (owner := "") isXRI (i_X5_variable hI) B q2506 q2508 qs55 w4_X5_variable w6_X5_variable (by decide) (by decide) (by decide) kc_5 hy_X5_variable hl_X5_variable dX5_assignment_1 rfl) ?_
    refine jlk_cons (sm_istore_n rfl B.1 dX5_assignment_4) ?_
    refine jlk_cons (sm_aload_n rfl B.1 dX5_assignment_5) ?_
    refine jlk_cons (sm_aload_n rfl B.1 dX5_assignment_6) ?_
    refine jlk_cons (sm_bipush rfl B.1 dX5_assignment_7) ?_
    refine jlk_cons (sm_cV (x := yX5_passes) (host := "") (owner := "") isRI (i_X5_passes hI) B q2494 q2496 qs52 w4_X5_passes w6_X5_passes (by decide) (by decide) (by decide) kc_5 hy_X5_passes hl_X5_passes dX5_assignment_9 trivial) ?_
    refine jlk_cons (sm_cV (x := yX5_must) (host := "") (owner := "") isXRV (i_X5_must hI) B q2559 q2561 qs56 w4_X5_must w6_X5_must (by decide) (by decide) (by decide) kc_5 hy_X5_must hl_X5_must dX5_assignment_12 rfl) ?_
    refine jlk_cons (sm_aload_n rfl B.1 dX5_assignment_15) ?_
    refine jlk_cons (sm_bipush rfl B.1 dX5_assignment_16) ?_
    refine jlk_cons (sm_cV (x := yX5_passes) (host := "") (owner := "") isRI (i_X5_passes hI) B q2494 q2496 qs52 w4_X5_passes w6_X5_passes (by decide) (by decide) (by decide) kc_5 hy_X5_passes hl_X5_passes dX5_assignment_18 trivial) ?_
    refine jlk_cons (sm_ifeq rfl B.1 dX5_assignment_21) ?_
    refine jlk_cons (sm_new B.1 kc_7 (by decide) (by decide) in_X7 tyX7 tyX7_ok kd_7 q2583 q2584 q168 B.2.2.2 hz hw dX5_assignment_24) ?_
    refine jlk_cons (sm_dup B.1 dX5_assignment_27) ?_
    refine jlk_cons (sm_cstS B.1 (List.mem_of_getElem? (i := 3) rfl) q2585 dX5_assignment_28) ?_
    refine jlk_cons (sm_iload_n rfl B.1 dX5_assignment_31) ?_
    refine jlk_cons (sm_aload_n rfl B.1 dX5_assignment_32) ?_
    refine jlk_cons (sm_cV (x := yX5_variable) (host := "") (owner := "") isXRI (i_X5_variable hI) B q2506 q2508 qs55 w4_X5_variable w6_X5_variable (by decide) (by decide) (by decide) kc_5 hy_X5_variable hl_X5_variable dX5_assignment_33 rfl) ?_
    refine jlk_cons (sm_iconst rfl B.1 dX5_assignment_36) ?_
    refine jlk_cons (sm_cI (x := yX7_init) (r9 := kr_6) (host := "") (owner := "") isNV (i_X7_init hI) B q2587 q2588 w4_X7_init w6_X7_init (by decide) rfl hy_X7_init hl_X7_init dX5_assignment_37 trivial) ?_
    refine jlk_cons (sm_aret B.1 B.2.1 hret (Or.inl ⟨_, rfl⟩) dX5_assignment_40) ?_
    refine jlk_cons (sm_aload_n rfl B.1 dX5_assignment_41) ?_
    refine jlk_cons (sm_bipush rfl B.1 dX5_assignment_42) ?_
    refine jlk_cons (sm_cV (x := yX5_passes) (host := "") (owner := "") isRI (i_X5_passes hI) B q2494 q2496 qs52 w4_X5_passes w6_X5_passes (by decide) (by decide) (by decide) kc_5 hy_X5_passes hl_X5_passes dX5_assignment_44 trivial) ?_
    refine jlk_cons (sm_ifeq rfl B.1 dX5_assignment_47) ?_
    refine jlk_cons (sm_new B.1 kc_7 (by decide) (by decide) in_X7 tyX7 tyX7_ok kd_7 q2583 q2584 q168 B.2.2.2 hz hw dX5_assignment_50) ?_
    refine jlk_cons (sm_dup B.1 dX5_assignment_53) ?_
    refine jlk_cons (sm_cstS B.1 (List.mem_of_getElem? (i := 5) rfl) q2628 dX5_assignment_54) ?_
    refine jlk_cons (sm_iload_n rfl B.1 dX5_assignment_57) ?_
    refine jlk_cons (sm_aload_n rfl B.1 dX5_assignment_58) ?_
    refine jlk_cons (sm_cV (x := yX5_variable) (host := "") (owner := "") isXRI (i_X5_variable hI) B q2506 q2508 qs55 w4_X5_variable w6_X5_variable (by decide) (by decide) (by decide) kc_5 hy_X5_variable hl_X5_variable dX5_assignment_59 rfl) ?_
    refine jlk_cons (sm_iconst rfl B.1 dX5_assignment_62) ?_
    refine jlk_cons (sm_cI (x := yX7_init) (r9 := kr_6) (host := "") (owner := "") isNV (i_X7_init hI) B q2587 q2588 w4_X7_init w6_X7_init (by decide) rfl hy_X7_init hl_X7_init dX5_assignment_63 trivial) ?_
    refine jlk_cons (sm_aret B.1 B.2.1 hret (Or.inl ⟨_, rfl⟩) dX5_assignment_66) ?_
    refine jlk_cons (sm_aload_n rfl B.1 dX5_assignment_67) ?_
    refine jlk_cons (sm_bipush rfl B.1 dX5_assignment_68) ?_
    refine jlk_cons (sm_cV (x := yX5_passes) (host := "") (owner := "") isRI (i_X5_passes hI) B q2494 q2496 qs52 w4_X5_passes w6_X5_passes (by decide) (by decide) (by decide) kc_5 hy_X5_passes hl_X5_passes dX5_assignment_70 trivial) ?_
    refine jlk_cons (sm_ifeq rfl B.1 dX5_assignment_73) ?_
    refine jlk_cons (sm_aload_n rfl B.1 dX5_assignment_76) ?_
    refine jlk_cons (sm_aload_n rfl B.1 dX5_assignment_77) ?_
    exact jlk_nil
  · skip
    refine jlk_app ?_ ?_
    · refine jlk_cons (sm_bipush rfl B.1 dX5_assignment_78) ?_
      refine jlk_cons (sm_cV (x := yX5_passes) (host := "") (owner := "") isRI (i_X5_passes hI) B q2494 q2496 qs52 w4_X5_passes w6_X5_passes (by decide) (by decide) (by decide) kc_5 hy_X5_passes hl_X5_passes dX5_assignment_80 trivial) ?_
      refine jlk_cons (sm_cV (x := yX5_must) (host := "") (owner := "") isXRV (i_X5_must hI) B q2559 q2561 qs56 w4_X5_must w6_X5_must (by decide) (by decide) (by decide) kc_5 hy_X5_must hl_X5_must dX5_assignment_83 rfl) ?_
      refine jlk_cons (sm_aload_n rfl B.1 dX5_assignment_86) ?_
      refine jlk_cons (sm_aload_n rfl B.1 dX5_assignment_87) ?_
      refine jlk_cons (sm_bipush rfl B.1 dX5_assignment_88) ?_
      refine jlk_cons (sm_cV (x := yX5_passes) (host := "") (owner := "") isRI (i_X5_passes hI) B q2494 q2496 qs52 w4_X5_passes w6_X5_passes (by decide) (by decide) (by decide) kc_5 hy_X5_passes hl_X5_passes dX5_assignment_90 trivial) ?_
      refine jlk_cons (sm_cV (x := yX5_must) (host := "") (owner := "") isXRV (i_X5_must hI) B q2559 q2561 qs56 w4_X5_must w6_X5_must (by decide) (by decide) (by decide) kc_5 hy_X5_must hl_X5_must dX5_assignment_93 rfl) ?_
      refine jlk_cons (sm_new B.1 kc_7 (by decide) (by decide) in_X7 tyX7 tyX7_ok kd_7 q2583 q2584 q168 B.2.2.2 hz hw dX5_assignment_96) ?_
      refine jlk_cons (sm_dup B.1 dX5_assignment_99) ?_
      refine jlk_cons (sm_cstS B.1 (List.mem_of_getElem? (i := 7) rfl) q2630 dX5_assignment_100) ?_
      refine jlk_cons (sm_iload_n rfl B.1 dX5_assignment_103) ?_
      refine jlk_cons (sm_iconst rfl B.1 dX5_assignment_104) ?_
      refine jlk_cons (sm_iconst rfl B.1 dX5_assignment_105) ?_
      refine jlk_cons (sm_cI (x := yX7_init) (r9 := kr_6) (host := "") (owner := "") isNV (i_X7_init hI) B q2587 q2588 w4_X7_init w6_X7_init (by decide) rfl hy_X7_init hl_X7_init dX5_assignment_106 trivial) ?_
      refine jlk_cons (sm_aret B.1 B.2.1 hret (Or.inl ⟨_, rfl⟩) dX5_assignment_109) ?_
      refine jlk_cons (sm_aload_n rfl B.1 dX5_assignment_110) ?_
      refine jlk_cons (sm_bipush rfl B.1 dX5_assignment_111) ?_
      refine jlk_cons (sm_cV (x := yX5_passes) (host := "") (owner := "") isRI (i_X5_passes hI) B q2494 q2496 qs52 w4_X5_passes w6_X5_passes (by decide) (by decide) (by decide) kc_5 hy_X5_passes hl_X5_passes dX5_assignment_113 trivial) ?_
      refine jlk_cons (sm_ifeq rfl B.1 dX5_assignment_116) ?_
      refine jlk_cons (sm_aload_n rfl B.1 dX5_assignment_119) ?_
      refine jlk_cons (sm_iconst rfl B.1 dX5_assignment_120) ?_
      refine jlk_cons (sm_cV (x := yX5_digit) (host := "") (owner := "") isXRI (i_X5_digit hI) B q2631 q2633 qs57 w4_X5_digit w6_X5_digit (by decide) (by decide) (by decide) kc_5 hy_X5_digit hl_X5_digit dX5_assignment_121 rfl) ?_
      refine jlk_cons (sm_istore_n rfl B.1 dX5_assignment_124) ?_
      refine jlk_cons (sm_aload_n rfl B.1 dX5_assignment_125) ?_
      refine jlk_cons (sm_aload_n rfl B.1 dX5_assignment_126) ?_
      refine jlk_cons (sm_bipush rfl B.1 dX5_assignment_127) ?_
      refine jlk_cons (sm_cV (x := yX5_passes) (host := "") (owner := "") isRI (i_X5_passes hI) B q2494 q2496 qs52 w4_X5_passes w6_X5_passes (by decide) (by decide) (by decide) kc_5 hy_X5_passes hl_X5_passes dX5_assignment_129 trivial) ?_
      refine jlk_cons (sm_cV (x := yX5_must) (host := "") (owner := "") isXRV (i_X5_must hI) B q2559 q2561 qs56 w4_X5_must w6_X5_must (by decide) (by decide) (by decide) kc_5 hy_X5_must hl_X5_must dX5_assignment_132 rfl) ?_
      refine jlk_cons (sm_aload_n rfl B.1 dX5_assignment_135) ?_
      refine jlk_cons (sm_cV (x := yX5_variable) (host := "") (owner := "") isXRI (i_X5_variable hI) B q2506 q2508 qs55 w4_X5_variable w6_X5_variable (by decide) (by decide) (by decide) kc_5 hy_X5_variable hl_X5_variable dX5_assignment_136 rfl) ?_
      refine jlk_cons (sm_istore_n rfl B.1 dX5_assignment_139) ?_
      refine jlk_cons (sm_aload_n rfl B.1 dX5_assignment_140) ?_
      refine jlk_cons (sm_aload_n rfl B.1 dX5_assignment_141) ?_
      refine jlk_cons (sm_bipush rfl B.1 dX5_assignment_142) ?_
      refine jlk_cons (sm_cV (x := yX5_passes) (host := "") (owner := "") isRI (i_X5_passes hI) B q2494 q2496 qs52 w4_X5_passes w6_X5_passes (by decide) (by decide) (by decide) kc_5 hy_X5_passes hl_X5_passes dX5_assignment_144 trivial) ?_
      refine jlk_cons (sm_cV (x := yX5_must) (host := "") (owner := "") isXRV (i_X5_must hI) B q2559 q2561 qs56 w4_X5_must w6_X5_must (by decide) (by decide) (by decide) kc_5 hy_X5_must hl_X5_must dX5_assignment_147 rfl) ?_
      refine jlk_cons (sm_new B.1 kc_7 (by decide) (by decide) in_X7 tyX7 tyX7_ok kd_7 q2583 q2584 q168 B.2.2.2 hz hw dX5_assignment_150) ?_
      refine jlk_cons (sm_dup B.1 dX5_assignment_153) ?_
      refine jlk_cons (sm_cstS B.1 (List.mem_of_getElem? (i := 9) rfl) q2636 dX5_assignment_154) ?_
      exact jlk_nil
    · skip
      refine jlk_cons (sm_iload_n rfl B.1 dX5_assignment_157) ?_
      refine jlk_cons (sm_iload_n rfl B.1 dX5_assignment_158) ?_
      refine jlk_cons (sm_iload_n rfl B.1 dX5_assignment_159) ?_
      refine jlk_cons (sm_cI (x := yX7_init) (r9 := kr_6) (host := "") (owner := "") isNV (i_X7_init hI) B q2587 q2588 w4_X7_init w6_X7_init (by decide) rfl hy_X7_init hl_X7_init dX5_assignment_160 trivial) ?_
      refine jlk_cons (sm_aret B.1 B.2.1 hret (Or.inl ⟨_, rfl⟩) dX5_assignment_163) ?_
      refine jlk_cons (sm_aload_n rfl B.1 dX5_assignment_164) ?_
      refine jlk_cons (sm_cV (x := yX5_variable) (host := "") (owner := "") isXRI (i_X5_variable hI) B q2506 q2508 qs55 w4_X5_variable w6_X5_variable (by decide) (by decide) (by decide) kc_5 hy_X5_variable hl_X5_variable dX5_assignment_165 rfl) ?_
      refine jlk_cons (sm_istore_n rfl B.1 dX5_assignment_168) ?_
      refine jlk_cons (sm_aload_n rfl B.1 dX5_assignment_169) ?_
      refine jlk_cons (sm_bipush rfl B.1 dX5_assignment_170) ?_
      refine jlk_cons (sm_cV (x := yX5_passes) (host := "") (owner := "") isRI (i_X5_passes hI) B q2494 q2496 qs52 w4_X5_passes w6_X5_passes (by decide) (by decide) (by decide) kc_5 hy_X5_passes hl_X5_passes dX5_assignment_172 trivial) ?_
      refine jlk_cons (sm_ifeq rfl B.1 dX5_assignment_175) ?_
      refine jlk_cons (sm_new B.1 kc_7 (by decide) (by decide) in_X7 tyX7 tyX7_ok kd_7 q2583 q2584 q168 B.2.2.2 hz hw dX5_assignment_178) ?_
      refine jlk_cons (sm_dup B.1 dX5_assignment_181) ?_
      refine jlk_cons (sm_cstS B.1 (List.mem_of_getElem? (i := 8) rfl) q2637 dX5_assignment_182) ?_
      refine jlk_cons (sm_iload_n rfl B.1 dX5_assignment_185) ?_
      refine jlk_cons (sm_iload_n rfl B.1 dX5_assignment_186) ?_
      refine jlk_cons (sm_aload_n rfl B.1 dX5_assignment_187) ?_
      refine jlk_cons (sm_iconst rfl B.1 dX5_assignment_188) ?_
      refine jlk_cons (sm_cV (x := yX5_digit) (host := "") (owner := "") isXRI (i_X5_digit hI) B q2631 q2633 qs57 w4_X5_digit w6_X5_digit (by decide) (by decide) (by decide) kc_5 hy_X5_digit hl_X5_digit dX5_assignment_189 rfl) ?_
      refine jlk_cons (sm_cI (x := yX7_init) (r9 := kr_6) (host := "") (owner := "") isNV (i_X7_init hI) B q2587 q2588 w4_X7_init w6_X7_init (by decide) rfl hy_X7_init hl_X7_init dX5_assignment_192 trivial) ?_
      refine jlk_cons (sm_goto rfl B.1 dX5_assignment_195) ?_
      refine jlk_cons (sm_new B.1 kc_7 (by decide) (by decide) in_X7 tyX7 tyX7_ok kd_7 q2583 q2584 q168 B.2.2.2 hz hw dX5_assignment_198) ?_
      refine jlk_cons (sm_dup B.1 dX5_assignment_201) ?_
      refine jlk_cons (sm_cstS B.1 (List.mem_of_getElem? (i := 4) rfl) q2639 dX5_assignment_202) ?_
      refine jlk_cons (sm_iload_n rfl B.1 dX5_assignment_205) ?_
      refine jlk_cons (sm_iload_n rfl B.1 dX5_assignment_206) ?_
      refine jlk_cons (sm_iconst rfl B.1 dX5_assignment_207) ?_
      refine jlk_cons (sm_cI (x := yX7_init) (r9 := kr_6) (host := "") (owner := "") isNV (i_X7_init hI) B q2587 q2588 w4_X7_init w6_X7_init (by decide) rfl hy_X7_init hl_X7_init dX5_assignment_208 trivial) ?_
      refine jlk_cons (sm_aret B.1 B.2.1 hret (Or.inl ⟨_, rfl⟩) dX5_assignment_211) ?_
      exact jlk_nil
theorem v_X5_assignment (hst : l.stackTraces = false) (hz : jEz (EV (d + 1))) (hI : jIH l D dA lo cs0 d) : jMe l D dA lo cs0 (EV (d + 1)) 334 yX5_assignment (ws_ yX5_assignment cX5_assignment 4 (Option.some (Jvm.ClassFile.FieldType.object "PointerAnalyzer$Line"))) (d + 1) := z_meth hz rfl hp_X5_assignment (r_X5_assignment hst hI)
theorem r_X5_variable (hst : l.stackTraces = false) (hI : jIH l D dA lo cs0 d) : jRows l D dA lo cs0 d 2 (tb_X5_variable (EV d)) yX5_variable cX5_variable (Option.some Jvm.ClassFile.FieldType.int) [] := by
  intro p e R s m args below meth c z0 w0 zF wF Q rF hF B hz hw hret hnm
  refine jlk_cons (sm_cstT B.1 rfl dX5_variable_0) ?_
  refine jlk_cons (sm_aload_n rfl B.1 dX5_variable_2) ?_
  refine jlk_cons (sm_cV (x := yX5_here) (host := "") (owner := "") isRI (i_X5_here hI) B q2498 q2500 qs53 w4_X5_here w6_X5_here (by decide) (by decide) (by decide) kc_5 hy_X5_here hl_X5_here dX5_variable_3 trivial) ?_
  refine jlk_cons (sm_cV (x := yJ7_indexOf) (host := "") (owner := "") isRI (i_J7_indexOf hI) B q2511 q2512 q2513 w4_J7_indexOf w6_J7_indexOf (by decide) (by decide) (by decide) kc_23 hy_J7_indexOf hl_J7_indexOf dX5_variable_6 trivial) ?_
  refine jlk_cons (sm_istore_n rfl B.1 dX5_variable_9) ?_
  refine jlk_cons (sm_aload_n rfl B.1 dX5_variable_10) ?_
  refine jlk_cons (sm_iload_n rfl B.1 dX5_variable_11) ?_
  refine jlk_cons (sm_iflt rfl B.1 dX5_variable_12) ?_
  refine jlk_cons (sm_iconst rfl B.1 dX5_variable_15) ?_
  refine jlk_cons (sm_goto rfl B.1 dX5_variable_16) ?_
  refine jlk_cons (sm_iconst rfl B.1 dX5_variable_19) ?_
  refine jlk_cons (sm_cV (x := yX5_must) (host := "") (owner := "") isXRV (i_X5_must hI) B q2559 q2561 qs56 w4_X5_must w6_X5_must (by decide) (by decide) (by decide) kc_5 hy_X5_must hl_X5_must dX5_variable_20 rfl) ?_
  refine jlk_cons (sm_aload_n rfl B.1 dX5_variable_23) ?_
  refine jlk_cons (sm_dup B.1 dX5_variable_24) ?_
  refine jlk_cons (sm_getI B.1 fl_PointerAnalyzer_Reader_26_5_63 dX5_variable_25) ?_
  refine jlk_cons (sm_iconst rfl B.1 dX5_variable_28) ?_
  refine jlk_cons (sm_iadd B.1 dX5_variable_29) ?_
  refine jlk_cons (sm_putI B.1 fl_PointerAnalyzer_Reader_26_5_63 tyX5 tyX5_ok nmX5 (Or.inl rfl) (tyX5_ok 2 (by decide)) rfl (by decide) dX5_variable_30) ?_
  refine jlk_cons (sm_iload_n rfl B.1 dX5_variable_33) ?_
  refine jlk_cons (sm_iconst rfl B.1 dX5_variable_34) ?_
  refine jlk_cons (sm_icmpge rfl B.1 dX5_variable_35) ?_
  refine jlk_cons (sm_iload_n rfl B.1 dX5_variable_38) ?_
  refine jlk_cons (sm_goto rfl B.1 dX5_variable_39) ?_
  refine jlk_cons (sm_aload_n rfl B.1 dX5_variable_42) ?_
  refine jlk_cons (sm_getI B.1 fl_PointerAnalyzer_Reader_22_5_61 dX5_variable_43) ?_
  refine jlk_cons (sm_iload_n rfl B.1 dX5_variable_46) ?_
  refine jlk_cons (sm_iconst rfl B.1 dX5_variable_47) ?_
  refine jlk_cons (sm_isub B.1 dX5_variable_48) ?_
  refine jlk_cons (sm_cSN (x := yX1_local) (r9 := kr_6) (owner := "") isSI (i_X1_local hI) B q2582 q1641 w4_X1_local w6_X1_local (by decide) hy_X1_local hl_X1_local dX5_variable_49 trivial) ?_
  refine jlk_cons (sm_iret B.1 B.2.1 hret dX5_variable_52) ?_
  exact jlk_nil
theorem v_X5_variable (hst : l.stackTraces = false) (hz : jEz (EV (d + 1))) (hI : jIH l D dA lo cs0 d) : jMe l D dA lo cs0 (EV (d + 1)) 335 yX5_variable (ws_ yX5_variable cX5_variable 2 (Option.some Jvm.ClassFile.FieldType.int)) (d + 1) := z_meth hz rfl hp_X5_variable (r_X5_variable hst hI)
theorem r_X7_init (hst : l.stackTraces = false) (hI : jIH l D dA lo cs0 d) : jRows l D dA lo cs0 d 5 (tb_X7_init (EV d)) yX7_init cX7_init (Option.none : Option Jvm.ClassFile.FieldType) [] := by
  intro p e R s m args below meth c z0 w0 zF wF Q rF hF B hz hw hret hnm
  refine jlk_cons (sm_aload_n rfl B.1 dX7_init_0) ?_
  refine jlk_cons (sm_obj B.1 q2590 q196 q197 dX7_init_1) ?_
  refine jlk_cons (sm_aload_n rfl B.1 dX7_init_4) ?_
  refine jlk_cons (sm_aload_n rfl B.1 dX7_init_5) ?_
  refine jlk_cons (sm_putP B.1 fl_PointerAnalyzer_Line_7_7_72 tyX7 tyX7_ok nmX7 (Or.inr ⟨rfl, hnm, rfl⟩) rfl (tyX7_ok 0 (by decide)) rfl (by decide) dX7_init_6) ?_
  refine jlk_cons (sm_aload_n rfl B.1 dX7_init_9) ?_
  refine jlk_cons (sm_iload_n rfl B.1 dX7_init_10) ?_
  refine jlk_cons (sm_putI B.1 fl_PointerAnalyzer_Line_13_7_73 tyX7 tyX7_ok nmX7 (Or.inr ⟨rfl, hnm, rfl⟩) (tyX7_ok 1 (by decide)) rfl (by decide) dX7_init_11) ?_
  refine jlk_cons (sm_aload_n rfl B.1 dX7_init_14) ?_
  refine jlk_cons (sm_iload_n rfl B.1 dX7_init_15) ?_
  refine jlk_cons (sm_putI B.1 fl_PointerAnalyzer_Line_17_7_74 tyX7 tyX7_ok nmX7 (Or.inr ⟨rfl, hnm, rfl⟩) (tyX7_ok 2 (by decide)) rfl (by decide) dX7_init_16) ?_
  refine jlk_cons (sm_aload_n rfl B.1 dX7_init_19) ?_
  refine jlk_cons (sm_iload B.1 dX7_init_20) ?_
  refine jlk_cons (sm_putI B.1 fl_PointerAnalyzer_Line_20_7_75 tyX7 tyX7_ok nmX7 (Or.inr ⟨rfl, hnm, rfl⟩) (tyX7_ok 3 (by decide)) rfl (by decide) dX7_init_22) ?_
  refine jlk_cons (sm_vret B.1 B.2.1 hret dX7_init_25) ?_
  exact jlk_nil
theorem v_X7_init (hst : l.stackTraces = false) (hz : jEz (EV (d + 1))) (hI : jIH l D dA lo cs0 d) : jMe l D dA lo cs0 (EV (d + 1)) 336 yX7_init (ws_ yX7_init cX7_init 5 (Option.none : Option Jvm.ClassFile.FieldType)) (d + 1) := z_meth hz rfl hp_X7_init (r_X7_init hst hI)
theorem r_X5_here (hst : l.stackTraces = false) (hI : jIH l D dA lo cs0 d) : jRows l D dA lo cs0 d 1 (tb_X5_here (EV d)) yX5_here cX5_here (Option.some Jvm.ClassFile.FieldType.char) [] := by
  intro p e R s m args below meth c z0 w0 zF wF Q rF hF B hz hw hret hnm
  refine jlk_cons (sm_aload_n rfl B.1 dX5_here_0) ?_
  refine jlk_cons (sm_getI B.1 fl_PointerAnalyzer_Reader_26_5_63 dX5_here_1) ?_
  refine jlk_cons (sm_aload_n rfl B.1 dX5_here_4) ?_
  refine jlk_cons (sm_getP B.1 fl_PointerAnalyzer_Reader_3_5_64 dX5_here_5) ?_
  refine jlk_cons (sm_getIN B.1 fn_PointerAnalyzer_Reader_29_1_5 dX5_here_8) ?_
  refine jlk_cons (sm_icmpge rfl B.1 dX5_here_11) ?_
  refine jlk_cons (sm_aload_n rfl B.1 dX5_here_14) ?_
  refine jlk_cons (sm_getP B.1 fl_PointerAnalyzer_Reader_3_5_64 dX5_here_15) ?_
  refine jlk_cons (sm_getPN B.1 fn_PointerAnalyzer_Reader_32_1_4 dX5_here_18) ?_
  refine jlk_cons (sm_aload_n rfl B.1 dX5_here_21) ?_
  refine jlk_cons (sm_getI B.1 fl_PointerAnalyzer_Reader_26_5_63 dX5_here_22) ?_
  refine jlk_cons (sm_cald B.1 dX5_here_25) ?_
  refine jlk_cons (sm_goto rfl B.1 dX5_here_26) ?_
  refine jlk_cons (sm_bipush rfl B.1 dX5_here_29) ?_
  refine jlk_cons (sm_tret B.1 B.2.1 hret dX5_here_31) ?_
  exact jlk_nil
theorem v_X5_here (hst : l.stackTraces = false) (hz : jEz (EV (d + 1))) (hI : jIH l D dA lo cs0 d) : jMe l D dA lo cs0 (EV (d + 1)) 337 yX5_here (ws_ yX5_here cX5_here 1 (Option.some Jvm.ClassFile.FieldType.char)) (d + 1) := z_meth hz rfl hp_X5_here (r_X5_here hst hI)
theorem r_X6_init (hst : l.stackTraces = false) (hI : jIH l D dA lo cs0 d) : jRows l D dA lo cs0 d 2 (tb_X6_init (EV d)) yX6_init cX6_init (Option.none : Option Jvm.ClassFile.FieldType) [] := by
  intro p e R s m args below meth c z0 w0 zF wF Q rF hF B hz hw hret hnm
  refine jlk_cons (sm_aload_n rfl B.1 dX6_init_0) ?_
  refine jlk_cons (sm_null B.1 dX6_init_1) ?_
  refine jlk_cons (sm_null B.1 dX6_init_2) ?_
  refine jlk_cons (sm_iconst rfl B.1 dX6_init_3) ?_
  refine jlk_cons (sm_iconst rfl B.1 dX6_init_4) ?_
  refine jlk_cons (sm_cI (x := yJ24_init_3) (r9 := kr_6) (host := "") (owner := "") isNV (i_J24_init_3 hI) B q2575 q2323 w4_J24_init_3 w6_J24_init_3 (by decide) rfl hy_J24_init_3 hl_J24_init_3 dX6_init_5 trivial) ?_
  refine jlk_cons (sm_aload_n rfl B.1 dX6_init_8) ?_
  refine jlk_cons (sm_iload_n rfl B.1 dX6_init_9) ?_
  refine jlk_cons (sm_putI B.1 fl_PointerAnalyzer_FaultException_7_6_71 tyX6 tyX6_ok nmX6 (Or.inr ⟨rfl, hnm, rfl⟩) (tyX6_ok 6 (by decide)) rfl (by decide) dX6_init_10) ?_
  refine jlk_cons (sm_vret B.1 B.2.1 hret dX6_init_13) ?_
  exact jlk_nil
theorem v_X6_init (hst : l.stackTraces = false) (hz : jEz (EV (d + 1))) (hI : jIH l D dA lo cs0 d) : jMe l D dA lo cs0 (EV (d + 1)) 338 yX6_init (ws_ yX6_init cX6_init 2 (Option.none : Option Jvm.ClassFile.FieldType)) (d + 1) := z_meth hz rfl hp_X6_init (r_X6_init hst hI)
theorem r_X12_init (hst : l.stackTraces = false) (hI : jIH l D dA lo cs0 d) : jRows l D dA lo cs0 d 3 (tb_X12_init (EV d)) yX12_init cX12_init (Option.none : Option Jvm.ClassFile.FieldType) [] := by
  intro p e R s m args below meth c z0 w0 zF wF Q rF hF B hz hw hret hnm
  refine jlk_cons (sm_aload_n rfl B.1 dX12_init_0) ?_
  refine jlk_cons (sm_obj B.1 q1570 q196 q197 dX12_init_1) ?_
  refine jlk_cons (sm_aload_n rfl B.1 dX12_init_4) ?_
  refine jlk_cons (sm_new B.1 kc_36 (by decide) (by decide) in_J40 tyJ40 tyJ40_ok kd_36 q1571 q1572 q179 B.2.2.2 hz hw dX12_init_5) ?_
  refine jlk_cons (sm_dup B.1 dX12_init_8) ?_
  refine jlk_cons (sm_cI (x := yJ40_init) (r9 := kr_6) (host := "") (owner := "") isNV (i_J40_init hI) B q1573 q1574 w4_J40_init w6_J40_init (by decide) rfl hy_J40_init hl_J40_init dX12_init_9 trivial) ?_
  refine jlk_cons (sm_putP B.1 fl_PointerAnalyzer_Cell_10_12_87 tyX12 tyX12_ok nmX12 (Or.inr ⟨rfl, hnm, rfl⟩) rfl (tyX12_ok 3 (by decide)) rfl (by decide) dX12_init_12) ?_
  refine jlk_cons (sm_aload_n rfl B.1 dX12_init_15) ?_
  refine jlk_cons (sm_new B.1 kc_36 (by decide) (by decide) in_J40 tyJ40 tyJ40_ok kd_36 q1571 q1572 q179 B.2.2.2 hz hw dX12_init_16) ?_
  refine jlk_cons (sm_dup B.1 dX12_init_19) ?_
  refine jlk_cons (sm_cI (x := yJ40_init) (r9 := kr_6) (host := "") (owner := "") isNV (i_J40_init hI) B q1573 q1574 w4_J40_init w6_J40_init (by decide) rfl hy_J40_init hl_J40_init dX12_init_20 trivial) ?_
  refine jlk_cons (sm_putP B.1 fl_PointerAnalyzer_Cell_16_12_88 tyX12 tyX12_ok nmX12 (Or.inr ⟨rfl, hnm, rfl⟩) rfl (tyX12_ok 4 (by decide)) rfl (by decide) dX12_init_23) ?_
  refine jlk_cons (sm_aload_n rfl B.1 dX12_init_26) ?_
  refine jlk_cons (sm_new B.1 kc_21 (by decide) (by decide) in_J4 tyJ4 tyJ4_ok kd_21 q1595 q240 q129 B.2.2.2 hz hw dX12_init_27) ?_
  refine jlk_cons (sm_dup B.1 dX12_init_30) ?_
  refine jlk_cons (sm_cI (x := yJ4_init) (r9 := kr_6) (host := "") (owner := "") isNV (i_J4_init hI) B q1596 q242 w4_J4_init w6_J4_init (by decide) rfl hy_J4_init hl_J4_init dX12_init_31 trivial) ?_
  refine jlk_cons (sm_putP B.1 fl_PointerAnalyzer_Cell_22_12_89 tyX12 tyX12_ok nmX12 (Or.inr ⟨rfl, hnm, rfl⟩) rfl (tyX12_ok 5 (by decide)) rfl (by decide) dX12_init_34) ?_
  refine jlk_cons (sm_aload_n rfl B.1 dX12_init_37) ?_
  refine jlk_cons (sm_new B.1 kc_21 (by decide) (by decide) in_J4 tyJ4 tyJ4_ok kd_21 q1595 q240 q129 B.2.2.2 hz hw dX12_init_38) ?_
  refine jlk_cons (sm_dup B.1 dX12_init_41) ?_
  refine jlk_cons (sm_cI (x := yJ4_init) (r9 := kr_6) (host := "") (owner := "") isNV (i_J4_init hI) B q1596 q242 w4_J4_init w6_J4_init (by decide) rfl hy_J4_init hl_J4_init dX12_init_42 trivial) ?_
  refine jlk_cons (sm_putP B.1 fl_PointerAnalyzer_Cell_26_12_90 tyX12 tyX12_ok nmX12 (Or.inr ⟨rfl, hnm, rfl⟩) rfl (tyX12_ok 6 (by decide)) rfl (by decide) dX12_init_45) ?_
  refine jlk_cons (sm_aload_n rfl B.1 dX12_init_48) ?_
  refine jlk_cons (sm_new B.1 kc_21 (by decide) (by decide) in_J4 tyJ4 tyJ4_ok kd_21 q1595 q240 q129 B.2.2.2 hz hw dX12_init_49) ?_
  refine jlk_cons (sm_dup B.1 dX12_init_52) ?_
  refine jlk_cons (sm_cI (x := yJ4_init) (r9 := kr_6) (host := "") (owner := "") isNV (i_J4_init hI) B q1596 q242 w4_J4_init w6_J4_init (by decide) rfl hy_J4_init hl_J4_init dX12_init_53 trivial) ?_
  refine jlk_cons (sm_putP B.1 fl_PointerAnalyzer_Cell_29_12_91 tyX12 tyX12_ok nmX12 (Or.inr ⟨rfl, hnm, rfl⟩) rfl (tyX12_ok 7 (by decide)) rfl (by decide) dX12_init_56) ?_
  refine jlk_cons (sm_aload_n rfl B.1 dX12_init_59) ?_
  refine jlk_cons (sm_iload_n rfl B.1 dX12_init_60) ?_
  refine jlk_cons (sm_putI B.1 fl_PointerAnalyzer_Cell_32_12_84 tyX12 tyX12_ok nmX12 (Or.inr ⟨rfl, hnm, rfl⟩) (tyX12_ok 0 (by decide)) rfl (by decide) dX12_init_61) ?_
  refine jlk_cons (sm_aload_n rfl B.1 dX12_init_64) ?_
  refine jlk_cons (sm_iload_n rfl B.1 dX12_init_65) ?_
  refine jlk_cons (sm_putI B.1 fl_PointerAnalyzer_Cell_36_12_85 tyX12 tyX12_ok nmX12 (Or.inr ⟨rfl, hnm, rfl⟩) (tyX12_ok 1 (by decide)) rfl (by decide) dX12_init_66) ?_
  refine jlk_cons (sm_aload_n rfl B.1 dX12_init_69) ?_
  refine jlk_cons (sm_aload_n rfl B.1 dX12_init_70) ?_
  refine jlk_cons (sm_putP B.1 fl_PointerAnalyzer_Cell_39_12_86 tyX12 tyX12_ok nmX12 (Or.inl rfl) rfl (tyX12_ok 2 (by decide)) rfl (by decide) dX12_init_71) ?_
  refine jlk_cons (sm_vret B.1 B.2.1 hret dX12_init_74) ?_
  exact jlk_nil
theorem v_X12_init (hst : l.stackTraces = false) (hz : jEz (EV (d + 1))) (hI : jIH l D dA lo cs0 d) : jMe l D dA lo cs0 (EV (d + 1)) 344 yX12_init (ws_ yX12_init cX12_init 3 (Option.none : Option Jvm.ClassFile.FieldType)) (d + 1) := z_meth hz rfl hp_X12_init (r_X12_init hst hI)
theorem r_X19_init (hst : l.stackTraces = false) (hI : jIH l D dA lo cs0 d) : jRows l D dA lo cs0 d 1 (tb_X19_init (EV d)) yX19_init cX19_init (Option.none : Option Jvm.ClassFile.FieldType) [] := by
  intro p e R s m args below meth c z0 w0 zF wF Q rF hF B hz hw hret hnm
  refine jlk_cons (sm_aload_n rfl B.1 dX19_init_0) ?_
  refine jlk_cons (sm_null B.1 dX19_init_1) ?_
  refine jlk_cons (sm_null B.1 dX19_init_2) ?_
  refine jlk_cons (sm_iconst rfl B.1 dX19_init_3) ?_
  refine jlk_cons (sm_iconst rfl B.1 dX19_init_4) ?_
  refine jlk_cons (sm_cI (x := yJ24_init_3) (r9 := kr_6) (host := "") (owner := "") isNV (i_J24_init_3 hI) B q2322 q2323 w4_J24_init_3 w6_J24_init_3 (by decide) rfl hy_J24_init_3 hl_J24_init_3 dX19_init_5 trivial) ?_
  refine jlk_cons (sm_vret B.1 B.2.1 hret dX19_init_8) ?_
  exact jlk_nil
theorem v_X19_init (hst : l.stackTraces = false) (hz : jEz (EV (d + 1))) (hI : jIH l D dA lo cs0 d) : jMe l D dA lo cs0 (EV (d + 1)) 354 yX19_init (ws_ yX19_init cX19_init 1 (Option.none : Option Jvm.ClassFile.FieldType)) (d + 1) := z_meth hz rfl hp_X19_init (r_X19_init hst hI)
theorem r_X5_digit (hst : l.stackTraces = false) (hI : jIH l D dA lo cs0 d) : jRows l D dA lo cs0 d 2 (tb_X5_digit (EV d)) yX5_digit cX5_digit (Option.some Jvm.ClassFile.FieldType.int) [] := by
  intro p e R s m args below meth c z0 w0 zF wF Q rF hF B hz hw hret hnm
  refine jlk_cons (sm_aload_n rfl B.1 dX5_digit_0) ?_
  refine jlk_cons (sm_aload_n rfl B.1 dX5_digit_1) ?_
  refine jlk_cons (sm_cV (x := yX5_here) (host := "") (owner := "") isRI (i_X5_here hI) B q2498 q2500 qs53 w4_X5_here w6_X5_here (by decide) (by decide) (by decide) kc_5 hy_X5_here hl_X5_here dX5_digit_2 trivial) ?_
  refine jlk_cons (sm_bipush rfl B.1 dX5_digit_5) ?_
  refine jlk_cons (sm_bipush rfl B.1 dX5_digit_7) ?_
  refine jlk_cons (sm_iload_n rfl B.1 dX5_digit_9) ?_
  refine jlk_cons (sm_iadd B.1 dX5_digit_10) ?_
  refine jlk_cons (sm_cSN (x := yX1_isBetween) (r9 := kr_6) (owner := "") isSI (i_X1_isBetween hI) B q2635 q2400 w4_X1_isBetween w6_X1_isBetween (by decide) hy_X1_isBetween hl_X1_isBetween dX5_digit_11 trivial) ?_
  refine jlk_cons (sm_cV (x := yX5_must) (host := "") (owner := "") isXRV (i_X5_must hI) B q2559 q2561 qs56 w4_X5_must w6_X5_must (by decide) (by decide) (by decide) kc_5 hy_X5_must hl_X5_must dX5_digit_14 rfl) ?_
  refine jlk_cons (sm_aload_n rfl B.1 dX5_digit_17) ?_
  refine jlk_cons (sm_dup B.1 dX5_digit_18) ?_
  refine jlk_cons (sm_getI B.1 fl_PointerAnalyzer_Reader_26_5_63 dX5_digit_19) ?_
  refine jlk_cons (sm_iconst rfl B.1 dX5_digit_22) ?_
  refine jlk_cons (sm_iadd B.1 dX5_digit_23) ?_
  refine jlk_cons (sm_putI B.1 fl_PointerAnalyzer_Reader_26_5_63 tyX5 tyX5_ok nmX5 (Or.inl rfl) (tyX5_ok 2 (by decide)) rfl (by decide) dX5_digit_24) ?_
  refine jlk_cons (sm_aload_n rfl B.1 dX5_digit_27) ?_
  refine jlk_cons (sm_getP B.1 fl_PointerAnalyzer_Reader_3_5_64 dX5_digit_28) ?_
  refine jlk_cons (sm_getPN B.1 fn_PointerAnalyzer_Reader_32_1_4 dX5_digit_31) ?_
  refine jlk_cons (sm_aload_n rfl B.1 dX5_digit_34) ?_
  refine jlk_cons (sm_getI B.1 fl_PointerAnalyzer_Reader_26_5_63 dX5_digit_35) ?_
  refine jlk_cons (sm_iconst rfl B.1 dX5_digit_38) ?_
  refine jlk_cons (sm_isub B.1 dX5_digit_39) ?_
  refine jlk_cons (sm_cald B.1 dX5_digit_40) ?_
  refine jlk_cons (sm_bipush rfl B.1 dX5_digit_41) ?_
  refine jlk_cons (sm_isub B.1 dX5_digit_43) ?_
  refine jlk_cons (sm_iret B.1 B.2.1 hret dX5_digit_44) ?_
  exact jlk_nil
theorem v_X5_digit (hst : l.stackTraces = false) (hz : jEz (EV (d + 1))) (hI : jIH l D dA lo cs0 d) : jMe l D dA lo cs0 (EV (d + 1)) 367 yX5_digit (ws_ yX5_digit cX5_digit 2 (Option.some Jvm.ClassFile.FieldType.int)) (d + 1) := z_meth hz rfl hp_X5_digit (r_X5_digit hst hI)
end ROWS
