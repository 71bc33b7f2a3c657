/-! ROWS OF THE SIMULATION (printed by an own program) -/
set_option maxRecDepth 100000
section ROWS
variable {l : Launch} {D : va_G} {dA : Nat → ClassId} {lo : Nat} {cs0 : Nat → Option Nat} {d : Nat}
theorem r_X4_init (hst : l.stackTraces = false) (hI : jIH l D dA lo cs0 d) : jRows l D dA lo cs0 d 1 (tb_X4_init (EV d)) yX4_init cX4_init (Option.none : Option Jvm.ClassFile.FieldType) [] := by
  intro p e R s m args below meth c z0 w0 zF wF Q rF hF B hz hw hret hnm
  refine jlk_app ?_ ?_
  · refine jlk_cons (sm_aload_n rfl B.1 dX4_init_0) ?_
    refine jlk_cons (sm_obj B.1 q2896 q196 q197 dX4_init_1) ?_
    refine jlk_cons (sm_aload_n rfl B.1 dX4_init_4) ?_
    refine jlk_cons (sm_bipush rfl B.1 dX4_init_5) ?_
    refine jlk_cons (sm_newA B.1 (at9 := .int) rfl (by decide) rfl (by decide) hc_101 (fun _ => rfl) q1314 B.2.2.2 hz hw dX4_init_7) ?_
    refine jlk_cons (sm_putP B.1 fl_PointerAnalyzerModel_7_4_17 tyX4 tyX4_ok nmX4 (Or.inr ⟨rfl, hnm, rfl⟩) rfl (tyX4_ok 1 (by decide)) rfl (by decide) dX4_init_9) ?_
    refine jlk_cons (sm_aload_n rfl B.1 dX4_init_12) ?_
    refine jlk_cons (sm_bipush rfl B.1 dX4_init_13) ?_
    refine jlk_cons (sm_newA B.1 (at9 := .int) rfl (by decide) rfl (by decide) hc_101 (fun _ => rfl) q1314 B.2.2.2 hz hw dX4_init_15) ?_
    refine jlk_cons (sm_putP B.1 fl_PointerAnalyzerModel_13_4_18 tyX4 tyX4_ok nmX4 (Or.inr ⟨rfl, hnm, rfl⟩) rfl (tyX4_ok 2 (by decide)) rfl (by decide) dX4_init_17) ?_
    refine jlk_cons (sm_aload_n rfl B.1 dX4_init_20) ?_
    refine jlk_cons (sm_bipush rfl B.1 dX4_init_21) ?_
    refine jlk_cons (sm_newA B.1 (at9 := .int) rfl (by decide) rfl (by decide) hc_101 (fun _ => rfl) q1314 B.2.2.2 hz hw dX4_init_23) ?_
    refine jlk_cons (sm_putP B.1 fl_PointerAnalyzerModel_16_4_19 tyX4 tyX4_ok nmX4 (Or.inr ⟨rfl, hnm, rfl⟩) rfl (tyX4_ok 3 (by decide)) rfl (by decide) dX4_init_25) ?_
    refine jlk_cons (sm_aload_n rfl B.1 dX4_init_28) ?_
    refine jlk_cons (sm_bipush rfl B.1 dX4_init_29) ?_
    refine jlk_cons (sm_newA B.1 (at9 := .int) rfl (by decide) rfl (by decide) hc_101 (fun _ => rfl) q1314 B.2.2.2 hz hw dX4_init_31) ?_
    refine jlk_cons (sm_putP B.1 fl_PointerAnalyzerModel_19_4_20 tyX4 tyX4_ok nmX4 (Or.inr ⟨rfl, hnm, rfl⟩) rfl (tyX4_ok 4 (by decide)) rfl (by decide) dX4_init_33) ?_
    refine jlk_cons (sm_aload_n rfl B.1 dX4_init_36) ?_
    refine jlk_cons (sm_iconst rfl B.1 dX4_init_37) ?_
    refine jlk_cons (sm_newA B.1 (at9 := .int) rfl (by decide) rfl (by decide) hc_101 (fun _ => rfl) q1314 B.2.2.2 hz hw dX4_init_38) ?_
    refine jlk_cons (sm_putP B.1 fl_PointerAnalyzerModel_22_4_21 tyX4 tyX4_ok nmX4 (Or.inr ⟨rfl, hnm, rfl⟩) rfl (tyX4_ok 5 (by decide)) rfl (by decide) dX4_init_40) ?_
    refine jlk_cons (sm_aload_n rfl B.1 dX4_init_43) ?_
    refine jlk_cons (sm_bipush rfl B.1 dX4_init_44) ?_
    refine jlk_cons (sm_newA B.1 (at9 := .int) rfl (by decide) rfl (by decide) hc_101 (fun _ => rfl) q1314 B.2.2.2 hz hw dX4_init_46) ?_
    refine jlk_cons (sm_putP B.1 fl_PointerAnalyzerModel_25_4_23 tyX4 tyX4_ok nmX4 (Or.inr ⟨rfl, hnm, rfl⟩) rfl (tyX4_ok 7 (by decide)) rfl (by decide) dX4_init_48) ?_
    refine jlk_cons (sm_aload_n rfl B.1 dX4_init_51) ?_
    refine jlk_cons (sm_iconst rfl B.1 dX4_init_52) ?_
    refine jlk_cons (sm_putI B.1 fl_PointerAnalyzerModel_28_4_26 tyX4 tyX4_ok nmX4 (Or.inl rfl) (tyX4_ok 10 (by decide)) rfl (by decide) dX4_init_53) ?_
    refine jlk_cons (sm_aload_n rfl B.1 dX4_init_56) ?_
    refine jlk_cons (sm_bipush rfl B.1 dX4_init_57) ?_
    refine jlk_cons (sm_newA B.1 (at9 := .int) rfl (by decide) rfl (by decide) hc_101 (fun _ => rfl) q1314 B.2.2.2 hz hw dX4_init_59) ?_
    refine jlk_cons (sm_putP B.1 fl_PointerAnalyzerModel_32_4_30 tyX4 tyX4_ok nmX4 (Or.inr ⟨rfl, hnm, rfl⟩) rfl (tyX4_ok 14 (by decide)) rfl (by decide) dX4_init_61) ?_
    refine jlk_cons (sm_aload_n rfl B.1 dX4_init_64) ?_
    refine jlk_cons (sm_bipush rfl B.1 dX4_init_65) ?_
    refine jlk_cons (sm_newA B.1 (at9 := .int) rfl (by decide) rfl (by decide) hc_101 (fun _ => rfl) q1314 B.2.2.2 hz hw dX4_init_67) ?_
    refine jlk_cons (sm_putP B.1 fl_PointerAnalyzerModel_35_4_31 tyX4 tyX4_ok nmX4 (Or.inr ⟨rfl, hnm, rfl⟩) rfl (tyX4_ok 15 (by decide)) rfl (by decide) dX4_init_69) ?_
    refine jlk_cons (sm_aload_n rfl B.1 dX4_init_72) ?_
    refine jlk_cons (sm_sipush rfl B.1 dX4_init_73) ?_
    refine jlk_cons (sm_newA B.1 (at9 := .long) rfl (by decide) rfl (by decide) hc_105 (fun _ => rfl) q1594 B.2.2.2 hz hw dX4_init_76) ?_
    exact jlk_nil
  · skip
    refine jlk_app ?_ ?_
    · refine jlk_cons (sm_putP B.1 fl_PointerAnalyzerModel_38_4_33 tyX4 tyX4_ok nmX4 (Or.inr ⟨rfl, hnm, rfl⟩) rfl (tyX4_ok 17 (by decide)) rfl (by decide) dX4_init_78) ?_
      refine jlk_cons (sm_aload_n rfl B.1 dX4_init_81) ?_
      refine jlk_cons (sm_sipush rfl B.1 dX4_init_82) ?_
      refine jlk_cons (sm_newA B.1 (at9 := .long) rfl (by decide) rfl (by decide) hc_105 (fun _ => rfl) q1594 B.2.2.2 hz hw dX4_init_85) ?_
      refine jlk_cons (sm_putP B.1 fl_PointerAnalyzerModel_42_4_34 tyX4 tyX4_ok nmX4 (Or.inr ⟨rfl, hnm, rfl⟩) rfl (tyX4_ok 18 (by decide)) rfl (by decide) dX4_init_87) ?_
      refine jlk_cons (sm_aload_n rfl B.1 dX4_init_90) ?_
      refine jlk_cons (sm_sipush rfl B.1 dX4_init_91) ?_
      refine jlk_cons (sm_newA B.1 (at9 := .int) rfl (by decide) rfl (by decide) hc_101 (fun _ => rfl) q1314 B.2.2.2 hz hw dX4_init_94) ?_
      refine jlk_cons (sm_putP B.1 fl_PointerAnalyzerModel_45_4_37 tyX4 tyX4_ok nmX4 (Or.inr ⟨rfl, hnm, rfl⟩) rfl (tyX4_ok 21 (by decide)) rfl (by decide) dX4_init_96) ?_
      refine jlk_cons (sm_aload_n rfl B.1 dX4_init_99) ?_
      refine jlk_cons (sm_sipush rfl B.1 dX4_init_100) ?_
      refine jlk_cons (sm_newA B.1 (at9 := .int) rfl (by decide) rfl (by decide) hc_101 (fun _ => rfl) q1314 B.2.2.2 hz hw dX4_init_103) ?_
      refine jlk_cons (sm_putP B.1 fl_PointerAnalyzerModel_48_4_38 tyX4 tyX4_ok nmX4 (Or.inr ⟨rfl, hnm, rfl⟩) rfl (tyX4_ok 22 (by decide)) rfl (by decide) dX4_init_105) ?_
      refine jlk_cons (sm_aload_n rfl B.1 dX4_init_108) ?_
      refine jlk_cons (sm_bipush rfl B.1 dX4_init_109) ?_
      refine jlk_cons (sm_newA B.1 (at9 := .int) rfl (by decide) rfl (by decide) hc_101 (fun _ => rfl) q1314 B.2.2.2 hz hw dX4_init_111) ?_
      refine jlk_cons (sm_putP B.1 fl_PointerAnalyzerModel_51_4_40 tyX4 tyX4_ok nmX4 (Or.inr ⟨rfl, hnm, rfl⟩) rfl (tyX4_ok 24 (by decide)) rfl (by decide) dX4_init_113) ?_
      refine jlk_cons (sm_aload_n rfl B.1 dX4_init_116) ?_
      refine jlk_cons (sm_bipush rfl B.1 dX4_init_117) ?_
      refine jlk_cons (sm_newA B.1 (at9 := .int) rfl (by decide) rfl (by decide) hc_101 (fun _ => rfl) q1314 B.2.2.2 hz hw dX4_init_119) ?_
      refine jlk_cons (sm_putP B.1 fl_PointerAnalyzerModel_54_4_41 tyX4 tyX4_ok nmX4 (Or.inr ⟨rfl, hnm, rfl⟩) rfl (tyX4_ok 25 (by decide)) rfl (by decide) dX4_init_121) ?_
      refine jlk_cons (sm_aload_n rfl B.1 dX4_init_124) ?_
      refine jlk_cons (sm_sipush rfl B.1 dX4_init_125) ?_
      refine jlk_cons (sm_newA B.1 (at9 := .int) rfl (by decide) rfl (by decide) hc_101 (fun _ => rfl) q1314 B.2.2.2 hz hw dX4_init_128) ?_
      refine jlk_cons (sm_putP B.1 fl_PointerAnalyzerModel_57_4_42 tyX4 tyX4_ok nmX4 (Or.inr ⟨rfl, hnm, rfl⟩) rfl (tyX4_ok 26 (by decide)) rfl (by decide) dX4_init_130) ?_
      refine jlk_cons (sm_aload_n rfl B.1 dX4_init_133) ?_
      refine jlk_cons (sm_sipush rfl B.1 dX4_init_134) ?_
      refine jlk_cons (sm_newA B.1 (at9 := .int) rfl (by decide) rfl (by decide) hc_101 (fun _ => rfl) q1314 B.2.2.2 hz hw dX4_init_137) ?_
      refine jlk_cons (sm_putP B.1 fl_PointerAnalyzerModel_60_4_43 tyX4 tyX4_ok nmX4 (Or.inr ⟨rfl, hnm, rfl⟩) rfl (tyX4_ok 27 (by decide)) rfl (by decide) dX4_init_139) ?_
      refine jlk_cons (sm_aload_n rfl B.1 dX4_init_142) ?_
      refine jlk_cons (sm_sipush rfl B.1 dX4_init_143) ?_
      refine jlk_cons (sm_newA B.1 (at9 := .int) rfl (by decide) rfl (by decide) hc_101 (fun _ => rfl) q1314 B.2.2.2 hz hw dX4_init_146) ?_
      refine jlk_cons (sm_putP B.1 fl_PointerAnalyzerModel_63_4_46 tyX4 tyX4_ok nmX4 (Or.inr ⟨rfl, hnm, rfl⟩) rfl (tyX4_ok 30 (by decide)) rfl (by decide) dX4_init_148) ?_
      refine jlk_cons (sm_aload_n rfl B.1 dX4_init_151) ?_
      refine jlk_cons (sm_sipush rfl B.1 dX4_init_152) ?_
      refine jlk_cons (sm_newA B.1 (at9 := .int) rfl (by decide) rfl (by decide) hc_101 (fun _ => rfl) q1314 B.2.2.2 hz hw dX4_init_155) ?_
      refine jlk_cons (sm_putP B.1 fl_PointerAnalyzerModel_66_4_47 tyX4 tyX4_ok nmX4 (Or.inr ⟨rfl, hnm, rfl⟩) rfl (tyX4_ok 31 (by decide)) rfl (by decide) dX4_init_157) ?_
      refine jlk_cons (sm_aload_n rfl B.1 dX4_init_160) ?_
      refine jlk_cons (sm_bipush rfl B.1 dX4_init_161) ?_
      refine jlk_cons (sm_newA B.1 (at9 := .int) rfl (by decide) rfl (by decide) hc_101 (fun _ => rfl) q1314 B.2.2.2 hz hw dX4_init_163) ?_
      exact jlk_nil
    · skip
      refine jlk_cons (sm_putP B.1 fl_PointerAnalyzerModel_69_4_48 tyX4 tyX4_ok nmX4 (Or.inr ⟨rfl, hnm, rfl⟩) rfl (tyX4_ok 32 (by decide)) rfl (by decide) dX4_init_165) ?_
      refine jlk_cons (sm_aload_n rfl B.1 dX4_init_168) ?_
      refine jlk_cons (sm_bipush rfl B.1 dX4_init_169) ?_
      refine jlk_cons (sm_newA B.1 (at9 := .int) rfl (by decide) rfl (by decide) hc_101 (fun _ => rfl) q1314 B.2.2.2 hz hw dX4_init_171) ?_
      refine jlk_cons (sm_putP B.1 fl_PointerAnalyzerModel_72_4_49 tyX4 tyX4_ok nmX4 (Or.inr ⟨rfl, hnm, rfl⟩) rfl (tyX4_ok 33 (by decide)) rfl (by decide) dX4_init_173) ?_
      refine jlk_cons (sm_aload_n rfl B.1 dX4_init_176) ?_
      refine jlk_cons (sm_bipush rfl B.1 dX4_init_177) ?_
      refine jlk_cons (sm_newA B.1 (at9 := .int) rfl (by decide) rfl (by decide) hc_101 (fun _ => rfl) q1314 B.2.2.2 hz hw dX4_init_179) ?_
      refine jlk_cons (sm_putP B.1 fl_PointerAnalyzerModel_75_4_50 tyX4 tyX4_ok nmX4 (Or.inr ⟨rfl, hnm, rfl⟩) rfl (tyX4_ok 34 (by decide)) rfl (by decide) dX4_init_181) ?_
      refine jlk_cons (sm_aload_n rfl B.1 dX4_init_184) ?_
      refine jlk_cons (sm_bipush rfl B.1 dX4_init_185) ?_
      refine jlk_cons (sm_newA B.1 (at9 := .long) rfl (by decide) rfl (by decide) hc_105 (fun _ => rfl) q1594 B.2.2.2 hz hw dX4_init_187) ?_
      refine jlk_cons (sm_putP B.1 fl_PointerAnalyzerModel_78_4_51 tyX4 tyX4_ok nmX4 (Or.inr ⟨rfl, hnm, rfl⟩) rfl (tyX4_ok 35 (by decide)) rfl (by decide) dX4_init_189) ?_
      refine jlk_cons (sm_aload_n rfl B.1 dX4_init_192) ?_
      refine jlk_cons (sm_sipush rfl B.1 dX4_init_193) ?_
      refine jlk_cons (sm_newA B.1 (at9 := .int) rfl (by decide) rfl (by decide) hc_101 (fun _ => rfl) q1314 B.2.2.2 hz hw dX4_init_196) ?_
      refine jlk_cons (sm_putP B.1 fl_PointerAnalyzerModel_81_4_57 tyX4 tyX4_ok nmX4 (Or.inr ⟨rfl, hnm, rfl⟩) rfl (tyX4_ok 41 (by decide)) rfl (by decide) dX4_init_198) ?_
      refine jlk_cons (sm_vret B.1 B.2.1 hret dX4_init_201) ?_
      exact jlk_nil
theorem v_X4_init (hst : l.stackTraces = false) (hz : jEz (EV (d + 1))) (hI : jIH l D dA lo cs0 d) : jMe l D dA lo cs0 (EV (d + 1)) 3 yX4_init (ws_ yX4_init cX4_init 1 (Option.none : Option Jvm.ClassFile.FieldType)) (d + 1) := z_meth hz rfl hp_X4_init (r_X4_init hst hI)
theorem r_X4_appendCharacter (hst : l.stackTraces = false) (hI : jIH l D dA lo cs0 d) : jRows l D dA lo cs0 d 2 (tb_X4_appendCharacter (EV d)) yX4_appendCharacter cX4_appendCharacter (Option.some Jvm.ClassFile.FieldType.int) [] := by
  intro p e R s m args below meth c z0 w0 zF wF Q rF hF B hz hw hret hnm
  refine jlk_cons (sm_iload_n rfl B.1 dX4_appendCharacter_0) ?_
  refine jlk_cons (sm_bipush rfl B.1 dX4_appendCharacter_1) ?_
  refine jlk_cons (sm_bipush rfl B.1 dX4_appendCharacter_3) ?_
  refine jlk_cons (sm_cS (x := yX4_isBetween) (r9 := kr_6) (host := "") (owner := "") isSI (i_X4_isBetween hI) B q3040 q3041 w4_X4_isBetween w6_X4_isBetween (by decide) hy_X4_isBetween hl_X4_isBetween dX4_appendCharacter_5 trivial) ?_
  refine jlk_cons (sm_ifne rfl B.1 dX4_appendCharacter_8) ?_
  refine jlk_cons (sm_aload_n rfl B.1 dX4_appendCharacter_11) ?_
  refine jlk_cons (sm_iconst rfl B.1 dX4_appendCharacter_12) ?_
  refine jlk_cons (sm_cV (x := yX4_fails) (host := "") (owner := "") isRI (i_X4_fails hI) B q3043 q3045 qs64 w4_X4_fails w6_X4_fails (by decide) (by decide) (by decide) kc_4 hy_X4_fails hl_X4_fails dX4_appendCharacter_13 trivial) ?_
  refine jlk_cons (sm_iret B.1 B.2.1 hret dX4_appendCharacter_16) ?_
  refine jlk_cons (sm_aload_n rfl B.1 dX4_appendCharacter_17) ?_
  refine jlk_cons (sm_getI B.1 fl_PointerAnalyzerModel_101_4_24 dX4_appendCharacter_18) ?_
  refine jlk_cons (sm_bipush rfl B.1 dX4_appendCharacter_21) ?_
  refine jlk_cons (sm_icmpne rfl B.1 dX4_appendCharacter_23) ?_
  refine jlk_cons (sm_aload_n rfl B.1 dX4_appendCharacter_26) ?_
  refine jlk_cons (sm_iconst rfl B.1 dX4_appendCharacter_27) ?_
  refine jlk_cons (sm_cV (x := yX4_fails) (host := "") (owner := "") isRI (i_X4_fails hI) B q3043 q3045 qs64 w4_X4_fails w6_X4_fails (by decide) (by decide) (by decide) kc_4 hy_X4_fails hl_X4_fails dX4_appendCharacter_28 trivial) ?_
  refine jlk_cons (sm_iret B.1 B.2.1 hret dX4_appendCharacter_31) ?_
  refine jlk_cons (sm_aload_n rfl B.1 dX4_appendCharacter_32) ?_
  refine jlk_cons (sm_iconst rfl B.1 dX4_appendCharacter_33) ?_
  refine jlk_cons (sm_putI B.1 fl_PointerAnalyzerModel_84_4_16 tyX4 tyX4_ok nmX4 (Or.inl rfl) (tyX4_ok 0 (by decide)) rfl (by decide) dX4_appendCharacter_34) ?_
  refine jlk_cons (sm_aload_n rfl B.1 dX4_appendCharacter_37) ?_
  refine jlk_cons (sm_getP B.1 fl_PointerAnalyzerModel_25_4_23 dX4_appendCharacter_38) ?_
  refine jlk_cons (sm_aload_n rfl B.1 dX4_appendCharacter_41) ?_
  refine jlk_cons (sm_getI B.1 fl_PointerAnalyzerModel_101_4_24 dX4_appendCharacter_42) ?_
  refine jlk_cons (sm_iload_n rfl B.1 dX4_appendCharacter_45) ?_
  refine jlk_cons (sm_iast B.1 dX4_appendCharacter_46) ?_
  refine jlk_cons (sm_aload_n rfl B.1 dX4_appendCharacter_47) ?_
  refine jlk_cons (sm_dup B.1 dX4_appendCharacter_48) ?_
  refine jlk_cons (sm_getI B.1 fl_PointerAnalyzerModel_101_4_24 dX4_appendCharacter_49) ?_
  refine jlk_cons (sm_iconst rfl B.1 dX4_appendCharacter_52) ?_
  refine jlk_cons (sm_iadd B.1 dX4_appendCharacter_53) ?_
  refine jlk_cons (sm_putI B.1 fl_PointerAnalyzerModel_101_4_24 tyX4 tyX4_ok nmX4 (Or.inl rfl) (tyX4_ok 8 (by decide)) rfl (by decide) dX4_appendCharacter_54) ?_
  refine jlk_cons (sm_aload_n rfl B.1 dX4_appendCharacter_57) ?_
  refine jlk_cons (sm_getI B.1 fl_PointerAnalyzerModel_101_4_24 dX4_appendCharacter_58) ?_
  refine jlk_cons (sm_iret B.1 B.2.1 hret dX4_appendCharacter_61) ?_
  exact jlk_nil
theorem v_X4_appendCharacter (hst : l.stackTraces = false) (hz : jEz (EV (d + 1))) (hI : jIH l D dA lo cs0 d) : jMe l D dA lo cs0 (EV (d + 1)) 5 yX4_appendCharacter (ws_ yX4_appendCharacter cX4_appendCharacter 2 (Option.some Jvm.ClassFile.FieldType.int)) (d + 1) := z_meth hz rfl hp_X4_appendCharacter (r_X4_appendCharacter hst hI)
theorem r_X4_thrown (hst : l.stackTraces = false) (hI : jIH l D dA lo cs0 d) : jRows l D dA lo cs0 d 1 (tb_X4_thrown (EV d)) yX4_thrown cX4_thrown (Option.some Jvm.ClassFile.FieldType.int) [] := by
  intro p e R s m args below meth c z0 w0 zF wF Q rF hF B hz hw hret hnm
  refine jlk_cons (sm_aload_n rfl B.1 dX4_thrown_0) ?_
  refine jlk_cons (sm_getI B.1 fl_PointerAnalyzerModel_84_4_16 dX4_thrown_1) ?_
  refine jlk_cons (sm_iret B.1 B.2.1 hret dX4_thrown_4) ?_
  exact jlk_nil
theorem v_X4_thrown (hst : l.stackTraces = false) (hz : jEz (EV (d + 1))) (hI : jIH l D dA lo cs0 d) : jMe l D dA lo cs0 (EV (d + 1)) 6 yX4_thrown (ws_ yX4_thrown cX4_thrown 1 (Option.some Jvm.ClassFile.FieldType.int)) (d + 1) := z_meth hz rfl hp_X4_thrown (r_X4_thrown hst hI)
theorem r_X4_setBody (hst : l.stackTraces = false) (hI : jIH l D dA lo cs0 d) : jRows l D dA lo cs0 d 3 (tb_X4_setBody (EV d)) yX4_setBody cX4_setBody (Option.some Jvm.ClassFile.FieldType.int) [] := by
  intro p e R s m args below meth c z0 w0 zF wF Q rF hF B hz hw hret hnm
  refine jlk_app ?_ ?_
  · refine jlk_cons (sm_iload_n rfl B.1 dX4_setBody_0) ?_
    refine jlk_cons (sm_cS (x := yX4_isFunction) (r9 := kr_6) (host := "") (owner := "") isSI (i_X4_isFunction hI) B q3051 q3052 w4_X4_isFunction w6_X4_isFunction (by decide) hy_X4_isFunction hl_X4_isFunction dX4_setBody_1 trivial) ?_
    refine jlk_cons (sm_ifne rfl B.1 dX4_setBody_4) ?_
    refine jlk_cons (sm_aload_n rfl B.1 dX4_setBody_7) ?_
    refine jlk_cons (sm_iconst rfl B.1 dX4_setBody_8) ?_
    refine jlk_cons (sm_cV (x := yX4_fails) (host := "") (owner := "") isRI (i_X4_fails hI) B q3043 q3045 qs64 w4_X4_fails w6_X4_fails (by decide) (by decide) (by decide) kc_4 hy_X4_fails hl_X4_fails dX4_setBody_9 trivial) ?_
    refine jlk_cons (sm_iret B.1 B.2.1 hret dX4_setBody_12) ?_
    refine jlk_cons (sm_aload_n rfl B.1 dX4_setBody_13) ?_
    refine jlk_cons (sm_iload_n rfl B.1 dX4_setBody_14) ?_
    refine jlk_cons (sm_cV (x := yX4_takesText) (host := "") (owner := "") isRI (i_X4_takesText hI) B q3054 q3056 qs65 w4_X4_takesText w6_X4_takesText (by decide) (by decide) (by decide) kc_4 hy_X4_takesText hl_X4_takesText dX4_setBody_15 trivial) ?_
    refine jlk_cons (sm_istore_n rfl B.1 dX4_setBody_18) ?_
    refine jlk_cons (sm_aload_n rfl B.1 dX4_setBody_19) ?_
    refine jlk_cons (sm_iconst rfl B.1 dX4_setBody_20) ?_
    refine jlk_cons (sm_putI B.1 fl_PointerAnalyzerModel_101_4_24 tyX4 tyX4_ok nmX4 (Or.inl rfl) (tyX4_ok 8 (by decide)) rfl (by decide) dX4_setBody_21) ?_
    refine jlk_cons (sm_aload_n rfl B.1 dX4_setBody_24) ?_
    refine jlk_cons (sm_iload_n rfl B.1 dX4_setBody_25) ?_
    refine jlk_cons (sm_ifeq rfl B.1 dX4_setBody_26) ?_
    refine jlk_cons (sm_iconst rfl B.1 dX4_setBody_29) ?_
    refine jlk_cons (sm_goto rfl B.1 dX4_setBody_30) ?_
    refine jlk_cons (sm_aload_n rfl B.1 dX4_setBody_33) ?_
    refine jlk_cons (sm_getI B.1 fl_PointerAnalyzerModel_104_4_25 dX4_setBody_34) ?_
    refine jlk_cons (sm_putI B.1 fl_PointerAnalyzerModel_28_4_26 tyX4 tyX4_ok nmX4 (Or.inl rfl) (tyX4_ok 10 (by decide)) rfl (by decide) dX4_setBody_37) ?_
    refine jlk_cons (sm_iload_n rfl B.1 dX4_setBody_40) ?_
    refine jlk_cons (sm_ifne rfl B.1 dX4_setBody_41) ?_
    refine jlk_cons (sm_aload_n rfl B.1 dX4_setBody_44) ?_
    refine jlk_cons (sm_iconst rfl B.1 dX4_setBody_45) ?_
    refine jlk_cons (sm_cV (x := yX4_fails) (host := "") (owner := "") isRI (i_X4_fails hI) B q3043 q3045 qs64 w4_X4_fails w6_X4_fails (by decide) (by decide) (by decide) kc_4 hy_X4_fails hl_X4_fails dX4_setBody_46 trivial) ?_
    refine jlk_cons (sm_iret B.1 B.2.1 hret dX4_setBody_49) ?_
    refine jlk_cons (sm_aload_n rfl B.1 dX4_setBody_50) ?_
    refine jlk_cons (sm_getP B.1 fl_PointerAnalyzerModel_22_4_21 dX4_setBody_51) ?_
    refine jlk_cons (sm_iconst rfl B.1 dX4_setBody_54) ?_
    refine jlk_cons (sm_iald B.1 dX4_setBody_55) ?_
    refine jlk_cons (sm_bipush rfl B.1 dX4_setBody_56) ?_
    refine jlk_cons (sm_icmpgt rfl B.1 dX4_setBody_58) ?_
    refine jlk_cons (sm_aload_n rfl B.1 dX4_setBody_61) ?_
    refine jlk_cons (sm_getI B.1 fl_PointerAnalyzerModel_111_4_28 dX4_setBody_62) ?_
    refine jlk_cons (sm_aload_n rfl B.1 dX4_setBody_65) ?_
    refine jlk_cons (sm_iconst rfl B.1 dX4_setBody_66) ?_
    refine jlk_cons (sm_iload_n rfl B.1 dX4_setBody_67) ?_
    refine jlk_cons (sm_cV (x := yX4_many) (host := "") (owner := "") isRI (i_X4_many hI) B q3090 q3092 qs74 w4_X4_many w6_X4_many (by decide) (by decide) (by decide) kc_4 hy_X4_many hl_X4_many dX4_setBody_68 trivial) ?_
    exact jlk_nil
  · skip
    refine jlk_cons (sm_iadd B.1 dX4_setBody_71) ?_
    refine jlk_cons (sm_bipush rfl B.1 dX4_setBody_72) ?_
    refine jlk_cons (sm_icmpgt rfl B.1 dX4_setBody_74) ?_
    refine jlk_cons (sm_aload_n rfl B.1 dX4_setBody_77) ?_
    refine jlk_cons (sm_getI B.1 fl_PointerAnalyzerModel_114_4_29 dX4_setBody_78) ?_
    refine jlk_cons (sm_aload_n rfl B.1 dX4_setBody_81) ?_
    refine jlk_cons (sm_bipush rfl B.1 dX4_setBody_82) ?_
    refine jlk_cons (sm_iload_n rfl B.1 dX4_setBody_84) ?_
    refine jlk_cons (sm_cV (x := yX4_many) (host := "") (owner := "") isRI (i_X4_many hI) B q3090 q3092 qs74 w4_X4_many w6_X4_many (by decide) (by decide) (by decide) kc_4 hy_X4_many hl_X4_many dX4_setBody_85 trivial) ?_
    refine jlk_cons (sm_iadd B.1 dX4_setBody_88) ?_
    refine jlk_cons (sm_iconst rfl B.1 dX4_setBody_89) ?_
    refine jlk_cons (sm_icmple rfl B.1 dX4_setBody_90) ?_
    refine jlk_cons (sm_aload_n rfl B.1 dX4_setBody_93) ?_
    refine jlk_cons (sm_iconst rfl B.1 dX4_setBody_94) ?_
    refine jlk_cons (sm_cV (x := yX4_fails) (host := "") (owner := "") isRI (i_X4_fails hI) B q3043 q3045 qs64 w4_X4_fails w6_X4_fails (by decide) (by decide) (by decide) kc_4 hy_X4_fails hl_X4_fails dX4_setBody_95 trivial) ?_
    refine jlk_cons (sm_iret B.1 B.2.1 hret dX4_setBody_98) ?_
    refine jlk_cons (sm_aload_n rfl B.1 dX4_setBody_99) ?_
    refine jlk_cons (sm_iconst rfl B.1 dX4_setBody_100) ?_
    refine jlk_cons (sm_putI B.1 fl_PointerAnalyzerModel_84_4_16 tyX4 tyX4_ok nmX4 (Or.inl rfl) (tyX4_ok 0 (by decide)) rfl (by decide) dX4_setBody_101) ?_
    refine jlk_cons (sm_aload_n rfl B.1 dX4_setBody_104) ?_
    refine jlk_cons (sm_iconst rfl B.1 dX4_setBody_105) ?_
    refine jlk_cons (sm_iload_n rfl B.1 dX4_setBody_106) ?_
    refine jlk_cons (sm_cV (x := yX4_copies) (host := "") (owner := "") isRV (i_X4_copies hI) B q3094 q3096 qs75 w4_X4_copies w6_X4_copies (by decide) (by decide) (by decide) kc_4 hy_X4_copies hl_X4_copies dX4_setBody_107 trivial) ?_
    refine jlk_cons (sm_aload_n rfl B.1 dX4_setBody_110) ?_
    refine jlk_cons (sm_iconst rfl B.1 dX4_setBody_111) ?_
    refine jlk_cons (sm_putZ B.1 fl_PointerAnalyzerModel_155_4_35 tyX4 tyX4_ok nmX4 (Or.inl rfl) (tyX4_ok 19 (by decide)) rfl (by decide) dX4_setBody_112) ?_
    refine jlk_cons (sm_aload_n rfl B.1 dX4_setBody_115) ?_
    refine jlk_cons (sm_cV (x := yX4_forgets) (host := "") (owner := "") isRV (i_X4_forgets hI) B q3098 q3100 qs76 w4_X4_forgets w6_X4_forgets (by decide) (by decide) (by decide) kc_4 hy_X4_forgets hl_X4_forgets dX4_setBody_116 trivial) ?_
    refine jlk_cons (sm_aload_n rfl B.1 dX4_setBody_119) ?_
    refine jlk_cons (sm_getP B.1 fl_PointerAnalyzerModel_22_4_21 dX4_setBody_120) ?_
    refine jlk_cons (sm_iload_n rfl B.1 dX4_setBody_123) ?_
    refine jlk_cons (sm_iald B.1 dX4_setBody_124) ?_
    refine jlk_cons (sm_iret B.1 B.2.1 hret dX4_setBody_125) ?_
    exact jlk_nil
theorem v_X4_setBody (hst : l.stackTraces = false) (hz : jEz (EV (d + 1))) (hI : jIH l D dA lo cs0 d) : jMe l D dA lo cs0 (EV (d + 1)) 8 yX4_setBody (ws_ yX4_setBody cX4_setBody 3 (Option.some Jvm.ClassFile.FieldType.int)) (d + 1) := z_meth hz rfl hp_X4_setBody (r_X4_setBody hst hI)
theorem r_X4_faultPosition (hst : l.stackTraces = false) (hI : jIH l D dA lo cs0 d) : jRows l D dA lo cs0 d 1 (tb_X4_faultPosition (EV d)) yX4_faultPosition cX4_faultPosition (Option.some Jvm.ClassFile.FieldType.int) [] := by
  intro p e R s m args below meth c z0 w0 zF wF Q rF hF B hz hw hret hnm
  refine jlk_cons (sm_aload_n rfl B.1 dX4_faultPosition_0) ?_
  refine jlk_cons (sm_iconst rfl B.1 dX4_faultPosition_1) ?_
  refine jlk_cons (sm_putI B.1 fl_PointerAnalyzerModel_84_4_16 tyX4 tyX4_ok nmX4 (Or.inl rfl) (tyX4_ok 0 (by decide)) rfl (by decide) dX4_faultPosition_2) ?_
  refine jlk_cons (sm_aload_n rfl B.1 dX4_faultPosition_5) ?_
  refine jlk_cons (sm_getI B.1 fl_PointerAnalyzerModel_28_4_26 dX4_faultPosition_6) ?_
  refine jlk_cons (sm_iret B.1 B.2.1 hret dX4_faultPosition_9) ?_
  exact jlk_nil
theorem v_X4_faultPosition (hst : l.stackTraces = false) (hz : jEz (EV (d + 1))) (hI : jIH l D dA lo cs0 d) : jMe l D dA lo cs0 (EV (d + 1)) 10 yX4_faultPosition (ws_ yX4_faultPosition cX4_faultPosition 1 (Option.some Jvm.ClassFile.FieldType.int)) (d + 1) := z_meth hz rfl hp_X4_faultPosition (r_X4_faultPosition hst hI)
theorem r_X4_statementCount (hst : l.stackTraces = false) (hI : jIH l D dA lo cs0 d) : jRows l D dA lo cs0 d 1 (tb_X4_statementCount (EV d)) yX4_statementCount cX4_statementCount (Option.some Jvm.ClassFile.FieldType.int) [] := by
  intro p e R s m args below meth c z0 w0 zF wF Q rF hF B hz hw hret hnm
  refine jlk_cons (sm_aload_n rfl B.1 dX4_statementCount_0) ?_
  refine jlk_cons (sm_iconst rfl B.1 dX4_statementCount_1) ?_
  refine jlk_cons (sm_putI B.1 fl_PointerAnalyzerModel_84_4_16 tyX4 tyX4_ok nmX4 (Or.inl rfl) (tyX4_ok 0 (by decide)) rfl (by decide) dX4_statementCount_2) ?_
  refine jlk_cons (sm_aload_n rfl B.1 dX4_statementCount_5) ?_
  refine jlk_cons (sm_cV (x := yX4_statements) (host := "") (owner := "") isRI (i_X4_statements hI) B q3110 q3112 qs77 w4_X4_statements w6_X4_statements (by decide) (by decide) (by decide) kc_4 hy_X4_statements hl_X4_statements dX4_statementCount_6 trivial) ?_
  refine jlk_cons (sm_iret B.1 B.2.1 hret dX4_statementCount_9) ?_
  exact jlk_nil
theorem v_X4_statementCount (hst : l.stackTraces = false) (hz : jEz (EV (d + 1))) (hI : jIH l D dA lo cs0 d) : jMe l D dA lo cs0 (EV (d + 1)) 12 yX4_statementCount (ws_ yX4_statementCount cX4_statementCount 1 (Option.some Jvm.ClassFile.FieldType.int)) (d + 1) := z_meth hz rfl hp_X4_statementCount (r_X4_statementCount hst hI)
theorem r_X4_kind (hst : l.stackTraces = false) (hI : jIH l D dA lo cs0 d) : jRows l D dA lo cs0 d 2 (tb_X4_kind (EV d)) yX4_kind cX4_kind (Option.some Jvm.ClassFile.FieldType.int) [] := by
  intro p e R s m args below meth c z0 w0 zF wF Q rF hF B hz hw hret hnm
  refine jlk_cons (sm_aload_n rfl B.1 dX4_kind_0) ?_
  refine jlk_cons (sm_iload_n rfl B.1 dX4_kind_1) ?_
  refine jlk_cons (sm_cV (x := yX4_isStatement) (host := "") (owner := "") isRI (i_X4_isStatement hI) B q3118 q3120 qs78 w4_X4_isStatement w6_X4_isStatement (by decide) (by decide) (by decide) kc_4 hy_X4_isStatement hl_X4_isStatement dX4_kind_2 trivial) ?_
  refine jlk_cons (sm_ifne rfl B.1 dX4_kind_5) ?_
  refine jlk_cons (sm_aload_n rfl B.1 dX4_kind_8) ?_
  refine jlk_cons (sm_iconst rfl B.1 dX4_kind_9) ?_
  refine jlk_cons (sm_cV (x := yX4_fails) (host := "") (owner := "") isRI (i_X4_fails hI) B q3043 q3045 qs64 w4_X4_fails w6_X4_fails (by decide) (by decide) (by decide) kc_4 hy_X4_fails hl_X4_fails dX4_kind_10 trivial) ?_
  refine jlk_cons (sm_iret B.1 B.2.1 hret dX4_kind_13) ?_
  refine jlk_cons (sm_aload_n rfl B.1 dX4_kind_14) ?_
  refine jlk_cons (sm_iconst rfl B.1 dX4_kind_15) ?_
  refine jlk_cons (sm_putI B.1 fl_PointerAnalyzerModel_84_4_16 tyX4 tyX4_ok nmX4 (Or.inl rfl) (tyX4_ok 0 (by decide)) rfl (by decide) dX4_kind_16) ?_
  refine jlk_cons (sm_aload_n rfl B.1 dX4_kind_19) ?_
  refine jlk_cons (sm_getP B.1 fl_PointerAnalyzerModel_7_4_17 dX4_kind_20) ?_
  refine jlk_cons (sm_aload_n rfl B.1 dX4_kind_23) ?_
  refine jlk_cons (sm_iload_n rfl B.1 dX4_kind_24) ?_
  refine jlk_cons (sm_cV (x := yX4_placeOf) (host := "") (owner := "") isRI (i_X4_placeOf hI) B q3122 q3124 qs79 w4_X4_placeOf w6_X4_placeOf (by decide) (by decide) (by decide) kc_4 hy_X4_placeOf hl_X4_placeOf dX4_kind_25 trivial) ?_
  refine jlk_cons (sm_iald B.1 dX4_kind_28) ?_
  refine jlk_cons (sm_iret B.1 B.2.1 hret dX4_kind_29) ?_
  exact jlk_nil
theorem v_X4_kind (hst : l.stackTraces = false) (hz : jEz (EV (d + 1))) (hI : jIH l D dA lo cs0 d) : jMe l D dA lo cs0 (EV (d + 1)) 14 yX4_kind (ws_ yX4_kind cX4_kind 2 (Option.some Jvm.ClassFile.FieldType.int)) (d + 1) := z_meth hz rfl hp_X4_kind (r_X4_kind hst hI)
theorem r_X4_functionOf (hst : l.stackTraces = false) (hI : jIH l D dA lo cs0 d) : jRows l D dA lo cs0 d 2 (tb_X4_functionOf (EV d)) yX4_functionOf cX4_functionOf (Option.some Jvm.ClassFile.FieldType.int) [] := by
  intro p e R s m args below meth c z0 w0 zF wF Q rF hF B hz hw hret hnm
  refine jlk_cons (sm_aload_n rfl B.1 dX4_functionOf_0) ?_
  refine jlk_cons (sm_iload_n rfl B.1 dX4_functionOf_1) ?_
  refine jlk_cons (sm_cV (x := yX4_isStatement) (host := "") (owner := "") isRI (i_X4_isStatement hI) B q3118 q3120 qs78 w4_X4_isStatement w6_X4_isStatement (by decide) (by decide) (by decide) kc_4 hy_X4_isStatement hl_X4_isStatement dX4_functionOf_2 trivial) ?_
  refine jlk_cons (sm_ifne rfl B.1 dX4_functionOf_5) ?_
  refine jlk_cons (sm_aload_n rfl B.1 dX4_functionOf_8) ?_
  refine jlk_cons (sm_iconst rfl B.1 dX4_functionOf_9) ?_
  refine jlk_cons (sm_cV (x := yX4_fails) (host := "") (owner := "") isRI (i_X4_fails hI) B q3043 q3045 qs64 w4_X4_fails w6_X4_fails (by decide) (by decide) (by decide) kc_4 hy_X4_fails hl_X4_fails dX4_functionOf_10 trivial) ?_
  refine jlk_cons (sm_iret B.1 B.2.1 hret dX4_functionOf_13) ?_
  refine jlk_cons (sm_aload_n rfl B.1 dX4_functionOf_14) ?_
  refine jlk_cons (sm_iconst rfl B.1 dX4_functionOf_15) ?_
  refine jlk_cons (sm_putI B.1 fl_PointerAnalyzerModel_84_4_16 tyX4 tyX4_ok nmX4 (Or.inl rfl) (tyX4_ok 0 (by decide)) rfl (by decide) dX4_functionOf_16) ?_
  refine jlk_cons (sm_aload_n rfl B.1 dX4_functionOf_19) ?_
  refine jlk_cons (sm_iload_n rfl B.1 dX4_functionOf_20) ?_
  refine jlk_cons (sm_cV (x := yX4_placeOf) (host := "") (owner := "") isRI (i_X4_placeOf hI) B q3122 q3124 qs79 w4_X4_placeOf w6_X4_placeOf (by decide) (by decide) (by decide) kc_4 hy_X4_placeOf hl_X4_placeOf dX4_functionOf_21 trivial) ?_
  refine jlk_cons (sm_bipush rfl B.1 dX4_functionOf_24) ?_
  refine jlk_cons (sm_idiv B.1 dX4_functionOf_26) ?_
  refine jlk_cons (sm_iret B.1 B.2.1 hret dX4_functionOf_27) ?_
  exact jlk_nil
theorem v_X4_functionOf (hst : l.stackTraces = false) (hz : jEz (EV (d + 1))) (hI : jIH l D dA lo cs0 d) : jMe l D dA lo cs0 (EV (d + 1)) 16 yX4_functionOf (ws_ yX4_functionOf cX4_functionOf 2 (Option.some Jvm.ClassFile.FieldType.int)) (d + 1) := z_meth hz rfl hp_X4_functionOf (r_X4_functionOf hst hI)
theorem r_X4_siteCount (hst : l.stackTraces = false) (hI : jIH l D dA lo cs0 d) : jRows l D dA lo cs0 d 1 (tb_X4_siteCount (EV d)) yX4_siteCount cX4_siteCount (Option.some Jvm.ClassFile.FieldType.int) [] := by
  intro p e R s m args below meth c z0 w0 zF wF Q rF hF B hz hw hret hnm
  refine jlk_cons (sm_aload_n rfl B.1 dX4_siteCount_0) ?_
  refine jlk_cons (sm_iconst rfl B.1 dX4_siteCount_1) ?_
  refine jlk_cons (sm_putI B.1 fl_PointerAnalyzerModel_84_4_16 tyX4 tyX4_ok nmX4 (Or.inl rfl) (tyX4_ok 0 (by decide)) rfl (by decide) dX4_siteCount_2) ?_
  refine jlk_cons (sm_aload_n rfl B.1 dX4_siteCount_5) ?_
  refine jlk_cons (sm_cV (x := yX4_sites) (host := "") (owner := "") isRI (i_X4_sites hI) B q3134 q3136 qs80 w4_X4_sites w6_X4_sites (by decide) (by decide) (by decide) kc_4 hy_X4_sites hl_X4_sites dX4_siteCount_6 trivial) ?_
  refine jlk_cons (sm_iret B.1 B.2.1 hret dX4_siteCount_9) ?_
  exact jlk_nil
theorem v_X4_siteCount (hst : l.stackTraces = false) (hz : jEz (EV (d + 1))) (hI : jIH l D dA lo cs0 d) : jMe l D dA lo cs0 (EV (d + 1)) 18 yX4_siteCount (ws_ yX4_siteCount cX4_siteCount 1 (Option.some Jvm.ClassFile.FieldType.int)) (d + 1) := z_meth hz rfl hp_X4_siteCount (r_X4_siteCount hst hI)
theorem r_X4_setLimit (hst : l.stackTraces = false) (hI : jIH l D dA lo cs0 d) : jRows l D dA lo cs0 d 3 (tb_X4_setLimit (EV d)) yX4_setLimit cX4_setLimit (Option.some Jvm.ClassFile.FieldType.int) [] := by
  intro p e R s m args below meth c z0 w0 zF wF Q rF hF B hz hw hret hnm
  refine jlk_cons (sm_iload_n rfl B.1 dX4_setLimit_0) ?_
  refine jlk_cons (sm_iconst rfl B.1 dX4_setLimit_1) ?_
  refine jlk_cons (sm_iconst rfl B.1 dX4_setLimit_2) ?_
  refine jlk_cons (sm_cS (x := yX4_isBetween) (r9 := kr_6) (host := "") (owner := "") isSI (i_X4_isBetween hI) B q3040 q3041 w4_X4_isBetween w6_X4_isBetween (by decide) hy_X4_isBetween hl_X4_isBetween dX4_setLimit_3 trivial) ?_
  refine jlk_cons (sm_ifne rfl B.1 dX4_setLimit_6) ?_
  refine jlk_cons (sm_aload_n rfl B.1 dX4_setLimit_9) ?_
  refine jlk_cons (sm_iconst rfl B.1 dX4_setLimit_10) ?_
  refine jlk_cons (sm_cV (x := yX4_fails) (host := "") (owner := "") isRI (i_X4_fails hI) B q3043 q3045 qs64 w4_X4_fails w6_X4_fails (by decide) (by decide) (by decide) kc_4 hy_X4_fails hl_X4_fails dX4_setLimit_11 trivial) ?_
  refine jlk_cons (sm_iret B.1 B.2.1 hret dX4_setLimit_14) ?_
  refine jlk_cons (sm_aload_n rfl B.1 dX4_setLimit_15) ?_
  refine jlk_cons (sm_iconst rfl B.1 dX4_setLimit_16) ?_
  refine jlk_cons (sm_putI B.1 fl_PointerAnalyzerModel_84_4_16 tyX4 tyX4_ok nmX4 (Or.inl rfl) (tyX4_ok 0 (by decide)) rfl (by decide) dX4_setLimit_17) ?_
  refine jlk_cons (sm_aload_n rfl B.1 dX4_setLimit_20) ?_
  refine jlk_cons (sm_getI B.1 fl_PointerAnalyzerModel_171_4_22 dX4_setLimit_21) ?_
  refine jlk_cons (sm_istore_n rfl B.1 dX4_setLimit_24) ?_
  refine jlk_cons (sm_aload_n rfl B.1 dX4_setLimit_25) ?_
  refine jlk_cons (sm_iload_n rfl B.1 dX4_setLimit_26) ?_
  refine jlk_cons (sm_putI B.1 fl_PointerAnalyzerModel_171_4_22 tyX4 tyX4_ok nmX4 (Or.inl rfl) (tyX4_ok 6 (by decide)) rfl (by decide) dX4_setLimit_27) ?_
  refine jlk_cons (sm_aload_n rfl B.1 dX4_setLimit_30) ?_
  refine jlk_cons (sm_iconst rfl B.1 dX4_setLimit_31) ?_
  refine jlk_cons (sm_putZ B.1 fl_PointerAnalyzerModel_155_4_35 tyX4 tyX4_ok nmX4 (Or.inl rfl) (tyX4_ok 19 (by decide)) rfl (by decide) dX4_setLimit_32) ?_
  refine jlk_cons (sm_iload_n rfl B.1 dX4_setLimit_35) ?_
  refine jlk_cons (sm_iret B.1 B.2.1 hret dX4_setLimit_36) ?_
  exact jlk_nil
theorem v_X4_setLimit (hst : l.stackTraces = false) (hz : jEz (EV (d + 1))) (hI : jIH l D dA lo cs0 d) : jMe l D dA lo cs0 (EV (d + 1)) 20 yX4_setLimit (ws_ yX4_setLimit cX4_setLimit 3 (Option.some Jvm.ClassFile.FieldType.int)) (d + 1) := z_meth hz rfl hp_X4_setLimit (r_X4_setLimit hst hI)
theorem r_X4_contextCount (hst : l.stackTraces = false) (hI : jIH l D dA lo cs0 d) : jRows l D dA lo cs0 d 2 (tb_X4_contextCount (EV d)) yX4_contextCount cX4_contextCount (Option.some Jvm.ClassFile.FieldType.int) [] := by
  intro p e R s m args below meth c z0 w0 zF wF Q rF hF B hz hw hret hnm
  refine jlk_cons (sm_iload_n rfl B.1 dX4_contextCount_0) ?_
  refine jlk_cons (sm_cS (x := yX4_isFunction) (r9 := kr_6) (host := "") (owner := "") isSI (i_X4_isFunction hI) B q3051 q3052 w4_X4_isFunction w6_X4_isFunction (by decide) hy_X4_isFunction hl_X4_isFunction dX4_contextCount_1 trivial) ?_
  refine jlk_cons (sm_ifne rfl B.1 dX4_contextCount_4) ?_
  refine jlk_cons (sm_aload_n rfl B.1 dX4_contextCount_7) ?_
  refine jlk_cons (sm_iconst rfl B.1 dX4_contextCount_8) ?_
  refine jlk_cons (sm_cV (x := yX4_fails) (host := "") (owner := "") isRI (i_X4_fails hI) B q3043 q3045 qs64 w4_X4_fails w6_X4_fails (by decide) (by decide) (by decide) kc_4 hy_X4_fails hl_X4_fails dX4_contextCount_9 trivial) ?_
  refine jlk_cons (sm_iret B.1 B.2.1 hret dX4_contextCount_12) ?_
  refine jlk_cons (sm_aload_n rfl B.1 dX4_contextCount_13) ?_
  refine jlk_cons (sm_iconst rfl B.1 dX4_contextCount_14) ?_
  refine jlk_cons (sm_putI B.1 fl_PointerAnalyzerModel_84_4_16 tyX4 tyX4_ok nmX4 (Or.inl rfl) (tyX4_ok 0 (by decide)) rfl (by decide) dX4_contextCount_15) ?_
  refine jlk_cons (sm_aload_n rfl B.1 dX4_contextCount_18) ?_
  refine jlk_cons (sm_cV (x := yX4_refreshes) (host := "") (owner := "") isRV (i_X4_refreshes hI) B q3146 q3148 qs81 w4_X4_refreshes w6_X4_refreshes (by decide) (by decide) (by decide) kc_4 hy_X4_refreshes hl_X4_refreshes dX4_contextCount_19 trivial) ?_
  refine jlk_cons (sm_aload_n rfl B.1 dX4_contextCount_22) ?_
  refine jlk_cons (sm_iload_n rfl B.1 dX4_contextCount_23) ?_
  refine jlk_cons (sm_cV (x := yX4_contextsOf) (host := "") (owner := "") isRI (i_X4_contextsOf hI) B q3232 q3234 qs100 w4_X4_contextsOf w6_X4_contextsOf (by decide) (by decide) (by decide) kc_4 hy_X4_contextsOf hl_X4_contextsOf dX4_contextCount_24 trivial) ?_
  refine jlk_cons (sm_iret B.1 B.2.1 hret dX4_contextCount_27) ?_
  exact jlk_nil
theorem v_X4_contextCount (hst : l.stackTraces = false) (hz : jEz (EV (d + 1))) (hI : jIH l D dA lo cs0 d) : jMe l D dA lo cs0 (EV (d + 1)) 22 yX4_contextCount (ws_ yX4_contextCount cX4_contextCount 2 (Option.some Jvm.ClassFile.FieldType.int)) (d + 1) := z_meth hz rfl hp_X4_contextCount (r_X4_contextCount hst hI)
theorem r_X4_contextLength (hst : l.stackTraces = false) (hI : jIH l D dA lo cs0 d) : jRows l D dA lo cs0 d 4 (tb_X4_contextLength (EV d)) yX4_contextLength cX4_contextLength (Option.some Jvm.ClassFile.FieldType.int) [] := by
  intro p e R s m args below meth c z0 w0 zF wF Q rF hF B hz hw hret hnm
  refine jlk_cons (sm_aload_n rfl B.1 dX4_contextLength_0) ?_
  refine jlk_cons (sm_iload_n rfl B.1 dX4_contextLength_1) ?_
  refine jlk_cons (sm_iload_n rfl B.1 dX4_contextLength_2) ?_
  refine jlk_cons (sm_cV (x := yX4_codeOf) (host := "") (owner := "") isRI (i_X4_codeOf hI) B q3240 q3242 qs101 w4_X4_codeOf w6_X4_codeOf (by decide) (by decide) (by decide) kc_4 hy_X4_codeOf hl_X4_codeOf dX4_contextLength_3 trivial) ?_
  refine jlk_cons (sm_istore_n rfl B.1 dX4_contextLength_6) ?_
  refine jlk_cons (sm_iload_n rfl B.1 dX4_contextLength_7) ?_
  refine jlk_cons (sm_ifge rfl B.1 dX4_contextLength_8) ?_
  refine jlk_cons (sm_aload_n rfl B.1 dX4_contextLength_11) ?_
  refine jlk_cons (sm_iconst rfl B.1 dX4_contextLength_12) ?_
  refine jlk_cons (sm_cV (x := yX4_fails) (host := "") (owner := "") isRI (i_X4_fails hI) B q3043 q3045 qs64 w4_X4_fails w6_X4_fails (by decide) (by decide) (by decide) kc_4 hy_X4_fails hl_X4_fails dX4_contextLength_13 trivial) ?_
  refine jlk_cons (sm_iret B.1 B.2.1 hret dX4_contextLength_16) ?_
  refine jlk_cons (sm_aload_n rfl B.1 dX4_contextLength_17) ?_
  refine jlk_cons (sm_iconst rfl B.1 dX4_contextLength_18) ?_
  refine jlk_cons (sm_putI B.1 fl_PointerAnalyzerModel_84_4_16 tyX4 tyX4_ok nmX4 (Or.inl rfl) (tyX4_ok 0 (by decide)) rfl (by decide) dX4_contextLength_19) ?_
  refine jlk_cons (sm_iload_n rfl B.1 dX4_contextLength_22) ?_
  refine jlk_cons (sm_sipush rfl B.1 dX4_contextLength_23) ?_
  refine jlk_cons (sm_idiv B.1 dX4_contextLength_26) ?_
  refine jlk_cons (sm_iret B.1 B.2.1 hret dX4_contextLength_27) ?_
  exact jlk_nil
theorem v_X4_contextLength (hst : l.stackTraces = false) (hz : jEz (EV (d + 1))) (hI : jIH l D dA lo cs0 d) : jMe l D dA lo cs0 (EV (d + 1)) 24 yX4_contextLength (ws_ yX4_contextLength cX4_contextLength 4 (Option.some Jvm.ClassFile.FieldType.int)) (d + 1) := z_meth hz rfl hp_X4_contextLength (r_X4_contextLength hst hI)
theorem r_X4_contextCall (hst : l.stackTraces = false) (hI : jIH l D dA lo cs0 d) : jRows l D dA lo cs0 d 5 (tb_X4_contextCall (EV d)) yX4_contextCall cX4_contextCall (Option.some Jvm.ClassFile.FieldType.int) [] := by
  intro p e R s m args below meth c z0 w0 zF wF Q rF hF B hz hw hret hnm
  refine jlk_cons (sm_aload_n rfl B.1 dX4_contextCall_0) ?_
  refine jlk_cons (sm_iload_n rfl B.1 dX4_contextCall_1) ?_
  refine jlk_cons (sm_iload_n rfl B.1 dX4_contextCall_2) ?_
  refine jlk_cons (sm_cV (x := yX4_codeOf) (host := "") (owner := "") isRI (i_X4_codeOf hI) B q3240 q3242 qs101 w4_X4_codeOf w6_X4_codeOf (by decide) (by decide) (by decide) kc_4 hy_X4_codeOf hl_X4_codeOf dX4_contextCall_3 trivial) ?_
  refine jlk_cons (sm_istore B.1 dX4_contextCall_6) ?_
  refine jlk_cons (sm_iload B.1 dX4_contextCall_8) ?_
  refine jlk_cons (sm_iflt rfl B.1 dX4_contextCall_10) ?_
  refine jlk_cons (sm_iload_n rfl B.1 dX4_contextCall_13) ?_
  refine jlk_cons (sm_iconst rfl B.1 dX4_contextCall_14) ?_
  refine jlk_cons (sm_iload B.1 dX4_contextCall_15) ?_
  refine jlk_cons (sm_sipush rfl B.1 dX4_contextCall_17) ?_
  refine jlk_cons (sm_idiv B.1 dX4_contextCall_20) ?_
  refine jlk_cons (sm_iconst rfl B.1 dX4_contextCall_21) ?_
  refine jlk_cons (sm_isub B.1 dX4_contextCall_22) ?_
  refine jlk_cons (sm_cS (x := yX4_isBetween) (r9 := kr_6) (host := "") (owner := "") isSI (i_X4_isBetween hI) B q3040 q3041 w4_X4_isBetween w6_X4_isBetween (by decide) hy_X4_isBetween hl_X4_isBetween dX4_contextCall_23 trivial) ?_
  refine jlk_cons (sm_ifne rfl B.1 dX4_contextCall_26) ?_
  refine jlk_cons (sm_aload_n rfl B.1 dX4_contextCall_29) ?_
  refine jlk_cons (sm_iconst rfl B.1 dX4_contextCall_30) ?_
  refine jlk_cons (sm_cV (x := yX4_fails) (host := "") (owner := "") isRI (i_X4_fails hI) B q3043 q3045 qs64 w4_X4_fails w6_X4_fails (by decide) (by decide) (by decide) kc_4 hy_X4_fails hl_X4_fails dX4_contextCall_31 trivial) ?_
  refine jlk_cons (sm_iret B.1 B.2.1 hret dX4_contextCall_34) ?_
  refine jlk_cons (sm_aload_n rfl B.1 dX4_contextCall_35) ?_
  refine jlk_cons (sm_iconst rfl B.1 dX4_contextCall_36) ?_
  refine jlk_cons (sm_putI B.1 fl_PointerAnalyzerModel_84_4_16 tyX4 tyX4_ok nmX4 (Or.inl rfl) (tyX4_ok 0 (by decide)) rfl (by decide) dX4_contextCall_37) ?_
  refine jlk_cons (sm_iload B.1 dX4_contextCall_40) ?_
  refine jlk_cons (sm_sipush rfl B.1 dX4_contextCall_42) ?_
  refine jlk_cons (sm_idiv B.1 dX4_contextCall_45) ?_
  refine jlk_cons (sm_iconst rfl B.1 dX4_contextCall_46) ?_
  refine jlk_cons (sm_icmpne rfl B.1 dX4_contextCall_47) ?_
  refine jlk_cons (sm_iload_n rfl B.1 dX4_contextCall_50) ?_
  refine jlk_cons (sm_ifne rfl B.1 dX4_contextCall_51) ?_
  refine jlk_cons (sm_iload B.1 dX4_contextCall_54) ?_
  refine jlk_cons (sm_bipush rfl B.1 dX4_contextCall_56) ?_
  refine jlk_cons (sm_idiv B.1 dX4_contextCall_58) ?_
  refine jlk_cons (sm_bipush rfl B.1 dX4_contextCall_59) ?_
  refine jlk_cons (sm_irem B.1 dX4_contextCall_61) ?_
  refine jlk_cons (sm_goto rfl B.1 dX4_contextCall_62) ?_
  refine jlk_cons (sm_iload B.1 dX4_contextCall_65) ?_
  refine jlk_cons (sm_bipush rfl B.1 dX4_contextCall_67) ?_
  refine jlk_cons (sm_irem B.1 dX4_contextCall_69) ?_
  refine jlk_cons (sm_iret B.1 B.2.1 hret dX4_contextCall_70) ?_
  exact jlk_nil
theorem v_X4_contextCall (hst : l.stackTraces = false) (hz : jEz (EV (d + 1))) (hI : jIH l D dA lo cs0 d) : jMe l D dA lo cs0 (EV (d + 1)) 26 yX4_contextCall (ws_ yX4_contextCall cX4_contextCall 5 (Option.some Jvm.ClassFile.FieldType.int)) (d + 1) := z_meth hz rfl hp_X4_contextCall (r_X4_contextCall hst hI)
theorem r_X4_pointsTo (hst : l.stackTraces = false) (hI : jIH l D dA lo cs0 d) : jRows l D dA lo cs0 d 2 (tb_X4_pointsTo (EV d)) yX4_pointsTo cX4_pointsTo (Option.some Jvm.ClassFile.FieldType.long) [] := by
  intro p e R s m args below meth c z0 w0 zF wF Q rF hF B hz hw hret hnm
  refine jlk_cons (sm_iload_n rfl B.1 dX4_pointsTo_0) ?_
  refine jlk_cons (sm_cS (x := yX4_isVariable) (r9 := kr_6) (host := "") (owner := "") isSI (i_X4_isVariable hI) B q3256 q3257 w4_X4_isVariable w6_X4_isVariable (by decide) hy_X4_isVariable hl_X4_isVariable dX4_pointsTo_1 trivial) ?_
  refine jlk_cons (sm_ifne rfl B.1 dX4_pointsTo_4) ?_
  refine jlk_cons (sm_aload_n rfl B.1 dX4_pointsTo_7) ?_
  refine jlk_cons (sm_iconst rfl B.1 dX4_pointsTo_8) ?_
  refine jlk_cons (sm_cV (x := yX4_fails) (host := "") (owner := "") isRI (i_X4_fails hI) B q3043 q3045 qs64 w4_X4_fails w6_X4_fails (by decide) (by decide) (by decide) kc_4 hy_X4_fails hl_X4_fails dX4_pointsTo_9 trivial) ?_
  refine jlk_cons (sm_i2l B.1 dX4_pointsTo_12) ?_
  refine jlk_cons (sm_lret B.1 B.2.1 hret dX4_pointsTo_13) ?_
  refine jlk_cons (sm_aload_n rfl B.1 dX4_pointsTo_14) ?_
  refine jlk_cons (sm_iconst rfl B.1 dX4_pointsTo_15) ?_
  refine jlk_cons (sm_putI B.1 fl_PointerAnalyzerModel_84_4_16 tyX4 tyX4_ok nmX4 (Or.inl rfl) (tyX4_ok 0 (by decide)) rfl (by decide) dX4_pointsTo_16) ?_
  refine jlk_cons (sm_aload_n rfl B.1 dX4_pointsTo_19) ?_
  refine jlk_cons (sm_iload_n rfl B.1 dX4_pointsTo_20) ?_
  refine jlk_cons (sm_cV (x := yX4_targetsBy) (host := "") (owner := "") isRL (i_X4_targetsBy hI) B q3259 q3261 qs103 w4_X4_targetsBy w6_X4_targetsBy (by decide) (by decide) (by decide) kc_4 hy_X4_targetsBy hl_X4_targetsBy dX4_pointsTo_21 trivial) ?_
  refine jlk_cons (sm_lret B.1 B.2.1 hret dX4_pointsTo_24) ?_
  exact jlk_nil
theorem v_X4_pointsTo (hst : l.stackTraces = false) (hz : jEz (EV (d + 1))) (hI : jIH l D dA lo cs0 d) : jMe l D dA lo cs0 (EV (d + 1)) 28 yX4_pointsTo (ws_ yX4_pointsTo cX4_pointsTo 2 (Option.some Jvm.ClassFile.FieldType.long)) (d + 1) := z_meth hz rfl hp_X4_pointsTo (r_X4_pointsTo hst hI)
theorem r_X4_pointsToIn (hst : l.stackTraces = false) (hI : jIH l D dA lo cs0 d) : jRows l D dA lo cs0 d 4 (tb_X4_pointsToIn (EV d)) yX4_pointsToIn cX4_pointsToIn (Option.some Jvm.ClassFile.FieldType.long) [] := by
  intro p e R s m args below meth c z0 w0 zF wF Q rF hF B hz hw hret hnm
  refine jlk_app ?_ ?_
  · refine jlk_cons (sm_iload_n rfl B.1 dX4_pointsToIn_0) ?_
    refine jlk_cons (sm_cS (x := yX4_isVariable) (r9 := kr_6) (host := "") (owner := "") isSI (i_X4_isVariable hI) B q3256 q3257 w4_X4_isVariable w6_X4_isVariable (by decide) hy_X4_isVariable hl_X4_isVariable dX4_pointsToIn_1 trivial) ?_
    refine jlk_cons (sm_ifne rfl B.1 dX4_pointsToIn_4) ?_
    refine jlk_cons (sm_aload_n rfl B.1 dX4_pointsToIn_7) ?_
    refine jlk_cons (sm_iconst rfl B.1 dX4_pointsToIn_8) ?_
    refine jlk_cons (sm_cV (x := yX4_fails) (host := "") (owner := "") isRI (i_X4_fails hI) B q3043 q3045 qs64 w4_X4_fails w6_X4_fails (by decide) (by decide) (by decide) kc_4 hy_X4_fails hl_X4_fails dX4_pointsToIn_9 trivial) ?_
    refine jlk_cons (sm_i2l B.1 dX4_pointsToIn_12) ?_
    refine jlk_cons (sm_lret B.1 B.2.1 hret dX4_pointsToIn_13) ?_
    refine jlk_cons (sm_aload_n rfl B.1 dX4_pointsToIn_14) ?_
    refine jlk_cons (sm_cV (x := yX4_refreshes) (host := "") (owner := "") isRV (i_X4_refreshes hI) B q3146 q3148 qs81 w4_X4_refreshes w6_X4_refreshes (by decide) (by decide) (by decide) kc_4 hy_X4_refreshes hl_X4_refreshes dX4_pointsToIn_15 trivial) ?_
    refine jlk_cons (sm_iload_n rfl B.1 dX4_pointsToIn_18) ?_
    refine jlk_cons (sm_iconst rfl B.1 dX4_pointsToIn_19) ?_
    refine jlk_cons (sm_isub B.1 dX4_pointsToIn_20) ?_
    refine jlk_cons (sm_iconst rfl B.1 dX4_pointsToIn_21) ?_
    refine jlk_cons (sm_idiv B.1 dX4_pointsToIn_22) ?_
    refine jlk_cons (sm_istore_n rfl B.1 dX4_pointsToIn_23) ?_
    refine jlk_cons (sm_iload_n rfl B.1 dX4_pointsToIn_24) ?_
    refine jlk_cons (sm_iconst rfl B.1 dX4_pointsToIn_25) ?_
    refine jlk_cons (sm_icmpge rfl B.1 dX4_pointsToIn_26) ?_
    refine jlk_cons (sm_iload_n rfl B.1 dX4_pointsToIn_29) ?_
    refine jlk_cons (sm_ifeq rfl B.1 dX4_pointsToIn_30) ?_
    refine jlk_cons (sm_goto rfl B.1 dX4_pointsToIn_33) ?_
    refine jlk_cons (sm_iload_n rfl B.1 dX4_pointsToIn_36) ?_
    refine jlk_cons (sm_iconst rfl B.1 dX4_pointsToIn_37) ?_
    refine jlk_cons (sm_aload_n rfl B.1 dX4_pointsToIn_38) ?_
    refine jlk_cons (sm_iload_n rfl B.1 dX4_pointsToIn_39) ?_
    refine jlk_cons (sm_cV (x := yX4_contextsOf) (host := "") (owner := "") isRI (i_X4_contextsOf hI) B q3232 q3234 qs100 w4_X4_contextsOf w6_X4_contextsOf (by decide) (by decide) (by decide) kc_4 hy_X4_contextsOf hl_X4_contextsOf dX4_pointsToIn_40 trivial) ?_
    refine jlk_cons (sm_iconst rfl B.1 dX4_pointsToIn_43) ?_
    refine jlk_cons (sm_isub B.1 dX4_pointsToIn_44) ?_
    refine jlk_cons (sm_cS (x := yX4_isBetween) (r9 := kr_6) (host := "") (owner := "") isSI (i_X4_isBetween hI) B q3040 q3041 w4_X4_isBetween w6_X4_isBetween (by decide) hy_X4_isBetween hl_X4_isBetween dX4_pointsToIn_45 trivial) ?_
    refine jlk_cons (sm_ifne rfl B.1 dX4_pointsToIn_48) ?_
    refine jlk_cons (sm_aload_n rfl B.1 dX4_pointsToIn_51) ?_
    refine jlk_cons (sm_iconst rfl B.1 dX4_pointsToIn_52) ?_
    refine jlk_cons (sm_cV (x := yX4_fails) (host := "") (owner := "") isRI (i_X4_fails hI) B q3043 q3045 qs64 w4_X4_fails w6_X4_fails (by decide) (by decide) (by decide) kc_4 hy_X4_fails hl_X4_fails dX4_pointsToIn_53 trivial) ?_
    refine jlk_cons (sm_i2l B.1 dX4_pointsToIn_56) ?_
    refine jlk_cons (sm_lret B.1 B.2.1 hret dX4_pointsToIn_57) ?_
    refine jlk_cons (sm_aload_n rfl B.1 dX4_pointsToIn_58) ?_
    refine jlk_cons (sm_iconst rfl B.1 dX4_pointsToIn_59) ?_
    refine jlk_cons (sm_putI B.1 fl_PointerAnalyzerModel_84_4_16 tyX4 tyX4_ok nmX4 (Or.inl rfl) (tyX4_ok 0 (by decide)) rfl (by decide) dX4_pointsToIn_60) ?_
    refine jlk_cons (sm_aload_n rfl B.1 dX4_pointsToIn_63) ?_
    exact jlk_nil
  · skip
    refine jlk_cons (sm_iload_n rfl B.1 dX4_pointsToIn_64) ?_
    refine jlk_cons (sm_iconst rfl B.1 dX4_pointsToIn_65) ?_
    refine jlk_cons (sm_icmpge rfl B.1 dX4_pointsToIn_66) ?_
    refine jlk_cons (sm_iload_n rfl B.1 dX4_pointsToIn_69) ?_
    refine jlk_cons (sm_goto rfl B.1 dX4_pointsToIn_70) ?_
    refine jlk_cons (sm_iload_n rfl B.1 dX4_pointsToIn_73) ?_
    refine jlk_cons (sm_aload_n rfl B.1 dX4_pointsToIn_74) ?_
    refine jlk_cons (sm_iload_n rfl B.1 dX4_pointsToIn_75) ?_
    refine jlk_cons (sm_cV (x := yX4_firstOf) (host := "") (owner := "") isRI (i_X4_firstOf hI) B q3244 q3246 qs102 w4_X4_firstOf w6_X4_firstOf (by decide) (by decide) (by decide) kc_4 hy_X4_firstOf hl_X4_firstOf dX4_pointsToIn_76 trivial) ?_
    refine jlk_cons (sm_iload_n rfl B.1 dX4_pointsToIn_79) ?_
    refine jlk_cons (sm_iadd B.1 dX4_pointsToIn_80) ?_
    refine jlk_cons (sm_cS (x := yX4_cellOf) (r9 := kr_6) (host := "") (owner := "") isSI (i_X4_cellOf hI) B q3181 q3182 w4_X4_cellOf w6_X4_cellOf (by decide) hy_X4_cellOf hl_X4_cellOf dX4_pointsToIn_81 trivial) ?_
    refine jlk_cons (sm_cV (x := yX4_targetsOf) (host := "") (owner := "") isRL (i_X4_targetsOf hI) B q3263 q3265 qs104 w4_X4_targetsOf w6_X4_targetsOf (by decide) (by decide) (by decide) kc_4 hy_X4_targetsOf hl_X4_targetsOf dX4_pointsToIn_84 trivial) ?_
    refine jlk_cons (sm_lret B.1 B.2.1 hret dX4_pointsToIn_87) ?_
    exact jlk_nil
theorem v_X4_pointsToIn (hst : l.stackTraces = false) (hz : jEz (EV (d + 1))) (hI : jIH l D dA lo cs0 d) : jMe l D dA lo cs0 (EV (d + 1)) 30 yX4_pointsToIn (ws_ yX4_pointsToIn cX4_pointsToIn 4 (Option.some Jvm.ClassFile.FieldType.long)) (d + 1) := z_meth hz rfl hp_X4_pointsToIn (r_X4_pointsToIn hst hI)
theorem r_X4_fieldPointsTo (hst : l.stackTraces = false) (hI : jIH l D dA lo cs0 d) : jRows l D dA lo cs0 d 3 (tb_X4_fieldPointsTo (EV d)) yX4_fieldPointsTo cX4_fieldPointsTo (Option.some Jvm.ClassFile.FieldType.long) [] := by
  intro p e R s m args below meth c z0 w0 zF wF Q rF hF B hz hw hret hnm
  refine jlk_cons (sm_aload_n rfl B.1 dX4_fieldPointsTo_0) ?_
  refine jlk_cons (sm_iload_n rfl B.1 dX4_fieldPointsTo_1) ?_
  refine jlk_cons (sm_iload_n rfl B.1 dX4_fieldPointsTo_2) ?_
  refine jlk_cons (sm_cV (x := yX4_isField) (host := "") (owner := "") isRI (i_X4_isField hI) B q3275 q3277 qs105 w4_X4_isField w6_X4_isField (by decide) (by decide) (by decide) kc_4 hy_X4_isField hl_X4_isField dX4_fieldPointsTo_3 trivial) ?_
  refine jlk_cons (sm_ifne rfl B.1 dX4_fieldPointsTo_6) ?_
  refine jlk_cons (sm_aload_n rfl B.1 dX4_fieldPointsTo_9) ?_
  refine jlk_cons (sm_iconst rfl B.1 dX4_fieldPointsTo_10) ?_
  refine jlk_cons (sm_cV (x := yX4_fails) (host := "") (owner := "") isRI (i_X4_fails hI) B q3043 q3045 qs64 w4_X4_fails w6_X4_fails (by decide) (by decide) (by decide) kc_4 hy_X4_fails hl_X4_fails dX4_fieldPointsTo_11 trivial) ?_
  refine jlk_cons (sm_i2l B.1 dX4_fieldPointsTo_14) ?_
  refine jlk_cons (sm_lret B.1 B.2.1 hret dX4_fieldPointsTo_15) ?_
  refine jlk_cons (sm_aload_n rfl B.1 dX4_fieldPointsTo_16) ?_
  refine jlk_cons (sm_iconst rfl B.1 dX4_fieldPointsTo_17) ?_
  refine jlk_cons (sm_putI B.1 fl_PointerAnalyzerModel_84_4_16 tyX4 tyX4_ok nmX4 (Or.inl rfl) (tyX4_ok 0 (by decide)) rfl (by decide) dX4_fieldPointsTo_18) ?_
  refine jlk_cons (sm_aload_n rfl B.1 dX4_fieldPointsTo_21) ?_
  refine jlk_cons (sm_bipush rfl B.1 dX4_fieldPointsTo_22) ?_
  refine jlk_cons (sm_iconst rfl B.1 dX4_fieldPointsTo_24) ?_
  refine jlk_cons (sm_iload_n rfl B.1 dX4_fieldPointsTo_25) ?_
  refine jlk_cons (sm_imul B.1 dX4_fieldPointsTo_26) ?_
  refine jlk_cons (sm_iadd B.1 dX4_fieldPointsTo_27) ?_
  refine jlk_cons (sm_iload_n rfl B.1 dX4_fieldPointsTo_28) ?_
  refine jlk_cons (sm_iadd B.1 dX4_fieldPointsTo_29) ?_
  refine jlk_cons (sm_cV (x := yX4_targetsBy) (host := "") (owner := "") isRL (i_X4_targetsBy hI) B q3259 q3261 qs103 w4_X4_targetsBy w6_X4_targetsBy (by decide) (by decide) (by decide) kc_4 hy_X4_targetsBy hl_X4_targetsBy dX4_fieldPointsTo_30 trivial) ?_
  refine jlk_cons (sm_lret B.1 B.2.1 hret dX4_fieldPointsTo_33) ?_
  exact jlk_nil
theorem v_X4_fieldPointsTo (hst : l.stackTraces = false) (hz : jEz (EV (d + 1))) (hI : jIH l D dA lo cs0 d) : jMe l D dA lo cs0 (EV (d + 1)) 32 yX4_fieldPointsTo (ws_ yX4_fieldPointsTo cX4_fieldPointsTo 3 (Option.some Jvm.ClassFile.FieldType.long)) (d + 1) := z_meth hz rfl hp_X4_fieldPointsTo (r_X4_fieldPointsTo hst hI)
theorem r_X4_factCount (hst : l.stackTraces = false) (hI : jIH l D dA lo cs0 d) : jRows l D dA lo cs0 d 3 (tb_X4_factCount (EV d)) yX4_factCount cX4_factCount (Option.some Jvm.ClassFile.FieldType.int) [] := by
  intro p e R s m args below meth c z0 w0 zF wF Q rF hF B hz hw hret hnm
  refine jlk_cons (sm_aload_n rfl B.1 dX4_factCount_0) ?_
  refine jlk_cons (sm_iconst rfl B.1 dX4_factCount_1) ?_
  refine jlk_cons (sm_putI B.1 fl_PointerAnalyzerModel_84_4_16 tyX4 tyX4_ok nmX4 (Or.inl rfl) (tyX4_ok 0 (by decide)) rfl (by decide) dX4_factCount_2) ?_
  refine jlk_cons (sm_aload_n rfl B.1 dX4_factCount_5) ?_
  refine jlk_cons (sm_cV (x := yX4_refreshes) (host := "") (owner := "") isRV (i_X4_refreshes hI) B q3146 q3148 qs81 w4_X4_refreshes w6_X4_refreshes (by decide) (by decide) (by decide) kc_4 hy_X4_refreshes hl_X4_refreshes dX4_factCount_6 trivial) ?_
  refine jlk_cons (sm_iconst rfl B.1 dX4_factCount_9) ?_
  refine jlk_cons (sm_istore_n rfl B.1 dX4_factCount_10) ?_
  refine jlk_cons (sm_iconst rfl B.1 dX4_factCount_11) ?_
  refine jlk_cons (sm_istore_n rfl B.1 dX4_factCount_12) ?_
  refine jlk_cons (sm_iload_n rfl B.1 dX4_factCount_13) ?_
  refine jlk_cons (sm_aload_n rfl B.1 dX4_factCount_14) ?_
  refine jlk_cons (sm_getP B.1 fl_PointerAnalyzerModel_38_4_33 dX4_factCount_15) ?_
  refine jlk_cons (sm_alen B.1 (t := 105) (by decide) rfl dX4_factCount_18) ?_
  refine jlk_cons (sm_icmpge rfl B.1 dX4_factCount_19) ?_
  refine jlk_cons (sm_iload_n rfl B.1 dX4_factCount_22) ?_
  refine jlk_cons (sm_aload_n rfl B.1 dX4_factCount_23) ?_
  refine jlk_cons (sm_getP B.1 fl_PointerAnalyzerModel_38_4_33 dX4_factCount_24) ?_
  refine jlk_cons (sm_iload_n rfl B.1 dX4_factCount_27) ?_
  refine jlk_cons (sm_lald B.1 dX4_factCount_28) ?_
  refine jlk_cons (sm_cS (x := yX4_bits) (r9 := kr_6) (host := "") (owner := "") isSI (i_X4_bits hI) B q3283 q3284 w4_X4_bits w6_X4_bits (by decide) hy_X4_bits hl_X4_bits dX4_factCount_29 trivial) ?_
  refine jlk_cons (sm_iadd B.1 dX4_factCount_32) ?_
  refine jlk_cons (sm_istore_n rfl B.1 dX4_factCount_33) ?_
  refine jlk_cons (sm_iinc rfl B.1 dX4_factCount_34) ?_
  refine jlk_cons (sm_goto rfl B.1 dX4_factCount_37) ?_
  refine jlk_cons (sm_iload_n rfl B.1 dX4_factCount_40) ?_
  refine jlk_cons (sm_iret B.1 B.2.1 hret dX4_factCount_41) ?_
  exact jlk_nil
theorem v_X4_factCount (hst : l.stackTraces = false) (hz : jEz (EV (d + 1))) (hI : jIH l D dA lo cs0 d) : jMe l D dA lo cs0 (EV (d + 1)) 34 yX4_factCount (ws_ yX4_factCount cX4_factCount 3 (Option.some Jvm.ClassFile.FieldType.int)) (d + 1) := z_meth hz rfl hp_X4_factCount (r_X4_factCount hst hI)
theorem r_X4_mayAlias (hst : l.stackTraces = false) (hI : jIH l D dA lo cs0 d) : jRows l D dA lo cs0 d 3 (tb_X4_mayAlias (EV d)) yX4_mayAlias cX4_mayAlias (Option.some Jvm.ClassFile.FieldType.boolean) [] := by
  intro p e R s m args below meth c z0 w0 zF wF Q rF hF B hz hw hret hnm
  refine jlk_cons (sm_iload_n rfl B.1 dX4_mayAlias_0) ?_
  refine jlk_cons (sm_cS (x := yX4_isVariable) (r9 := kr_6) (host := "") (owner := "") isSI (i_X4_isVariable hI) B q3256 q3257 w4_X4_isVariable w6_X4_isVariable (by decide) hy_X4_isVariable hl_X4_isVariable dX4_mayAlias_1 trivial) ?_
  refine jlk_cons (sm_ifeq rfl B.1 dX4_mayAlias_4) ?_
  refine jlk_cons (sm_iload_n rfl B.1 dX4_mayAlias_7) ?_
  refine jlk_cons (sm_cS (x := yX4_isVariable) (r9 := kr_6) (host := "") (owner := "") isSI (i_X4_isVariable hI) B q3256 q3257 w4_X4_isVariable w6_X4_isVariable (by decide) hy_X4_isVariable hl_X4_isVariable dX4_mayAlias_8 trivial) ?_
  refine jlk_cons (sm_ifne rfl B.1 dX4_mayAlias_11) ?_
  refine jlk_cons (sm_aload_n rfl B.1 dX4_mayAlias_14) ?_
  refine jlk_cons (sm_iconst rfl B.1 dX4_mayAlias_15) ?_
  refine jlk_cons (sm_cV (x := yX4_refuses) (host := "") (owner := "") isRI (i_X4_refuses hI) B q3290 q3292 qs106 w4_X4_refuses w6_X4_refuses (by decide) (by decide) (by decide) kc_4 hy_X4_refuses hl_X4_refuses dX4_mayAlias_16 trivial) ?_
  refine jlk_cons (sm_zret B.1 B.2.1 hret dX4_mayAlias_19) ?_
  refine jlk_cons (sm_aload_n rfl B.1 dX4_mayAlias_20) ?_
  refine jlk_cons (sm_iconst rfl B.1 dX4_mayAlias_21) ?_
  refine jlk_cons (sm_putI B.1 fl_PointerAnalyzerModel_84_4_16 tyX4 tyX4_ok nmX4 (Or.inl rfl) (tyX4_ok 0 (by decide)) rfl (by decide) dX4_mayAlias_22) ?_
  refine jlk_cons (sm_aload_n rfl B.1 dX4_mayAlias_25) ?_
  refine jlk_cons (sm_iload_n rfl B.1 dX4_mayAlias_26) ?_
  refine jlk_cons (sm_cV (x := yX4_targetsBy) (host := "") (owner := "") isRL (i_X4_targetsBy hI) B q3259 q3261 qs103 w4_X4_targetsBy w6_X4_targetsBy (by decide) (by decide) (by decide) kc_4 hy_X4_targetsBy hl_X4_targetsBy dX4_mayAlias_27 trivial) ?_
  refine jlk_cons (sm_aload_n rfl B.1 dX4_mayAlias_30) ?_
  refine jlk_cons (sm_iload_n rfl B.1 dX4_mayAlias_31) ?_
  refine jlk_cons (sm_cV (x := yX4_targetsBy) (host := "") (owner := "") isRL (i_X4_targetsBy hI) B q3259 q3261 qs103 w4_X4_targetsBy w6_X4_targetsBy (by decide) (by decide) (by decide) kc_4 hy_X4_targetsBy hl_X4_targetsBy dX4_mayAlias_32 trivial) ?_
  refine jlk_cons (sm_land B.1 dX4_mayAlias_35) ?_
  refine jlk_cons (sm_lconst rfl B.1 dX4_mayAlias_36) ?_
  refine jlk_cons (sm_lcmp B.1 dX4_mayAlias_37) ?_
  refine jlk_cons (sm_ifeq rfl B.1 dX4_mayAlias_38) ?_
  refine jlk_cons (sm_iconst rfl B.1 dX4_mayAlias_41) ?_
  refine jlk_cons (sm_goto rfl B.1 dX4_mayAlias_42) ?_
  refine jlk_cons (sm_iconst rfl B.1 dX4_mayAlias_45) ?_
  refine jlk_cons (sm_zret B.1 B.2.1 hret dX4_mayAlias_46) ?_
  exact jlk_nil
theorem v_X4_mayAlias (hst : l.stackTraces = false) (hz : jEz (EV (d + 1))) (hI : jIH l D dA lo cs0 d) : jMe l D dA lo cs0 (EV (d + 1)) 36 yX4_mayAlias (ws_ yX4_mayAlias cX4_mayAlias 3 (Option.some Jvm.ClassFile.FieldType.boolean)) (d + 1) := z_meth hz rfl hp_X4_mayAlias (r_X4_mayAlias hst hI)
theorem r_X4_reach (hst : l.stackTraces = false) (hI : jIH l D dA lo cs0 d) : jRows l D dA lo cs0 d 2 (tb_X4_reach (EV d)) yX4_reach cX4_reach (Option.some Jvm.ClassFile.FieldType.long) [] := by
  intro p e R s m args below meth c z0 w0 zF wF Q rF hF B hz hw hret hnm
  refine jlk_cons (sm_iload_n rfl B.1 dX4_reach_0) ?_
  refine jlk_cons (sm_cS (x := yX4_isVariable) (r9 := kr_6) (host := "") (owner := "") isSI (i_X4_isVariable hI) B q3256 q3257 w4_X4_isVariable w6_X4_isVariable (by decide) hy_X4_isVariable hl_X4_isVariable dX4_reach_1 trivial) ?_
  refine jlk_cons (sm_ifne rfl B.1 dX4_reach_4) ?_
  refine jlk_cons (sm_aload_n rfl B.1 dX4_reach_7) ?_
  refine jlk_cons (sm_iconst rfl B.1 dX4_reach_8) ?_
  refine jlk_cons (sm_cV (x := yX4_fails) (host := "") (owner := "") isRI (i_X4_fails hI) B q3043 q3045 qs64 w4_X4_fails w6_X4_fails (by decide) (by decide) (by decide) kc_4 hy_X4_fails hl_X4_fails dX4_reach_9 trivial) ?_
  refine jlk_cons (sm_i2l B.1 dX4_reach_12) ?_
  refine jlk_cons (sm_lret B.1 B.2.1 hret dX4_reach_13) ?_
  refine jlk_cons (sm_aload_n rfl B.1 dX4_reach_14) ?_
  refine jlk_cons (sm_iconst rfl B.1 dX4_reach_15) ?_
  refine jlk_cons (sm_putI B.1 fl_PointerAnalyzerModel_84_4_16 tyX4 tyX4_ok nmX4 (Or.inl rfl) (tyX4_ok 0 (by decide)) rfl (by decide) dX4_reach_16) ?_
  refine jlk_cons (sm_aload_n rfl B.1 dX4_reach_19) ?_
  refine jlk_cons (sm_iload_n rfl B.1 dX4_reach_20) ?_
  refine jlk_cons (sm_cV (x := yX4_reached) (host := "") (owner := "") isRL (i_X4_reached hI) B q3298 q3300 qs107 w4_X4_reached w6_X4_reached (by decide) (by decide) (by decide) kc_4 hy_X4_reached hl_X4_reached dX4_reach_21 trivial) ?_
  refine jlk_cons (sm_lret B.1 B.2.1 hret dX4_reach_24) ?_
  exact jlk_nil
theorem v_X4_reach (hst : l.stackTraces = false) (hz : jEz (EV (d + 1))) (hI : jIH l D dA lo cs0 d) : jMe l D dA lo cs0 (EV (d + 1)) 38 yX4_reach (ws_ yX4_reach cX4_reach 2 (Option.some Jvm.ClassFile.FieldType.long)) (d + 1) := z_meth hz rfl hp_X4_reach (r_X4_reach hst hI)
theorem r_X4_escapingSites (hst : l.stackTraces = false) (hI : jIH l D dA lo cs0 d) : jRows l D dA lo cs0 d 5 (tb_X4_escapingSites (EV d)) yX4_escapingSites cX4_escapingSites (Option.some Jvm.ClassFile.FieldType.int) [] := by
  intro p e R s m args below meth c z0 w0 zF wF Q rF hF B hz hw hret hnm
  refine jlk_app ?_ ?_
  · refine jlk_cons (sm_aload_n rfl B.1 dX4_escapingSites_0) ?_
    refine jlk_cons (sm_iconst rfl B.1 dX4_escapingSites_1) ?_
    refine jlk_cons (sm_putI B.1 fl_PointerAnalyzerModel_84_4_16 tyX4 tyX4_ok nmX4 (Or.inl rfl) (tyX4_ok 0 (by decide)) rfl (by decide) dX4_escapingSites_2) ?_
    refine jlk_cons (sm_aload_n rfl B.1 dX4_escapingSites_5) ?_
    refine jlk_cons (sm_iconst rfl B.1 dX4_escapingSites_6) ?_
    refine jlk_cons (sm_cV (x := yX4_reached) (host := "") (owner := "") isRL (i_X4_reached hI) B q3298 q3300 qs107 w4_X4_reached w6_X4_reached (by decide) (by decide) (by decide) kc_4 hy_X4_reached hl_X4_reached dX4_escapingSites_7 trivial) ?_
    refine jlk_cons (sm_aload_n rfl B.1 dX4_escapingSites_10) ?_
    refine jlk_cons (sm_iconst rfl B.1 dX4_escapingSites_11) ?_
    refine jlk_cons (sm_cV (x := yX4_reached) (host := "") (owner := "") isRL (i_X4_reached hI) B q3298 q3300 qs107 w4_X4_reached w6_X4_reached (by decide) (by decide) (by decide) kc_4 hy_X4_reached hl_X4_reached dX4_escapingSites_12 trivial) ?_
    refine jlk_cons (sm_lor B.1 dX4_escapingSites_15) ?_
    refine jlk_cons (sm_aload_n rfl B.1 dX4_escapingSites_16) ?_
    refine jlk_cons (sm_iconst rfl B.1 dX4_escapingSites_17) ?_
    refine jlk_cons (sm_cV (x := yX4_reached) (host := "") (owner := "") isRL (i_X4_reached hI) B q3298 q3300 qs107 w4_X4_reached w6_X4_reached (by decide) (by decide) (by decide) kc_4 hy_X4_reached hl_X4_reached dX4_escapingSites_18 trivial) ?_
    refine jlk_cons (sm_lor B.1 dX4_escapingSites_21) ?_
    refine jlk_cons (sm_aload_n rfl B.1 dX4_escapingSites_22) ?_
    refine jlk_cons (sm_iconst rfl B.1 dX4_escapingSites_23) ?_
    refine jlk_cons (sm_cV (x := yX4_reached) (host := "") (owner := "") isRL (i_X4_reached hI) B q3298 q3300 qs107 w4_X4_reached w6_X4_reached (by decide) (by decide) (by decide) kc_4 hy_X4_reached hl_X4_reached dX4_escapingSites_24 trivial) ?_
    refine jlk_cons (sm_lor B.1 dX4_escapingSites_27) ?_
    refine jlk_cons (sm_lstore_n rfl B.1 dX4_escapingSites_28) ?_
    refine jlk_cons (sm_iconst rfl B.1 dX4_escapingSites_29) ?_
    refine jlk_cons (sm_istore_n rfl B.1 dX4_escapingSites_30) ?_
    refine jlk_cons (sm_iconst rfl B.1 dX4_escapingSites_31) ?_
    refine jlk_cons (sm_istore B.1 dX4_escapingSites_32) ?_
    refine jlk_cons (sm_iload B.1 dX4_escapingSites_34) ?_
    refine jlk_cons (sm_bipush rfl B.1 dX4_escapingSites_36) ?_
    refine jlk_cons (sm_icmpge rfl B.1 dX4_escapingSites_38) ?_
    refine jlk_cons (sm_iload_n rfl B.1 dX4_escapingSites_41) ?_
    refine jlk_cons (sm_lload_n rfl B.1 dX4_escapingSites_42) ?_
    refine jlk_cons (sm_bipush rfl B.1 dX4_escapingSites_43) ?_
    refine jlk_cons (sm_iconst rfl B.1 dX4_escapingSites_45) ?_
    refine jlk_cons (sm_iload B.1 dX4_escapingSites_46) ?_
    refine jlk_cons (sm_imul B.1 dX4_escapingSites_48) ?_
    refine jlk_cons (sm_iadd B.1 dX4_escapingSites_49) ?_
    refine jlk_cons (sm_lshr B.1 dX4_escapingSites_50) ?_
    refine jlk_cons (sm_ldc2 q3306 B.1 dX4_escapingSites_51) ?_
    refine jlk_cons (sm_land B.1 dX4_escapingSites_54) ?_
    refine jlk_cons (sm_lconst rfl B.1 dX4_escapingSites_55) ?_
    refine jlk_cons (sm_lcmp B.1 dX4_escapingSites_56) ?_
    refine jlk_cons (sm_ifeq rfl B.1 dX4_escapingSites_57) ?_
    refine jlk_cons (sm_iconst rfl B.1 dX4_escapingSites_60) ?_
    exact jlk_nil
  · skip
    refine jlk_cons (sm_iload B.1 dX4_escapingSites_61) ?_
    refine jlk_cons (sm_ishl B.1 dX4_escapingSites_63) ?_
    refine jlk_cons (sm_goto rfl B.1 dX4_escapingSites_64) ?_
    refine jlk_cons (sm_iconst rfl B.1 dX4_escapingSites_67) ?_
    refine jlk_cons (sm_ior B.1 dX4_escapingSites_68) ?_
    refine jlk_cons (sm_istore_n rfl B.1 dX4_escapingSites_69) ?_
    refine jlk_cons (sm_iinc rfl B.1 dX4_escapingSites_70) ?_
    refine jlk_cons (sm_goto rfl B.1 dX4_escapingSites_73) ?_
    refine jlk_cons (sm_iload_n rfl B.1 dX4_escapingSites_76) ?_
    refine jlk_cons (sm_iret B.1 B.2.1 hret dX4_escapingSites_77) ?_
    exact jlk_nil
theorem v_X4_escapingSites (hst : l.stackTraces = false) (hz : jEz (EV (d + 1))) (hI : jIH l D dA lo cs0 d) : jMe l D dA lo cs0 (EV (d + 1)) 40 yX4_escapingSites (ws_ yX4_escapingSites cX4_escapingSites 5 (Option.some Jvm.ClassFile.FieldType.int)) (d + 1) := z_meth hz rfl hp_X4_escapingSites (r_X4_escapingSites hst hI)
theorem r_X4_rank (hst : l.stackTraces = false) (hI : jIH l D dA lo cs0 d) : jRows l D dA lo cs0 d 4 (tb_X4_rank (EV d)) yX4_rank cX4_rank (Option.some Jvm.ClassFile.FieldType.int) [] := by
  intro p e R s m args below meth c z0 w0 zF wF Q rF hF B hz hw hret hnm
  refine jlk_cons (sm_aload_n rfl B.1 dX4_rank_0) ?_
  refine jlk_cons (sm_iload_n rfl B.1 dX4_rank_1) ?_
  refine jlk_cons (sm_iload_n rfl B.1 dX4_rank_2) ?_
  refine jlk_cons (sm_cV (x := yX4_factAt) (host := "") (owner := "") isRI (i_X4_factAt hI) B q3311 q3313 qs108 w4_X4_factAt w6_X4_factAt (by decide) (by decide) (by decide) kc_4 hy_X4_factAt hl_X4_factAt dX4_rank_3 trivial) ?_
  refine jlk_cons (sm_istore_n rfl B.1 dX4_rank_6) ?_
  refine jlk_cons (sm_aload_n rfl B.1 dX4_rank_7) ?_
  refine jlk_cons (sm_getI B.1 fl_PointerAnalyzerModel_84_4_16 dX4_rank_8) ?_
  refine jlk_cons (sm_ifle rfl B.1 dX4_rank_11) ?_
  refine jlk_cons (sm_iconst rfl B.1 dX4_rank_14) ?_
  refine jlk_cons (sm_goto rfl B.1 dX4_rank_15) ?_
  refine jlk_cons (sm_aload_n rfl B.1 dX4_rank_18) ?_
  refine jlk_cons (sm_getP B.1 fl_PointerAnalyzerModel_45_4_37 dX4_rank_19) ?_
  refine jlk_cons (sm_iload_n rfl B.1 dX4_rank_22) ?_
  refine jlk_cons (sm_iald B.1 dX4_rank_23) ?_
  refine jlk_cons (sm_iret B.1 B.2.1 hret dX4_rank_24) ?_
  exact jlk_nil
theorem v_X4_rank (hst : l.stackTraces = false) (hz : jEz (EV (d + 1))) (hI : jIH l D dA lo cs0 d) : jMe l D dA lo cs0 (EV (d + 1)) 42 yX4_rank (ws_ yX4_rank cX4_rank 4 (Option.some Jvm.ClassFile.FieldType.int)) (d + 1) := z_meth hz rfl hp_X4_rank (r_X4_rank hst hI)
theorem r_X4_reason (hst : l.stackTraces = false) (hI : jIH l D dA lo cs0 d) : jRows l D dA lo cs0 d 4 (tb_X4_reason (EV d)) yX4_reason cX4_reason (Option.some Jvm.ClassFile.FieldType.int) [] := by
  intro p e R s m args below meth c z0 w0 zF wF Q rF hF B hz hw hret hnm
  refine jlk_cons (sm_aload_n rfl B.1 dX4_reason_0) ?_
  refine jlk_cons (sm_iload_n rfl B.1 dX4_reason_1) ?_
  refine jlk_cons (sm_iload_n rfl B.1 dX4_reason_2) ?_
  refine jlk_cons (sm_cV (x := yX4_factAt) (host := "") (owner := "") isRI (i_X4_factAt hI) B q3311 q3313 qs108 w4_X4_factAt w6_X4_factAt (by decide) (by decide) (by decide) kc_4 hy_X4_factAt hl_X4_factAt dX4_reason_3 trivial) ?_
  refine jlk_cons (sm_istore_n rfl B.1 dX4_reason_6) ?_
  refine jlk_cons (sm_aload_n rfl B.1 dX4_reason_7) ?_
  refine jlk_cons (sm_getI B.1 fl_PointerAnalyzerModel_84_4_16 dX4_reason_8) ?_
  refine jlk_cons (sm_ifle rfl B.1 dX4_reason_11) ?_
  refine jlk_cons (sm_iconst rfl B.1 dX4_reason_14) ?_
  refine jlk_cons (sm_goto rfl B.1 dX4_reason_15) ?_
  refine jlk_cons (sm_aload_n rfl B.1 dX4_reason_18) ?_
  refine jlk_cons (sm_getP B.1 fl_PointerAnalyzerModel_48_4_38 dX4_reason_19) ?_
  refine jlk_cons (sm_iload_n rfl B.1 dX4_reason_22) ?_
  refine jlk_cons (sm_iald B.1 dX4_reason_23) ?_
  refine jlk_cons (sm_iret B.1 B.2.1 hret dX4_reason_24) ?_
  exact jlk_nil
theorem v_X4_reason (hst : l.stackTraces = false) (hz : jEz (EV (d + 1))) (hI : jIH l D dA lo cs0 d) : jMe l D dA lo cs0 (EV (d + 1)) 44 yX4_reason (ws_ yX4_reason cX4_reason 4 (Option.some Jvm.ClassFile.FieldType.int)) (d + 1) := z_meth hz rfl hp_X4_reason (r_X4_reason hst hI)
theorem r_X4_roundCount (hst : l.stackTraces = false) (hI : jIH l D dA lo cs0 d) : jRows l D dA lo cs0 d 1 (tb_X4_roundCount (EV d)) yX4_roundCount cX4_roundCount (Option.some Jvm.ClassFile.FieldType.int) [] := by
  intro p e R s m args below meth c z0 w0 zF wF Q rF hF B hz hw hret hnm
  refine jlk_cons (sm_aload_n rfl B.1 dX4_roundCount_0) ?_
  refine jlk_cons (sm_iconst rfl B.1 dX4_roundCount_1) ?_
  refine jlk_cons (sm_putI B.1 fl_PointerAnalyzerModel_84_4_16 tyX4 tyX4_ok nmX4 (Or.inl rfl) (tyX4_ok 0 (by decide)) rfl (by decide) dX4_roundCount_2) ?_
  refine jlk_cons (sm_aload_n rfl B.1 dX4_roundCount_5) ?_
  refine jlk_cons (sm_cV (x := yX4_refreshes) (host := "") (owner := "") isRV (i_X4_refreshes hI) B q3146 q3148 qs81 w4_X4_refreshes w6_X4_refreshes (by decide) (by decide) (by decide) kc_4 hy_X4_refreshes hl_X4_refreshes dX4_roundCount_6 trivial) ?_
  refine jlk_cons (sm_aload_n rfl B.1 dX4_roundCount_9) ?_
  refine jlk_cons (sm_getI B.1 fl_PointerAnalyzerModel_219_4_39 dX4_roundCount_10) ?_
  refine jlk_cons (sm_iret B.1 B.2.1 hret dX4_roundCount_13) ?_
  exact jlk_nil
theorem v_X4_roundCount (hst : l.stackTraces = false) (hz : jEz (EV (d + 1))) (hI : jIH l D dA lo cs0 d) : jMe l D dA lo cs0 (EV (d + 1)) 46 yX4_roundCount (ws_ yX4_roundCount cX4_roundCount 1 (Option.some Jvm.ClassFile.FieldType.int)) (d + 1) := z_meth hz rfl hp_X4_roundCount (r_X4_roundCount hst hI)
theorem r_X4_unifiedTargets (hst : l.stackTraces = false) (hI : jIH l D dA lo cs0 d) : jRows l D dA lo cs0 d 2 (tb_X4_unifiedTargets (EV d)) yX4_unifiedTargets cX4_unifiedTargets (Option.some Jvm.ClassFile.FieldType.long) [] := by
  intro p e R s m args below meth c z0 w0 zF wF Q rF hF B hz hw hret hnm
  refine jlk_cons (sm_iload_n rfl B.1 dX4_unifiedTargets_0) ?_
  refine jlk_cons (sm_cS (x := yX4_isVariable) (r9 := kr_6) (host := "") (owner := "") isSI (i_X4_isVariable hI) B q3256 q3257 w4_X4_isVariable w6_X4_isVariable (by decide) hy_X4_isVariable hl_X4_isVariable dX4_unifiedTargets_1 trivial) ?_
  refine jlk_cons (sm_ifne rfl B.1 dX4_unifiedTargets_4) ?_
  refine jlk_cons (sm_aload_n rfl B.1 dX4_unifiedTargets_7) ?_
  refine jlk_cons (sm_iconst rfl B.1 dX4_unifiedTargets_8) ?_
  refine jlk_cons (sm_cV (x := yX4_fails) (host := "") (owner := "") isRI (i_X4_fails hI) B q3043 q3045 qs64 w4_X4_fails w6_X4_fails (by decide) (by decide) (by decide) kc_4 hy_X4_fails hl_X4_fails dX4_unifiedTargets_9 trivial) ?_
  refine jlk_cons (sm_i2l B.1 dX4_unifiedTargets_12) ?_
  refine jlk_cons (sm_lret B.1 B.2.1 hret dX4_unifiedTargets_13) ?_
  refine jlk_cons (sm_aload_n rfl B.1 dX4_unifiedTargets_14) ?_
  refine jlk_cons (sm_iconst rfl B.1 dX4_unifiedTargets_15) ?_
  refine jlk_cons (sm_putI B.1 fl_PointerAnalyzerModel_84_4_16 tyX4 tyX4_ok nmX4 (Or.inl rfl) (tyX4_ok 0 (by decide)) rfl (by decide) dX4_unifiedTargets_16) ?_
  refine jlk_cons (sm_aload_n rfl B.1 dX4_unifiedTargets_19) ?_
  refine jlk_cons (sm_iload_n rfl B.1 dX4_unifiedTargets_20) ?_
  refine jlk_cons (sm_cV (x := yX4_unified) (host := "") (owner := "") isRL (i_X4_unified hI) B q3331 q3333 qs110 w4_X4_unified w6_X4_unified (by decide) (by decide) (by decide) kc_4 hy_X4_unified hl_X4_unified dX4_unifiedTargets_21 trivial) ?_
  refine jlk_cons (sm_lret B.1 B.2.1 hret dX4_unifiedTargets_24) ?_
  exact jlk_nil
theorem v_X4_unifiedTargets (hst : l.stackTraces = false) (hz : jEz (EV (d + 1))) (hI : jIH l D dA lo cs0 d) : jMe l D dA lo cs0 (EV (d + 1)) 48 yX4_unifiedTargets (ws_ yX4_unifiedTargets cX4_unifiedTargets 2 (Option.some Jvm.ClassFile.FieldType.long)) (d + 1) := z_meth hz rfl hp_X4_unifiedTargets (r_X4_unifiedTargets hst hI)
theorem r_X4_areUnified (hst : l.stackTraces = false) (hI : jIH l D dA lo cs0 d) : jRows l D dA lo cs0 d 3 (tb_X4_areUnified (EV d)) yX4_areUnified cX4_areUnified (Option.some Jvm.ClassFile.FieldType.boolean) [] := by
  intro p e R s m args below meth c z0 w0 zF wF Q rF hF B hz hw hret hnm
  refine jlk_cons (sm_iload_n rfl B.1 dX4_areUnified_0) ?_
  refine jlk_cons (sm_cS (x := yX4_isVariable) (r9 := kr_6) (host := "") (owner := "") isSI (i_X4_isVariable hI) B q3256 q3257 w4_X4_isVariable w6_X4_isVariable (by decide) hy_X4_isVariable hl_X4_isVariable dX4_areUnified_1 trivial) ?_
  refine jlk_cons (sm_ifeq rfl B.1 dX4_areUnified_4) ?_
  refine jlk_cons (sm_iload_n rfl B.1 dX4_areUnified_7) ?_
  refine jlk_cons (sm_cS (x := yX4_isVariable) (r9 := kr_6) (host := "") (owner := "") isSI (i_X4_isVariable hI) B q3256 q3257 w4_X4_isVariable w6_X4_isVariable (by decide) hy_X4_isVariable hl_X4_isVariable dX4_areUnified_8 trivial) ?_
  refine jlk_cons (sm_ifne rfl B.1 dX4_areUnified_11) ?_
  refine jlk_cons (sm_aload_n rfl B.1 dX4_areUnified_14) ?_
  refine jlk_cons (sm_iconst rfl B.1 dX4_areUnified_15) ?_
  refine jlk_cons (sm_cV (x := yX4_refuses) (host := "") (owner := "") isRI (i_X4_refuses hI) B q3290 q3292 qs106 w4_X4_refuses w6_X4_refuses (by decide) (by decide) (by decide) kc_4 hy_X4_refuses hl_X4_refuses dX4_areUnified_16 trivial) ?_
  refine jlk_cons (sm_zret B.1 B.2.1 hret dX4_areUnified_19) ?_
  refine jlk_cons (sm_aload_n rfl B.1 dX4_areUnified_20) ?_
  refine jlk_cons (sm_iconst rfl B.1 dX4_areUnified_21) ?_
  refine jlk_cons (sm_putI B.1 fl_PointerAnalyzerModel_84_4_16 tyX4 tyX4_ok nmX4 (Or.inl rfl) (tyX4_ok 0 (by decide)) rfl (by decide) dX4_areUnified_22) ?_
  refine jlk_cons (sm_aload_n rfl B.1 dX4_areUnified_25) ?_
  refine jlk_cons (sm_cV (x := yX4_refreshes) (host := "") (owner := "") isRV (i_X4_refreshes hI) B q3146 q3148 qs81 w4_X4_refreshes w6_X4_refreshes (by decide) (by decide) (by decide) kc_4 hy_X4_refreshes hl_X4_refreshes dX4_areUnified_26 trivial) ?_
  refine jlk_cons (sm_aload_n rfl B.1 dX4_areUnified_29) ?_
  refine jlk_cons (sm_iload_n rfl B.1 dX4_areUnified_30) ?_
  refine jlk_cons (sm_cV (x := yX4_rootOf) (host := "") (owner := "") isRI (i_X4_rootOf hI) B q3220 q3222 qs97 w4_X4_rootOf w6_X4_rootOf (by decide) (by decide) (by decide) kc_4 hy_X4_rootOf hl_X4_rootOf dX4_areUnified_31 trivial) ?_
  refine jlk_cons (sm_aload_n rfl B.1 dX4_areUnified_34) ?_
  refine jlk_cons (sm_iload_n rfl B.1 dX4_areUnified_35) ?_
  refine jlk_cons (sm_cV (x := yX4_rootOf) (host := "") (owner := "") isRI (i_X4_rootOf hI) B q3220 q3222 qs97 w4_X4_rootOf w6_X4_rootOf (by decide) (by decide) (by decide) kc_4 hy_X4_rootOf hl_X4_rootOf dX4_areUnified_36 trivial) ?_
  refine jlk_cons (sm_icmpne rfl B.1 dX4_areUnified_39) ?_
  refine jlk_cons (sm_iconst rfl B.1 dX4_areUnified_42) ?_
  refine jlk_cons (sm_goto rfl B.1 dX4_areUnified_43) ?_
  refine jlk_cons (sm_iconst rfl B.1 dX4_areUnified_46) ?_
  refine jlk_cons (sm_zret B.1 B.2.1 hret dX4_areUnified_47) ?_
  exact jlk_nil
theorem v_X4_areUnified (hst : l.stackTraces = false) (hz : jEz (EV (d + 1))) (hI : jIH l D dA lo cs0 d) : jMe l D dA lo cs0 (EV (d + 1)) 50 yX4_areUnified (ws_ yX4_areUnified cX4_areUnified 3 (Option.some Jvm.ClassFile.FieldType.boolean)) (d + 1) := z_meth hz rfl hp_X4_areUnified (r_X4_areUnified hst hI)
theorem r_X4_unifiedClasses (hst : l.stackTraces = false) (hI : jIH l D dA lo cs0 d) : jRows l D dA lo cs0 d 5 (tb_X4_unifiedClasses (EV d)) yX4_unifiedClasses cX4_unifiedClasses (Option.some Jvm.ClassFile.FieldType.int) [] := by
  intro p e R s m args below meth c z0 w0 zF wF Q rF hF B hz hw hret hnm
  refine jlk_app ?_ ?_
  · refine jlk_cons (sm_aload_n rfl B.1 dX4_unifiedClasses_0) ?_
    refine jlk_cons (sm_iconst rfl B.1 dX4_unifiedClasses_1) ?_
    refine jlk_cons (sm_putI B.1 fl_PointerAnalyzerModel_84_4_16 tyX4 tyX4_ok nmX4 (Or.inl rfl) (tyX4_ok 0 (by decide)) rfl (by decide) dX4_unifiedClasses_2) ?_
    refine jlk_cons (sm_aload_n rfl B.1 dX4_unifiedClasses_5) ?_
    refine jlk_cons (sm_cV (x := yX4_refreshes) (host := "") (owner := "") isRV (i_X4_refreshes hI) B q3146 q3148 qs81 w4_X4_refreshes w6_X4_refreshes (by decide) (by decide) (by decide) kc_4 hy_X4_refreshes hl_X4_refreshes dX4_unifiedClasses_6 trivial) ?_
    refine jlk_cons (sm_iconst rfl B.1 dX4_unifiedClasses_9) ?_
    refine jlk_cons (sm_istore_n rfl B.1 dX4_unifiedClasses_10) ?_
    refine jlk_cons (sm_iconst rfl B.1 dX4_unifiedClasses_11) ?_
    refine jlk_cons (sm_istore_n rfl B.1 dX4_unifiedClasses_12) ?_
    refine jlk_cons (sm_iload_n rfl B.1 dX4_unifiedClasses_13) ?_
    refine jlk_cons (sm_bipush rfl B.1 dX4_unifiedClasses_14) ?_
    refine jlk_cons (sm_aload_n rfl B.1 dX4_unifiedClasses_16) ?_
    refine jlk_cons (sm_cV (x := yX4_sites) (host := "") (owner := "") isRI (i_X4_sites hI) B q3134 q3136 qs80 w4_X4_sites w6_X4_sites (by decide) (by decide) (by decide) kc_4 hy_X4_sites hl_X4_sites dX4_unifiedClasses_17 trivial) ?_
    refine jlk_cons (sm_iadd B.1 dX4_unifiedClasses_20) ?_
    refine jlk_cons (sm_icmpge rfl B.1 dX4_unifiedClasses_21) ?_
    refine jlk_cons (sm_iconst rfl B.1 dX4_unifiedClasses_24) ?_
    refine jlk_cons (sm_istore_n rfl B.1 dX4_unifiedClasses_25) ?_
    refine jlk_cons (sm_iconst rfl B.1 dX4_unifiedClasses_26) ?_
    refine jlk_cons (sm_istore B.1 dX4_unifiedClasses_27) ?_
    refine jlk_cons (sm_iload B.1 dX4_unifiedClasses_29) ?_
    refine jlk_cons (sm_iload_n rfl B.1 dX4_unifiedClasses_31) ?_
    refine jlk_cons (sm_icmpge rfl B.1 dX4_unifiedClasses_32) ?_
    refine jlk_cons (sm_iload_n rfl B.1 dX4_unifiedClasses_35) ?_
    refine jlk_cons (sm_ifeq rfl B.1 dX4_unifiedClasses_36) ?_
    refine jlk_cons (sm_aload_n rfl B.1 dX4_unifiedClasses_39) ?_
    refine jlk_cons (sm_iload B.1 dX4_unifiedClasses_40) ?_
    refine jlk_cons (sm_cV (x := yX4_rootOf) (host := "") (owner := "") isRI (i_X4_rootOf hI) B q3220 q3222 qs97 w4_X4_rootOf w6_X4_rootOf (by decide) (by decide) (by decide) kc_4 hy_X4_rootOf hl_X4_rootOf dX4_unifiedClasses_42 trivial) ?_
    refine jlk_cons (sm_aload_n rfl B.1 dX4_unifiedClasses_45) ?_
    refine jlk_cons (sm_iload_n rfl B.1 dX4_unifiedClasses_46) ?_
    refine jlk_cons (sm_cV (x := yX4_rootOf) (host := "") (owner := "") isRI (i_X4_rootOf hI) B q3220 q3222 qs97 w4_X4_rootOf w6_X4_rootOf (by decide) (by decide) (by decide) kc_4 hy_X4_rootOf hl_X4_rootOf dX4_unifiedClasses_47 trivial) ?_
    refine jlk_cons (sm_icmpeq rfl B.1 dX4_unifiedClasses_50) ?_
    refine jlk_cons (sm_iconst rfl B.1 dX4_unifiedClasses_53) ?_
    refine jlk_cons (sm_goto rfl B.1 dX4_unifiedClasses_54) ?_
    refine jlk_cons (sm_iconst rfl B.1 dX4_unifiedClasses_57) ?_
    refine jlk_cons (sm_istore_n rfl B.1 dX4_unifiedClasses_58) ?_
    refine jlk_cons (sm_iinc rfl B.1 dX4_unifiedClasses_59) ?_
    refine jlk_cons (sm_goto rfl B.1 dX4_unifiedClasses_62) ?_
    refine jlk_cons (sm_iload_n rfl B.1 dX4_unifiedClasses_65) ?_
    refine jlk_cons (sm_iload_n rfl B.1 dX4_unifiedClasses_66) ?_
    refine jlk_cons (sm_ifeq rfl B.1 dX4_unifiedClasses_67) ?_
    exact jlk_nil
  · skip
    refine jlk_cons (sm_iconst rfl B.1 dX4_unifiedClasses_70) ?_
    refine jlk_cons (sm_goto rfl B.1 dX4_unifiedClasses_71) ?_
    refine jlk_cons (sm_iconst rfl B.1 dX4_unifiedClasses_74) ?_
    refine jlk_cons (sm_iadd B.1 dX4_unifiedClasses_75) ?_
    refine jlk_cons (sm_istore_n rfl B.1 dX4_unifiedClasses_76) ?_
    refine jlk_cons (sm_iinc rfl B.1 dX4_unifiedClasses_77) ?_
    refine jlk_cons (sm_goto rfl B.1 dX4_unifiedClasses_80) ?_
    refine jlk_cons (sm_iload_n rfl B.1 dX4_unifiedClasses_83) ?_
    refine jlk_cons (sm_iret B.1 B.2.1 hret dX4_unifiedClasses_84) ?_
    exact jlk_nil
theorem v_X4_unifiedClasses (hst : l.stackTraces = false) (hz : jEz (EV (d + 1))) (hI : jIH l D dA lo cs0 d) : jMe l D dA lo cs0 (EV (d + 1)) 52 yX4_unifiedClasses (ws_ yX4_unifiedClasses cX4_unifiedClasses 5 (Option.some Jvm.ClassFile.FieldType.int)) (d + 1) := z_meth hz rfl hp_X4_unifiedClasses (r_X4_unifiedClasses hst hI)
theorem r_X4_modifies (hst : l.stackTraces = false) (hI : jIH l D dA lo cs0 d) : jRows l D dA lo cs0 d 7 (tb_X4_modifies (EV d)) yX4_modifies cX4_modifies (Option.some Jvm.ClassFile.FieldType.long) [] := by
  intro p e R s m args below meth c z0 w0 zF wF Q rF hF B hz hw hret hnm
  refine jlk_app ?_ ?_
  · refine jlk_cons (sm_iload_n rfl B.1 dX4_modifies_0) ?_
    refine jlk_cons (sm_cS (x := yX4_isFunction) (r9 := kr_6) (host := "") (owner := "") isSI (i_X4_isFunction hI) B q3051 q3052 w4_X4_isFunction w6_X4_isFunction (by decide) hy_X4_isFunction hl_X4_isFunction dX4_modifies_1 trivial) ?_
    refine jlk_cons (sm_ifne rfl B.1 dX4_modifies_4) ?_
    refine jlk_cons (sm_aload_n rfl B.1 dX4_modifies_7) ?_
    refine jlk_cons (sm_iconst rfl B.1 dX4_modifies_8) ?_
    refine jlk_cons (sm_cV (x := yX4_fails) (host := "") (owner := "") isRI (i_X4_fails hI) B q3043 q3045 qs64 w4_X4_fails w6_X4_fails (by decide) (by decide) (by decide) kc_4 hy_X4_fails hl_X4_fails dX4_modifies_9 trivial) ?_
    refine jlk_cons (sm_i2l B.1 dX4_modifies_12) ?_
    refine jlk_cons (sm_lret B.1 B.2.1 hret dX4_modifies_13) ?_
    refine jlk_cons (sm_aload_n rfl B.1 dX4_modifies_14) ?_
    refine jlk_cons (sm_iconst rfl B.1 dX4_modifies_15) ?_
    refine jlk_cons (sm_putI B.1 fl_PointerAnalyzerModel_84_4_16 tyX4 tyX4_ok nmX4 (Or.inl rfl) (tyX4_ok 0 (by decide)) rfl (by decide) dX4_modifies_16) ?_
    refine jlk_cons (sm_aload_n rfl B.1 dX4_modifies_19) ?_
    refine jlk_cons (sm_iload_n rfl B.1 dX4_modifies_20) ?_
    refine jlk_cons (sm_cV (x := yX4_called) (host := "") (owner := "") isRI (i_X4_called hI) B q3347 q3349 qs111 w4_X4_called w6_X4_called (by decide) (by decide) (by decide) kc_4 hy_X4_called hl_X4_called dX4_modifies_21 trivial) ?_
    refine jlk_cons (sm_iconst rfl B.1 dX4_modifies_24) ?_
    refine jlk_cons (sm_iload_n rfl B.1 dX4_modifies_25) ?_
    refine jlk_cons (sm_ishl B.1 dX4_modifies_26) ?_
    refine jlk_cons (sm_ior B.1 dX4_modifies_27) ?_
    refine jlk_cons (sm_istore_n rfl B.1 dX4_modifies_28) ?_
    refine jlk_cons (sm_lconst rfl B.1 dX4_modifies_29) ?_
    refine jlk_cons (sm_lstore_n rfl B.1 dX4_modifies_30) ?_
    refine jlk_cons (sm_iconst rfl B.1 dX4_modifies_31) ?_
    refine jlk_cons (sm_istore B.1 dX4_modifies_32) ?_
    refine jlk_cons (sm_iload B.1 dX4_modifies_34) ?_
    refine jlk_cons (sm_aload_n rfl B.1 dX4_modifies_36) ?_
    refine jlk_cons (sm_cV (x := yX4_statements) (host := "") (owner := "") isRI (i_X4_statements hI) B q3110 q3112 qs77 w4_X4_statements w6_X4_statements (by decide) (by decide) (by decide) kc_4 hy_X4_statements hl_X4_statements dX4_modifies_37 trivial) ?_
    refine jlk_cons (sm_icmpge rfl B.1 dX4_modifies_40) ?_
    refine jlk_cons (sm_aload_n rfl B.1 dX4_modifies_43) ?_
    refine jlk_cons (sm_iload B.1 dX4_modifies_44) ?_
    refine jlk_cons (sm_cV (x := yX4_placeOf) (host := "") (owner := "") isRI (i_X4_placeOf hI) B q3122 q3124 qs79 w4_X4_placeOf w6_X4_placeOf (by decide) (by decide) (by decide) kc_4 hy_X4_placeOf hl_X4_placeOf dX4_modifies_46 trivial) ?_
    refine jlk_cons (sm_istore B.1 dX4_modifies_49) ?_
    refine jlk_cons (sm_aload_n rfl B.1 dX4_modifies_51) ?_
    refine jlk_cons (sm_getP B.1 fl_PointerAnalyzerModel_7_4_17 dX4_modifies_52) ?_
    refine jlk_cons (sm_iload B.1 dX4_modifies_55) ?_
    refine jlk_cons (sm_iald B.1 dX4_modifies_57) ?_
    refine jlk_cons (sm_iconst rfl B.1 dX4_modifies_58) ?_
    refine jlk_cons (sm_icmpne rfl B.1 dX4_modifies_59) ?_
    refine jlk_cons (sm_iload_n rfl B.1 dX4_modifies_62) ?_
    refine jlk_cons (sm_iload B.1 dX4_modifies_63) ?_
    refine jlk_cons (sm_bipush rfl B.1 dX4_modifies_65) ?_
    exact jlk_nil
  · skip
    refine jlk_cons (sm_idiv B.1 dX4_modifies_67) ?_
    refine jlk_cons (sm_ishr B.1 dX4_modifies_68) ?_
    refine jlk_cons (sm_iconst rfl B.1 dX4_modifies_69) ?_
    refine jlk_cons (sm_iand B.1 dX4_modifies_70) ?_
    refine jlk_cons (sm_iconst rfl B.1 dX4_modifies_71) ?_
    refine jlk_cons (sm_icmpne rfl B.1 dX4_modifies_72) ?_
    refine jlk_cons (sm_lload_n rfl B.1 dX4_modifies_75) ?_
    refine jlk_cons (sm_aload_n rfl B.1 dX4_modifies_76) ?_
    refine jlk_cons (sm_aload_n rfl B.1 dX4_modifies_77) ?_
    refine jlk_cons (sm_getP B.1 fl_PointerAnalyzerModel_13_4_18 dX4_modifies_78) ?_
    refine jlk_cons (sm_iload B.1 dX4_modifies_81) ?_
    refine jlk_cons (sm_iald B.1 dX4_modifies_83) ?_
    refine jlk_cons (sm_cV (x := yX4_targetsBy) (host := "") (owner := "") isRL (i_X4_targetsBy hI) B q3259 q3261 qs103 w4_X4_targetsBy w6_X4_targetsBy (by decide) (by decide) (by decide) kc_4 hy_X4_targetsBy hl_X4_targetsBy dX4_modifies_84 trivial) ?_
    refine jlk_cons (sm_lor B.1 dX4_modifies_87) ?_
    refine jlk_cons (sm_lstore_n rfl B.1 dX4_modifies_88) ?_
    refine jlk_cons (sm_iinc rfl B.1 dX4_modifies_89) ?_
    refine jlk_cons (sm_goto rfl B.1 dX4_modifies_92) ?_
    refine jlk_cons (sm_lload_n rfl B.1 dX4_modifies_95) ?_
    refine jlk_cons (sm_lret B.1 B.2.1 hret dX4_modifies_96) ?_
    exact jlk_nil
theorem v_X4_modifies (hst : l.stackTraces = false) (hz : jEz (EV (d + 1))) (hI : jIH l D dA lo cs0 d) : jMe l D dA lo cs0 (EV (d + 1)) 54 yX4_modifies (ws_ yX4_modifies cX4_modifies 7 (Option.some Jvm.ClassFile.FieldType.long)) (d + 1) := z_meth hz rfl hp_X4_modifies (r_X4_modifies hst hI)
theorem r_X4_isReachable (hst : l.stackTraces = false) (hI : jIH l D dA lo cs0 d) : jRows l D dA lo cs0 d 2 (tb_X4_isReachable (EV d)) yX4_isReachable cX4_isReachable (Option.some Jvm.ClassFile.FieldType.boolean) [] := by
  intro p e R s m args below meth c z0 w0 zF wF Q rF hF B hz hw hret hnm
  refine jlk_cons (sm_iload_n rfl B.1 dX4_isReachable_0) ?_
  refine jlk_cons (sm_cS (x := yX4_isFunction) (r9 := kr_6) (host := "") (owner := "") isSI (i_X4_isFunction hI) B q3051 q3052 w4_X4_isFunction w6_X4_isFunction (by decide) hy_X4_isFunction hl_X4_isFunction dX4_isReachable_1 trivial) ?_
  refine jlk_cons (sm_ifne rfl B.1 dX4_isReachable_4) ?_
  refine jlk_cons (sm_aload_n rfl B.1 dX4_isReachable_7) ?_
  refine jlk_cons (sm_iconst rfl B.1 dX4_isReachable_8) ?_
  refine jlk_cons (sm_cV (x := yX4_refuses) (host := "") (owner := "") isRI (i_X4_refuses hI) B q3290 q3292 qs106 w4_X4_refuses w6_X4_refuses (by decide) (by decide) (by decide) kc_4 hy_X4_refuses hl_X4_refuses dX4_isReachable_9 trivial) ?_
  refine jlk_cons (sm_zret B.1 B.2.1 hret dX4_isReachable_12) ?_
  refine jlk_cons (sm_aload_n rfl B.1 dX4_isReachable_13) ?_
  refine jlk_cons (sm_iconst rfl B.1 dX4_isReachable_14) ?_
  refine jlk_cons (sm_putI B.1 fl_PointerAnalyzerModel_84_4_16 tyX4 tyX4_ok nmX4 (Or.inl rfl) (tyX4_ok 0 (by decide)) rfl (by decide) dX4_isReachable_15) ?_
  refine jlk_cons (sm_aload_n rfl B.1 dX4_isReachable_18) ?_
  refine jlk_cons (sm_cV (x := yX4_refreshes) (host := "") (owner := "") isRV (i_X4_refreshes hI) B q3146 q3148 qs81 w4_X4_refreshes w6_X4_refreshes (by decide) (by decide) (by decide) kc_4 hy_X4_refreshes hl_X4_refreshes dX4_isReachable_19 trivial) ?_
  refine jlk_cons (sm_aload_n rfl B.1 dX4_isReachable_22) ?_
  refine jlk_cons (sm_iload_n rfl B.1 dX4_isReachable_23) ?_
  refine jlk_cons (sm_cV (x := yX4_contextsOf) (host := "") (owner := "") isRI (i_X4_contextsOf hI) B q3232 q3234 qs100 w4_X4_contextsOf w6_X4_contextsOf (by decide) (by decide) (by decide) kc_4 hy_X4_contextsOf hl_X4_contextsOf dX4_isReachable_24 trivial) ?_
  refine jlk_cons (sm_ifle rfl B.1 dX4_isReachable_27) ?_
  refine jlk_cons (sm_iconst rfl B.1 dX4_isReachable_30) ?_
  refine jlk_cons (sm_goto rfl B.1 dX4_isReachable_31) ?_
  refine jlk_cons (sm_iconst rfl B.1 dX4_isReachable_34) ?_
  refine jlk_cons (sm_zret B.1 B.2.1 hret dX4_isReachable_35) ?_
  exact jlk_nil
theorem v_X4_isReachable (hst : l.stackTraces = false) (hz : jEz (EV (d + 1))) (hI : jIH l D dA lo cs0 d) : jMe l D dA lo cs0 (EV (d + 1)) 56 yX4_isReachable (ws_ yX4_isReachable cX4_isReachable 2 (Option.some Jvm.ClassFile.FieldType.boolean)) (d + 1) := z_meth hz rfl hp_X4_isReachable (r_X4_isReachable hst hI)
theorem r_X4_isRecursive (hst : l.stackTraces = false) (hI : jIH l D dA lo cs0 d) : jRows l D dA lo cs0 d 2 (tb_X4_isRecursive (EV d)) yX4_isRecursive cX4_isRecursive (Option.some Jvm.ClassFile.FieldType.boolean) [] := by
  intro p e R s m args below meth c z0 w0 zF wF Q rF hF B hz hw hret hnm
  refine jlk_cons (sm_iload_n rfl B.1 dX4_isRecursive_0) ?_
  refine jlk_cons (sm_cS (x := yX4_isFunction) (r9 := kr_6) (host := "") (owner := "") isSI (i_X4_isFunction hI) B q3051 q3052 w4_X4_isFunction w6_X4_isFunction (by decide) hy_X4_isFunction hl_X4_isFunction dX4_isRecursive_1 trivial) ?_
  refine jlk_cons (sm_ifne rfl B.1 dX4_isRecursive_4) ?_
  refine jlk_cons (sm_aload_n rfl B.1 dX4_isRecursive_7) ?_
  refine jlk_cons (sm_iconst rfl B.1 dX4_isRecursive_8) ?_
  refine jlk_cons (sm_cV (x := yX4_refuses) (host := "") (owner := "") isRI (i_X4_refuses hI) B q3290 q3292 qs106 w4_X4_refuses w6_X4_refuses (by decide) (by decide) (by decide) kc_4 hy_X4_refuses hl_X4_refuses dX4_isRecursive_9 trivial) ?_
  refine jlk_cons (sm_zret B.1 B.2.1 hret dX4_isRecursive_12) ?_
  refine jlk_cons (sm_aload_n rfl B.1 dX4_isRecursive_13) ?_
  refine jlk_cons (sm_iconst rfl B.1 dX4_isRecursive_14) ?_
  refine jlk_cons (sm_putI B.1 fl_PointerAnalyzerModel_84_4_16 tyX4 tyX4_ok nmX4 (Or.inl rfl) (tyX4_ok 0 (by decide)) rfl (by decide) dX4_isRecursive_15) ?_
  refine jlk_cons (sm_aload_n rfl B.1 dX4_isRecursive_18) ?_
  refine jlk_cons (sm_iload_n rfl B.1 dX4_isRecursive_19) ?_
  refine jlk_cons (sm_cV (x := yX4_called) (host := "") (owner := "") isRI (i_X4_called hI) B q3347 q3349 qs111 w4_X4_called w6_X4_called (by decide) (by decide) (by decide) kc_4 hy_X4_called hl_X4_called dX4_isRecursive_20 trivial) ?_
  refine jlk_cons (sm_iload_n rfl B.1 dX4_isRecursive_23) ?_
  refine jlk_cons (sm_ishr B.1 dX4_isRecursive_24) ?_
  refine jlk_cons (sm_iconst rfl B.1 dX4_isRecursive_25) ?_
  refine jlk_cons (sm_iand B.1 dX4_isRecursive_26) ?_
  refine jlk_cons (sm_iconst rfl B.1 dX4_isRecursive_27) ?_
  refine jlk_cons (sm_icmpne rfl B.1 dX4_isRecursive_28) ?_
  refine jlk_cons (sm_iconst rfl B.1 dX4_isRecursive_31) ?_
  refine jlk_cons (sm_goto rfl B.1 dX4_isRecursive_32) ?_
  refine jlk_cons (sm_iconst rfl B.1 dX4_isRecursive_35) ?_
  refine jlk_cons (sm_zret B.1 B.2.1 hret dX4_isRecursive_36) ?_
  exact jlk_nil
theorem v_X4_isRecursive (hst : l.stackTraces = false) (hz : jEz (EV (d + 1))) (hI : jIH l D dA lo cs0 d) : jMe l D dA lo cs0 (EV (d + 1)) 58 yX4_isRecursive (ws_ yX4_isRecursive cX4_isRecursive 2 (Option.some Jvm.ClassFile.FieldType.boolean)) (d + 1) := z_meth hz rfl hp_X4_isRecursive (r_X4_isRecursive hst hI)
theorem r_X4_cycleOf (hst : l.stackTraces = false) (hI : jIH l D dA lo cs0 d) : jRows l D dA lo cs0 d 2 (tb_X4_cycleOf (EV d)) yX4_cycleOf cX4_cycleOf (Option.some Jvm.ClassFile.FieldType.int) [] := by
  intro p e R s m args below meth c z0 w0 zF wF Q rF hF B hz hw hret hnm
  refine jlk_cons (sm_iload_n rfl B.1 dX4_cycleOf_0) ?_
  refine jlk_cons (sm_cS (x := yX4_isVariable) (r9 := kr_6) (host := "") (owner := "") isSI (i_X4_isVariable hI) B q3256 q3257 w4_X4_isVariable w6_X4_isVariable (by decide) hy_X4_isVariable hl_X4_isVariable dX4_cycleOf_1 trivial) ?_
  refine jlk_cons (sm_ifne rfl B.1 dX4_cycleOf_4) ?_
  refine jlk_cons (sm_aload_n rfl B.1 dX4_cycleOf_7) ?_
  refine jlk_cons (sm_iconst rfl B.1 dX4_cycleOf_8) ?_
  refine jlk_cons (sm_cV (x := yX4_fails) (host := "") (owner := "") isRI (i_X4_fails hI) B q3043 q3045 qs64 w4_X4_fails w6_X4_fails (by decide) (by decide) (by decide) kc_4 hy_X4_fails hl_X4_fails dX4_cycleOf_9 trivial) ?_
  refine jlk_cons (sm_iret B.1 B.2.1 hret dX4_cycleOf_12) ?_
  refine jlk_cons (sm_aload_n rfl B.1 dX4_cycleOf_13) ?_
  refine jlk_cons (sm_iconst rfl B.1 dX4_cycleOf_14) ?_
  refine jlk_cons (sm_putI B.1 fl_PointerAnalyzerModel_84_4_16 tyX4 tyX4_ok nmX4 (Or.inl rfl) (tyX4_ok 0 (by decide)) rfl (by decide) dX4_cycleOf_15) ?_
  refine jlk_cons (sm_aload_n rfl B.1 dX4_cycleOf_18) ?_
  refine jlk_cons (sm_iload_n rfl B.1 dX4_cycleOf_19) ?_
  refine jlk_cons (sm_iconst rfl B.1 dX4_cycleOf_20) ?_
  refine jlk_cons (sm_cV (x := yX4_led) (host := "") (owner := "") isRI (i_X4_led hI) B q3363 q3365 qs112 w4_X4_led w6_X4_led (by decide) (by decide) (by decide) kc_4 hy_X4_led hl_X4_led dX4_cycleOf_21 trivial) ?_
  refine jlk_cons (sm_aload_n rfl B.1 dX4_cycleOf_24) ?_
  refine jlk_cons (sm_iload_n rfl B.1 dX4_cycleOf_25) ?_
  refine jlk_cons (sm_iconst rfl B.1 dX4_cycleOf_26) ?_
  refine jlk_cons (sm_cV (x := yX4_led) (host := "") (owner := "") isRI (i_X4_led hI) B q3363 q3365 qs112 w4_X4_led w6_X4_led (by decide) (by decide) (by decide) kc_4 hy_X4_led hl_X4_led dX4_cycleOf_27 trivial) ?_
  refine jlk_cons (sm_iand B.1 dX4_cycleOf_30) ?_
  refine jlk_cons (sm_iret B.1 B.2.1 hret dX4_cycleOf_31) ?_
  exact jlk_nil
theorem v_X4_cycleOf (hst : l.stackTraces = false) (hz : jEz (EV (d + 1))) (hI : jIH l D dA lo cs0 d) : jMe l D dA lo cs0 (EV (d + 1)) 60 yX4_cycleOf (ws_ yX4_cycleOf cX4_cycleOf 2 (Option.some Jvm.ClassFile.FieldType.int)) (d + 1) := z_meth hz rfl hp_X4_cycleOf (r_X4_cycleOf hst hI)
theorem r_X4_run (hst : l.stackTraces = false) (hI : jIH l D dA lo cs0 d) : jRows l D dA lo cs0 d 3 (tb_X4_run (EV d)) yX4_run cX4_run (Option.some Jvm.ClassFile.FieldType.int) [] := by
  intro p e R s m args below meth c z0 w0 zF wF Q rF hF B hz hw hret hnm
  refine jlk_app ?_ ?_
  · refine jlk_cons (sm_aload_n rfl B.1 dX4_run_0) ?_
    refine jlk_cons (sm_iconst rfl B.1 dX4_run_1) ?_
    refine jlk_cons (sm_putI B.1 fl_PointerAnalyzerModel_84_4_16 tyX4 tyX4_ok nmX4 (Or.inl rfl) (tyX4_ok 0 (by decide)) rfl (by decide) dX4_run_2) ?_
    refine jlk_cons (sm_aload_n rfl B.1 dX4_run_5) ?_
    refine jlk_cons (sm_cV (x := yX4_forgets) (host := "") (owner := "") isRV (i_X4_forgets hI) B q3098 q3100 qs76 w4_X4_forgets w6_X4_forgets (by decide) (by decide) (by decide) kc_4 hy_X4_forgets hl_X4_forgets dX4_run_6 trivial) ?_
    refine jlk_cons (sm_iconst rfl B.1 dX4_run_9) ?_
    refine jlk_cons (sm_istore_n rfl B.1 dX4_run_10) ?_
    refine jlk_cons (sm_iload_n rfl B.1 dX4_run_11) ?_
    refine jlk_cons (sm_iconst rfl B.1 dX4_run_12) ?_
    refine jlk_cons (sm_icmpge rfl B.1 dX4_run_13) ?_
    refine jlk_cons (sm_aload_n rfl B.1 dX4_run_16) ?_
    refine jlk_cons (sm_getP B.1 fl_PointerAnalyzerModel_63_4_46 dX4_run_17) ?_
    refine jlk_cons (sm_iload_n rfl B.1 dX4_run_20) ?_
    refine jlk_cons (sm_iconst rfl B.1 dX4_run_21) ?_
    refine jlk_cons (sm_iast B.1 dX4_run_22) ?_
    refine jlk_cons (sm_aload_n rfl B.1 dX4_run_23) ?_
    refine jlk_cons (sm_getP B.1 fl_PointerAnalyzerModel_66_4_47 dX4_run_24) ?_
    refine jlk_cons (sm_iload_n rfl B.1 dX4_run_27) ?_
    refine jlk_cons (sm_iload_n rfl B.1 dX4_run_28) ?_
    refine jlk_cons (sm_iast B.1 dX4_run_29) ?_
    refine jlk_cons (sm_iinc rfl B.1 dX4_run_30) ?_
    refine jlk_cons (sm_goto rfl B.1 dX4_run_33) ?_
    refine jlk_cons (sm_aload_n rfl B.1 dX4_run_36) ?_
    refine jlk_cons (sm_iconst rfl B.1 dX4_run_37) ?_
    refine jlk_cons (sm_putI B.1 fl_PointerAnalyzerModel_319_4_52 tyX4 tyX4_ok nmX4 (Or.inl rfl) (tyX4_ok 36 (by decide)) rfl (by decide) dX4_run_38) ?_
    refine jlk_cons (sm_aload_n rfl B.1 dX4_run_41) ?_
    refine jlk_cons (sm_iconst rfl B.1 dX4_run_42) ?_
    refine jlk_cons (sm_putI B.1 fl_PointerAnalyzerModel_322_4_53 tyX4 tyX4_ok nmX4 (Or.inl rfl) (tyX4_ok 37 (by decide)) rfl (by decide) dX4_run_43) ?_
    refine jlk_cons (sm_aload_n rfl B.1 dX4_run_46) ?_
    refine jlk_cons (sm_iconst rfl B.1 dX4_run_47) ?_
    refine jlk_cons (sm_putI B.1 fl_PointerAnalyzerModel_338_4_56 tyX4 tyX4_ok nmX4 (Or.inl rfl) (tyX4_ok 40 (by decide)) rfl (by decide) dX4_run_48) ?_
    refine jlk_cons (sm_aload_n rfl B.1 dX4_run_51) ?_
    refine jlk_cons (sm_iconst rfl B.1 dX4_run_52) ?_
    refine jlk_cons (sm_cV (x := yX4_opens) (host := "") (owner := "") isRV (i_X4_opens hI) B q3374 q3376 qs113 w4_X4_opens w6_X4_opens (by decide) (by decide) (by decide) kc_4 hy_X4_opens hl_X4_opens dX4_run_53 trivial) ?_
    refine jlk_cons (sm_aload_n rfl B.1 dX4_run_56) ?_
    refine jlk_cons (sm_getI B.1 fl_PointerAnalyzerModel_319_4_52 dX4_run_57) ?_
    refine jlk_cons (sm_ifle rfl B.1 dX4_run_60) ?_
    refine jlk_cons (sm_aload_n rfl B.1 dX4_run_63) ?_
    refine jlk_cons (sm_getI B.1 fl_PointerAnalyzerModel_338_4_56 dX4_run_64) ?_
    refine jlk_cons (sm_sipush rfl B.1 dX4_run_67) ?_
    exact jlk_nil
  · skip
    refine jlk_app ?_ ?_
    · refine jlk_cons (sm_icmpge rfl B.1 dX4_run_70) ?_
      refine jlk_cons (sm_aload_n rfl B.1 dX4_run_73) ?_
      refine jlk_cons (sm_getP B.1 fl_PointerAnalyzerModel_69_4_48 dX4_run_74) ?_
      refine jlk_cons (sm_aload_n rfl B.1 dX4_run_77) ?_
      refine jlk_cons (sm_getI B.1 fl_PointerAnalyzerModel_319_4_52 dX4_run_78) ?_
      refine jlk_cons (sm_iconst rfl B.1 dX4_run_81) ?_
      refine jlk_cons (sm_isub B.1 dX4_run_82) ?_
      refine jlk_cons (sm_iald B.1 dX4_run_83) ?_
      refine jlk_cons (sm_istore_n rfl B.1 dX4_run_84) ?_
      refine jlk_cons (sm_aload_n rfl B.1 dX4_run_85) ?_
      refine jlk_cons (sm_getP B.1 fl_PointerAnalyzerModel_72_4_49 dX4_run_86) ?_
      refine jlk_cons (sm_aload_n rfl B.1 dX4_run_89) ?_
      refine jlk_cons (sm_getI B.1 fl_PointerAnalyzerModel_319_4_52 dX4_run_90) ?_
      refine jlk_cons (sm_iconst rfl B.1 dX4_run_93) ?_
      refine jlk_cons (sm_isub B.1 dX4_run_94) ?_
      refine jlk_cons (sm_iald B.1 dX4_run_95) ?_
      refine jlk_cons (sm_aload_n rfl B.1 dX4_run_96) ?_
      refine jlk_cons (sm_getP B.1 fl_PointerAnalyzerModel_22_4_21 dX4_run_97) ?_
      refine jlk_cons (sm_iload_n rfl B.1 dX4_run_100) ?_
      refine jlk_cons (sm_iald B.1 dX4_run_101) ?_
      refine jlk_cons (sm_icmpne rfl B.1 dX4_run_102) ?_
      refine jlk_cons (sm_aload_n rfl B.1 dX4_run_105) ?_
      refine jlk_cons (sm_cV (x := yX4_closes) (host := "") (owner := "") isRV (i_X4_closes hI) B q3378 q3380 qs114 w4_X4_closes w6_X4_closes (by decide) (by decide) (by decide) kc_4 hy_X4_closes hl_X4_closes dX4_run_106 trivial) ?_
      refine jlk_cons (sm_goto rfl B.1 dX4_run_109) ?_
      refine jlk_cons (sm_bipush rfl B.1 dX4_run_112) ?_
      refine jlk_cons (sm_iload_n rfl B.1 dX4_run_114) ?_
      refine jlk_cons (sm_imul B.1 dX4_run_115) ?_
      refine jlk_cons (sm_aload_n rfl B.1 dX4_run_116) ?_
      refine jlk_cons (sm_getP B.1 fl_PointerAnalyzerModel_72_4_49 dX4_run_117) ?_
      refine jlk_cons (sm_aload_n rfl B.1 dX4_run_120) ?_
      refine jlk_cons (sm_getI B.1 fl_PointerAnalyzerModel_319_4_52 dX4_run_121) ?_
      refine jlk_cons (sm_iconst rfl B.1 dX4_run_124) ?_
      refine jlk_cons (sm_isub B.1 dX4_run_125) ?_
      refine jlk_cons (sm_iald B.1 dX4_run_126) ?_
      refine jlk_cons (sm_iadd B.1 dX4_run_127) ?_
      refine jlk_cons (sm_istore_n rfl B.1 dX4_run_128) ?_
      refine jlk_cons (sm_aload_n rfl B.1 dX4_run_129) ?_
      refine jlk_cons (sm_getP B.1 fl_PointerAnalyzerModel_72_4_49 dX4_run_130) ?_
      refine jlk_cons (sm_aload_n rfl B.1 dX4_run_133) ?_
      refine jlk_cons (sm_getI B.1 fl_PointerAnalyzerModel_319_4_52 dX4_run_134) ?_
      exact jlk_nil
    · skip
      refine jlk_cons (sm_iconst rfl B.1 dX4_run_137) ?_
      refine jlk_cons (sm_isub B.1 dX4_run_138) ?_
      refine jlk_cons (sm_dup2 B.1 dX4_run_139) ?_
      refine jlk_cons (sm_iald B.1 dX4_run_140) ?_
      refine jlk_cons (sm_iconst rfl B.1 dX4_run_141) ?_
      refine jlk_cons (sm_iadd B.1 dX4_run_142) ?_
      refine jlk_cons (sm_iast B.1 dX4_run_143) ?_
      refine jlk_cons (sm_aload_n rfl B.1 dX4_run_144) ?_
      refine jlk_cons (sm_dup B.1 dX4_run_145) ?_
      refine jlk_cons (sm_getI B.1 fl_PointerAnalyzerModel_338_4_56 dX4_run_146) ?_
      refine jlk_cons (sm_iconst rfl B.1 dX4_run_149) ?_
      refine jlk_cons (sm_iadd B.1 dX4_run_150) ?_
      refine jlk_cons (sm_putI B.1 fl_PointerAnalyzerModel_338_4_56 tyX4 tyX4_ok nmX4 (Or.inl rfl) (tyX4_ok 40 (by decide)) rfl (by decide) dX4_run_151) ?_
      refine jlk_cons (sm_aload_n rfl B.1 dX4_run_154) ?_
      refine jlk_cons (sm_iload_n rfl B.1 dX4_run_155) ?_
      refine jlk_cons (sm_cV (x := yX4_executes) (host := "") (owner := "") isRV (i_X4_executes hI) B q3390 q3392 qs117 w4_X4_executes w6_X4_executes (by decide) (by decide) (by decide) kc_4 hy_X4_executes hl_X4_executes dX4_run_156 trivial) ?_
      refine jlk_cons (sm_goto rfl B.1 dX4_run_159) ?_
      refine jlk_cons (sm_aload_n rfl B.1 dX4_run_162) ?_
      refine jlk_cons (sm_getI B.1 fl_PointerAnalyzerModel_338_4_56 dX4_run_163) ?_
      refine jlk_cons (sm_iret B.1 B.2.1 hret dX4_run_166) ?_
      exact jlk_nil
theorem v_X4_run (hst : l.stackTraces = false) (hz : jEz (EV (d + 1))) (hI : jIH l D dA lo cs0 d) : jMe l D dA lo cs0 (EV (d + 1)) 62 yX4_run (ws_ yX4_run cX4_run 3 (Option.some Jvm.ClassFile.FieldType.int)) (d + 1) := z_meth hz rfl hp_X4_run (r_X4_run hst hI)
theorem r_X4_observed (hst : l.stackTraces = false) (hI : jIH l D dA lo cs0 d) : jRows l D dA lo cs0 d 2 (tb_X4_observed (EV d)) yX4_observed cX4_observed (Option.some Jvm.ClassFile.FieldType.long) [] := by
  intro p e R s m args below meth c z0 w0 zF wF Q rF hF B hz hw hret hnm
  refine jlk_cons (sm_iload_n rfl B.1 dX4_observed_0) ?_
  refine jlk_cons (sm_cS (x := yX4_isVariable) (r9 := kr_6) (host := "") (owner := "") isSI (i_X4_isVariable hI) B q3256 q3257 w4_X4_isVariable w6_X4_isVariable (by decide) hy_X4_isVariable hl_X4_isVariable dX4_observed_1 trivial) ?_
  refine jlk_cons (sm_ifne rfl B.1 dX4_observed_4) ?_
  refine jlk_cons (sm_aload_n rfl B.1 dX4_observed_7) ?_
  refine jlk_cons (sm_iconst rfl B.1 dX4_observed_8) ?_
  refine jlk_cons (sm_cV (x := yX4_fails) (host := "") (owner := "") isRI (i_X4_fails hI) B q3043 q3045 qs64 w4_X4_fails w6_X4_fails (by decide) (by decide) (by decide) kc_4 hy_X4_fails hl_X4_fails dX4_observed_9 trivial) ?_
  refine jlk_cons (sm_i2l B.1 dX4_observed_12) ?_
  refine jlk_cons (sm_lret B.1 B.2.1 hret dX4_observed_13) ?_
  refine jlk_cons (sm_aload_n rfl B.1 dX4_observed_14) ?_
  refine jlk_cons (sm_iconst rfl B.1 dX4_observed_15) ?_
  refine jlk_cons (sm_putI B.1 fl_PointerAnalyzerModel_84_4_16 tyX4 tyX4_ok nmX4 (Or.inl rfl) (tyX4_ok 0 (by decide)) rfl (by decide) dX4_observed_16) ?_
  refine jlk_cons (sm_aload_n rfl B.1 dX4_observed_19) ?_
  refine jlk_cons (sm_getP B.1 fl_PointerAnalyzerModel_78_4_51 dX4_observed_20) ?_
  refine jlk_cons (sm_iload_n rfl B.1 dX4_observed_23) ?_
  refine jlk_cons (sm_lald B.1 dX4_observed_24) ?_
  refine jlk_cons (sm_lret B.1 B.2.1 hret dX4_observed_25) ?_
  exact jlk_nil
theorem v_X4_observed (hst : l.stackTraces = false) (hz : jEz (EV (d + 1))) (hI : jIH l D dA lo cs0 d) : jMe l D dA lo cs0 (EV (d + 1)) 64 yX4_observed (ws_ yX4_observed cX4_observed 2 (Option.some Jvm.ClassFile.FieldType.long)) (d + 1) := z_meth hz rfl hp_X4_observed (r_X4_observed hst hI)
theorem r_X4_fieldObserved (hst : l.stackTraces = false) (hI : jIH l D dA lo cs0 d) : jRows l D dA lo cs0 d 3 (tb_X4_fieldObserved (EV d)) yX4_fieldObserved cX4_fieldObserved (Option.some Jvm.ClassFile.FieldType.long) [] := by
  intro p e R s m args below meth c z0 w0 zF wF Q rF hF B hz hw hret hnm
  refine jlk_cons (sm_aload_n rfl B.1 dX4_fieldObserved_0) ?_
  refine jlk_cons (sm_iload_n rfl B.1 dX4_fieldObserved_1) ?_
  refine jlk_cons (sm_iload_n rfl B.1 dX4_fieldObserved_2) ?_
  refine jlk_cons (sm_cV (x := yX4_isField) (host := "") (owner := "") isRI (i_X4_isField hI) B q3275 q3277 qs105 w4_X4_isField w6_X4_isField (by decide) (by decide) (by decide) kc_4 hy_X4_isField hl_X4_isField dX4_fieldObserved_3 trivial) ?_
  refine jlk_cons (sm_ifne rfl B.1 dX4_fieldObserved_6) ?_
  refine jlk_cons (sm_aload_n rfl B.1 dX4_fieldObserved_9) ?_
  refine jlk_cons (sm_iconst rfl B.1 dX4_fieldObserved_10) ?_
  refine jlk_cons (sm_cV (x := yX4_fails) (host := "") (owner := "") isRI (i_X4_fails hI) B q3043 q3045 qs64 w4_X4_fails w6_X4_fails (by decide) (by decide) (by decide) kc_4 hy_X4_fails hl_X4_fails dX4_fieldObserved_11 trivial) ?_
  refine jlk_cons (sm_i2l B.1 dX4_fieldObserved_14) ?_
  refine jlk_cons (sm_lret B.1 B.2.1 hret dX4_fieldObserved_15) ?_
  refine jlk_cons (sm_aload_n rfl B.1 dX4_fieldObserved_16) ?_
  refine jlk_cons (sm_iconst rfl B.1 dX4_fieldObserved_17) ?_
  refine jlk_cons (sm_putI B.1 fl_PointerAnalyzerModel_84_4_16 tyX4 tyX4_ok nmX4 (Or.inl rfl) (tyX4_ok 0 (by decide)) rfl (by decide) dX4_fieldObserved_18) ?_
  refine jlk_cons (sm_aload_n rfl B.1 dX4_fieldObserved_21) ?_
  refine jlk_cons (sm_getP B.1 fl_PointerAnalyzerModel_78_4_51 dX4_fieldObserved_22) ?_
  refine jlk_cons (sm_bipush rfl B.1 dX4_fieldObserved_25) ?_
  refine jlk_cons (sm_iconst rfl B.1 dX4_fieldObserved_27) ?_
  refine jlk_cons (sm_iload_n rfl B.1 dX4_fieldObserved_28) ?_
  refine jlk_cons (sm_imul B.1 dX4_fieldObserved_29) ?_
  refine jlk_cons (sm_iadd B.1 dX4_fieldObserved_30) ?_
  refine jlk_cons (sm_iload_n rfl B.1 dX4_fieldObserved_31) ?_
  refine jlk_cons (sm_iadd B.1 dX4_fieldObserved_32) ?_
  refine jlk_cons (sm_lald B.1 dX4_fieldObserved_33) ?_
  refine jlk_cons (sm_lret B.1 B.2.1 hret dX4_fieldObserved_34) ?_
  exact jlk_nil
theorem v_X4_fieldObserved (hst : l.stackTraces = false) (hz : jEz (EV (d + 1))) (hI : jIH l D dA lo cs0 d) : jMe l D dA lo cs0 (EV (d + 1)) 66 yX4_fieldObserved (ws_ yX4_fieldObserved cX4_fieldObserved 3 (Option.some Jvm.ClassFile.FieldType.long)) (d + 1) := z_meth hz rfl hp_X4_fieldObserved (r_X4_fieldObserved hst hI)
theorem r_X4_faults (hst : l.stackTraces = false) (hI : jIH l D dA lo cs0 d) : jRows l D dA lo cs0 d 1 (tb_X4_faults (EV d)) yX4_faults cX4_faults (Option.some Jvm.ClassFile.FieldType.int) [] := by
  intro p e R s m args below meth c z0 w0 zF wF Q rF hF B hz hw hret hnm
  refine jlk_cons (sm_aload_n rfl B.1 dX4_faults_0) ?_
  refine jlk_cons (sm_iconst rfl B.1 dX4_faults_1) ?_
  refine jlk_cons (sm_putI B.1 fl_PointerAnalyzerModel_84_4_16 tyX4 tyX4_ok nmX4 (Or.inl rfl) (tyX4_ok 0 (by decide)) rfl (by decide) dX4_faults_2) ?_
  refine jlk_cons (sm_aload_n rfl B.1 dX4_faults_5) ?_
  refine jlk_cons (sm_getI B.1 fl_PointerAnalyzerModel_313_4_55 dX4_faults_6) ?_
  refine jlk_cons (sm_iret B.1 B.2.1 hret dX4_faults_9) ?_
  exact jlk_nil
theorem v_X4_faults (hst : l.stackTraces = false) (hz : jEz (EV (d + 1))) (hI : jIH l D dA lo cs0 d) : jMe l D dA lo cs0 (EV (d + 1)) 68 yX4_faults (ws_ yX4_faults cX4_faults 1 (Option.some Jvm.ClassFile.FieldType.int)) (d + 1) := z_meth hz rfl hp_X4_faults (r_X4_faults hst hI)
theorem r_X4_objects (hst : l.stackTraces = false) (hI : jIH l D dA lo cs0 d) : jRows l D dA lo cs0 d 1 (tb_X4_objects (EV d)) yX4_objects cX4_objects (Option.some Jvm.ClassFile.FieldType.int) [] := by
  intro p e R s m args below meth c z0 w0 zF wF Q rF hF B hz hw hret hnm
  refine jlk_cons (sm_aload_n rfl B.1 dX4_objects_0) ?_
  refine jlk_cons (sm_iconst rfl B.1 dX4_objects_1) ?_
  refine jlk_cons (sm_putI B.1 fl_PointerAnalyzerModel_84_4_16 tyX4 tyX4_ok nmX4 (Or.inl rfl) (tyX4_ok 0 (by decide)) rfl (by decide) dX4_objects_2) ?_
  refine jlk_cons (sm_aload_n rfl B.1 dX4_objects_5) ?_
  refine jlk_cons (sm_getI B.1 fl_PointerAnalyzerModel_316_4_54 dX4_objects_6) ?_
  refine jlk_cons (sm_iret B.1 B.2.1 hret dX4_objects_9) ?_
  exact jlk_nil
theorem v_X4_objects (hst : l.stackTraces = false) (hz : jEz (EV (d + 1))) (hI : jIH l D dA lo cs0 d) : jMe l D dA lo cs0 (EV (d + 1)) 70 yX4_objects (ws_ yX4_objects cX4_objects 1 (Option.some Jvm.ClassFile.FieldType.int)) (d + 1) := z_meth hz rfl hp_X4_objects (r_X4_objects hst hI)
theorem r_X4_precision (hst : l.stackTraces = false) (hI : jIH l D dA lo cs0 d) : jRows l D dA lo cs0 d 4 (tb_X4_precision (EV d)) yX4_precision cX4_precision (Option.some Jvm.ClassFile.FieldType.double) [] := by
  intro p e R s m args below meth c z0 w0 zF wF Q rF hF B hz hw hret hnm
  refine jlk_app ?_ ?_
  · refine jlk_cons (sm_iconst rfl B.1 dX4_precision_0) ?_
    refine jlk_cons (sm_istore_n rfl B.1 dX4_precision_1) ?_
    refine jlk_cons (sm_iconst rfl B.1 dX4_precision_2) ?_
    refine jlk_cons (sm_istore_n rfl B.1 dX4_precision_3) ?_
    refine jlk_cons (sm_iconst rfl B.1 dX4_precision_4) ?_
    refine jlk_cons (sm_istore_n rfl B.1 dX4_precision_5) ?_
    refine jlk_cons (sm_iload_n rfl B.1 dX4_precision_6) ?_
    refine jlk_cons (sm_bipush rfl B.1 dX4_precision_7) ?_
    refine jlk_cons (sm_icmpge rfl B.1 dX4_precision_9) ?_
    refine jlk_cons (sm_iload_n rfl B.1 dX4_precision_12) ?_
    refine jlk_cons (sm_aload_n rfl B.1 dX4_precision_13) ?_
    refine jlk_cons (sm_iload_n rfl B.1 dX4_precision_14) ?_
    refine jlk_cons (sm_cV (x := yX4_targetsBy) (host := "") (owner := "") isRL (i_X4_targetsBy hI) B q3259 q3261 qs103 w4_X4_targetsBy w6_X4_targetsBy (by decide) (by decide) (by decide) kc_4 hy_X4_targetsBy hl_X4_targetsBy dX4_precision_15 trivial) ?_
    refine jlk_cons (sm_cS (x := yX4_bits) (r9 := kr_6) (host := "") (owner := "") isSI (i_X4_bits hI) B q3283 q3284 w4_X4_bits w6_X4_bits (by decide) hy_X4_bits hl_X4_bits dX4_precision_18 trivial) ?_
    refine jlk_cons (sm_iadd B.1 dX4_precision_21) ?_
    refine jlk_cons (sm_istore_n rfl B.1 dX4_precision_22) ?_
    refine jlk_cons (sm_iload_n rfl B.1 dX4_precision_23) ?_
    refine jlk_cons (sm_aload_n rfl B.1 dX4_precision_24) ?_
    refine jlk_cons (sm_iload_n rfl B.1 dX4_precision_25) ?_
    refine jlk_cons (sm_cV (x := yX4_unified) (host := "") (owner := "") isRL (i_X4_unified hI) B q3331 q3333 qs110 w4_X4_unified w6_X4_unified (by decide) (by decide) (by decide) kc_4 hy_X4_unified hl_X4_unified dX4_precision_26 trivial) ?_
    refine jlk_cons (sm_cS (x := yX4_bits) (r9 := kr_6) (host := "") (owner := "") isSI (i_X4_bits hI) B q3283 q3284 w4_X4_bits w6_X4_bits (by decide) hy_X4_bits hl_X4_bits dX4_precision_29 trivial) ?_
    refine jlk_cons (sm_iadd B.1 dX4_precision_32) ?_
    refine jlk_cons (sm_istore_n rfl B.1 dX4_precision_33) ?_
    refine jlk_cons (sm_iinc rfl B.1 dX4_precision_34) ?_
    refine jlk_cons (sm_goto rfl B.1 dX4_precision_37) ?_
    refine jlk_cons (sm_aload_n rfl B.1 dX4_precision_40) ?_
    refine jlk_cons (sm_iload_n rfl B.1 dX4_precision_41) ?_
    refine jlk_cons (sm_ifne rfl B.1 dX4_precision_42) ?_
    refine jlk_cons (sm_iconst rfl B.1 dX4_precision_45) ?_
    refine jlk_cons (sm_goto rfl B.1 dX4_precision_46) ?_
    refine jlk_cons (sm_iconst rfl B.1 dX4_precision_49) ?_
    refine jlk_cons (sm_putI B.1 fl_PointerAnalyzerModel_84_4_16 tyX4 tyX4_ok nmX4 (Or.inl rfl) (tyX4_ok 0 (by decide)) rfl (by decide) dX4_precision_50) ?_
    refine jlk_cons (sm_iload_n rfl B.1 dX4_precision_53) ?_
    refine jlk_cons (sm_ifne rfl B.1 dX4_precision_54) ?_
    refine jlk_cons (sm_dconst0 B.1 dX4_precision_57) ?_
    refine jlk_cons (sm_goto rfl B.1 dX4_precision_58) ?_
    refine jlk_cons (sm_iload_n rfl B.1 dX4_precision_61) ?_
    refine jlk_cons (sm_i2d B.1 dX4_precision_62) ?_
    refine jlk_cons (sm_iload_n rfl B.1 dX4_precision_63) ?_
    refine jlk_cons (sm_i2d B.1 dX4_precision_64) ?_
    exact jlk_nil
  · skip
    refine jlk_cons (sm_ddiv B.1 dX4_precision_65) ?_
    refine jlk_cons (sm_dret B.1 B.2.1 hret dX4_precision_66) ?_
    exact jlk_nil
theorem v_X4_precision (hst : l.stackTraces = false) (hz : jEz (EV (d + 1))) (hI : jIH l D dA lo cs0 d) : jMe l D dA lo cs0 (EV (d + 1)) 72 yX4_precision (ws_ yX4_precision cX4_precision 4 (Option.some Jvm.ClassFile.FieldType.double)) (d + 1) := z_meth hz rfl hp_X4_precision (r_X4_precision hst hI)
theorem r_X4_averageTargets (hst : l.stackTraces = false) (hI : jIH l D dA lo cs0 d) : jRows l D dA lo cs0 d 4 (tb_X4_averageTargets (EV d)) yX4_averageTargets cX4_averageTargets (Option.some Jvm.ClassFile.FieldType.float) [] := by
  intro p e R s m args below meth c z0 w0 zF wF Q rF hF B hz hw hret hnm
  refine jlk_app ?_ ?_
  · refine jlk_cons (sm_iconst rfl B.1 dX4_averageTargets_0) ?_
    refine jlk_cons (sm_istore_n rfl B.1 dX4_averageTargets_1) ?_
    refine jlk_cons (sm_iconst rfl B.1 dX4_averageTargets_2) ?_
    refine jlk_cons (sm_istore_n rfl B.1 dX4_averageTargets_3) ?_
    refine jlk_cons (sm_iconst rfl B.1 dX4_averageTargets_4) ?_
    refine jlk_cons (sm_istore_n rfl B.1 dX4_averageTargets_5) ?_
    refine jlk_cons (sm_iload_n rfl B.1 dX4_averageTargets_6) ?_
    refine jlk_cons (sm_bipush rfl B.1 dX4_averageTargets_7) ?_
    refine jlk_cons (sm_icmpge rfl B.1 dX4_averageTargets_9) ?_
    refine jlk_cons (sm_iload_n rfl B.1 dX4_averageTargets_12) ?_
    refine jlk_cons (sm_aload_n rfl B.1 dX4_averageTargets_13) ?_
    refine jlk_cons (sm_iload_n rfl B.1 dX4_averageTargets_14) ?_
    refine jlk_cons (sm_cV (x := yX4_targetsBy) (host := "") (owner := "") isRL (i_X4_targetsBy hI) B q3259 q3261 qs103 w4_X4_targetsBy w6_X4_targetsBy (by decide) (by decide) (by decide) kc_4 hy_X4_targetsBy hl_X4_targetsBy dX4_averageTargets_15 trivial) ?_
    refine jlk_cons (sm_cS (x := yX4_bits) (r9 := kr_6) (host := "") (owner := "") isSI (i_X4_bits hI) B q3283 q3284 w4_X4_bits w6_X4_bits (by decide) hy_X4_bits hl_X4_bits dX4_averageTargets_18 trivial) ?_
    refine jlk_cons (sm_iadd B.1 dX4_averageTargets_21) ?_
    refine jlk_cons (sm_istore_n rfl B.1 dX4_averageTargets_22) ?_
    refine jlk_cons (sm_iload_n rfl B.1 dX4_averageTargets_23) ?_
    refine jlk_cons (sm_aload_n rfl B.1 dX4_averageTargets_24) ?_
    refine jlk_cons (sm_iload_n rfl B.1 dX4_averageTargets_25) ?_
    refine jlk_cons (sm_cV (x := yX4_targetsBy) (host := "") (owner := "") isRL (i_X4_targetsBy hI) B q3259 q3261 qs103 w4_X4_targetsBy w6_X4_targetsBy (by decide) (by decide) (by decide) kc_4 hy_X4_targetsBy hl_X4_targetsBy dX4_averageTargets_26 trivial) ?_
    refine jlk_cons (sm_lconst rfl B.1 dX4_averageTargets_29) ?_
    refine jlk_cons (sm_lcmp B.1 dX4_averageTargets_30) ?_
    refine jlk_cons (sm_ifeq rfl B.1 dX4_averageTargets_31) ?_
    refine jlk_cons (sm_iconst rfl B.1 dX4_averageTargets_34) ?_
    refine jlk_cons (sm_goto rfl B.1 dX4_averageTargets_35) ?_
    refine jlk_cons (sm_iconst rfl B.1 dX4_averageTargets_38) ?_
    refine jlk_cons (sm_iadd B.1 dX4_averageTargets_39) ?_
    refine jlk_cons (sm_istore_n rfl B.1 dX4_averageTargets_40) ?_
    refine jlk_cons (sm_iinc rfl B.1 dX4_averageTargets_41) ?_
    refine jlk_cons (sm_goto rfl B.1 dX4_averageTargets_44) ?_
    refine jlk_cons (sm_aload_n rfl B.1 dX4_averageTargets_47) ?_
    refine jlk_cons (sm_iload_n rfl B.1 dX4_averageTargets_48) ?_
    refine jlk_cons (sm_ifne rfl B.1 dX4_averageTargets_49) ?_
    refine jlk_cons (sm_iconst rfl B.1 dX4_averageTargets_52) ?_
    refine jlk_cons (sm_goto rfl B.1 dX4_averageTargets_53) ?_
    refine jlk_cons (sm_iconst rfl B.1 dX4_averageTargets_56) ?_
    refine jlk_cons (sm_putI B.1 fl_PointerAnalyzerModel_84_4_16 tyX4 tyX4_ok nmX4 (Or.inl rfl) (tyX4_ok 0 (by decide)) rfl (by decide) dX4_averageTargets_57) ?_
    refine jlk_cons (sm_iload_n rfl B.1 dX4_averageTargets_60) ?_
    refine jlk_cons (sm_ifne rfl B.1 dX4_averageTargets_61) ?_
    refine jlk_cons (sm_fconst0 B.1 dX4_averageTargets_64) ?_
    exact jlk_nil
  · skip
    refine jlk_cons (sm_goto rfl B.1 dX4_averageTargets_65) ?_
    refine jlk_cons (sm_iload_n rfl B.1 dX4_averageTargets_68) ?_
    refine jlk_cons (sm_i2f B.1 dX4_averageTargets_69) ?_
    refine jlk_cons (sm_iload_n rfl B.1 dX4_averageTargets_70) ?_
    refine jlk_cons (sm_i2f B.1 dX4_averageTargets_71) ?_
    refine jlk_cons (sm_fdiv B.1 dX4_averageTargets_72) ?_
    refine jlk_cons (sm_fret B.1 B.2.1 hret dX4_averageTargets_73) ?_
    exact jlk_nil
theorem v_X4_averageTargets (hst : l.stackTraces = false) (hz : jEz (EV (d + 1))) (hI : jIH l D dA lo cs0 d) : jMe l D dA lo cs0 (EV (d + 1)) 74 yX4_averageTargets (ws_ yX4_averageTargets cX4_averageTargets 4 (Option.some Jvm.ClassFile.FieldType.float)) (d + 1) := z_meth hz rfl hp_X4_averageTargets (r_X4_averageTargets hst hI)
theorem r_X4_save (hst : l.stackTraces = false) (hI : jIH l D dA lo cs0 d) : jRows l D dA lo cs0 d 1 (tb_X4_save (EV d)) yX4_save cX4_save (Option.none : Option Jvm.ClassFile.FieldType) [] := by
  intro p e R s m args below meth c z0 w0 zF wF Q rF hF B hz hw hret hnm
  refine jlk_cons (sm_aload_n rfl B.1 dX4_save_0) ?_
  refine jlk_cons (sm_iconst rfl B.1 dX4_save_1) ?_
  refine jlk_cons (sm_putI B.1 fl_PointerAnalyzerModel_84_4_16 tyX4 tyX4_ok nmX4 (Or.inl rfl) (tyX4_ok 0 (by decide)) rfl (by decide) dX4_save_2) ?_
  refine jlk_cons (sm_aload_n rfl B.1 dX4_save_5) ?_
  refine jlk_cons (sm_iconst rfl B.1 dX4_save_6) ?_
  refine jlk_cons (sm_putZ B.1 fl_PointerAnalyzerModel_359_4_58 tyX4 tyX4_ok nmX4 (Or.inl rfl) (tyX4_ok 42 (by decide)) rfl (by decide) dX4_save_7) ?_
  refine jlk_cons (sm_aload_n rfl B.1 dX4_save_10) ?_
  refine jlk_cons (sm_iconst rfl B.1 dX4_save_11) ?_
  refine jlk_cons (sm_cV (x := yX4_passState) (host := "") (owner := "") isRV (i_X4_passState hI) B q3430 q3432 qs120 w4_X4_passState w6_X4_passState (by decide) (by decide) (by decide) kc_4 hy_X4_passState hl_X4_passState dX4_save_12 trivial) ?_
  refine jlk_cons (sm_vret B.1 B.2.1 hret dX4_save_15) ?_
  exact jlk_nil
theorem v_X4_save (hst : l.stackTraces = false) (hz : jEz (EV (d + 1))) (hI : jIH l D dA lo cs0 d) : jMe l D dA lo cs0 (EV (d + 1)) 76 yX4_save (ws_ yX4_save cX4_save 1 (Option.none : Option Jvm.ClassFile.FieldType)) (d + 1) := z_meth hz rfl hp_X4_save (r_X4_save hst hI)
theorem r_X4_restore (hst : l.stackTraces = false) (hI : jIH l D dA lo cs0 d) : jRows l D dA lo cs0 d 1 (tb_X4_restore (EV d)) yX4_restore cX4_restore (Option.none : Option Jvm.ClassFile.FieldType) [] := by
  intro p e R s m args below meth c z0 w0 zF wF Q rF hF B hz hw hret hnm
  refine jlk_cons (sm_aload_n rfl B.1 dX4_restore_0) ?_
  refine jlk_cons (sm_aload_n rfl B.1 dX4_restore_1) ?_
  refine jlk_cons (sm_getI B.1 fl_PointerAnalyzerModel_359_4_58 dX4_restore_2) ?_
  refine jlk_cons (sm_ifeq rfl B.1 dX4_restore_5) ?_
  refine jlk_cons (sm_iconst rfl B.1 dX4_restore_8) ?_
  refine jlk_cons (sm_goto rfl B.1 dX4_restore_9) ?_
  refine jlk_cons (sm_iconst rfl B.1 dX4_restore_12) ?_
  refine jlk_cons (sm_putI B.1 fl_PointerAnalyzerModel_84_4_16 tyX4 tyX4_ok nmX4 (Or.inl rfl) (tyX4_ok 0 (by decide)) rfl (by decide) dX4_restore_13) ?_
  refine jlk_cons (sm_aload_n rfl B.1 dX4_restore_16) ?_
  refine jlk_cons (sm_getI B.1 fl_PointerAnalyzerModel_359_4_58 dX4_restore_17) ?_
  refine jlk_cons (sm_ifne rfl B.1 dX4_restore_20) ?_
  refine jlk_cons (sm_vret B.1 B.2.1 hret dX4_restore_23) ?_
  refine jlk_cons (sm_aload_n rfl B.1 dX4_restore_24) ?_
  refine jlk_cons (sm_iconst rfl B.1 dX4_restore_25) ?_
  refine jlk_cons (sm_cV (x := yX4_passState) (host := "") (owner := "") isRV (i_X4_passState hI) B q3430 q3432 qs120 w4_X4_passState w6_X4_passState (by decide) (by decide) (by decide) kc_4 hy_X4_passState hl_X4_passState dX4_restore_26 trivial) ?_
  refine jlk_cons (sm_aload_n rfl B.1 dX4_restore_29) ?_
  refine jlk_cons (sm_iconst rfl B.1 dX4_restore_30) ?_
  refine jlk_cons (sm_putZ B.1 fl_PointerAnalyzerModel_155_4_35 tyX4 tyX4_ok nmX4 (Or.inl rfl) (tyX4_ok 19 (by decide)) rfl (by decide) dX4_restore_31) ?_
  refine jlk_cons (sm_aload_n rfl B.1 dX4_restore_34) ?_
  refine jlk_cons (sm_cV (x := yX4_forgets) (host := "") (owner := "") isRV (i_X4_forgets hI) B q3098 q3100 qs76 w4_X4_forgets w6_X4_forgets (by decide) (by decide) (by decide) kc_4 hy_X4_forgets hl_X4_forgets dX4_restore_35 trivial) ?_
  refine jlk_cons (sm_vret B.1 B.2.1 hret dX4_restore_38) ?_
  exact jlk_nil
theorem v_X4_restore (hst : l.stackTraces = false) (hz : jEz (EV (d + 1))) (hI : jIH l D dA lo cs0 d) : jMe l D dA lo cs0 (EV (d + 1)) 78 yX4_restore (ws_ yX4_restore cX4_restore 1 (Option.none : Option Jvm.ClassFile.FieldType)) (d + 1) := z_meth hz rfl hp_X4_restore (r_X4_restore hst hI)
theorem r_X4_isBetween (hst : l.stackTraces = false) (hI : jIH l D dA lo cs0 d) : jRows l D dA lo cs0 d 3 (tb_X4_isBetween (EV d)) yX4_isBetween cX4_isBetween (Option.some Jvm.ClassFile.FieldType.boolean) [] := by
  intro p e R s m args below meth c z0 w0 zF wF Q rF hF B hz hw hret hnm
  refine jlk_cons (sm_iload_n rfl B.1 dX4_isBetween_0) ?_
  refine jlk_cons (sm_iload_n rfl B.1 dX4_isBetween_1) ?_
  refine jlk_cons (sm_icmplt rfl B.1 dX4_isBetween_2) ?_
  refine jlk_cons (sm_iload_n rfl B.1 dX4_isBetween_5) ?_
  refine jlk_cons (sm_iload_n rfl B.1 dX4_isBetween_6) ?_
  refine jlk_cons (sm_icmpgt rfl B.1 dX4_isBetween_7) ?_
  refine jlk_cons (sm_iconst rfl B.1 dX4_isBetween_10) ?_
  refine jlk_cons (sm_goto rfl B.1 dX4_isBetween_11) ?_
  refine jlk_cons (sm_iconst rfl B.1 dX4_isBetween_14) ?_
  refine jlk_cons (sm_zret B.1 B.2.1 hret dX4_isBetween_15) ?_
  exact jlk_nil
theorem v_X4_isBetween (hst : l.stackTraces = false) (hz : jEz (EV (d + 1))) (hI : jIH l D dA lo cs0 d) : jMe l D dA lo cs0 (EV (d + 1)) 84 yX4_isBetween (ws_ yX4_isBetween cX4_isBetween 3 (Option.some Jvm.ClassFile.FieldType.boolean)) (d + 1) := z_meth hz rfl hp_X4_isBetween (r_X4_isBetween hst hI)
theorem r_X4_fails (hst : l.stackTraces = false) (hI : jIH l D dA lo cs0 d) : jRows l D dA lo cs0 d 2 (tb_X4_fails (EV d)) yX4_fails cX4_fails (Option.some Jvm.ClassFile.FieldType.int) [] := by
  intro p e R s m args below meth c z0 w0 zF wF Q rF hF B hz hw hret hnm
  refine jlk_cons (sm_aload_n rfl B.1 dX4_fails_0) ?_
  refine jlk_cons (sm_iload_n rfl B.1 dX4_fails_1) ?_
  refine jlk_cons (sm_putI B.1 fl_PointerAnalyzerModel_84_4_16 tyX4 tyX4_ok nmX4 (Or.inl rfl) (tyX4_ok 0 (by decide)) rfl (by decide) dX4_fails_2) ?_
  refine jlk_cons (sm_iconst rfl B.1 dX4_fails_5) ?_
  refine jlk_cons (sm_iret B.1 B.2.1 hret dX4_fails_6) ?_
  exact jlk_nil
theorem v_X4_fails (hst : l.stackTraces = false) (hz : jEz (EV (d + 1))) (hI : jIH l D dA lo cs0 d) : jMe l D dA lo cs0 (EV (d + 1)) 85 yX4_fails (ws_ yX4_fails cX4_fails 2 (Option.some Jvm.ClassFile.FieldType.int)) (d + 1) := z_meth hz rfl hp_X4_fails (r_X4_fails hst hI)
theorem r_X4_isFunction (hst : l.stackTraces = false) (hI : jIH l D dA lo cs0 d) : jRows l D dA lo cs0 d 1 (tb_X4_isFunction (EV d)) yX4_isFunction cX4_isFunction (Option.some Jvm.ClassFile.FieldType.boolean) [] := by
  intro p e R s m args below meth c z0 w0 zF wF Q rF hF B hz hw hret hnm
  refine jlk_cons (sm_iload_n rfl B.1 dX4_isFunction_0) ?_
  refine jlk_cons (sm_iflt rfl B.1 dX4_isFunction_1) ?_
  refine jlk_cons (sm_iload_n rfl B.1 dX4_isFunction_4) ?_
  refine jlk_cons (sm_iconst rfl B.1 dX4_isFunction_5) ?_
  refine jlk_cons (sm_icmpge rfl B.1 dX4_isFunction_6) ?_
  refine jlk_cons (sm_iconst rfl B.1 dX4_isFunction_9) ?_
  refine jlk_cons (sm_goto rfl B.1 dX4_isFunction_10) ?_
  refine jlk_cons (sm_iconst rfl B.1 dX4_isFunction_13) ?_
  refine jlk_cons (sm_zret B.1 B.2.1 hret dX4_isFunction_14) ?_
  exact jlk_nil
theorem v_X4_isFunction (hst : l.stackTraces = false) (hz : jEz (EV (d + 1))) (hI : jIH l D dA lo cs0 d) : jMe l D dA lo cs0 (EV (d + 1)) 87 yX4_isFunction (ws_ yX4_isFunction cX4_isFunction 1 (Option.some Jvm.ClassFile.FieldType.boolean)) (d + 1) := z_meth hz rfl hp_X4_isFunction (r_X4_isFunction hst hI)
theorem r_X4_takesText (hst : l.stackTraces = false) (hI : jIH l D dA lo cs0 d) : jRows l D dA lo cs0 d 3 (tb_X4_takesText (EV d)) yX4_takesText cX4_takesText (Option.some Jvm.ClassFile.FieldType.boolean) [] := by
  intro p e R s m args below meth c z0 w0 zF wF Q rF hF B hz hw hret hnm
  refine jlk_app ?_ ?_
  · refine jlk_cons (sm_aload_n rfl B.1 dX4_takesText_0) ?_
    refine jlk_cons (sm_iconst rfl B.1 dX4_takesText_1) ?_
    refine jlk_cons (sm_putI B.1 fl_PointerAnalyzerModel_104_4_25 tyX4 tyX4_ok nmX4 (Or.inl rfl) (tyX4_ok 9 (by decide)) rfl (by decide) dX4_takesText_2) ?_
    refine jlk_cons (sm_aload_n rfl B.1 dX4_takesText_5) ?_
    refine jlk_cons (sm_getP B.1 fl_PointerAnalyzerModel_22_4_21 dX4_takesText_6) ?_
    refine jlk_cons (sm_iconst rfl B.1 dX4_takesText_9) ?_
    refine jlk_cons (sm_iconst rfl B.1 dX4_takesText_10) ?_
    refine jlk_cons (sm_iast B.1 dX4_takesText_11) ?_
    refine jlk_cons (sm_aload_n rfl B.1 dX4_takesText_12) ?_
    refine jlk_cons (sm_iconst rfl B.1 dX4_takesText_13) ?_
    refine jlk_cons (sm_putI B.1 fl_PointerAnalyzerModel_111_4_28 tyX4 tyX4_ok nmX4 (Or.inl rfl) (tyX4_ok 12 (by decide)) rfl (by decide) dX4_takesText_14) ?_
    refine jlk_cons (sm_aload_n rfl B.1 dX4_takesText_17) ?_
    refine jlk_cons (sm_iconst rfl B.1 dX4_takesText_18) ?_
    refine jlk_cons (sm_putI B.1 fl_PointerAnalyzerModel_114_4_29 tyX4 tyX4_ok nmX4 (Or.inl rfl) (tyX4_ok 13 (by decide)) rfl (by decide) dX4_takesText_19) ?_
    refine jlk_cons (sm_aload_n rfl B.1 dX4_takesText_22) ?_
    refine jlk_cons (sm_getI B.1 fl_PointerAnalyzerModel_101_4_24 dX4_takesText_23) ?_
    refine jlk_cons (sm_ifne rfl B.1 dX4_takesText_26) ?_
    refine jlk_cons (sm_iconst rfl B.1 dX4_takesText_29) ?_
    refine jlk_cons (sm_zret B.1 B.2.1 hret dX4_takesText_30) ?_
    refine jlk_cons (sm_iconst rfl B.1 dX4_takesText_31) ?_
    refine jlk_cons (sm_istore_n rfl B.1 dX4_takesText_32) ?_
    refine jlk_cons (sm_iload_n rfl B.1 dX4_takesText_33) ?_
    refine jlk_cons (sm_ifeq rfl B.1 dX4_takesText_34) ?_
    refine jlk_cons (sm_aload_n rfl B.1 dX4_takesText_37) ?_
    refine jlk_cons (sm_iload_n rfl B.1 dX4_takesText_38) ?_
    refine jlk_cons (sm_cV (x := yX4_takesStatement) (host := "") (owner := "") isRI (i_X4_takesStatement hI) B q3058 q3060 qs66 w4_X4_takesStatement w6_X4_takesStatement (by decide) (by decide) (by decide) kc_4 hy_X4_takesStatement hl_X4_takesStatement dX4_takesText_39 trivial) ?_
    refine jlk_cons (sm_ifne rfl B.1 dX4_takesText_42) ?_
    refine jlk_cons (sm_iconst rfl B.1 dX4_takesText_45) ?_
    refine jlk_cons (sm_zret B.1 B.2.1 hret dX4_takesText_46) ?_
    refine jlk_cons (sm_aload_n rfl B.1 dX4_takesText_47) ?_
    refine jlk_cons (sm_bipush rfl B.1 dX4_takesText_48) ?_
    refine jlk_cons (sm_cV (x := yX4_skips) (host := "") (owner := "") isRI (i_X4_skips hI) B q3062 q3064 qs67 w4_X4_skips w6_X4_skips (by decide) (by decide) (by decide) kc_4 hy_X4_skips hl_X4_skips dX4_takesText_50 trivial) ?_
    refine jlk_cons (sm_istore_n rfl B.1 dX4_takesText_53) ?_
    refine jlk_cons (sm_goto rfl B.1 dX4_takesText_54) ?_
    refine jlk_cons (sm_aload_n rfl B.1 dX4_takesText_57) ?_
    refine jlk_cons (sm_getI B.1 fl_PointerAnalyzerModel_104_4_25 dX4_takesText_58) ?_
    refine jlk_cons (sm_aload_n rfl B.1 dX4_takesText_61) ?_
    refine jlk_cons (sm_getI B.1 fl_PointerAnalyzerModel_101_4_24 dX4_takesText_62) ?_
    refine jlk_cons (sm_icmpne rfl B.1 dX4_takesText_65) ?_
    refine jlk_cons (sm_iconst rfl B.1 dX4_takesText_68) ?_
    exact jlk_nil
  · skip
    refine jlk_cons (sm_goto rfl B.1 dX4_takesText_69) ?_
    refine jlk_cons (sm_iconst rfl B.1 dX4_takesText_72) ?_
    refine jlk_cons (sm_zret B.1 B.2.1 hret dX4_takesText_73) ?_
    exact jlk_nil
theorem v_X4_takesText (hst : l.stackTraces = false) (hz : jEz (EV (d + 1))) (hI : jIH l D dA lo cs0 d) : jMe l D dA lo cs0 (EV (d + 1)) 88 yX4_takesText (ws_ yX4_takesText cX4_takesText 3 (Option.some Jvm.ClassFile.FieldType.boolean)) (d + 1) := z_meth hz rfl hp_X4_takesText (r_X4_takesText hst hI)
theorem r_X4_many (hst : l.stackTraces = false) (hI : jIH l D dA lo cs0 d) : jRows l D dA lo cs0 d 6 (tb_X4_many (EV d)) yX4_many cX4_many (Option.some Jvm.ClassFile.FieldType.int) [] := by
  intro p e R s m args below meth c z0 w0 zF wF Q rF hF B hz hw hret hnm
  refine jlk_cons (sm_iconst rfl B.1 dX4_many_0) ?_
  refine jlk_cons (sm_istore_n rfl B.1 dX4_many_1) ?_
  refine jlk_cons (sm_iconst rfl B.1 dX4_many_2) ?_
  refine jlk_cons (sm_istore B.1 dX4_many_3) ?_
  refine jlk_cons (sm_iload B.1 dX4_many_5) ?_
  refine jlk_cons (sm_iconst rfl B.1 dX4_many_7) ?_
  refine jlk_cons (sm_icmpge rfl B.1 dX4_many_8) ?_
  refine jlk_cons (sm_iconst rfl B.1 dX4_many_11) ?_
  refine jlk_cons (sm_istore B.1 dX4_many_12) ?_
  refine jlk_cons (sm_iload B.1 dX4_many_14) ?_
  refine jlk_cons (sm_aload_n rfl B.1 dX4_many_16) ?_
  refine jlk_cons (sm_getP B.1 fl_PointerAnalyzerModel_22_4_21 dX4_many_17) ?_
  refine jlk_cons (sm_iload B.1 dX4_many_20) ?_
  refine jlk_cons (sm_iald B.1 dX4_many_22) ?_
  refine jlk_cons (sm_icmpge rfl B.1 dX4_many_23) ?_
  refine jlk_cons (sm_iload_n rfl B.1 dX4_many_26) ?_
  refine jlk_cons (sm_iload B.1 dX4_many_27) ?_
  refine jlk_cons (sm_iload_n rfl B.1 dX4_many_29) ?_
  refine jlk_cons (sm_icmpeq rfl B.1 dX4_many_30) ?_
  refine jlk_cons (sm_aload_n rfl B.1 dX4_many_33) ?_
  refine jlk_cons (sm_getP B.1 fl_PointerAnalyzerModel_7_4_17 dX4_many_34) ?_
  refine jlk_cons (sm_bipush rfl B.1 dX4_many_37) ?_
  refine jlk_cons (sm_iload B.1 dX4_many_39) ?_
  refine jlk_cons (sm_imul B.1 dX4_many_41) ?_
  refine jlk_cons (sm_iload B.1 dX4_many_42) ?_
  refine jlk_cons (sm_iadd B.1 dX4_many_44) ?_
  refine jlk_cons (sm_iald B.1 dX4_many_45) ?_
  refine jlk_cons (sm_iload_n rfl B.1 dX4_many_46) ?_
  refine jlk_cons (sm_icmpne rfl B.1 dX4_many_47) ?_
  refine jlk_cons (sm_iconst rfl B.1 dX4_many_50) ?_
  refine jlk_cons (sm_goto rfl B.1 dX4_many_51) ?_
  refine jlk_cons (sm_iconst rfl B.1 dX4_many_54) ?_
  refine jlk_cons (sm_iadd B.1 dX4_many_55) ?_
  refine jlk_cons (sm_istore_n rfl B.1 dX4_many_56) ?_
  refine jlk_cons (sm_iinc rfl B.1 dX4_many_57) ?_
  refine jlk_cons (sm_goto rfl B.1 dX4_many_60) ?_
  refine jlk_cons (sm_iinc rfl B.1 dX4_many_63) ?_
  refine jlk_cons (sm_goto rfl B.1 dX4_many_66) ?_
  refine jlk_cons (sm_iload_n rfl B.1 dX4_many_69) ?_
  refine jlk_cons (sm_iret B.1 B.2.1 hret dX4_many_70) ?_
  exact jlk_nil
theorem v_X4_many (hst : l.stackTraces = false) (hz : jEz (EV (d + 1))) (hI : jIH l D dA lo cs0 d) : jMe l D dA lo cs0 (EV (d + 1)) 89 yX4_many (ws_ yX4_many cX4_many 6 (Option.some Jvm.ClassFile.FieldType.int)) (d + 1) := z_meth hz rfl hp_X4_many (r_X4_many hst hI)
theorem r_X4_copies (hst : l.stackTraces = false) (hI : jIH l D dA lo cs0 d) : jRows l D dA lo cs0 d 4 (tb_X4_copies (EV d)) yX4_copies cX4_copies (Option.none : Option Jvm.ClassFile.FieldType) [] := by
  intro p e R s m args below meth c z0 w0 zF wF Q rF hF B hz hw hret hnm
  refine jlk_app ?_ ?_
  · refine jlk_cons (sm_aload_n rfl B.1 dX4_copies_0) ?_
    refine jlk_cons (sm_getP B.1 fl_PointerAnalyzerModel_22_4_21 dX4_copies_1) ?_
    refine jlk_cons (sm_iload_n rfl B.1 dX4_copies_4) ?_
    refine jlk_cons (sm_aload_n rfl B.1 dX4_copies_5) ?_
    refine jlk_cons (sm_getP B.1 fl_PointerAnalyzerModel_22_4_21 dX4_copies_6) ?_
    refine jlk_cons (sm_iload_n rfl B.1 dX4_copies_9) ?_
    refine jlk_cons (sm_iald B.1 dX4_copies_10) ?_
    refine jlk_cons (sm_iast B.1 dX4_copies_11) ?_
    refine jlk_cons (sm_iconst rfl B.1 dX4_copies_12) ?_
    refine jlk_cons (sm_istore_n rfl B.1 dX4_copies_13) ?_
    refine jlk_cons (sm_iload_n rfl B.1 dX4_copies_14) ?_
    refine jlk_cons (sm_bipush rfl B.1 dX4_copies_15) ?_
    refine jlk_cons (sm_icmpge rfl B.1 dX4_copies_17) ?_
    refine jlk_cons (sm_aload_n rfl B.1 dX4_copies_20) ?_
    refine jlk_cons (sm_getP B.1 fl_PointerAnalyzerModel_7_4_17 dX4_copies_21) ?_
    refine jlk_cons (sm_bipush rfl B.1 dX4_copies_24) ?_
    refine jlk_cons (sm_iload_n rfl B.1 dX4_copies_26) ?_
    refine jlk_cons (sm_imul B.1 dX4_copies_27) ?_
    refine jlk_cons (sm_iload_n rfl B.1 dX4_copies_28) ?_
    refine jlk_cons (sm_iadd B.1 dX4_copies_29) ?_
    refine jlk_cons (sm_aload_n rfl B.1 dX4_copies_30) ?_
    refine jlk_cons (sm_getP B.1 fl_PointerAnalyzerModel_7_4_17 dX4_copies_31) ?_
    refine jlk_cons (sm_bipush rfl B.1 dX4_copies_34) ?_
    refine jlk_cons (sm_iload_n rfl B.1 dX4_copies_36) ?_
    refine jlk_cons (sm_imul B.1 dX4_copies_37) ?_
    refine jlk_cons (sm_iload_n rfl B.1 dX4_copies_38) ?_
    refine jlk_cons (sm_iadd B.1 dX4_copies_39) ?_
    refine jlk_cons (sm_iald B.1 dX4_copies_40) ?_
    refine jlk_cons (sm_iast B.1 dX4_copies_41) ?_
    refine jlk_cons (sm_aload_n rfl B.1 dX4_copies_42) ?_
    refine jlk_cons (sm_getP B.1 fl_PointerAnalyzerModel_13_4_18 dX4_copies_43) ?_
    refine jlk_cons (sm_bipush rfl B.1 dX4_copies_46) ?_
    refine jlk_cons (sm_iload_n rfl B.1 dX4_copies_48) ?_
    refine jlk_cons (sm_imul B.1 dX4_copies_49) ?_
    refine jlk_cons (sm_iload_n rfl B.1 dX4_copies_50) ?_
    refine jlk_cons (sm_iadd B.1 dX4_copies_51) ?_
    refine jlk_cons (sm_aload_n rfl B.1 dX4_copies_52) ?_
    refine jlk_cons (sm_getP B.1 fl_PointerAnalyzerModel_13_4_18 dX4_copies_53) ?_
    refine jlk_cons (sm_bipush rfl B.1 dX4_copies_56) ?_
    refine jlk_cons (sm_iload_n rfl B.1 dX4_copies_58) ?_
    exact jlk_nil
  · skip
    refine jlk_cons (sm_imul B.1 dX4_copies_59) ?_
    refine jlk_cons (sm_iload_n rfl B.1 dX4_copies_60) ?_
    refine jlk_cons (sm_iadd B.1 dX4_copies_61) ?_
    refine jlk_cons (sm_iald B.1 dX4_copies_62) ?_
    refine jlk_cons (sm_iast B.1 dX4_copies_63) ?_
    refine jlk_cons (sm_aload_n rfl B.1 dX4_copies_64) ?_
    refine jlk_cons (sm_getP B.1 fl_PointerAnalyzerModel_16_4_19 dX4_copies_65) ?_
    refine jlk_cons (sm_bipush rfl B.1 dX4_copies_68) ?_
    refine jlk_cons (sm_iload_n rfl B.1 dX4_copies_70) ?_
    refine jlk_cons (sm_imul B.1 dX4_copies_71) ?_
    refine jlk_cons (sm_iload_n rfl B.1 dX4_copies_72) ?_
    refine jlk_cons (sm_iadd B.1 dX4_copies_73) ?_
    refine jlk_cons (sm_aload_n rfl B.1 dX4_copies_74) ?_
    refine jlk_cons (sm_getP B.1 fl_PointerAnalyzerModel_16_4_19 dX4_copies_75) ?_
    refine jlk_cons (sm_bipush rfl B.1 dX4_copies_78) ?_
    refine jlk_cons (sm_iload_n rfl B.1 dX4_copies_80) ?_
    refine jlk_cons (sm_imul B.1 dX4_copies_81) ?_
    refine jlk_cons (sm_iload_n rfl B.1 dX4_copies_82) ?_
    refine jlk_cons (sm_iadd B.1 dX4_copies_83) ?_
    refine jlk_cons (sm_iald B.1 dX4_copies_84) ?_
    refine jlk_cons (sm_iast B.1 dX4_copies_85) ?_
    refine jlk_cons (sm_aload_n rfl B.1 dX4_copies_86) ?_
    refine jlk_cons (sm_getP B.1 fl_PointerAnalyzerModel_19_4_20 dX4_copies_87) ?_
    refine jlk_cons (sm_bipush rfl B.1 dX4_copies_90) ?_
    refine jlk_cons (sm_iload_n rfl B.1 dX4_copies_92) ?_
    refine jlk_cons (sm_imul B.1 dX4_copies_93) ?_
    refine jlk_cons (sm_iload_n rfl B.1 dX4_copies_94) ?_
    refine jlk_cons (sm_iadd B.1 dX4_copies_95) ?_
    refine jlk_cons (sm_aload_n rfl B.1 dX4_copies_96) ?_
    refine jlk_cons (sm_getP B.1 fl_PointerAnalyzerModel_19_4_20 dX4_copies_97) ?_
    refine jlk_cons (sm_bipush rfl B.1 dX4_copies_100) ?_
    refine jlk_cons (sm_iload_n rfl B.1 dX4_copies_102) ?_
    refine jlk_cons (sm_imul B.1 dX4_copies_103) ?_
    refine jlk_cons (sm_iload_n rfl B.1 dX4_copies_104) ?_
    refine jlk_cons (sm_iadd B.1 dX4_copies_105) ?_
    refine jlk_cons (sm_iald B.1 dX4_copies_106) ?_
    refine jlk_cons (sm_iast B.1 dX4_copies_107) ?_
    refine jlk_cons (sm_iinc rfl B.1 dX4_copies_108) ?_
    refine jlk_cons (sm_goto rfl B.1 dX4_copies_111) ?_
    refine jlk_cons (sm_vret B.1 B.2.1 hret dX4_copies_114) ?_
    exact jlk_nil
theorem v_X4_copies (hst : l.stackTraces = false) (hz : jEz (EV (d + 1))) (hI : jIH l D dA lo cs0 d) : jMe l D dA lo cs0 (EV (d + 1)) 90 yX4_copies (ws_ yX4_copies cX4_copies 4 (Option.none : Option Jvm.ClassFile.FieldType)) (d + 1) := z_meth hz rfl hp_X4_copies (r_X4_copies hst hI)
theorem r_X4_forgets (hst : l.stackTraces = false) (hI : jIH l D dA lo cs0 d) : jRows l D dA lo cs0 d 2 (tb_X4_forgets (EV d)) yX4_forgets cX4_forgets (Option.none : Option Jvm.ClassFile.FieldType) [] := by
  intro p e R s m args below meth c z0 w0 zF wF Q rF hF B hz hw hret hnm
  refine jlk_cons (sm_iconst rfl B.1 dX4_forgets_0) ?_
  refine jlk_cons (sm_istore_n rfl B.1 dX4_forgets_1) ?_
  refine jlk_cons (sm_iload_n rfl B.1 dX4_forgets_2) ?_
  refine jlk_cons (sm_bipush rfl B.1 dX4_forgets_3) ?_
  refine jlk_cons (sm_icmpge rfl B.1 dX4_forgets_5) ?_
  refine jlk_cons (sm_aload_n rfl B.1 dX4_forgets_8) ?_
  refine jlk_cons (sm_getP B.1 fl_PointerAnalyzerModel_78_4_51 dX4_forgets_9) ?_
  refine jlk_cons (sm_iload_n rfl B.1 dX4_forgets_12) ?_
  refine jlk_cons (sm_lconst rfl B.1 dX4_forgets_13) ?_
  refine jlk_cons (sm_last B.1 dX4_forgets_14) ?_
  refine jlk_cons (sm_iinc rfl B.1 dX4_forgets_15) ?_
  refine jlk_cons (sm_goto rfl B.1 dX4_forgets_18) ?_
  refine jlk_cons (sm_aload_n rfl B.1 dX4_forgets_21) ?_
  refine jlk_cons (sm_iconst rfl B.1 dX4_forgets_22) ?_
  refine jlk_cons (sm_putI B.1 fl_PointerAnalyzerModel_313_4_55 tyX4 tyX4_ok nmX4 (Or.inl rfl) (tyX4_ok 39 (by decide)) rfl (by decide) dX4_forgets_23) ?_
  refine jlk_cons (sm_aload_n rfl B.1 dX4_forgets_26) ?_
  refine jlk_cons (sm_iconst rfl B.1 dX4_forgets_27) ?_
  refine jlk_cons (sm_putI B.1 fl_PointerAnalyzerModel_316_4_54 tyX4 tyX4_ok nmX4 (Or.inl rfl) (tyX4_ok 38 (by decide)) rfl (by decide) dX4_forgets_28) ?_
  refine jlk_cons (sm_vret B.1 B.2.1 hret dX4_forgets_31) ?_
  exact jlk_nil
theorem v_X4_forgets (hst : l.stackTraces = false) (hz : jEz (EV (d + 1))) (hI : jIH l D dA lo cs0 d) : jMe l D dA lo cs0 (EV (d + 1)) 91 yX4_forgets (ws_ yX4_forgets cX4_forgets 2 (Option.none : Option Jvm.ClassFile.FieldType)) (d + 1) := z_meth hz rfl hp_X4_forgets (r_X4_forgets hst hI)
theorem r_X4_statements (hst : l.stackTraces = false) (hI : jIH l D dA lo cs0 d) : jRows l D dA lo cs0 d 1 (tb_X4_statements (EV d)) yX4_statements cX4_statements (Option.some Jvm.ClassFile.FieldType.int) [] := by
  intro p e R s m args below meth c z0 w0 zF wF Q rF hF B hz hw hret hnm
  refine jlk_cons (sm_aload_n rfl B.1 dX4_statements_0) ?_
  refine jlk_cons (sm_getP B.1 fl_PointerAnalyzerModel_22_4_21 dX4_statements_1) ?_
  refine jlk_cons (sm_iconst rfl B.1 dX4_statements_4) ?_
  refine jlk_cons (sm_iald B.1 dX4_statements_5) ?_
  refine jlk_cons (sm_aload_n rfl B.1 dX4_statements_6) ?_
  refine jlk_cons (sm_getP B.1 fl_PointerAnalyzerModel_22_4_21 dX4_statements_7) ?_
  refine jlk_cons (sm_iconst rfl B.1 dX4_statements_10) ?_
  refine jlk_cons (sm_iald B.1 dX4_statements_11) ?_
  refine jlk_cons (sm_iadd B.1 dX4_statements_12) ?_
  refine jlk_cons (sm_aload_n rfl B.1 dX4_statements_13) ?_
  refine jlk_cons (sm_getP B.1 fl_PointerAnalyzerModel_22_4_21 dX4_statements_14) ?_
  refine jlk_cons (sm_iconst rfl B.1 dX4_statements_17) ?_
  refine jlk_cons (sm_iald B.1 dX4_statements_18) ?_
  refine jlk_cons (sm_iadd B.1 dX4_statements_19) ?_
  refine jlk_cons (sm_aload_n rfl B.1 dX4_statements_20) ?_
  refine jlk_cons (sm_getP B.1 fl_PointerAnalyzerModel_22_4_21 dX4_statements_21) ?_
  refine jlk_cons (sm_iconst rfl B.1 dX4_statements_24) ?_
  refine jlk_cons (sm_iald B.1 dX4_statements_25) ?_
  refine jlk_cons (sm_iadd B.1 dX4_statements_26) ?_
  refine jlk_cons (sm_iret B.1 B.2.1 hret dX4_statements_27) ?_
  exact jlk_nil
theorem v_X4_statements (hst : l.stackTraces = false) (hz : jEz (EV (d + 1))) (hI : jIH l D dA lo cs0 d) : jMe l D dA lo cs0 (EV (d + 1)) 93 yX4_statements (ws_ yX4_statements cX4_statements 1 (Option.some Jvm.ClassFile.FieldType.int)) (d + 1) := z_meth hz rfl hp_X4_statements (r_X4_statements hst hI)
theorem r_X4_isStatement (hst : l.stackTraces = false) (hI : jIH l D dA lo cs0 d) : jRows l D dA lo cs0 d 2 (tb_X4_isStatement (EV d)) yX4_isStatement cX4_isStatement (Option.some Jvm.ClassFile.FieldType.boolean) [] := by
  intro p e R s m args below meth c z0 w0 zF wF Q rF hF B hz hw hret hnm
  refine jlk_cons (sm_iload_n rfl B.1 dX4_isStatement_0) ?_
  refine jlk_cons (sm_iflt rfl B.1 dX4_isStatement_1) ?_
  refine jlk_cons (sm_iload_n rfl B.1 dX4_isStatement_4) ?_
  refine jlk_cons (sm_aload_n rfl B.1 dX4_isStatement_5) ?_
  refine jlk_cons (sm_cV (x := yX4_statements) (host := "") (owner := "") isRI (i_X4_statements hI) B q3110 q3112 qs77 w4_X4_statements w6_X4_statements (by decide) (by decide) (by decide) kc_4 hy_X4_statements hl_X4_statements dX4_isStatement_6 trivial) ?_
  refine jlk_cons (sm_icmpge rfl B.1 dX4_isStatement_9) ?_
  refine jlk_cons (sm_iconst rfl B.1 dX4_isStatement_12) ?_
  refine jlk_cons (sm_goto rfl B.1 dX4_isStatement_13) ?_
  refine jlk_cons (sm_iconst rfl B.1 dX4_isStatement_16) ?_
  refine jlk_cons (sm_zret B.1 B.2.1 hret dX4_isStatement_17) ?_
  exact jlk_nil
theorem v_X4_isStatement (hst : l.stackTraces = false) (hz : jEz (EV (d + 1))) (hI : jIH l D dA lo cs0 d) : jMe l D dA lo cs0 (EV (d + 1)) 95 yX4_isStatement (ws_ yX4_isStatement cX4_isStatement 2 (Option.some Jvm.ClassFile.FieldType.boolean)) (d + 1) := z_meth hz rfl hp_X4_isStatement (r_X4_isStatement hst hI)
theorem r_X4_placeOf (hst : l.stackTraces = false) (hI : jIH l D dA lo cs0 d) : jRows l D dA lo cs0 d 4 (tb_X4_placeOf (EV d)) yX4_placeOf cX4_placeOf (Option.some Jvm.ClassFile.FieldType.int) [] := by
  intro p e R s m args below meth c z0 w0 zF wF Q rF hF B hz hw hret hnm
  refine jlk_cons (sm_iload_n rfl B.1 dX4_placeOf_0) ?_
  refine jlk_cons (sm_istore_n rfl B.1 dX4_placeOf_1) ?_
  refine jlk_cons (sm_iconst rfl B.1 dX4_placeOf_2) ?_
  refine jlk_cons (sm_istore_n rfl B.1 dX4_placeOf_3) ?_
  refine jlk_cons (sm_iload_n rfl B.1 dX4_placeOf_4) ?_
  refine jlk_cons (sm_aload_n rfl B.1 dX4_placeOf_5) ?_
  refine jlk_cons (sm_getP B.1 fl_PointerAnalyzerModel_22_4_21 dX4_placeOf_6) ?_
  refine jlk_cons (sm_iload_n rfl B.1 dX4_placeOf_9) ?_
  refine jlk_cons (sm_iald B.1 dX4_placeOf_10) ?_
  refine jlk_cons (sm_icmplt rfl B.1 dX4_placeOf_11) ?_
  refine jlk_cons (sm_iload_n rfl B.1 dX4_placeOf_14) ?_
  refine jlk_cons (sm_aload_n rfl B.1 dX4_placeOf_15) ?_
  refine jlk_cons (sm_getP B.1 fl_PointerAnalyzerModel_22_4_21 dX4_placeOf_16) ?_
  refine jlk_cons (sm_iload_n rfl B.1 dX4_placeOf_19) ?_
  refine jlk_cons (sm_iald B.1 dX4_placeOf_20) ?_
  refine jlk_cons (sm_isub B.1 dX4_placeOf_21) ?_
  refine jlk_cons (sm_istore_n rfl B.1 dX4_placeOf_22) ?_
  refine jlk_cons (sm_iinc rfl B.1 dX4_placeOf_23) ?_
  refine jlk_cons (sm_goto rfl B.1 dX4_placeOf_26) ?_
  refine jlk_cons (sm_bipush rfl B.1 dX4_placeOf_29) ?_
  refine jlk_cons (sm_iload_n rfl B.1 dX4_placeOf_31) ?_
  refine jlk_cons (sm_imul B.1 dX4_placeOf_32) ?_
  refine jlk_cons (sm_iload_n rfl B.1 dX4_placeOf_33) ?_
  refine jlk_cons (sm_iadd B.1 dX4_placeOf_34) ?_
  refine jlk_cons (sm_iret B.1 B.2.1 hret dX4_placeOf_35) ?_
  exact jlk_nil
theorem v_X4_placeOf (hst : l.stackTraces = false) (hz : jEz (EV (d + 1))) (hI : jIH l D dA lo cs0 d) : jMe l D dA lo cs0 (EV (d + 1)) 96 yX4_placeOf (ws_ yX4_placeOf cX4_placeOf 4 (Option.some Jvm.ClassFile.FieldType.int)) (d + 1) := z_meth hz rfl hp_X4_placeOf (r_X4_placeOf hst hI)
theorem r_X4_sites (hst : l.stackTraces = false) (hI : jIH l D dA lo cs0 d) : jRows l D dA lo cs0 d 1 (tb_X4_sites (EV d)) yX4_sites cX4_sites (Option.some Jvm.ClassFile.FieldType.int) [] := by
  intro p e R s m args below meth c z0 w0 zF wF Q rF hF B hz hw hret hnm
  refine jlk_cons (sm_aload_n rfl B.1 dX4_sites_0) ?_
  refine jlk_cons (sm_iconst rfl B.1 dX4_sites_1) ?_
  refine jlk_cons (sm_iconst rfl B.1 dX4_sites_2) ?_
  refine jlk_cons (sm_cV (x := yX4_many) (host := "") (owner := "") isRI (i_X4_many hI) B q3090 q3092 qs74 w4_X4_many w6_X4_many (by decide) (by decide) (by decide) kc_4 hy_X4_many hl_X4_many dX4_sites_3 trivial) ?_
  refine jlk_cons (sm_iret B.1 B.2.1 hret dX4_sites_6) ?_
  exact jlk_nil
theorem v_X4_sites (hst : l.stackTraces = false) (hz : jEz (EV (d + 1))) (hI : jIH l D dA lo cs0 d) : jMe l D dA lo cs0 (EV (d + 1)) 98 yX4_sites (ws_ yX4_sites cX4_sites 1 (Option.some Jvm.ClassFile.FieldType.int)) (d + 1) := z_meth hz rfl hp_X4_sites (r_X4_sites hst hI)
theorem r_X4_refreshes (hst : l.stackTraces = false) (hI : jIH l D dA lo cs0 d) : jRows l D dA lo cs0 d 4 (tb_X4_refreshes (EV d)) yX4_refreshes cX4_refreshes (Option.none : Option Jvm.ClassFile.FieldType) [] := by
  intro p e R s m args below meth c z0 w0 zF wF Q rF hF B hz hw hret hnm
  refine jlk_app ?_ ?_
  · refine jlk_cons (sm_aload_n rfl B.1 dX4_refreshes_0) ?_
    refine jlk_cons (sm_getI B.1 fl_PointerAnalyzerModel_155_4_35 dX4_refreshes_1) ?_
    refine jlk_cons (sm_ifeq rfl B.1 dX4_refreshes_4) ?_
    refine jlk_cons (sm_vret B.1 B.2.1 hret dX4_refreshes_7) ?_
    refine jlk_cons (sm_aload_n rfl B.1 dX4_refreshes_8) ?_
    refine jlk_cons (sm_cV (x := yX4_findRanks) (host := "") (owner := "") isRV (i_X4_findRanks hI) B q3150 q3152 qs82 w4_X4_findRanks w6_X4_findRanks (by decide) (by decide) (by decide) kc_4 hy_X4_findRanks hl_X4_findRanks dX4_refreshes_9 trivial) ?_
    refine jlk_cons (sm_aload_n rfl B.1 dX4_refreshes_12) ?_
    refine jlk_cons (sm_aload_n rfl B.1 dX4_refreshes_13) ?_
    refine jlk_cons (sm_getI B.1 fl_PointerAnalyzerModel_171_4_22 dX4_refreshes_14) ?_
    refine jlk_cons (sm_cV (x := yX4_findContexts) (host := "") (owner := "") isRV (i_X4_findContexts hI) B q3154 q3156 qs83 w4_X4_findContexts w6_X4_findContexts (by decide) (by decide) (by decide) kc_4 hy_X4_findContexts hl_X4_findContexts dX4_refreshes_17 trivial) ?_
    refine jlk_cons (sm_aload_n rfl B.1 dX4_refreshes_20) ?_
    refine jlk_cons (sm_cV (x := yX4_clears) (host := "") (owner := "") isRV (i_X4_clears hI) B q3173 q3175 qs87 w4_X4_clears w6_X4_clears (by decide) (by decide) (by decide) kc_4 hy_X4_clears hl_X4_clears dX4_refreshes_21 trivial) ?_
    refine jlk_cons (sm_aload_n rfl B.1 dX4_refreshes_24) ?_
    refine jlk_cons (sm_iconst rfl B.1 dX4_refreshes_25) ?_
    refine jlk_cons (sm_putZ B.1 fl_PointerAnalyzerModel_191_4_36 tyX4 tyX4_ok nmX4 (Or.inl rfl) (tyX4_ok 20 (by decide)) rfl (by decide) dX4_refreshes_26) ?_
    refine jlk_cons (sm_aload_n rfl B.1 dX4_refreshes_29) ?_
    refine jlk_cons (sm_getI B.1 fl_PointerAnalyzerModel_191_4_36 dX4_refreshes_30) ?_
    refine jlk_cons (sm_ifeq rfl B.1 dX4_refreshes_33) ?_
    refine jlk_cons (sm_aload_n rfl B.1 dX4_refreshes_36) ?_
    refine jlk_cons (sm_iconst rfl B.1 dX4_refreshes_37) ?_
    refine jlk_cons (sm_putZ B.1 fl_PointerAnalyzerModel_191_4_36 tyX4 tyX4_ok nmX4 (Or.inl rfl) (tyX4_ok 20 (by decide)) rfl (by decide) dX4_refreshes_38) ?_
    refine jlk_cons (sm_iconst rfl B.1 dX4_refreshes_41) ?_
    refine jlk_cons (sm_istore_n rfl B.1 dX4_refreshes_42) ?_
    refine jlk_cons (sm_iload_n rfl B.1 dX4_refreshes_43) ?_
    refine jlk_cons (sm_aload_n rfl B.1 dX4_refreshes_44) ?_
    refine jlk_cons (sm_getI B.1 fl_PointerAnalyzerModel_174_4_32 dX4_refreshes_45) ?_
    refine jlk_cons (sm_icmpge rfl B.1 dX4_refreshes_48) ?_
    refine jlk_cons (sm_aload_n rfl B.1 dX4_refreshes_51) ?_
    refine jlk_cons (sm_getP B.1 fl_PointerAnalyzerModel_32_4_30 dX4_refreshes_52) ?_
    refine jlk_cons (sm_iload_n rfl B.1 dX4_refreshes_55) ?_
    refine jlk_cons (sm_iald B.1 dX4_refreshes_56) ?_
    refine jlk_cons (sm_istore_n rfl B.1 dX4_refreshes_57) ?_
    refine jlk_cons (sm_iconst rfl B.1 dX4_refreshes_58) ?_
    refine jlk_cons (sm_istore_n rfl B.1 dX4_refreshes_59) ?_
    refine jlk_cons (sm_iload_n rfl B.1 dX4_refreshes_60) ?_
    refine jlk_cons (sm_aload_n rfl B.1 dX4_refreshes_61) ?_
    refine jlk_cons (sm_getP B.1 fl_PointerAnalyzerModel_22_4_21 dX4_refreshes_62) ?_
    refine jlk_cons (sm_iload_n rfl B.1 dX4_refreshes_65) ?_
    refine jlk_cons (sm_iald B.1 dX4_refreshes_66) ?_
    refine jlk_cons (sm_icmpge rfl B.1 dX4_refreshes_67) ?_
    exact jlk_nil
  · skip
    refine jlk_cons (sm_aload_n rfl B.1 dX4_refreshes_70) ?_
    refine jlk_cons (sm_aload_n rfl B.1 dX4_refreshes_71) ?_
    refine jlk_cons (sm_getP B.1 fl_PointerAnalyzerModel_38_4_33 dX4_refreshes_72) ?_
    refine jlk_cons (sm_bipush rfl B.1 dX4_refreshes_75) ?_
    refine jlk_cons (sm_iload_n rfl B.1 dX4_refreshes_77) ?_
    refine jlk_cons (sm_imul B.1 dX4_refreshes_78) ?_
    refine jlk_cons (sm_iload_n rfl B.1 dX4_refreshes_79) ?_
    refine jlk_cons (sm_iadd B.1 dX4_refreshes_80) ?_
    refine jlk_cons (sm_iload_n rfl B.1 dX4_refreshes_81) ?_
    refine jlk_cons (sm_aload_n rfl B.1 dX4_refreshes_82) ?_
    refine jlk_cons (sm_getI B.1 fl_PointerAnalyzerModel_171_4_22 dX4_refreshes_83) ?_
    refine jlk_cons (sm_cV (x := yX4_follows) (host := "") (owner := "") isRV (i_X4_follows hI) B q3177 q3179 qs88 w4_X4_follows w6_X4_follows (by decide) (by decide) (by decide) kc_4 hy_X4_follows hl_X4_follows dX4_refreshes_86 trivial) ?_
    refine jlk_cons (sm_iinc rfl B.1 dX4_refreshes_89) ?_
    refine jlk_cons (sm_goto rfl B.1 dX4_refreshes_92) ?_
    refine jlk_cons (sm_iinc rfl B.1 dX4_refreshes_95) ?_
    refine jlk_cons (sm_goto rfl B.1 dX4_refreshes_98) ?_
    refine jlk_cons (sm_goto rfl B.1 dX4_refreshes_101) ?_
    refine jlk_cons (sm_aload_n rfl B.1 dX4_refreshes_104) ?_
    refine jlk_cons (sm_cV (x := yX4_findUnification) (host := "") (owner := "") isRV (i_X4_findUnification hI) B q3208 q3210 qs94 w4_X4_findUnification w6_X4_findUnification (by decide) (by decide) (by decide) kc_4 hy_X4_findUnification hl_X4_findUnification dX4_refreshes_105 trivial) ?_
    refine jlk_cons (sm_aload_n rfl B.1 dX4_refreshes_108) ?_
    refine jlk_cons (sm_iconst rfl B.1 dX4_refreshes_109) ?_
    refine jlk_cons (sm_putZ B.1 fl_PointerAnalyzerModel_155_4_35 tyX4 tyX4_ok nmX4 (Or.inl rfl) (tyX4_ok 19 (by decide)) rfl (by decide) dX4_refreshes_110) ?_
    refine jlk_cons (sm_vret B.1 B.2.1 hret dX4_refreshes_113) ?_
    exact jlk_nil
theorem v_X4_refreshes (hst : l.stackTraces = false) (hz : jEz (EV (d + 1))) (hI : jIH l D dA lo cs0 d) : jMe l D dA lo cs0 (EV (d + 1)) 101 yX4_refreshes (ws_ yX4_refreshes cX4_refreshes 4 (Option.none : Option Jvm.ClassFile.FieldType)) (d + 1) := z_meth hz rfl hp_X4_refreshes (r_X4_refreshes hst hI)
theorem r_X4_contextsOf (hst : l.stackTraces = false) (hI : jIH l D dA lo cs0 d) : jRows l D dA lo cs0 d 4 (tb_X4_contextsOf (EV d)) yX4_contextsOf cX4_contextsOf (Option.some Jvm.ClassFile.FieldType.int) [] := by
  intro p e R s m args below meth c z0 w0 zF wF Q rF hF B hz hw hret hnm
  refine jlk_cons (sm_iconst rfl B.1 dX4_contextsOf_0) ?_
  refine jlk_cons (sm_istore_n rfl B.1 dX4_contextsOf_1) ?_
  refine jlk_cons (sm_iconst rfl B.1 dX4_contextsOf_2) ?_
  refine jlk_cons (sm_istore_n rfl B.1 dX4_contextsOf_3) ?_
  refine jlk_cons (sm_iload_n rfl B.1 dX4_contextsOf_4) ?_
  refine jlk_cons (sm_aload_n rfl B.1 dX4_contextsOf_5) ?_
  refine jlk_cons (sm_getI B.1 fl_PointerAnalyzerModel_174_4_32 dX4_contextsOf_6) ?_
  refine jlk_cons (sm_icmpge rfl B.1 dX4_contextsOf_9) ?_
  refine jlk_cons (sm_iload_n rfl B.1 dX4_contextsOf_12) ?_
  refine jlk_cons (sm_aload_n rfl B.1 dX4_contextsOf_13) ?_
  refine jlk_cons (sm_getP B.1 fl_PointerAnalyzerModel_32_4_30 dX4_contextsOf_14) ?_
  refine jlk_cons (sm_iload_n rfl B.1 dX4_contextsOf_17) ?_
  refine jlk_cons (sm_iald B.1 dX4_contextsOf_18) ?_
  refine jlk_cons (sm_iload_n rfl B.1 dX4_contextsOf_19) ?_
  refine jlk_cons (sm_icmpne rfl B.1 dX4_contextsOf_20) ?_
  refine jlk_cons (sm_iconst rfl B.1 dX4_contextsOf_23) ?_
  refine jlk_cons (sm_goto rfl B.1 dX4_contextsOf_24) ?_
  refine jlk_cons (sm_iconst rfl B.1 dX4_contextsOf_27) ?_
  refine jlk_cons (sm_iadd B.1 dX4_contextsOf_28) ?_
  refine jlk_cons (sm_istore_n rfl B.1 dX4_contextsOf_29) ?_
  refine jlk_cons (sm_iinc rfl B.1 dX4_contextsOf_30) ?_
  refine jlk_cons (sm_goto rfl B.1 dX4_contextsOf_33) ?_
  refine jlk_cons (sm_iload_n rfl B.1 dX4_contextsOf_36) ?_
  refine jlk_cons (sm_iret B.1 B.2.1 hret dX4_contextsOf_37) ?_
  exact jlk_nil
theorem v_X4_contextsOf (hst : l.stackTraces = false) (hz : jEz (EV (d + 1))) (hI : jIH l D dA lo cs0 d) : jMe l D dA lo cs0 (EV (d + 1)) 102 yX4_contextsOf (ws_ yX4_contextsOf cX4_contextsOf 4 (Option.some Jvm.ClassFile.FieldType.int)) (d + 1) := z_meth hz rfl hp_X4_contextsOf (r_X4_contextsOf hst hI)
theorem r_X4_codeOf (hst : l.stackTraces = false) (hI : jIH l D dA lo cs0 d) : jRows l D dA lo cs0 d 3 (tb_X4_codeOf (EV d)) yX4_codeOf cX4_codeOf (Option.some Jvm.ClassFile.FieldType.int) [] := by
  intro p e R s m args below meth c z0 w0 zF wF Q rF hF B hz hw hret hnm
  refine jlk_cons (sm_iload_n rfl B.1 dX4_codeOf_0) ?_
  refine jlk_cons (sm_cS (x := yX4_isFunction) (r9 := kr_6) (host := "") (owner := "") isSI (i_X4_isFunction hI) B q3051 q3052 w4_X4_isFunction w6_X4_isFunction (by decide) hy_X4_isFunction hl_X4_isFunction dX4_codeOf_1 trivial) ?_
  refine jlk_cons (sm_ifne rfl B.1 dX4_codeOf_4) ?_
  refine jlk_cons (sm_iconst rfl B.1 dX4_codeOf_7) ?_
  refine jlk_cons (sm_iret B.1 B.2.1 hret dX4_codeOf_8) ?_
  refine jlk_cons (sm_aload_n rfl B.1 dX4_codeOf_9) ?_
  refine jlk_cons (sm_cV (x := yX4_refreshes) (host := "") (owner := "") isRV (i_X4_refreshes hI) B q3146 q3148 qs81 w4_X4_refreshes w6_X4_refreshes (by decide) (by decide) (by decide) kc_4 hy_X4_refreshes hl_X4_refreshes dX4_codeOf_10 trivial) ?_
  refine jlk_cons (sm_iload_n rfl B.1 dX4_codeOf_13) ?_
  refine jlk_cons (sm_iconst rfl B.1 dX4_codeOf_14) ?_
  refine jlk_cons (sm_aload_n rfl B.1 dX4_codeOf_15) ?_
  refine jlk_cons (sm_iload_n rfl B.1 dX4_codeOf_16) ?_
  refine jlk_cons (sm_cV (x := yX4_contextsOf) (host := "") (owner := "") isRI (i_X4_contextsOf hI) B q3232 q3234 qs100 w4_X4_contextsOf w6_X4_contextsOf (by decide) (by decide) (by decide) kc_4 hy_X4_contextsOf hl_X4_contextsOf dX4_codeOf_17 trivial) ?_
  refine jlk_cons (sm_iconst rfl B.1 dX4_codeOf_20) ?_
  refine jlk_cons (sm_isub B.1 dX4_codeOf_21) ?_
  refine jlk_cons (sm_cS (x := yX4_isBetween) (r9 := kr_6) (host := "") (owner := "") isSI (i_X4_isBetween hI) B q3040 q3041 w4_X4_isBetween w6_X4_isBetween (by decide) hy_X4_isBetween hl_X4_isBetween dX4_codeOf_22 trivial) ?_
  refine jlk_cons (sm_ifeq rfl B.1 dX4_codeOf_25) ?_
  refine jlk_cons (sm_aload_n rfl B.1 dX4_codeOf_28) ?_
  refine jlk_cons (sm_getP B.1 fl_PointerAnalyzerModel_35_4_31 dX4_codeOf_29) ?_
  refine jlk_cons (sm_aload_n rfl B.1 dX4_codeOf_32) ?_
  refine jlk_cons (sm_iload_n rfl B.1 dX4_codeOf_33) ?_
  refine jlk_cons (sm_cV (x := yX4_firstOf) (host := "") (owner := "") isRI (i_X4_firstOf hI) B q3244 q3246 qs102 w4_X4_firstOf w6_X4_firstOf (by decide) (by decide) (by decide) kc_4 hy_X4_firstOf hl_X4_firstOf dX4_codeOf_34 trivial) ?_
  refine jlk_cons (sm_iload_n rfl B.1 dX4_codeOf_37) ?_
  refine jlk_cons (sm_iadd B.1 dX4_codeOf_38) ?_
  refine jlk_cons (sm_iald B.1 dX4_codeOf_39) ?_
  refine jlk_cons (sm_goto rfl B.1 dX4_codeOf_40) ?_
  refine jlk_cons (sm_iconst rfl B.1 dX4_codeOf_43) ?_
  refine jlk_cons (sm_iret B.1 B.2.1 hret dX4_codeOf_44) ?_
  exact jlk_nil
theorem v_X4_codeOf (hst : l.stackTraces = false) (hz : jEz (EV (d + 1))) (hI : jIH l D dA lo cs0 d) : jMe l D dA lo cs0 (EV (d + 1)) 104 yX4_codeOf (ws_ yX4_codeOf cX4_codeOf 3 (Option.some Jvm.ClassFile.FieldType.int)) (d + 1) := z_meth hz rfl hp_X4_codeOf (r_X4_codeOf hst hI)
theorem r_X4_isVariable (hst : l.stackTraces = false) (hI : jIH l D dA lo cs0 d) : jRows l D dA lo cs0 d 1 (tb_X4_isVariable (EV d)) yX4_isVariable cX4_isVariable (Option.some Jvm.ClassFile.FieldType.boolean) [] := by
  intro p e R s m args below meth c z0 w0 zF wF Q rF hF B hz hw hret hnm
  refine jlk_cons (sm_iload_n rfl B.1 dX4_isVariable_0) ?_
  refine jlk_cons (sm_iflt rfl B.1 dX4_isVariable_1) ?_
  refine jlk_cons (sm_iload_n rfl B.1 dX4_isVariable_4) ?_
  refine jlk_cons (sm_bipush rfl B.1 dX4_isVariable_5) ?_
  refine jlk_cons (sm_icmpge rfl B.1 dX4_isVariable_7) ?_
  refine jlk_cons (sm_iconst rfl B.1 dX4_isVariable_10) ?_
  refine jlk_cons (sm_goto rfl B.1 dX4_isVariable_11) ?_
  refine jlk_cons (sm_iconst rfl B.1 dX4_isVariable_14) ?_
  refine jlk_cons (sm_zret B.1 B.2.1 hret dX4_isVariable_15) ?_
  exact jlk_nil
theorem v_X4_isVariable (hst : l.stackTraces = false) (hz : jEz (EV (d + 1))) (hI : jIH l D dA lo cs0 d) : jMe l D dA lo cs0 (EV (d + 1)) 107 yX4_isVariable (ws_ yX4_isVariable cX4_isVariable 1 (Option.some Jvm.ClassFile.FieldType.boolean)) (d + 1) := z_meth hz rfl hp_X4_isVariable (r_X4_isVariable hst hI)
theorem r_X4_targetsBy (hst : l.stackTraces = false) (hI : jIH l D dA lo cs0 d) : jRows l D dA lo cs0 d 5 (tb_X4_targetsBy (EV d)) yX4_targetsBy cX4_targetsBy (Option.some Jvm.ClassFile.FieldType.long) [] := by
  intro p e R s m args below meth c z0 w0 zF wF Q rF hF B hz hw hret hnm
  refine jlk_app ?_ ?_
  · refine jlk_cons (sm_aload_n rfl B.1 dX4_targetsBy_0) ?_
    refine jlk_cons (sm_cV (x := yX4_refreshes) (host := "") (owner := "") isRV (i_X4_refreshes hI) B q3146 q3148 qs81 w4_X4_refreshes w6_X4_refreshes (by decide) (by decide) (by decide) kc_4 hy_X4_refreshes hl_X4_refreshes dX4_targetsBy_1 trivial) ?_
    refine jlk_cons (sm_iload_n rfl B.1 dX4_targetsBy_4) ?_
    refine jlk_cons (sm_iconst rfl B.1 dX4_targetsBy_5) ?_
    refine jlk_cons (sm_icmpge rfl B.1 dX4_targetsBy_6) ?_
    refine jlk_cons (sm_aload_n rfl B.1 dX4_targetsBy_9) ?_
    refine jlk_cons (sm_iload_n rfl B.1 dX4_targetsBy_10) ?_
    refine jlk_cons (sm_cV (x := yX4_targetsOf) (host := "") (owner := "") isRL (i_X4_targetsOf hI) B q3263 q3265 qs104 w4_X4_targetsOf w6_X4_targetsOf (by decide) (by decide) (by decide) kc_4 hy_X4_targetsOf hl_X4_targetsOf dX4_targetsBy_11 trivial) ?_
    refine jlk_cons (sm_lret B.1 B.2.1 hret dX4_targetsBy_14) ?_
    refine jlk_cons (sm_iload_n rfl B.1 dX4_targetsBy_15) ?_
    refine jlk_cons (sm_bipush rfl B.1 dX4_targetsBy_16) ?_
    refine jlk_cons (sm_icmplt rfl B.1 dX4_targetsBy_18) ?_
    refine jlk_cons (sm_aload_n rfl B.1 dX4_targetsBy_21) ?_
    refine jlk_cons (sm_sipush rfl B.1 dX4_targetsBy_22) ?_
    refine jlk_cons (sm_iload_n rfl B.1 dX4_targetsBy_25) ?_
    refine jlk_cons (sm_iadd B.1 dX4_targetsBy_26) ?_
    refine jlk_cons (sm_bipush rfl B.1 dX4_targetsBy_27) ?_
    refine jlk_cons (sm_isub B.1 dX4_targetsBy_29) ?_
    refine jlk_cons (sm_cV (x := yX4_targetsOf) (host := "") (owner := "") isRL (i_X4_targetsOf hI) B q3263 q3265 qs104 w4_X4_targetsOf w6_X4_targetsOf (by decide) (by decide) (by decide) kc_4 hy_X4_targetsOf hl_X4_targetsOf dX4_targetsBy_30 trivial) ?_
    refine jlk_cons (sm_lret B.1 B.2.1 hret dX4_targetsBy_33) ?_
    refine jlk_cons (sm_lconst rfl B.1 dX4_targetsBy_34) ?_
    refine jlk_cons (sm_lstore_n rfl B.1 dX4_targetsBy_35) ?_
    refine jlk_cons (sm_iconst rfl B.1 dX4_targetsBy_36) ?_
    refine jlk_cons (sm_istore B.1 dX4_targetsBy_37) ?_
    refine jlk_cons (sm_iload B.1 dX4_targetsBy_39) ?_
    refine jlk_cons (sm_aload_n rfl B.1 dX4_targetsBy_41) ?_
    refine jlk_cons (sm_getI B.1 fl_PointerAnalyzerModel_174_4_32 dX4_targetsBy_42) ?_
    refine jlk_cons (sm_icmpge rfl B.1 dX4_targetsBy_45) ?_
    refine jlk_cons (sm_lload_n rfl B.1 dX4_targetsBy_48) ?_
    refine jlk_cons (sm_aload_n rfl B.1 dX4_targetsBy_49) ?_
    refine jlk_cons (sm_getP B.1 fl_PointerAnalyzerModel_32_4_30 dX4_targetsBy_50) ?_
    refine jlk_cons (sm_iload B.1 dX4_targetsBy_53) ?_
    refine jlk_cons (sm_iald B.1 dX4_targetsBy_55) ?_
    refine jlk_cons (sm_iload_n rfl B.1 dX4_targetsBy_56) ?_
    refine jlk_cons (sm_iconst rfl B.1 dX4_targetsBy_57) ?_
    refine jlk_cons (sm_isub B.1 dX4_targetsBy_58) ?_
    refine jlk_cons (sm_iconst rfl B.1 dX4_targetsBy_59) ?_
    refine jlk_cons (sm_idiv B.1 dX4_targetsBy_60) ?_
    refine jlk_cons (sm_icmpne rfl B.1 dX4_targetsBy_61) ?_
    refine jlk_cons (sm_aload_n rfl B.1 dX4_targetsBy_64) ?_
    exact jlk_nil
  · skip
    refine jlk_cons (sm_iconst rfl B.1 dX4_targetsBy_65) ?_
    refine jlk_cons (sm_iconst rfl B.1 dX4_targetsBy_66) ?_
    refine jlk_cons (sm_iload B.1 dX4_targetsBy_67) ?_
    refine jlk_cons (sm_imul B.1 dX4_targetsBy_69) ?_
    refine jlk_cons (sm_iadd B.1 dX4_targetsBy_70) ?_
    refine jlk_cons (sm_iload_n rfl B.1 dX4_targetsBy_71) ?_
    refine jlk_cons (sm_iconst rfl B.1 dX4_targetsBy_72) ?_
    refine jlk_cons (sm_irem B.1 dX4_targetsBy_73) ?_
    refine jlk_cons (sm_iadd B.1 dX4_targetsBy_74) ?_
    refine jlk_cons (sm_cV (x := yX4_targetsOf) (host := "") (owner := "") isRL (i_X4_targetsOf hI) B q3263 q3265 qs104 w4_X4_targetsOf w6_X4_targetsOf (by decide) (by decide) (by decide) kc_4 hy_X4_targetsOf hl_X4_targetsOf dX4_targetsBy_75 trivial) ?_
    refine jlk_cons (sm_goto rfl B.1 dX4_targetsBy_78) ?_
    refine jlk_cons (sm_lconst rfl B.1 dX4_targetsBy_81) ?_
    refine jlk_cons (sm_lor B.1 dX4_targetsBy_82) ?_
    refine jlk_cons (sm_lstore_n rfl B.1 dX4_targetsBy_83) ?_
    refine jlk_cons (sm_iinc rfl B.1 dX4_targetsBy_84) ?_
    refine jlk_cons (sm_goto rfl B.1 dX4_targetsBy_87) ?_
    refine jlk_cons (sm_lload_n rfl B.1 dX4_targetsBy_90) ?_
    refine jlk_cons (sm_lret B.1 B.2.1 hret dX4_targetsBy_91) ?_
    exact jlk_nil
theorem v_X4_targetsBy (hst : l.stackTraces = false) (hz : jEz (EV (d + 1))) (hI : jIH l D dA lo cs0 d) : jMe l D dA lo cs0 (EV (d + 1)) 108 yX4_targetsBy (ws_ yX4_targetsBy cX4_targetsBy 5 (Option.some Jvm.ClassFile.FieldType.long)) (d + 1) := z_meth hz rfl hp_X4_targetsBy (r_X4_targetsBy hst hI)
theorem r_X4_firstOf (hst : l.stackTraces = false) (hI : jIH l D dA lo cs0 d) : jRows l D dA lo cs0 d 3 (tb_X4_firstOf (EV d)) yX4_firstOf cX4_firstOf (Option.some Jvm.ClassFile.FieldType.int) [] := by
  intro p e R s m args below meth c z0 w0 zF wF Q rF hF B hz hw hret hnm
  refine jlk_cons (sm_iconst rfl B.1 dX4_firstOf_0) ?_
  refine jlk_cons (sm_istore_n rfl B.1 dX4_firstOf_1) ?_
  refine jlk_cons (sm_iload_n rfl B.1 dX4_firstOf_2) ?_
  refine jlk_cons (sm_aload_n rfl B.1 dX4_firstOf_3) ?_
  refine jlk_cons (sm_getI B.1 fl_PointerAnalyzerModel_174_4_32 dX4_firstOf_4) ?_
  refine jlk_cons (sm_icmpge rfl B.1 dX4_firstOf_7) ?_
  refine jlk_cons (sm_aload_n rfl B.1 dX4_firstOf_10) ?_
  refine jlk_cons (sm_getP B.1 fl_PointerAnalyzerModel_32_4_30 dX4_firstOf_11) ?_
  refine jlk_cons (sm_iload_n rfl B.1 dX4_firstOf_14) ?_
  refine jlk_cons (sm_iald B.1 dX4_firstOf_15) ?_
  refine jlk_cons (sm_iload_n rfl B.1 dX4_firstOf_16) ?_
  refine jlk_cons (sm_icmpge rfl B.1 dX4_firstOf_17) ?_
  refine jlk_cons (sm_iinc rfl B.1 dX4_firstOf_20) ?_
  refine jlk_cons (sm_goto rfl B.1 dX4_firstOf_23) ?_
  refine jlk_cons (sm_iload_n rfl B.1 dX4_firstOf_26) ?_
  refine jlk_cons (sm_iret B.1 B.2.1 hret dX4_firstOf_27) ?_
  exact jlk_nil
theorem v_X4_firstOf (hst : l.stackTraces = false) (hz : jEz (EV (d + 1))) (hI : jIH l D dA lo cs0 d) : jMe l D dA lo cs0 (EV (d + 1)) 110 yX4_firstOf (ws_ yX4_firstOf cX4_firstOf 3 (Option.some Jvm.ClassFile.FieldType.int)) (d + 1) := z_meth hz rfl hp_X4_firstOf (r_X4_firstOf hst hI)
theorem r_X4_cellOf (hst : l.stackTraces = false) (hI : jIH l D dA lo cs0 d) : jRows l D dA lo cs0 d 2 (tb_X4_cellOf (EV d)) yX4_cellOf cX4_cellOf (Option.some Jvm.ClassFile.FieldType.int) [] := by
  intro p e R s m args below meth c z0 w0 zF wF Q rF hF B hz hw hret hnm
  refine jlk_cons (sm_iload_n rfl B.1 dX4_cellOf_0) ?_
  refine jlk_cons (sm_iconst rfl B.1 dX4_cellOf_1) ?_
  refine jlk_cons (sm_icmpge rfl B.1 dX4_cellOf_2) ?_
  refine jlk_cons (sm_iload_n rfl B.1 dX4_cellOf_5) ?_
  refine jlk_cons (sm_goto rfl B.1 dX4_cellOf_6) ?_
  refine jlk_cons (sm_iconst rfl B.1 dX4_cellOf_9) ?_
  refine jlk_cons (sm_iconst rfl B.1 dX4_cellOf_10) ?_
  refine jlk_cons (sm_iload_n rfl B.1 dX4_cellOf_11) ?_
  refine jlk_cons (sm_imul B.1 dX4_cellOf_12) ?_
  refine jlk_cons (sm_iadd B.1 dX4_cellOf_13) ?_
  refine jlk_cons (sm_iload_n rfl B.1 dX4_cellOf_14) ?_
  refine jlk_cons (sm_iconst rfl B.1 dX4_cellOf_15) ?_
  refine jlk_cons (sm_irem B.1 dX4_cellOf_16) ?_
  refine jlk_cons (sm_iadd B.1 dX4_cellOf_17) ?_
  refine jlk_cons (sm_iret B.1 B.2.1 hret dX4_cellOf_18) ?_
  exact jlk_nil
theorem v_X4_cellOf (hst : l.stackTraces = false) (hz : jEz (EV (d + 1))) (hI : jIH l D dA lo cs0 d) : jMe l D dA lo cs0 (EV (d + 1)) 111 yX4_cellOf (ws_ yX4_cellOf cX4_cellOf 2 (Option.some Jvm.ClassFile.FieldType.int)) (d + 1) := z_meth hz rfl hp_X4_cellOf (r_X4_cellOf hst hI)
theorem r_X4_targetsOf (hst : l.stackTraces = false) (hI : jIH l D dA lo cs0 d) : jRows l D dA lo cs0 d 5 (tb_X4_targetsOf (EV d)) yX4_targetsOf cX4_targetsOf (Option.some Jvm.ClassFile.FieldType.long) [] := by
  intro p e R s m args below meth c z0 w0 zF wF Q rF hF B hz hw hret hnm
  refine jlk_cons (sm_lconst rfl B.1 dX4_targetsOf_0) ?_
  refine jlk_cons (sm_lstore_n rfl B.1 dX4_targetsOf_1) ?_
  refine jlk_cons (sm_iconst rfl B.1 dX4_targetsOf_2) ?_
  refine jlk_cons (sm_istore B.1 dX4_targetsOf_3) ?_
  refine jlk_cons (sm_iload B.1 dX4_targetsOf_5) ?_
  refine jlk_cons (sm_sipush rfl B.1 dX4_targetsOf_7) ?_
  refine jlk_cons (sm_icmpge rfl B.1 dX4_targetsOf_10) ?_
  refine jlk_cons (sm_lload_n rfl B.1 dX4_targetsOf_13) ?_
  refine jlk_cons (sm_aload_n rfl B.1 dX4_targetsOf_14) ?_
  refine jlk_cons (sm_getP B.1 fl_PointerAnalyzerModel_38_4_33 dX4_targetsOf_15) ?_
  refine jlk_cons (sm_iload_n rfl B.1 dX4_targetsOf_18) ?_
  refine jlk_cons (sm_iload B.1 dX4_targetsOf_19) ?_
  refine jlk_cons (sm_cS (x := yX4_isIn) (r9 := kr_6) (host := "") (owner := "") isSI (i_X4_isIn hI) B q3188 q3189 w4_X4_isIn w6_X4_isIn (by decide) hy_X4_isIn hl_X4_isIn dX4_targetsOf_21 trivial) ?_
  refine jlk_cons (sm_ifeq rfl B.1 dX4_targetsOf_24) ?_
  refine jlk_cons (sm_lconst rfl B.1 dX4_targetsOf_27) ?_
  refine jlk_cons (sm_aload_n rfl B.1 dX4_targetsOf_28) ?_
  refine jlk_cons (sm_iload B.1 dX4_targetsOf_29) ?_
  refine jlk_cons (sm_cV (x := yX4_targetOf) (host := "") (owner := "") isRI (i_X4_targetOf hI) B q3204 q3206 qs93 w4_X4_targetOf w6_X4_targetOf (by decide) (by decide) (by decide) kc_4 hy_X4_targetOf hl_X4_targetOf dX4_targetsOf_31 trivial) ?_
  refine jlk_cons (sm_lshl B.1 dX4_targetsOf_34) ?_
  refine jlk_cons (sm_goto rfl B.1 dX4_targetsOf_35) ?_
  refine jlk_cons (sm_lconst rfl B.1 dX4_targetsOf_38) ?_
  refine jlk_cons (sm_lor B.1 dX4_targetsOf_39) ?_
  refine jlk_cons (sm_lstore_n rfl B.1 dX4_targetsOf_40) ?_
  refine jlk_cons (sm_iinc rfl B.1 dX4_targetsOf_41) ?_
  refine jlk_cons (sm_goto rfl B.1 dX4_targetsOf_44) ?_
  refine jlk_cons (sm_lload_n rfl B.1 dX4_targetsOf_47) ?_
  refine jlk_cons (sm_lret B.1 B.2.1 hret dX4_targetsOf_48) ?_
  exact jlk_nil
theorem v_X4_targetsOf (hst : l.stackTraces = false) (hz : jEz (EV (d + 1))) (hI : jIH l D dA lo cs0 d) : jMe l D dA lo cs0 (EV (d + 1)) 112 yX4_targetsOf (ws_ yX4_targetsOf cX4_targetsOf 5 (Option.some Jvm.ClassFile.FieldType.long)) (d + 1) := z_meth hz rfl hp_X4_targetsOf (r_X4_targetsOf hst hI)
theorem r_X4_isField (hst : l.stackTraces = false) (hI : jIH l D dA lo cs0 d) : jRows l D dA lo cs0 d 3 (tb_X4_isField (EV d)) yX4_isField cX4_isField (Option.some Jvm.ClassFile.FieldType.boolean) [] := by
  intro p e R s m args below meth c z0 w0 zF wF Q rF hF B hz hw hret hnm
  refine jlk_cons (sm_iload_n rfl B.1 dX4_isField_0) ?_
  refine jlk_cons (sm_iconst rfl B.1 dX4_isField_1) ?_
  refine jlk_cons (sm_aload_n rfl B.1 dX4_isField_2) ?_
  refine jlk_cons (sm_cV (x := yX4_sites) (host := "") (owner := "") isRI (i_X4_sites hI) B q3134 q3136 qs80 w4_X4_sites w6_X4_sites (by decide) (by decide) (by decide) kc_4 hy_X4_sites hl_X4_sites dX4_isField_3 trivial) ?_
  refine jlk_cons (sm_iconst rfl B.1 dX4_isField_6) ?_
  refine jlk_cons (sm_isub B.1 dX4_isField_7) ?_
  refine jlk_cons (sm_cS (x := yX4_isBetween) (r9 := kr_6) (host := "") (owner := "") isSI (i_X4_isBetween hI) B q3040 q3041 w4_X4_isBetween w6_X4_isBetween (by decide) hy_X4_isBetween hl_X4_isBetween dX4_isField_8 trivial) ?_
  refine jlk_cons (sm_ifeq rfl B.1 dX4_isField_11) ?_
  refine jlk_cons (sm_iload_n rfl B.1 dX4_isField_14) ?_
  refine jlk_cons (sm_iconst rfl B.1 dX4_isField_15) ?_
  refine jlk_cons (sm_iconst rfl B.1 dX4_isField_16) ?_
  refine jlk_cons (sm_cS (x := yX4_isBetween) (r9 := kr_6) (host := "") (owner := "") isSI (i_X4_isBetween hI) B q3040 q3041 w4_X4_isBetween w6_X4_isBetween (by decide) hy_X4_isBetween hl_X4_isBetween dX4_isField_17 trivial) ?_
  refine jlk_cons (sm_ifeq rfl B.1 dX4_isField_20) ?_
  refine jlk_cons (sm_iconst rfl B.1 dX4_isField_23) ?_
  refine jlk_cons (sm_goto rfl B.1 dX4_isField_24) ?_
  refine jlk_cons (sm_iconst rfl B.1 dX4_isField_27) ?_
  refine jlk_cons (sm_zret B.1 B.2.1 hret dX4_isField_28) ?_
  exact jlk_nil
theorem v_X4_isField (hst : l.stackTraces = false) (hz : jEz (EV (d + 1))) (hI : jIH l D dA lo cs0 d) : jMe l D dA lo cs0 (EV (d + 1)) 114 yX4_isField (ws_ yX4_isField cX4_isField 3 (Option.some Jvm.ClassFile.FieldType.boolean)) (d + 1) := z_meth hz rfl hp_X4_isField (r_X4_isField hst hI)
theorem r_X4_bits (hst : l.stackTraces = false) (hI : jIH l D dA lo cs0 d) : jRows l D dA lo cs0 d 4 (tb_X4_bits (EV d)) yX4_bits cX4_bits (Option.some Jvm.ClassFile.FieldType.int) [] := by
  intro p e R s m args below meth c z0 w0 zF wF Q rF hF B hz hw hret hnm
  refine jlk_cons (sm_iconst rfl B.1 dX4_bits_0) ?_
  refine jlk_cons (sm_istore_n rfl B.1 dX4_bits_1) ?_
  refine jlk_cons (sm_iconst rfl B.1 dX4_bits_2) ?_
  refine jlk_cons (sm_istore_n rfl B.1 dX4_bits_3) ?_
  refine jlk_cons (sm_iload_n rfl B.1 dX4_bits_4) ?_
  refine jlk_cons (sm_bipush rfl B.1 dX4_bits_5) ?_
  refine jlk_cons (sm_icmpge rfl B.1 dX4_bits_7) ?_
  refine jlk_cons (sm_iload_n rfl B.1 dX4_bits_10) ?_
  refine jlk_cons (sm_lload_n rfl B.1 dX4_bits_11) ?_
  refine jlk_cons (sm_iload_n rfl B.1 dX4_bits_12) ?_
  refine jlk_cons (sm_lshr B.1 dX4_bits_13) ?_
  refine jlk_cons (sm_lconst rfl B.1 dX4_bits_14) ?_
  refine jlk_cons (sm_land B.1 dX4_bits_15) ?_
  refine jlk_cons (sm_l2i B.1 dX4_bits_16) ?_
  refine jlk_cons (sm_iadd B.1 dX4_bits_17) ?_
  refine jlk_cons (sm_istore_n rfl B.1 dX4_bits_18) ?_
  refine jlk_cons (sm_iinc rfl B.1 dX4_bits_19) ?_
  refine jlk_cons (sm_goto rfl B.1 dX4_bits_22) ?_
  refine jlk_cons (sm_iload_n rfl B.1 dX4_bits_25) ?_
  refine jlk_cons (sm_iret B.1 B.2.1 hret dX4_bits_26) ?_
  exact jlk_nil
theorem v_X4_bits (hst : l.stackTraces = false) (hz : jEz (EV (d + 1))) (hI : jIH l D dA lo cs0 d) : jMe l D dA lo cs0 (EV (d + 1)) 117 yX4_bits (ws_ yX4_bits cX4_bits 4 (Option.some Jvm.ClassFile.FieldType.int)) (d + 1) := z_meth hz rfl hp_X4_bits (r_X4_bits hst hI)
theorem r_X4_refuses (hst : l.stackTraces = false) (hI : jIH l D dA lo cs0 d) : jRows l D dA lo cs0 d 2 (tb_X4_refuses (EV d)) yX4_refuses cX4_refuses (Option.some Jvm.ClassFile.FieldType.boolean) [] := by
  intro p e R s m args below meth c z0 w0 zF wF Q rF hF B hz hw hret hnm
  refine jlk_cons (sm_aload_n rfl B.1 dX4_refuses_0) ?_
  refine jlk_cons (sm_iload_n rfl B.1 dX4_refuses_1) ?_
  refine jlk_cons (sm_putI B.1 fl_PointerAnalyzerModel_84_4_16 tyX4 tyX4_ok nmX4 (Or.inl rfl) (tyX4_ok 0 (by decide)) rfl (by decide) dX4_refuses_2) ?_
  refine jlk_cons (sm_iconst rfl B.1 dX4_refuses_5) ?_
  refine jlk_cons (sm_zret B.1 B.2.1 hret dX4_refuses_6) ?_
  exact jlk_nil
theorem v_X4_refuses (hst : l.stackTraces = false) (hz : jEz (EV (d + 1))) (hI : jIH l D dA lo cs0 d) : jMe l D dA lo cs0 (EV (d + 1)) 119 yX4_refuses (ws_ yX4_refuses cX4_refuses 2 (Option.some Jvm.ClassFile.FieldType.boolean)) (d + 1) := z_meth hz rfl hp_X4_refuses (r_X4_refuses hst hI)
theorem r_X4_reached (hst : l.stackTraces = false) (hI : jIH l D dA lo cs0 d) : jRows l D dA lo cs0 d 7 (tb_X4_reached (EV d)) yX4_reached cX4_reached (Option.some Jvm.ClassFile.FieldType.long) [] := by
  intro p e R s m args below meth c z0 w0 zF wF Q rF hF B hz hw hret hnm
  refine jlk_cons (sm_aload_n rfl B.1 dX4_reached_0) ?_
  refine jlk_cons (sm_iload_n rfl B.1 dX4_reached_1) ?_
  refine jlk_cons (sm_cV (x := yX4_targetsBy) (host := "") (owner := "") isRL (i_X4_targetsBy hI) B q3259 q3261 qs103 w4_X4_targetsBy w6_X4_targetsBy (by decide) (by decide) (by decide) kc_4 hy_X4_targetsBy hl_X4_targetsBy dX4_reached_2 trivial) ?_
  refine jlk_cons (sm_lstore_n rfl B.1 dX4_reached_5) ?_
  refine jlk_cons (sm_lconst rfl B.1 dX4_reached_6) ?_
  refine jlk_cons (sm_lstore B.1 dX4_reached_7) ?_
  refine jlk_cons (sm_lload B.1 dX4_reached_9) ?_
  refine jlk_cons (sm_lload_n rfl B.1 dX4_reached_11) ?_
  refine jlk_cons (sm_lcmp B.1 dX4_reached_12) ?_
  refine jlk_cons (sm_ifeq rfl B.1 dX4_reached_13) ?_
  refine jlk_cons (sm_lload_n rfl B.1 dX4_reached_16) ?_
  refine jlk_cons (sm_lstore B.1 dX4_reached_17) ?_
  refine jlk_cons (sm_iconst rfl B.1 dX4_reached_19) ?_
  refine jlk_cons (sm_istore B.1 dX4_reached_20) ?_
  refine jlk_cons (sm_iload B.1 dX4_reached_22) ?_
  refine jlk_cons (sm_bipush rfl B.1 dX4_reached_24) ?_
  refine jlk_cons (sm_icmpge rfl B.1 dX4_reached_26) ?_
  refine jlk_cons (sm_lload_n rfl B.1 dX4_reached_29) ?_
  refine jlk_cons (sm_lload B.1 dX4_reached_30) ?_
  refine jlk_cons (sm_iload B.1 dX4_reached_32) ?_
  refine jlk_cons (sm_lshr B.1 dX4_reached_34) ?_
  refine jlk_cons (sm_lconst rfl B.1 dX4_reached_35) ?_
  refine jlk_cons (sm_land B.1 dX4_reached_36) ?_
  refine jlk_cons (sm_lconst rfl B.1 dX4_reached_37) ?_
  refine jlk_cons (sm_lcmp B.1 dX4_reached_38) ?_
  refine jlk_cons (sm_ifne rfl B.1 dX4_reached_39) ?_
  refine jlk_cons (sm_aload_n rfl B.1 dX4_reached_42) ?_
  refine jlk_cons (sm_iload B.1 dX4_reached_43) ?_
  refine jlk_cons (sm_cV (x := yX4_targetsBy) (host := "") (owner := "") isRL (i_X4_targetsBy hI) B q3259 q3261 qs103 w4_X4_targetsBy w6_X4_targetsBy (by decide) (by decide) (by decide) kc_4 hy_X4_targetsBy hl_X4_targetsBy dX4_reached_45 trivial) ?_
  refine jlk_cons (sm_goto rfl B.1 dX4_reached_48) ?_
  refine jlk_cons (sm_lconst rfl B.1 dX4_reached_51) ?_
  refine jlk_cons (sm_lor B.1 dX4_reached_52) ?_
  refine jlk_cons (sm_lstore_n rfl B.1 dX4_reached_53) ?_
  refine jlk_cons (sm_iinc rfl B.1 dX4_reached_54) ?_
  refine jlk_cons (sm_goto rfl B.1 dX4_reached_57) ?_
  refine jlk_cons (sm_goto rfl B.1 dX4_reached_60) ?_
  refine jlk_cons (sm_lload_n rfl B.1 dX4_reached_63) ?_
  refine jlk_cons (sm_lret B.1 B.2.1 hret dX4_reached_64) ?_
  exact jlk_nil
theorem v_X4_reached (hst : l.stackTraces = false) (hz : jEz (EV (d + 1))) (hI : jIH l D dA lo cs0 d) : jMe l D dA lo cs0 (EV (d + 1)) 121 yX4_reached (ws_ yX4_reached cX4_reached 7 (Option.some Jvm.ClassFile.FieldType.long)) (d + 1) := z_meth hz rfl hp_X4_reached (r_X4_reached hst hI)
theorem r_X4_factAt (hst : l.stackTraces = false) (hI : jIH l D dA lo cs0 d) : jRows l D dA lo cs0 d 3 (tb_X4_factAt (EV d)) yX4_factAt cX4_factAt (Option.some Jvm.ClassFile.FieldType.int) [] := by
  intro p e R s m args below meth c z0 w0 zF wF Q rF hF B hz hw hret hnm
  refine jlk_cons (sm_aload_n rfl B.1 dX4_factAt_0) ?_
  refine jlk_cons (sm_iload_n rfl B.1 dX4_factAt_1) ?_
  refine jlk_cons (sm_cS (x := yX4_isVariable) (r9 := kr_6) (host := "") (owner := "") isSI (i_X4_isVariable hI) B q3256 q3257 w4_X4_isVariable w6_X4_isVariable (by decide) hy_X4_isVariable hl_X4_isVariable dX4_factAt_2 trivial) ?_
  refine jlk_cons (sm_ifeq rfl B.1 dX4_factAt_5) ?_
  refine jlk_cons (sm_aload_n rfl B.1 dX4_factAt_8) ?_
  refine jlk_cons (sm_iload_n rfl B.1 dX4_factAt_9) ?_
  refine jlk_cons (sm_cV (x := yX4_isTarget) (host := "") (owner := "") isRI (i_X4_isTarget hI) B q3315 q3317 qs109 w4_X4_isTarget w6_X4_isTarget (by decide) (by decide) (by decide) kc_4 hy_X4_isTarget hl_X4_isTarget dX4_factAt_10 trivial) ?_
  refine jlk_cons (sm_ifne rfl B.1 dX4_factAt_13) ?_
  refine jlk_cons (sm_iconst rfl B.1 dX4_factAt_16) ?_
  refine jlk_cons (sm_goto rfl B.1 dX4_factAt_17) ?_
  refine jlk_cons (sm_iconst rfl B.1 dX4_factAt_20) ?_
  refine jlk_cons (sm_putI B.1 fl_PointerAnalyzerModel_84_4_16 tyX4 tyX4_ok nmX4 (Or.inl rfl) (tyX4_ok 0 (by decide)) rfl (by decide) dX4_factAt_21) ?_
  refine jlk_cons (sm_aload_n rfl B.1 dX4_factAt_24) ?_
  refine jlk_cons (sm_getI B.1 fl_PointerAnalyzerModel_84_4_16 dX4_factAt_25) ?_
  refine jlk_cons (sm_ifle rfl B.1 dX4_factAt_28) ?_
  refine jlk_cons (sm_iconst rfl B.1 dX4_factAt_31) ?_
  refine jlk_cons (sm_iret B.1 B.2.1 hret dX4_factAt_32) ?_
  refine jlk_cons (sm_aload_n rfl B.1 dX4_factAt_33) ?_
  refine jlk_cons (sm_cV (x := yX4_refreshes) (host := "") (owner := "") isRV (i_X4_refreshes hI) B q3146 q3148 qs81 w4_X4_refreshes w6_X4_refreshes (by decide) (by decide) (by decide) kc_4 hy_X4_refreshes hl_X4_refreshes dX4_factAt_34 trivial) ?_
  refine jlk_cons (sm_aload_n rfl B.1 dX4_factAt_37) ?_
  refine jlk_cons (sm_aload_n rfl B.1 dX4_factAt_38) ?_
  refine jlk_cons (sm_getP B.1 fl_PointerAnalyzerModel_45_4_37 dX4_factAt_39) ?_
  refine jlk_cons (sm_bipush rfl B.1 dX4_factAt_42) ?_
  refine jlk_cons (sm_iload_n rfl B.1 dX4_factAt_44) ?_
  refine jlk_cons (sm_imul B.1 dX4_factAt_45) ?_
  refine jlk_cons (sm_iload_n rfl B.1 dX4_factAt_46) ?_
  refine jlk_cons (sm_iadd B.1 dX4_factAt_47) ?_
  refine jlk_cons (sm_iald B.1 dX4_factAt_48) ?_
  refine jlk_cons (sm_ifne rfl B.1 dX4_factAt_49) ?_
  refine jlk_cons (sm_iconst rfl B.1 dX4_factAt_52) ?_
  refine jlk_cons (sm_goto rfl B.1 dX4_factAt_53) ?_
  refine jlk_cons (sm_iconst rfl B.1 dX4_factAt_56) ?_
  refine jlk_cons (sm_putI B.1 fl_PointerAnalyzerModel_84_4_16 tyX4 tyX4_ok nmX4 (Or.inl rfl) (tyX4_ok 0 (by decide)) rfl (by decide) dX4_factAt_57) ?_
  refine jlk_cons (sm_bipush rfl B.1 dX4_factAt_60) ?_
  refine jlk_cons (sm_iload_n rfl B.1 dX4_factAt_62) ?_
  refine jlk_cons (sm_imul B.1 dX4_factAt_63) ?_
  refine jlk_cons (sm_iload_n rfl B.1 dX4_factAt_64) ?_
  refine jlk_cons (sm_iadd B.1 dX4_factAt_65) ?_
  refine jlk_cons (sm_iret B.1 B.2.1 hret dX4_factAt_66) ?_
  exact jlk_nil
theorem v_X4_factAt (hst : l.stackTraces = false) (hz : jEz (EV (d + 1))) (hI : jIH l D dA lo cs0 d) : jMe l D dA lo cs0 (EV (d + 1)) 125 yX4_factAt (ws_ yX4_factAt cX4_factAt 3 (Option.some Jvm.ClassFile.FieldType.int)) (d + 1) := z_meth hz rfl hp_X4_factAt (r_X4_factAt hst hI)
theorem r_X4_unified (hst : l.stackTraces = false) (hI : jIH l D dA lo cs0 d) : jRows l D dA lo cs0 d 6 (tb_X4_unified (EV d)) yX4_unified cX4_unified (Option.some Jvm.ClassFile.FieldType.long) [] := by
  intro p e R s m args below meth c z0 w0 zF wF Q rF hF B hz hw hret hnm
  refine jlk_app ?_ ?_
  · refine jlk_cons (sm_aload_n rfl B.1 dX4_unified_0) ?_
    refine jlk_cons (sm_cV (x := yX4_refreshes) (host := "") (owner := "") isRV (i_X4_refreshes hI) B q3146 q3148 qs81 w4_X4_refreshes w6_X4_refreshes (by decide) (by decide) (by decide) kc_4 hy_X4_refreshes hl_X4_refreshes dX4_unified_1 trivial) ?_
    refine jlk_cons (sm_aload_n rfl B.1 dX4_unified_4) ?_
    refine jlk_cons (sm_aload_n rfl B.1 dX4_unified_5) ?_
    refine jlk_cons (sm_iload_n rfl B.1 dX4_unified_6) ?_
    refine jlk_cons (sm_cV (x := yX4_pointed) (host := "") (owner := "") isRI (i_X4_pointed hI) B q3216 q3218 qs96 w4_X4_pointed w6_X4_pointed (by decide) (by decide) (by decide) kc_4 hy_X4_pointed hl_X4_pointed dX4_unified_7 trivial) ?_
    refine jlk_cons (sm_cV (x := yX4_rootOf) (host := "") (owner := "") isRI (i_X4_rootOf hI) B q3220 q3222 qs97 w4_X4_rootOf w6_X4_rootOf (by decide) (by decide) (by decide) kc_4 hy_X4_rootOf hl_X4_rootOf dX4_unified_10 trivial) ?_
    refine jlk_cons (sm_istore_n rfl B.1 dX4_unified_13) ?_
    refine jlk_cons (sm_lconst rfl B.1 dX4_unified_14) ?_
    refine jlk_cons (sm_lstore_n rfl B.1 dX4_unified_15) ?_
    refine jlk_cons (sm_iconst rfl B.1 dX4_unified_16) ?_
    refine jlk_cons (sm_istore B.1 dX4_unified_17) ?_
    refine jlk_cons (sm_iload B.1 dX4_unified_19) ?_
    refine jlk_cons (sm_bipush rfl B.1 dX4_unified_21) ?_
    refine jlk_cons (sm_icmpge rfl B.1 dX4_unified_23) ?_
    refine jlk_cons (sm_lload_n rfl B.1 dX4_unified_26) ?_
    refine jlk_cons (sm_aload_n rfl B.1 dX4_unified_27) ?_
    refine jlk_cons (sm_iload B.1 dX4_unified_28) ?_
    refine jlk_cons (sm_cV (x := yX4_rootOf) (host := "") (owner := "") isRI (i_X4_rootOf hI) B q3220 q3222 qs97 w4_X4_rootOf w6_X4_rootOf (by decide) (by decide) (by decide) kc_4 hy_X4_rootOf hl_X4_rootOf dX4_unified_30 trivial) ?_
    refine jlk_cons (sm_iload_n rfl B.1 dX4_unified_33) ?_
    refine jlk_cons (sm_icmpne rfl B.1 dX4_unified_34) ?_
    refine jlk_cons (sm_lconst rfl B.1 dX4_unified_37) ?_
    refine jlk_cons (sm_iload B.1 dX4_unified_38) ?_
    refine jlk_cons (sm_lshl B.1 dX4_unified_40) ?_
    refine jlk_cons (sm_goto rfl B.1 dX4_unified_41) ?_
    refine jlk_cons (sm_lconst rfl B.1 dX4_unified_44) ?_
    refine jlk_cons (sm_lor B.1 dX4_unified_45) ?_
    refine jlk_cons (sm_lstore_n rfl B.1 dX4_unified_46) ?_
    refine jlk_cons (sm_iinc rfl B.1 dX4_unified_47) ?_
    refine jlk_cons (sm_goto rfl B.1 dX4_unified_50) ?_
    refine jlk_cons (sm_iconst rfl B.1 dX4_unified_53) ?_
    refine jlk_cons (sm_istore B.1 dX4_unified_54) ?_
    refine jlk_cons (sm_iload B.1 dX4_unified_56) ?_
    refine jlk_cons (sm_aload_n rfl B.1 dX4_unified_58) ?_
    refine jlk_cons (sm_cV (x := yX4_sites) (host := "") (owner := "") isRI (i_X4_sites hI) B q3134 q3136 qs80 w4_X4_sites w6_X4_sites (by decide) (by decide) (by decide) kc_4 hy_X4_sites hl_X4_sites dX4_unified_59 trivial) ?_
    refine jlk_cons (sm_icmpge rfl B.1 dX4_unified_62) ?_
    refine jlk_cons (sm_lload_n rfl B.1 dX4_unified_65) ?_
    refine jlk_cons (sm_aload_n rfl B.1 dX4_unified_66) ?_
    refine jlk_cons (sm_bipush rfl B.1 dX4_unified_67) ?_
    refine jlk_cons (sm_iload B.1 dX4_unified_69) ?_
    exact jlk_nil
  · skip
    refine jlk_cons (sm_iadd B.1 dX4_unified_71) ?_
    refine jlk_cons (sm_cV (x := yX4_rootOf) (host := "") (owner := "") isRI (i_X4_rootOf hI) B q3220 q3222 qs97 w4_X4_rootOf w6_X4_rootOf (by decide) (by decide) (by decide) kc_4 hy_X4_rootOf hl_X4_rootOf dX4_unified_72 trivial) ?_
    refine jlk_cons (sm_iload_n rfl B.1 dX4_unified_75) ?_
    refine jlk_cons (sm_icmpne rfl B.1 dX4_unified_76) ?_
    refine jlk_cons (sm_ldc2 q3306 B.1 dX4_unified_79) ?_
    refine jlk_cons (sm_bipush rfl B.1 dX4_unified_82) ?_
    refine jlk_cons (sm_iconst rfl B.1 dX4_unified_84) ?_
    refine jlk_cons (sm_iload B.1 dX4_unified_85) ?_
    refine jlk_cons (sm_imul B.1 dX4_unified_87) ?_
    refine jlk_cons (sm_iadd B.1 dX4_unified_88) ?_
    refine jlk_cons (sm_lshl B.1 dX4_unified_89) ?_
    refine jlk_cons (sm_goto rfl B.1 dX4_unified_90) ?_
    refine jlk_cons (sm_lconst rfl B.1 dX4_unified_93) ?_
    refine jlk_cons (sm_lor B.1 dX4_unified_94) ?_
    refine jlk_cons (sm_lstore_n rfl B.1 dX4_unified_95) ?_
    refine jlk_cons (sm_iinc rfl B.1 dX4_unified_96) ?_
    refine jlk_cons (sm_goto rfl B.1 dX4_unified_99) ?_
    refine jlk_cons (sm_lload_n rfl B.1 dX4_unified_102) ?_
    refine jlk_cons (sm_lret B.1 B.2.1 hret dX4_unified_103) ?_
    exact jlk_nil
theorem v_X4_unified (hst : l.stackTraces = false) (hz : jEz (EV (d + 1))) (hI : jIH l D dA lo cs0 d) : jMe l D dA lo cs0 (EV (d + 1)) 129 yX4_unified (ws_ yX4_unified cX4_unified 6 (Option.some Jvm.ClassFile.FieldType.long)) (d + 1) := z_meth hz rfl hp_X4_unified (r_X4_unified hst hI)
theorem r_X4_rootOf (hst : l.stackTraces = false) (hI : jIH l D dA lo cs0 d) : jRows l D dA lo cs0 d 3 (tb_X4_rootOf (EV d)) yX4_rootOf cX4_rootOf (Option.some Jvm.ClassFile.FieldType.int) [] := by
  intro p e R s m args below meth c z0 w0 zF wF Q rF hF B hz hw hret hnm
  refine jlk_cons (sm_iload_n rfl B.1 dX4_rootOf_0) ?_
  refine jlk_cons (sm_istore_n rfl B.1 dX4_rootOf_1) ?_
  refine jlk_cons (sm_aload_n rfl B.1 dX4_rootOf_2) ?_
  refine jlk_cons (sm_getP B.1 fl_PointerAnalyzerModel_51_4_40 dX4_rootOf_3) ?_
  refine jlk_cons (sm_iload_n rfl B.1 dX4_rootOf_6) ?_
  refine jlk_cons (sm_iald B.1 dX4_rootOf_7) ?_
  refine jlk_cons (sm_iload_n rfl B.1 dX4_rootOf_8) ?_
  refine jlk_cons (sm_icmpeq rfl B.1 dX4_rootOf_9) ?_
  refine jlk_cons (sm_aload_n rfl B.1 dX4_rootOf_12) ?_
  refine jlk_cons (sm_getP B.1 fl_PointerAnalyzerModel_51_4_40 dX4_rootOf_13) ?_
  refine jlk_cons (sm_iload_n rfl B.1 dX4_rootOf_16) ?_
  refine jlk_cons (sm_iald B.1 dX4_rootOf_17) ?_
  refine jlk_cons (sm_istore_n rfl B.1 dX4_rootOf_18) ?_
  refine jlk_cons (sm_goto rfl B.1 dX4_rootOf_19) ?_
  refine jlk_cons (sm_iload_n rfl B.1 dX4_rootOf_22) ?_
  refine jlk_cons (sm_iret B.1 B.2.1 hret dX4_rootOf_23) ?_
  exact jlk_nil
theorem v_X4_rootOf (hst : l.stackTraces = false) (hz : jEz (EV (d + 1))) (hI : jIH l D dA lo cs0 d) : jMe l D dA lo cs0 (EV (d + 1)) 131 yX4_rootOf (ws_ yX4_rootOf cX4_rootOf 3 (Option.some Jvm.ClassFile.FieldType.int)) (d + 1) := z_meth hz rfl hp_X4_rootOf (r_X4_rootOf hst hI)
theorem r_X4_called (hst : l.stackTraces = false) (hI : jIH l D dA lo cs0 d) : jRows l D dA lo cs0 d 6 (tb_X4_called (EV d)) yX4_called cX4_called (Option.some Jvm.ClassFile.FieldType.int) [] := by
  intro p e R s m args below meth c z0 w0 zF wF Q rF hF B hz hw hret hnm
  refine jlk_app ?_ ?_
  · refine jlk_cons (sm_iconst rfl B.1 dX4_called_0) ?_
    refine jlk_cons (sm_istore_n rfl B.1 dX4_called_1) ?_
    refine jlk_cons (sm_iconst rfl B.1 dX4_called_2) ?_
    refine jlk_cons (sm_istore_n rfl B.1 dX4_called_3) ?_
    refine jlk_cons (sm_iload_n rfl B.1 dX4_called_4) ?_
    refine jlk_cons (sm_iload_n rfl B.1 dX4_called_5) ?_
    refine jlk_cons (sm_icmpeq rfl B.1 dX4_called_6) ?_
    refine jlk_cons (sm_iload_n rfl B.1 dX4_called_9) ?_
    refine jlk_cons (sm_istore_n rfl B.1 dX4_called_10) ?_
    refine jlk_cons (sm_iconst rfl B.1 dX4_called_11) ?_
    refine jlk_cons (sm_istore B.1 dX4_called_12) ?_
    refine jlk_cons (sm_iload B.1 dX4_called_14) ?_
    refine jlk_cons (sm_iconst rfl B.1 dX4_called_16) ?_
    refine jlk_cons (sm_icmpge rfl B.1 dX4_called_17) ?_
    refine jlk_cons (sm_iconst rfl B.1 dX4_called_20) ?_
    refine jlk_cons (sm_istore B.1 dX4_called_21) ?_
    refine jlk_cons (sm_iload B.1 dX4_called_23) ?_
    refine jlk_cons (sm_aload_n rfl B.1 dX4_called_25) ?_
    refine jlk_cons (sm_getP B.1 fl_PointerAnalyzerModel_22_4_21 dX4_called_26) ?_
    refine jlk_cons (sm_iload B.1 dX4_called_29) ?_
    refine jlk_cons (sm_iald B.1 dX4_called_31) ?_
    refine jlk_cons (sm_icmpge rfl B.1 dX4_called_32) ?_
    refine jlk_cons (sm_iload B.1 dX4_called_35) ?_
    refine jlk_cons (sm_iload_n rfl B.1 dX4_called_37) ?_
    refine jlk_cons (sm_icmpeq rfl B.1 dX4_called_38) ?_
    refine jlk_cons (sm_iload_n rfl B.1 dX4_called_41) ?_
    refine jlk_cons (sm_iload B.1 dX4_called_42) ?_
    refine jlk_cons (sm_ishr B.1 dX4_called_44) ?_
    refine jlk_cons (sm_iconst rfl B.1 dX4_called_45) ?_
    refine jlk_cons (sm_iand B.1 dX4_called_46) ?_
    refine jlk_cons (sm_iconst rfl B.1 dX4_called_47) ?_
    refine jlk_cons (sm_icmpne rfl B.1 dX4_called_48) ?_
    refine jlk_cons (sm_aload_n rfl B.1 dX4_called_51) ?_
    refine jlk_cons (sm_getP B.1 fl_PointerAnalyzerModel_7_4_17 dX4_called_52) ?_
    refine jlk_cons (sm_bipush rfl B.1 dX4_called_55) ?_
    refine jlk_cons (sm_iload B.1 dX4_called_57) ?_
    refine jlk_cons (sm_imul B.1 dX4_called_59) ?_
    refine jlk_cons (sm_iload B.1 dX4_called_60) ?_
    refine jlk_cons (sm_iadd B.1 dX4_called_62) ?_
    refine jlk_cons (sm_iald B.1 dX4_called_63) ?_
    exact jlk_nil
  · skip
    refine jlk_cons (sm_bipush rfl B.1 dX4_called_64) ?_
    refine jlk_cons (sm_icmpne rfl B.1 dX4_called_66) ?_
    refine jlk_cons (sm_iload_n rfl B.1 dX4_called_69) ?_
    refine jlk_cons (sm_iconst rfl B.1 dX4_called_70) ?_
    refine jlk_cons (sm_aload_n rfl B.1 dX4_called_71) ?_
    refine jlk_cons (sm_getP B.1 fl_PointerAnalyzerModel_19_4_20 dX4_called_72) ?_
    refine jlk_cons (sm_bipush rfl B.1 dX4_called_75) ?_
    refine jlk_cons (sm_iload B.1 dX4_called_77) ?_
    refine jlk_cons (sm_imul B.1 dX4_called_79) ?_
    refine jlk_cons (sm_iload B.1 dX4_called_80) ?_
    refine jlk_cons (sm_iadd B.1 dX4_called_82) ?_
    refine jlk_cons (sm_iald B.1 dX4_called_83) ?_
    refine jlk_cons (sm_ishl B.1 dX4_called_84) ?_
    refine jlk_cons (sm_ior B.1 dX4_called_85) ?_
    refine jlk_cons (sm_istore_n rfl B.1 dX4_called_86) ?_
    refine jlk_cons (sm_iinc rfl B.1 dX4_called_87) ?_
    refine jlk_cons (sm_goto rfl B.1 dX4_called_90) ?_
    refine jlk_cons (sm_iinc rfl B.1 dX4_called_93) ?_
    refine jlk_cons (sm_goto rfl B.1 dX4_called_96) ?_
    refine jlk_cons (sm_goto rfl B.1 dX4_called_99) ?_
    refine jlk_cons (sm_iload_n rfl B.1 dX4_called_102) ?_
    refine jlk_cons (sm_iret B.1 B.2.1 hret dX4_called_103) ?_
    exact jlk_nil
theorem v_X4_called (hst : l.stackTraces = false) (hz : jEz (EV (d + 1))) (hI : jIH l D dA lo cs0 d) : jMe l D dA lo cs0 (EV (d + 1)) 135 yX4_called (ws_ yX4_called cX4_called 6 (Option.some Jvm.ClassFile.FieldType.int)) (d + 1) := z_meth hz rfl hp_X4_called (r_X4_called hst hI)
theorem r_X4_led (hst : l.stackTraces = false) (hI : jIH l D dA lo cs0 d) : jRows l D dA lo cs0 d 8 (tb_X4_led (EV d)) yX4_led cX4_led (Option.some Jvm.ClassFile.FieldType.int) [] := by
  intro p e R s m args below meth c z0 w0 zF wF Q rF hF B hz hw hret hnm
  refine jlk_app ?_ ?_
  · refine jlk_cons (sm_iconst rfl B.1 dX4_led_0) ?_
    refine jlk_cons (sm_iload_n rfl B.1 dX4_led_1) ?_
    refine jlk_cons (sm_ishl B.1 dX4_led_2) ?_
    refine jlk_cons (sm_istore_n rfl B.1 dX4_led_3) ?_
    refine jlk_cons (sm_iconst rfl B.1 dX4_led_4) ?_
    refine jlk_cons (sm_istore B.1 dX4_led_5) ?_
    refine jlk_cons (sm_iload B.1 dX4_led_7) ?_
    refine jlk_cons (sm_iload_n rfl B.1 dX4_led_9) ?_
    refine jlk_cons (sm_icmpeq rfl B.1 dX4_led_10) ?_
    refine jlk_cons (sm_iload_n rfl B.1 dX4_led_13) ?_
    refine jlk_cons (sm_istore B.1 dX4_led_14) ?_
    refine jlk_cons (sm_iconst rfl B.1 dX4_led_16) ?_
    refine jlk_cons (sm_istore B.1 dX4_led_17) ?_
    refine jlk_cons (sm_iload B.1 dX4_led_19) ?_
    refine jlk_cons (sm_aload_n rfl B.1 dX4_led_21) ?_
    refine jlk_cons (sm_cV (x := yX4_statements) (host := "") (owner := "") isRI (i_X4_statements hI) B q3110 q3112 qs77 w4_X4_statements w6_X4_statements (by decide) (by decide) (by decide) kc_4 hy_X4_statements hl_X4_statements dX4_led_22 trivial) ?_
    refine jlk_cons (sm_icmpge rfl B.1 dX4_led_25) ?_
    refine jlk_cons (sm_aload_n rfl B.1 dX4_led_28) ?_
    refine jlk_cons (sm_iload B.1 dX4_led_29) ?_
    refine jlk_cons (sm_cV (x := yX4_placeOf) (host := "") (owner := "") isRI (i_X4_placeOf hI) B q3122 q3124 qs79 w4_X4_placeOf w6_X4_placeOf (by decide) (by decide) (by decide) kc_4 hy_X4_placeOf hl_X4_placeOf dX4_led_31 trivial) ?_
    refine jlk_cons (sm_istore B.1 dX4_led_34) ?_
    refine jlk_cons (sm_aload_n rfl B.1 dX4_led_36) ?_
    refine jlk_cons (sm_getP B.1 fl_PointerAnalyzerModel_19_4_20 dX4_led_37) ?_
    refine jlk_cons (sm_iload B.1 dX4_led_40) ?_
    refine jlk_cons (sm_iald B.1 dX4_led_42) ?_
    refine jlk_cons (sm_istore B.1 dX4_led_43) ?_
    refine jlk_cons (sm_aload_n rfl B.1 dX4_led_45) ?_
    refine jlk_cons (sm_getP B.1 fl_PointerAnalyzerModel_7_4_17 dX4_led_46) ?_
    refine jlk_cons (sm_iload B.1 dX4_led_49) ?_
    refine jlk_cons (sm_iald B.1 dX4_led_51) ?_
    refine jlk_cons (sm_iconst rfl B.1 dX4_led_52) ?_
    refine jlk_cons (sm_icmpne rfl B.1 dX4_led_53) ?_
    refine jlk_cons (sm_iload_n rfl B.1 dX4_led_56) ?_
    refine jlk_cons (sm_iload_n rfl B.1 dX4_led_57) ?_
    refine jlk_cons (sm_aload_n rfl B.1 dX4_led_58) ?_
    refine jlk_cons (sm_getP B.1 fl_PointerAnalyzerModel_16_4_19 dX4_led_59) ?_
    refine jlk_cons (sm_iload B.1 dX4_led_62) ?_
    refine jlk_cons (sm_iald B.1 dX4_led_64) ?_
    refine jlk_cons (sm_aload_n rfl B.1 dX4_led_65) ?_
    refine jlk_cons (sm_getP B.1 fl_PointerAnalyzerModel_13_4_18 dX4_led_66) ?_
    exact jlk_nil
  · skip
    refine jlk_app ?_ ?_
    · refine jlk_cons (sm_iload B.1 dX4_led_69) ?_
      refine jlk_cons (sm_iald B.1 dX4_led_71) ?_
      refine jlk_cons (sm_iload_n rfl B.1 dX4_led_72) ?_
      refine jlk_cons (sm_cS (x := yX4_edge) (r9 := kr_6) (host := "") (owner := "") isSI (i_X4_edge hI) B q3367 q3368 w4_X4_edge w6_X4_edge (by decide) hy_X4_edge hl_X4_edge dX4_led_73 trivial) ?_
      refine jlk_cons (sm_ior B.1 dX4_led_76) ?_
      refine jlk_cons (sm_istore_n rfl B.1 dX4_led_77) ?_
      refine jlk_cons (sm_aload_n rfl B.1 dX4_led_78) ?_
      refine jlk_cons (sm_getP B.1 fl_PointerAnalyzerModel_7_4_17 dX4_led_79) ?_
      refine jlk_cons (sm_iload B.1 dX4_led_82) ?_
      refine jlk_cons (sm_iald B.1 dX4_led_84) ?_
      refine jlk_cons (sm_bipush rfl B.1 dX4_led_85) ?_
      refine jlk_cons (sm_icmpne rfl B.1 dX4_led_87) ?_
      refine jlk_cons (sm_iload_n rfl B.1 dX4_led_90) ?_
      refine jlk_cons (sm_iload_n rfl B.1 dX4_led_91) ?_
      refine jlk_cons (sm_aload_n rfl B.1 dX4_led_92) ?_
      refine jlk_cons (sm_getP B.1 fl_PointerAnalyzerModel_16_4_19 dX4_led_93) ?_
      refine jlk_cons (sm_iload B.1 dX4_led_96) ?_
      refine jlk_cons (sm_iald B.1 dX4_led_98) ?_
      refine jlk_cons (sm_iconst rfl B.1 dX4_led_99) ?_
      refine jlk_cons (sm_iconst rfl B.1 dX4_led_100) ?_
      refine jlk_cons (sm_iload B.1 dX4_led_101) ?_
      refine jlk_cons (sm_imul B.1 dX4_led_103) ?_
      refine jlk_cons (sm_iadd B.1 dX4_led_104) ?_
      refine jlk_cons (sm_iload_n rfl B.1 dX4_led_105) ?_
      refine jlk_cons (sm_cS (x := yX4_edge) (r9 := kr_6) (host := "") (owner := "") isSI (i_X4_edge hI) B q3367 q3368 w4_X4_edge w6_X4_edge (by decide) hy_X4_edge hl_X4_edge dX4_led_106 trivial) ?_
      refine jlk_cons (sm_iload_n rfl B.1 dX4_led_109) ?_
      refine jlk_cons (sm_iconst rfl B.1 dX4_led_110) ?_
      refine jlk_cons (sm_iconst rfl B.1 dX4_led_111) ?_
      refine jlk_cons (sm_iload B.1 dX4_led_112) ?_
      refine jlk_cons (sm_imul B.1 dX4_led_114) ?_
      refine jlk_cons (sm_iadd B.1 dX4_led_115) ?_
      refine jlk_cons (sm_iconst rfl B.1 dX4_led_116) ?_
      refine jlk_cons (sm_iadd B.1 dX4_led_117) ?_
      refine jlk_cons (sm_aload_n rfl B.1 dX4_led_118) ?_
      refine jlk_cons (sm_getP B.1 fl_PointerAnalyzerModel_13_4_18 dX4_led_119) ?_
      refine jlk_cons (sm_iload B.1 dX4_led_122) ?_
      refine jlk_cons (sm_iald B.1 dX4_led_124) ?_
      refine jlk_cons (sm_iload_n rfl B.1 dX4_led_125) ?_
      refine jlk_cons (sm_cS (x := yX4_edge) (r9 := kr_6) (host := "") (owner := "") isSI (i_X4_edge hI) B q3367 q3368 w4_X4_edge w6_X4_edge (by decide) hy_X4_edge hl_X4_edge dX4_led_126 trivial) ?_
      refine jlk_cons (sm_ior B.1 dX4_led_129) ?_
      exact jlk_nil
    · skip
      refine jlk_cons (sm_ior B.1 dX4_led_130) ?_
      refine jlk_cons (sm_istore_n rfl B.1 dX4_led_131) ?_
      refine jlk_cons (sm_iinc rfl B.1 dX4_led_132) ?_
      refine jlk_cons (sm_goto rfl B.1 dX4_led_135) ?_
      refine jlk_cons (sm_goto rfl B.1 dX4_led_138) ?_
      refine jlk_cons (sm_iload_n rfl B.1 dX4_led_141) ?_
      refine jlk_cons (sm_iret B.1 B.2.1 hret dX4_led_142) ?_
      exact jlk_nil
theorem v_X4_led (hst : l.stackTraces = false) (hz : jEz (EV (d + 1))) (hI : jIH l D dA lo cs0 d) : jMe l D dA lo cs0 (EV (d + 1)) 139 yX4_led (ws_ yX4_led cX4_led 8 (Option.some Jvm.ClassFile.FieldType.int)) (d + 1) := z_meth hz rfl hp_X4_led (r_X4_led hst hI)
theorem r_X4_opens (hst : l.stackTraces = false) (hI : jIH l D dA lo cs0 d) : jRows l D dA lo cs0 d 3 (tb_X4_opens (EV d)) yX4_opens cX4_opens (Option.none : Option Jvm.ClassFile.FieldType) [] := by
  intro p e R s m args below meth c z0 w0 zF wF Q rF hF B hz hw hret hnm
  refine jlk_app ?_ ?_
  · refine jlk_cons (sm_aload_n rfl B.1 dX4_opens_0) ?_
    refine jlk_cons (sm_getP B.1 fl_PointerAnalyzerModel_69_4_48 dX4_opens_1) ?_
    refine jlk_cons (sm_aload_n rfl B.1 dX4_opens_4) ?_
    refine jlk_cons (sm_getI B.1 fl_PointerAnalyzerModel_319_4_52 dX4_opens_5) ?_
    refine jlk_cons (sm_iload_n rfl B.1 dX4_opens_8) ?_
    refine jlk_cons (sm_iast B.1 dX4_opens_9) ?_
    refine jlk_cons (sm_aload_n rfl B.1 dX4_opens_10) ?_
    refine jlk_cons (sm_getP B.1 fl_PointerAnalyzerModel_72_4_49 dX4_opens_11) ?_
    refine jlk_cons (sm_aload_n rfl B.1 dX4_opens_14) ?_
    refine jlk_cons (sm_getI B.1 fl_PointerAnalyzerModel_319_4_52 dX4_opens_15) ?_
    refine jlk_cons (sm_iconst rfl B.1 dX4_opens_18) ?_
    refine jlk_cons (sm_iast B.1 dX4_opens_19) ?_
    refine jlk_cons (sm_aload_n rfl B.1 dX4_opens_20) ?_
    refine jlk_cons (sm_getP B.1 fl_PointerAnalyzerModel_75_4_50 dX4_opens_21) ?_
    refine jlk_cons (sm_aload_n rfl B.1 dX4_opens_24) ?_
    refine jlk_cons (sm_getI B.1 fl_PointerAnalyzerModel_319_4_52 dX4_opens_25) ?_
    refine jlk_cons (sm_iconst rfl B.1 dX4_opens_28) ?_
    refine jlk_cons (sm_iconst rfl B.1 dX4_opens_29) ?_
    refine jlk_cons (sm_aload_n rfl B.1 dX4_opens_30) ?_
    refine jlk_cons (sm_getI B.1 fl_PointerAnalyzerModel_322_4_53 dX4_opens_31) ?_
    refine jlk_cons (sm_imul B.1 dX4_opens_34) ?_
    refine jlk_cons (sm_iadd B.1 dX4_opens_35) ?_
    refine jlk_cons (sm_iast B.1 dX4_opens_36) ?_
    refine jlk_cons (sm_iconst rfl B.1 dX4_opens_37) ?_
    refine jlk_cons (sm_istore_n rfl B.1 dX4_opens_38) ?_
    refine jlk_cons (sm_iload_n rfl B.1 dX4_opens_39) ?_
    refine jlk_cons (sm_iconst rfl B.1 dX4_opens_40) ?_
    refine jlk_cons (sm_icmpge rfl B.1 dX4_opens_41) ?_
    refine jlk_cons (sm_aload_n rfl B.1 dX4_opens_44) ?_
    refine jlk_cons (sm_getP B.1 fl_PointerAnalyzerModel_63_4_46 dX4_opens_45) ?_
    refine jlk_cons (sm_aload_n rfl B.1 dX4_opens_48) ?_
    refine jlk_cons (sm_getP B.1 fl_PointerAnalyzerModel_75_4_50 dX4_opens_49) ?_
    refine jlk_cons (sm_aload_n rfl B.1 dX4_opens_52) ?_
    refine jlk_cons (sm_getI B.1 fl_PointerAnalyzerModel_319_4_52 dX4_opens_53) ?_
    refine jlk_cons (sm_iald B.1 dX4_opens_56) ?_
    refine jlk_cons (sm_iload_n rfl B.1 dX4_opens_57) ?_
    refine jlk_cons (sm_iadd B.1 dX4_opens_58) ?_
    refine jlk_cons (sm_iconst rfl B.1 dX4_opens_59) ?_
    refine jlk_cons (sm_iast B.1 dX4_opens_60) ?_
    refine jlk_cons (sm_aload_n rfl B.1 dX4_opens_61) ?_
    exact jlk_nil
  · skip
    refine jlk_cons (sm_getP B.1 fl_PointerAnalyzerModel_66_4_47 dX4_opens_62) ?_
    refine jlk_cons (sm_aload_n rfl B.1 dX4_opens_65) ?_
    refine jlk_cons (sm_getP B.1 fl_PointerAnalyzerModel_75_4_50 dX4_opens_66) ?_
    refine jlk_cons (sm_aload_n rfl B.1 dX4_opens_69) ?_
    refine jlk_cons (sm_getI B.1 fl_PointerAnalyzerModel_319_4_52 dX4_opens_70) ?_
    refine jlk_cons (sm_iald B.1 dX4_opens_73) ?_
    refine jlk_cons (sm_iload_n rfl B.1 dX4_opens_74) ?_
    refine jlk_cons (sm_iadd B.1 dX4_opens_75) ?_
    refine jlk_cons (sm_iconst rfl B.1 dX4_opens_76) ?_
    refine jlk_cons (sm_iconst rfl B.1 dX4_opens_77) ?_
    refine jlk_cons (sm_iload_n rfl B.1 dX4_opens_78) ?_
    refine jlk_cons (sm_imul B.1 dX4_opens_79) ?_
    refine jlk_cons (sm_iadd B.1 dX4_opens_80) ?_
    refine jlk_cons (sm_iload_n rfl B.1 dX4_opens_81) ?_
    refine jlk_cons (sm_iadd B.1 dX4_opens_82) ?_
    refine jlk_cons (sm_iast B.1 dX4_opens_83) ?_
    refine jlk_cons (sm_iinc rfl B.1 dX4_opens_84) ?_
    refine jlk_cons (sm_goto rfl B.1 dX4_opens_87) ?_
    refine jlk_cons (sm_aload_n rfl B.1 dX4_opens_90) ?_
    refine jlk_cons (sm_dup B.1 dX4_opens_91) ?_
    refine jlk_cons (sm_getI B.1 fl_PointerAnalyzerModel_322_4_53 dX4_opens_92) ?_
    refine jlk_cons (sm_iconst rfl B.1 dX4_opens_95) ?_
    refine jlk_cons (sm_iadd B.1 dX4_opens_96) ?_
    refine jlk_cons (sm_putI B.1 fl_PointerAnalyzerModel_322_4_53 tyX4 tyX4_ok nmX4 (Or.inl rfl) (tyX4_ok 37 (by decide)) rfl (by decide) dX4_opens_97) ?_
    refine jlk_cons (sm_aload_n rfl B.1 dX4_opens_100) ?_
    refine jlk_cons (sm_dup B.1 dX4_opens_101) ?_
    refine jlk_cons (sm_getI B.1 fl_PointerAnalyzerModel_319_4_52 dX4_opens_102) ?_
    refine jlk_cons (sm_iconst rfl B.1 dX4_opens_105) ?_
    refine jlk_cons (sm_iadd B.1 dX4_opens_106) ?_
    refine jlk_cons (sm_putI B.1 fl_PointerAnalyzerModel_319_4_52 tyX4 tyX4_ok nmX4 (Or.inl rfl) (tyX4_ok 36 (by decide)) rfl (by decide) dX4_opens_107) ?_
    refine jlk_cons (sm_vret B.1 B.2.1 hret dX4_opens_110) ?_
    exact jlk_nil
theorem v_X4_opens (hst : l.stackTraces = false) (hz : jEz (EV (d + 1))) (hI : jIH l D dA lo cs0 d) : jMe l D dA lo cs0 (EV (d + 1)) 141 yX4_opens (ws_ yX4_opens cX4_opens 3 (Option.none : Option Jvm.ClassFile.FieldType)) (d + 1) := z_meth hz rfl hp_X4_opens (r_X4_opens hst hI)
theorem r_X4_closes (hst : l.stackTraces = false) (hI : jIH l D dA lo cs0 d) : jRows l D dA lo cs0 d 3 (tb_X4_closes (EV d)) yX4_closes cX4_closes (Option.none : Option Jvm.ClassFile.FieldType) [] := by
  intro p e R s m args below meth c z0 w0 zF wF Q rF hF B hz hw hret hnm
  refine jlk_app ?_ ?_
  · refine jlk_cons (sm_aload_n rfl B.1 dX4_closes_0) ?_
    refine jlk_cons (sm_getP B.1 fl_PointerAnalyzerModel_63_4_46 dX4_closes_1) ?_
    refine jlk_cons (sm_aload_n rfl B.1 dX4_closes_4) ?_
    refine jlk_cons (sm_getP B.1 fl_PointerAnalyzerModel_75_4_50 dX4_closes_5) ?_
    refine jlk_cons (sm_aload_n rfl B.1 dX4_closes_8) ?_
    refine jlk_cons (sm_getI B.1 fl_PointerAnalyzerModel_319_4_52 dX4_closes_9) ?_
    refine jlk_cons (sm_iconst rfl B.1 dX4_closes_12) ?_
    refine jlk_cons (sm_isub B.1 dX4_closes_13) ?_
    refine jlk_cons (sm_iald B.1 dX4_closes_14) ?_
    refine jlk_cons (sm_iconst rfl B.1 dX4_closes_15) ?_
    refine jlk_cons (sm_iadd B.1 dX4_closes_16) ?_
    refine jlk_cons (sm_iald B.1 dX4_closes_17) ?_
    refine jlk_cons (sm_istore_n rfl B.1 dX4_closes_18) ?_
    refine jlk_cons (sm_aload_n rfl B.1 dX4_closes_19) ?_
    refine jlk_cons (sm_dup B.1 dX4_closes_20) ?_
    refine jlk_cons (sm_getI B.1 fl_PointerAnalyzerModel_319_4_52 dX4_closes_21) ?_
    refine jlk_cons (sm_iconst rfl B.1 dX4_closes_24) ?_
    refine jlk_cons (sm_isub B.1 dX4_closes_25) ?_
    refine jlk_cons (sm_putI B.1 fl_PointerAnalyzerModel_319_4_52 tyX4 tyX4_ok nmX4 (Or.inl rfl) (tyX4_ok 36 (by decide)) rfl (by decide) dX4_closes_26) ?_
    refine jlk_cons (sm_aload_n rfl B.1 dX4_closes_29) ?_
    refine jlk_cons (sm_getI B.1 fl_PointerAnalyzerModel_319_4_52 dX4_closes_30) ?_
    refine jlk_cons (sm_ifne rfl B.1 dX4_closes_33) ?_
    refine jlk_cons (sm_vret B.1 B.2.1 hret dX4_closes_36) ?_
    refine jlk_cons (sm_bipush rfl B.1 dX4_closes_37) ?_
    refine jlk_cons (sm_aload_n rfl B.1 dX4_closes_39) ?_
    refine jlk_cons (sm_getP B.1 fl_PointerAnalyzerModel_69_4_48 dX4_closes_40) ?_
    refine jlk_cons (sm_aload_n rfl B.1 dX4_closes_43) ?_
    refine jlk_cons (sm_getI B.1 fl_PointerAnalyzerModel_319_4_52 dX4_closes_44) ?_
    refine jlk_cons (sm_iconst rfl B.1 dX4_closes_47) ?_
    refine jlk_cons (sm_isub B.1 dX4_closes_48) ?_
    refine jlk_cons (sm_iald B.1 dX4_closes_49) ?_
    refine jlk_cons (sm_imul B.1 dX4_closes_50) ?_
    refine jlk_cons (sm_aload_n rfl B.1 dX4_closes_51) ?_
    refine jlk_cons (sm_getP B.1 fl_PointerAnalyzerModel_72_4_49 dX4_closes_52) ?_
    refine jlk_cons (sm_aload_n rfl B.1 dX4_closes_55) ?_
    refine jlk_cons (sm_getI B.1 fl_PointerAnalyzerModel_319_4_52 dX4_closes_56) ?_
    refine jlk_cons (sm_iconst rfl B.1 dX4_closes_59) ?_
    refine jlk_cons (sm_isub B.1 dX4_closes_60) ?_
    refine jlk_cons (sm_iald B.1 dX4_closes_61) ?_
    refine jlk_cons (sm_iadd B.1 dX4_closes_62) ?_
    exact jlk_nil
  · skip
    refine jlk_cons (sm_iconst rfl B.1 dX4_closes_63) ?_
    refine jlk_cons (sm_isub B.1 dX4_closes_64) ?_
    refine jlk_cons (sm_istore_n rfl B.1 dX4_closes_65) ?_
    refine jlk_cons (sm_aload_n rfl B.1 dX4_closes_66) ?_
    refine jlk_cons (sm_aload_n rfl B.1 dX4_closes_67) ?_
    refine jlk_cons (sm_aload_n rfl B.1 dX4_closes_68) ?_
    refine jlk_cons (sm_getP B.1 fl_PointerAnalyzerModel_13_4_18 dX4_closes_69) ?_
    refine jlk_cons (sm_iload_n rfl B.1 dX4_closes_72) ?_
    refine jlk_cons (sm_iald B.1 dX4_closes_73) ?_
    refine jlk_cons (sm_cV (x := yX4_placeIn) (host := "") (owner := "") isRI (i_X4_placeIn hI) B q3382 q3384 qs115 w4_X4_placeIn w6_X4_placeIn (by decide) (by decide) (by decide) kc_4 hy_X4_placeIn hl_X4_placeIn dX4_closes_74 trivial) ?_
    refine jlk_cons (sm_iload_n rfl B.1 dX4_closes_77) ?_
    refine jlk_cons (sm_cV (x := yX4_assigns) (host := "") (owner := "") isRV (i_X4_assigns hI) B q3386 q3388 qs116 w4_X4_assigns w6_X4_assigns (by decide) (by decide) (by decide) kc_4 hy_X4_assigns hl_X4_assigns dX4_closes_78 trivial) ?_
    refine jlk_cons (sm_vret B.1 B.2.1 hret dX4_closes_81) ?_
    exact jlk_nil
theorem v_X4_closes (hst : l.stackTraces = false) (hz : jEz (EV (d + 1))) (hI : jIH l D dA lo cs0 d) : jMe l D dA lo cs0 (EV (d + 1)) 142 yX4_closes (ws_ yX4_closes cX4_closes 3 (Option.none : Option Jvm.ClassFile.FieldType)) (d + 1) := z_meth hz rfl hp_X4_closes (r_X4_closes hst hI)
theorem r_X4_executes (hst : l.stackTraces = false) (hI : jIH l D dA lo cs0 d) : jRows l D dA lo cs0 d 4 (tb_X4_executes (EV d)) yX4_executes cX4_executes (Option.none : Option Jvm.ClassFile.FieldType) [] := by
  intro p e R s m args below meth c z0 w0 zF wF Q rF hF B hz hw hret hnm
  refine jlk_app ?_ ?_
  · refine jlk_cons (sm_aload_n rfl B.1 dX4_executes_0) ?_
    refine jlk_cons (sm_aload_n rfl B.1 dX4_executes_1) ?_
    refine jlk_cons (sm_getP B.1 fl_PointerAnalyzerModel_13_4_18 dX4_executes_2) ?_
    refine jlk_cons (sm_iload_n rfl B.1 dX4_executes_5) ?_
    refine jlk_cons (sm_iald B.1 dX4_executes_6) ?_
    refine jlk_cons (sm_cV (x := yX4_placeIn) (host := "") (owner := "") isRI (i_X4_placeIn hI) B q3382 q3384 qs115 w4_X4_placeIn w6_X4_placeIn (by decide) (by decide) (by decide) kc_4 hy_X4_placeIn hl_X4_placeIn dX4_executes_7 trivial) ?_
    refine jlk_cons (sm_istore_n rfl B.1 dX4_executes_10) ?_
    refine jlk_cons (sm_aload_n rfl B.1 dX4_executes_11) ?_
    refine jlk_cons (sm_aload_n rfl B.1 dX4_executes_12) ?_
    refine jlk_cons (sm_getP B.1 fl_PointerAnalyzerModel_16_4_19 dX4_executes_13) ?_
    refine jlk_cons (sm_iload_n rfl B.1 dX4_executes_16) ?_
    refine jlk_cons (sm_iald B.1 dX4_executes_17) ?_
    refine jlk_cons (sm_cV (x := yX4_placeIn) (host := "") (owner := "") isRI (i_X4_placeIn hI) B q3382 q3384 qs115 w4_X4_placeIn w6_X4_placeIn (by decide) (by decide) (by decide) kc_4 hy_X4_placeIn hl_X4_placeIn dX4_executes_18 trivial) ?_
    refine jlk_cons (sm_istore_n rfl B.1 dX4_executes_21) ?_
    refine jlk_cons (sm_aload_n rfl B.1 dX4_executes_22) ?_
    refine jlk_cons (sm_getP B.1 fl_PointerAnalyzerModel_7_4_17 dX4_executes_23) ?_
    refine jlk_cons (sm_iload_n rfl B.1 dX4_executes_26) ?_
    refine jlk_cons (sm_iald B.1 dX4_executes_27) ?_
    refine jlk_cons (sm_switch B.1 rfl (List.forall_mem_cons.mpr ⟨⟨by decide, by decide, 40, rfl, rfl⟩, (List.forall_mem_cons.mpr ⟨⟨by decide, by decide, 51, rfl, rfl⟩, (List.forall_mem_cons.mpr ⟨⟨by decide, by decide, 65, rfl, rfl⟩, (List.forall_mem_cons.mpr ⟨⟨by decide, by decide, 108, rfl, rfl⟩, (List.forall_mem_cons.mpr ⟨⟨by decide, by decide, 151, rfl, rfl⟩, (List.forall_mem_cons.mpr ⟨⟨by decide, by decide, 168, rfl, rfl⟩, (List.forall_mem_nil _)⟩)⟩)⟩)⟩)⟩)⟩) (sw_hall 6 (by decide) (by decide)) dX4_executes_28) ?_
    refine jlk_cons (sm_aload_n rfl B.1 dX4_executes_68) ?_
    refine jlk_cons (sm_iload_n rfl B.1 dX4_executes_69) ?_
    refine jlk_cons (sm_iload_n rfl B.1 dX4_executes_70) ?_
    refine jlk_cons (sm_iconst rfl B.1 dX4_executes_71) ?_
    refine jlk_cons (sm_iadd B.1 dX4_executes_72) ?_
    refine jlk_cons (sm_cV (x := yX4_assigns) (host := "") (owner := "") isRV (i_X4_assigns hI) B q3386 q3388 qs116 w4_X4_assigns w6_X4_assigns (by decide) (by decide) (by decide) kc_4 hy_X4_assigns hl_X4_assigns dX4_executes_73 trivial) ?_
    refine jlk_cons (sm_goto rfl B.1 dX4_executes_76) ?_
    refine jlk_cons (sm_aload_n rfl B.1 dX4_executes_79) ?_
    refine jlk_cons (sm_iload_n rfl B.1 dX4_executes_80) ?_
    refine jlk_cons (sm_aload_n rfl B.1 dX4_executes_81) ?_
    refine jlk_cons (sm_getP B.1 fl_PointerAnalyzerModel_63_4_46 dX4_executes_82) ?_
    refine jlk_cons (sm_iload_n rfl B.1 dX4_executes_85) ?_
    refine jlk_cons (sm_iald B.1 dX4_executes_86) ?_
    refine jlk_cons (sm_cV (x := yX4_assigns) (host := "") (owner := "") isRV (i_X4_assigns hI) B q3386 q3388 qs116 w4_X4_assigns w6_X4_assigns (by decide) (by decide) (by decide) kc_4 hy_X4_assigns hl_X4_assigns dX4_executes_87 trivial) ?_
    refine jlk_cons (sm_goto rfl B.1 dX4_executes_90) ?_
    refine jlk_cons (sm_aload_n rfl B.1 dX4_executes_93) ?_
    refine jlk_cons (sm_getP B.1 fl_PointerAnalyzerModel_63_4_46 dX4_executes_94) ?_
    refine jlk_cons (sm_iload_n rfl B.1 dX4_executes_97) ?_
    refine jlk_cons (sm_iald B.1 dX4_executes_98) ?_
    refine jlk_cons (sm_ifne rfl B.1 dX4_executes_99) ?_
    refine jlk_cons (sm_aload_n rfl B.1 dX4_executes_102) ?_
    exact jlk_nil
  · skip
    refine jlk_app ?_ ?_
    · refine jlk_cons (sm_dup B.1 dX4_executes_103) ?_
      refine jlk_cons (sm_getI B.1 fl_PointerAnalyzerModel_313_4_55 dX4_executes_104) ?_
      refine jlk_cons (sm_iconst rfl B.1 dX4_executes_107) ?_
      refine jlk_cons (sm_iadd B.1 dX4_executes_108) ?_
      refine jlk_cons (sm_putI B.1 fl_PointerAnalyzerModel_313_4_55 tyX4 tyX4_ok nmX4 (Or.inl rfl) (tyX4_ok 39 (by decide)) rfl (by decide) dX4_executes_109) ?_
      refine jlk_cons (sm_goto rfl B.1 dX4_executes_112) ?_
      refine jlk_cons (sm_aload_n rfl B.1 dX4_executes_115) ?_
      refine jlk_cons (sm_iload_n rfl B.1 dX4_executes_116) ?_
      refine jlk_cons (sm_aload_n rfl B.1 dX4_executes_117) ?_
      refine jlk_cons (sm_getP B.1 fl_PointerAnalyzerModel_63_4_46 dX4_executes_118) ?_
      refine jlk_cons (sm_aload_n rfl B.1 dX4_executes_121) ?_
      refine jlk_cons (sm_getP B.1 fl_PointerAnalyzerModel_63_4_46 dX4_executes_122) ?_
      refine jlk_cons (sm_iload_n rfl B.1 dX4_executes_125) ?_
      refine jlk_cons (sm_iald B.1 dX4_executes_126) ?_
      refine jlk_cons (sm_iconst rfl B.1 dX4_executes_127) ?_
      refine jlk_cons (sm_isub B.1 dX4_executes_128) ?_
      refine jlk_cons (sm_iald B.1 dX4_executes_129) ?_
      refine jlk_cons (sm_cV (x := yX4_assigns) (host := "") (owner := "") isRV (i_X4_assigns hI) B q3386 q3388 qs116 w4_X4_assigns w6_X4_assigns (by decide) (by decide) (by decide) kc_4 hy_X4_assigns hl_X4_assigns dX4_executes_130 trivial) ?_
      refine jlk_cons (sm_goto rfl B.1 dX4_executes_133) ?_
      refine jlk_cons (sm_aload_n rfl B.1 dX4_executes_136) ?_
      refine jlk_cons (sm_getP B.1 fl_PointerAnalyzerModel_63_4_46 dX4_executes_137) ?_
      refine jlk_cons (sm_iload_n rfl B.1 dX4_executes_140) ?_
      refine jlk_cons (sm_iald B.1 dX4_executes_141) ?_
      refine jlk_cons (sm_ifne rfl B.1 dX4_executes_142) ?_
      refine jlk_cons (sm_aload_n rfl B.1 dX4_executes_145) ?_
      refine jlk_cons (sm_dup B.1 dX4_executes_146) ?_
      refine jlk_cons (sm_getI B.1 fl_PointerAnalyzerModel_313_4_55 dX4_executes_147) ?_
      refine jlk_cons (sm_iconst rfl B.1 dX4_executes_150) ?_
      refine jlk_cons (sm_iadd B.1 dX4_executes_151) ?_
      refine jlk_cons (sm_putI B.1 fl_PointerAnalyzerModel_313_4_55 tyX4 tyX4_ok nmX4 (Or.inl rfl) (tyX4_ok 39 (by decide)) rfl (by decide) dX4_executes_152) ?_
      refine jlk_cons (sm_goto rfl B.1 dX4_executes_155) ?_
      refine jlk_cons (sm_aload_n rfl B.1 dX4_executes_158) ?_
      refine jlk_cons (sm_aload_n rfl B.1 dX4_executes_159) ?_
      refine jlk_cons (sm_getP B.1 fl_PointerAnalyzerModel_63_4_46 dX4_executes_160) ?_
      refine jlk_cons (sm_iload_n rfl B.1 dX4_executes_163) ?_
      refine jlk_cons (sm_iald B.1 dX4_executes_164) ?_
      refine jlk_cons (sm_iconst rfl B.1 dX4_executes_165) ?_
      refine jlk_cons (sm_isub B.1 dX4_executes_166) ?_
      refine jlk_cons (sm_aload_n rfl B.1 dX4_executes_167) ?_
      refine jlk_cons (sm_getP B.1 fl_PointerAnalyzerModel_63_4_46 dX4_executes_168) ?_
      exact jlk_nil
    · skip
      refine jlk_app ?_ ?_
      · refine jlk_cons (sm_iload_n rfl B.1 dX4_executes_171) ?_
        refine jlk_cons (sm_iald B.1 dX4_executes_172) ?_
        refine jlk_cons (sm_cV (x := yX4_assigns) (host := "") (owner := "") isRV (i_X4_assigns hI) B q3386 q3388 qs116 w4_X4_assigns w6_X4_assigns (by decide) (by decide) (by decide) kc_4 hy_X4_assigns hl_X4_assigns dX4_executes_173 trivial) ?_
        refine jlk_cons (sm_goto rfl B.1 dX4_executes_176) ?_
        refine jlk_cons (sm_aload_n rfl B.1 dX4_executes_179) ?_
        refine jlk_cons (sm_iload_n rfl B.1 dX4_executes_180) ?_
        refine jlk_cons (sm_aload_n rfl B.1 dX4_executes_181) ?_
        refine jlk_cons (sm_aload_n rfl B.1 dX4_executes_182) ?_
        refine jlk_cons (sm_iload_n rfl B.1 dX4_executes_183) ?_
        refine jlk_cons (sm_cV (x := yX4_siteOf) (host := "") (owner := "") isRI (i_X4_siteOf hI) B q3196 q3198 qs91 w4_X4_siteOf w6_X4_siteOf (by decide) (by decide) (by decide) kc_4 hy_X4_siteOf hl_X4_siteOf dX4_executes_184 trivial) ?_
        refine jlk_cons (sm_cV (x := yX4_makesObject) (host := "") (owner := "") isRI (i_X4_makesObject hI) B q3394 q3396 qs118 w4_X4_makesObject w6_X4_makesObject (by decide) (by decide) (by decide) kc_4 hy_X4_makesObject hl_X4_makesObject dX4_executes_187 trivial) ?_
        refine jlk_cons (sm_cV (x := yX4_assigns) (host := "") (owner := "") isRV (i_X4_assigns hI) B q3386 q3388 qs116 w4_X4_assigns w6_X4_assigns (by decide) (by decide) (by decide) kc_4 hy_X4_assigns hl_X4_assigns dX4_executes_190 trivial) ?_
        refine jlk_cons (sm_goto rfl B.1 dX4_executes_193) ?_
        refine jlk_cons (sm_aload_n rfl B.1 dX4_executes_196) ?_
        refine jlk_cons (sm_iload_n rfl B.1 dX4_executes_197) ?_
        refine jlk_cons (sm_aload_n rfl B.1 dX4_executes_198) ?_
        refine jlk_cons (sm_getP B.1 fl_PointerAnalyzerModel_63_4_46 dX4_executes_199) ?_
        refine jlk_cons (sm_iload_n rfl B.1 dX4_executes_202) ?_
        refine jlk_cons (sm_iald B.1 dX4_executes_203) ?_
        refine jlk_cons (sm_aload_n rfl B.1 dX4_executes_204) ?_
        refine jlk_cons (sm_getP B.1 fl_PointerAnalyzerModel_19_4_20 dX4_executes_205) ?_
        refine jlk_cons (sm_iload_n rfl B.1 dX4_executes_208) ?_
        refine jlk_cons (sm_iald B.1 dX4_executes_209) ?_
        refine jlk_cons (sm_cV (x := yX4_offsets) (host := "") (owner := "") isRV (i_X4_offsets hI) B q3398 q3400 qs119 w4_X4_offsets w6_X4_offsets (by decide) (by decide) (by decide) kc_4 hy_X4_offsets hl_X4_offsets dX4_executes_210 trivial) ?_
        refine jlk_cons (sm_goto rfl B.1 dX4_executes_213) ?_
        refine jlk_cons (sm_aload_n rfl B.1 dX4_executes_216) ?_
        refine jlk_cons (sm_getI B.1 fl_PointerAnalyzerModel_319_4_52 dX4_executes_217) ?_
        refine jlk_cons (sm_bipush rfl B.1 dX4_executes_220) ?_
        refine jlk_cons (sm_icmpeq rfl B.1 dX4_executes_222) ?_
        refine jlk_cons (sm_aload_n rfl B.1 dX4_executes_225) ?_
        refine jlk_cons (sm_getI B.1 fl_PointerAnalyzerModel_338_4_56 dX4_executes_226) ?_
        refine jlk_cons (sm_sipush rfl B.1 dX4_executes_229) ?_
        refine jlk_cons (sm_icmpne rfl B.1 dX4_executes_232) ?_
        refine jlk_cons (sm_goto rfl B.1 dX4_executes_235) ?_
        refine jlk_cons (sm_aload_n rfl B.1 dX4_executes_238) ?_
        refine jlk_cons (sm_aload_n rfl B.1 dX4_executes_239) ?_
        refine jlk_cons (sm_getP B.1 fl_PointerAnalyzerModel_19_4_20 dX4_executes_240) ?_
        refine jlk_cons (sm_iload_n rfl B.1 dX4_executes_243) ?_
        refine jlk_cons (sm_iald B.1 dX4_executes_244) ?_
        refine jlk_cons (sm_cV (x := yX4_opens) (host := "") (owner := "") isRV (i_X4_opens hI) B q3374 q3376 qs113 w4_X4_opens w6_X4_opens (by decide) (by decide) (by decide) kc_4 hy_X4_opens hl_X4_opens dX4_executes_245 trivial) ?_
        exact jlk_nil
      · skip
        refine jlk_cons (sm_aload_n rfl B.1 dX4_executes_248) ?_
        refine jlk_cons (sm_aload_n rfl B.1 dX4_executes_249) ?_
        refine jlk_cons (sm_getP B.1 fl_PointerAnalyzerModel_75_4_50 dX4_executes_250) ?_
        refine jlk_cons (sm_aload_n rfl B.1 dX4_executes_253) ?_
        refine jlk_cons (sm_getI B.1 fl_PointerAnalyzerModel_319_4_52 dX4_executes_254) ?_
        refine jlk_cons (sm_iconst rfl B.1 dX4_executes_257) ?_
        refine jlk_cons (sm_isub B.1 dX4_executes_258) ?_
        refine jlk_cons (sm_iald B.1 dX4_executes_259) ?_
        refine jlk_cons (sm_aload_n rfl B.1 dX4_executes_260) ?_
        refine jlk_cons (sm_getP B.1 fl_PointerAnalyzerModel_63_4_46 dX4_executes_261) ?_
        refine jlk_cons (sm_iload_n rfl B.1 dX4_executes_264) ?_
        refine jlk_cons (sm_iald B.1 dX4_executes_265) ?_
        refine jlk_cons (sm_cV (x := yX4_assigns) (host := "") (owner := "") isRV (i_X4_assigns hI) B q3386 q3388 qs116 w4_X4_assigns w6_X4_assigns (by decide) (by decide) (by decide) kc_4 hy_X4_assigns hl_X4_assigns dX4_executes_266 trivial) ?_
        refine jlk_cons (sm_vret B.1 B.2.1 hret dX4_executes_269) ?_
        exact jlk_nil
theorem v_X4_executes (hst : l.stackTraces = false) (hz : jEz (EV (d + 1))) (hI : jIH l D dA lo cs0 d) : jMe l D dA lo cs0 (EV (d + 1)) 143 yX4_executes (ws_ yX4_executes cX4_executes 4 (Option.none : Option Jvm.ClassFile.FieldType)) (d + 1) := z_meth hz rfl hp_X4_executes (r_X4_executes hst hI)
theorem r_X4_passState (hst : l.stackTraces = false) (hI : jIH l D dA lo cs0 d) : jRows l D dA lo cs0 d 3 (tb_X4_passState (EV d)) yX4_passState cX4_passState (Option.none : Option Jvm.ClassFile.FieldType) [] := by
  intro p e R s m args below meth c z0 w0 zF wF Q rF hF B hz hw hret hnm
  refine jlk_app ?_ ?_
  · refine jlk_cons (sm_aload_n rfl B.1 dX4_passState_0) ?_
    refine jlk_cons (sm_iload_n rfl B.1 dX4_passState_1) ?_
    refine jlk_cons (sm_putZ B.1 fl_PointerAnalyzerModel_350_4_59 tyX4 tyX4_ok nmX4 (Or.inl rfl) (tyX4_ok 43 (by decide)) rfl (by decide) dX4_passState_2) ?_
    refine jlk_cons (sm_aload_n rfl B.1 dX4_passState_5) ?_
    refine jlk_cons (sm_iconst rfl B.1 dX4_passState_6) ?_
    refine jlk_cons (sm_putI B.1 fl_PointerAnalyzerModel_353_4_60 tyX4 tyX4_ok nmX4 (Or.inl rfl) (tyX4_ok 44 (by decide)) rfl (by decide) dX4_passState_7) ?_
    refine jlk_cons (sm_aload_n rfl B.1 dX4_passState_10) ?_
    refine jlk_cons (sm_aload_n rfl B.1 dX4_passState_11) ?_
    refine jlk_cons (sm_aload_n rfl B.1 dX4_passState_12) ?_
    refine jlk_cons (sm_getI B.1 fl_PointerAnalyzerModel_171_4_22 dX4_passState_13) ?_
    refine jlk_cons (sm_cV (x := yX4_passes) (host := "") (owner := "") isRI (i_X4_passes hI) B q3434 q3436 qs121 w4_X4_passes w6_X4_passes (by decide) (by decide) (by decide) kc_4 hy_X4_passes hl_X4_passes dX4_passState_16 trivial) ?_
    refine jlk_cons (sm_putI B.1 fl_PointerAnalyzerModel_171_4_22 tyX4 tyX4_ok nmX4 (Or.inl rfl) (tyX4_ok 6 (by decide)) rfl (by decide) dX4_passState_19) ?_
    refine jlk_cons (sm_iconst rfl B.1 dX4_passState_22) ?_
    refine jlk_cons (sm_istore_n rfl B.1 dX4_passState_23) ?_
    refine jlk_cons (sm_iload_n rfl B.1 dX4_passState_24) ?_
    refine jlk_cons (sm_iconst rfl B.1 dX4_passState_25) ?_
    refine jlk_cons (sm_icmpge rfl B.1 dX4_passState_26) ?_
    refine jlk_cons (sm_aload_n rfl B.1 dX4_passState_29) ?_
    refine jlk_cons (sm_getP B.1 fl_PointerAnalyzerModel_22_4_21 dX4_passState_30) ?_
    refine jlk_cons (sm_iload_n rfl B.1 dX4_passState_33) ?_
    refine jlk_cons (sm_aload_n rfl B.1 dX4_passState_34) ?_
    refine jlk_cons (sm_aload_n rfl B.1 dX4_passState_35) ?_
    refine jlk_cons (sm_getP B.1 fl_PointerAnalyzerModel_22_4_21 dX4_passState_36) ?_
    refine jlk_cons (sm_iload_n rfl B.1 dX4_passState_39) ?_
    refine jlk_cons (sm_iald B.1 dX4_passState_40) ?_
    refine jlk_cons (sm_cV (x := yX4_passes) (host := "") (owner := "") isRI (i_X4_passes hI) B q3434 q3436 qs121 w4_X4_passes w6_X4_passes (by decide) (by decide) (by decide) kc_4 hy_X4_passes hl_X4_passes dX4_passState_41 trivial) ?_
    refine jlk_cons (sm_iast B.1 dX4_passState_44) ?_
    refine jlk_cons (sm_iinc rfl B.1 dX4_passState_45) ?_
    refine jlk_cons (sm_goto rfl B.1 dX4_passState_48) ?_
    refine jlk_cons (sm_iconst rfl B.1 dX4_passState_51) ?_
    refine jlk_cons (sm_istore_n rfl B.1 dX4_passState_52) ?_
    refine jlk_cons (sm_iload_n rfl B.1 dX4_passState_53) ?_
    refine jlk_cons (sm_bipush rfl B.1 dX4_passState_54) ?_
    refine jlk_cons (sm_icmpge rfl B.1 dX4_passState_56) ?_
    refine jlk_cons (sm_aload_n rfl B.1 dX4_passState_59) ?_
    refine jlk_cons (sm_getP B.1 fl_PointerAnalyzerModel_7_4_17 dX4_passState_60) ?_
    refine jlk_cons (sm_iload_n rfl B.1 dX4_passState_63) ?_
    refine jlk_cons (sm_aload_n rfl B.1 dX4_passState_64) ?_
    refine jlk_cons (sm_aload_n rfl B.1 dX4_passState_65) ?_
    refine jlk_cons (sm_getP B.1 fl_PointerAnalyzerModel_7_4_17 dX4_passState_66) ?_
    exact jlk_nil
  · skip
    refine jlk_cons (sm_iload_n rfl B.1 dX4_passState_69) ?_
    refine jlk_cons (sm_iald B.1 dX4_passState_70) ?_
    refine jlk_cons (sm_cV (x := yX4_passes) (host := "") (owner := "") isRI (i_X4_passes hI) B q3434 q3436 qs121 w4_X4_passes w6_X4_passes (by decide) (by decide) (by decide) kc_4 hy_X4_passes hl_X4_passes dX4_passState_71 trivial) ?_
    refine jlk_cons (sm_iast B.1 dX4_passState_74) ?_
    refine jlk_cons (sm_aload_n rfl B.1 dX4_passState_75) ?_
    refine jlk_cons (sm_getP B.1 fl_PointerAnalyzerModel_13_4_18 dX4_passState_76) ?_
    refine jlk_cons (sm_iload_n rfl B.1 dX4_passState_79) ?_
    refine jlk_cons (sm_aload_n rfl B.1 dX4_passState_80) ?_
    refine jlk_cons (sm_aload_n rfl B.1 dX4_passState_81) ?_
    refine jlk_cons (sm_getP B.1 fl_PointerAnalyzerModel_13_4_18 dX4_passState_82) ?_
    refine jlk_cons (sm_iload_n rfl B.1 dX4_passState_85) ?_
    refine jlk_cons (sm_iald B.1 dX4_passState_86) ?_
    refine jlk_cons (sm_cV (x := yX4_passes) (host := "") (owner := "") isRI (i_X4_passes hI) B q3434 q3436 qs121 w4_X4_passes w6_X4_passes (by decide) (by decide) (by decide) kc_4 hy_X4_passes hl_X4_passes dX4_passState_87 trivial) ?_
    refine jlk_cons (sm_iast B.1 dX4_passState_90) ?_
    refine jlk_cons (sm_aload_n rfl B.1 dX4_passState_91) ?_
    refine jlk_cons (sm_getP B.1 fl_PointerAnalyzerModel_16_4_19 dX4_passState_92) ?_
    refine jlk_cons (sm_iload_n rfl B.1 dX4_passState_95) ?_
    refine jlk_cons (sm_aload_n rfl B.1 dX4_passState_96) ?_
    refine jlk_cons (sm_aload_n rfl B.1 dX4_passState_97) ?_
    refine jlk_cons (sm_getP B.1 fl_PointerAnalyzerModel_16_4_19 dX4_passState_98) ?_
    refine jlk_cons (sm_iload_n rfl B.1 dX4_passState_101) ?_
    refine jlk_cons (sm_iald B.1 dX4_passState_102) ?_
    refine jlk_cons (sm_cV (x := yX4_passes) (host := "") (owner := "") isRI (i_X4_passes hI) B q3434 q3436 qs121 w4_X4_passes w6_X4_passes (by decide) (by decide) (by decide) kc_4 hy_X4_passes hl_X4_passes dX4_passState_103 trivial) ?_
    refine jlk_cons (sm_iast B.1 dX4_passState_106) ?_
    refine jlk_cons (sm_aload_n rfl B.1 dX4_passState_107) ?_
    refine jlk_cons (sm_getP B.1 fl_PointerAnalyzerModel_19_4_20 dX4_passState_108) ?_
    refine jlk_cons (sm_iload_n rfl B.1 dX4_passState_111) ?_
    refine jlk_cons (sm_aload_n rfl B.1 dX4_passState_112) ?_
    refine jlk_cons (sm_aload_n rfl B.1 dX4_passState_113) ?_
    refine jlk_cons (sm_getP B.1 fl_PointerAnalyzerModel_19_4_20 dX4_passState_114) ?_
    refine jlk_cons (sm_iload_n rfl B.1 dX4_passState_117) ?_
    refine jlk_cons (sm_iald B.1 dX4_passState_118) ?_
    refine jlk_cons (sm_cV (x := yX4_passes) (host := "") (owner := "") isRI (i_X4_passes hI) B q3434 q3436 qs121 w4_X4_passes w6_X4_passes (by decide) (by decide) (by decide) kc_4 hy_X4_passes hl_X4_passes dX4_passState_119 trivial) ?_
    refine jlk_cons (sm_iast B.1 dX4_passState_122) ?_
    refine jlk_cons (sm_iinc rfl B.1 dX4_passState_123) ?_
    refine jlk_cons (sm_goto rfl B.1 dX4_passState_126) ?_
    refine jlk_cons (sm_vret B.1 B.2.1 hret dX4_passState_129) ?_
    exact jlk_nil
theorem v_X4_passState (hst : l.stackTraces = false) (hz : jEz (EV (d + 1))) (hI : jIH l D dA lo cs0 d) : jMe l D dA lo cs0 (EV (d + 1)) 148 yX4_passState (ws_ yX4_passState cX4_passState 3 (Option.none : Option Jvm.ClassFile.FieldType)) (d + 1) := z_meth hz rfl hp_X4_passState (r_X4_passState hst hI)
theorem r_X4_takesStatement (hst : l.stackTraces = false) (hI : jIH l D dA lo cs0 d) : jRows l D dA lo cs0 d 6 (tb_X4_takesStatement (EV d)) yX4_takesStatement cX4_takesStatement (Option.some Jvm.ClassFile.FieldType.boolean) [] := by
  intro p e R s m args below meth c z0 w0 zF wF Q rF hF B hz hw hret hnm
  refine jlk_app ?_ ?_
  · refine jlk_cons (sm_aload_n rfl B.1 dX4_takesStatement_0) ?_
    refine jlk_cons (sm_bipush rfl B.1 dX4_takesStatement_1) ?_
    refine jlk_cons (sm_cV (x := yX4_skips) (host := "") (owner := "") isRI (i_X4_skips hI) B q3062 q3064 qs67 w4_X4_skips w6_X4_skips (by decide) (by decide) (by decide) kc_4 hy_X4_skips hl_X4_skips dX4_takesStatement_3 trivial) ?_
    refine jlk_cons (sm_ifeq rfl B.1 dX4_takesStatement_6) ?_
    refine jlk_cons (sm_aload_n rfl B.1 dX4_takesStatement_9) ?_
    refine jlk_cons (sm_iload_n rfl B.1 dX4_takesStatement_10) ?_
    refine jlk_cons (sm_cV (x := yX4_takesStore) (host := "") (owner := "") isRI (i_X4_takesStore hI) B q3070 q3072 qs69 w4_X4_takesStore w6_X4_takesStore (by decide) (by decide) (by decide) kc_4 hy_X4_takesStore hl_X4_takesStore dX4_takesStatement_11 trivial) ?_
    refine jlk_cons (sm_zret B.1 B.2.1 hret dX4_takesStatement_14) ?_
    refine jlk_cons (sm_aload_n rfl B.1 dX4_takesStatement_15) ?_
    refine jlk_cons (sm_iload_n rfl B.1 dX4_takesStatement_16) ?_
    refine jlk_cons (sm_cV (x := yX4_name) (host := "") (owner := "") isRI (i_X4_name hI) B q3074 q3076 qs70 w4_X4_name w6_X4_name (by decide) (by decide) (by decide) kc_4 hy_X4_name hl_X4_name dX4_takesStatement_17 trivial) ?_
    refine jlk_cons (sm_istore_n rfl B.1 dX4_takesStatement_20) ?_
    refine jlk_cons (sm_iload_n rfl B.1 dX4_takesStatement_21) ?_
    refine jlk_cons (sm_iflt rfl B.1 dX4_takesStatement_22) ?_
    refine jlk_cons (sm_aload_n rfl B.1 dX4_takesStatement_25) ?_
    refine jlk_cons (sm_bipush rfl B.1 dX4_takesStatement_26) ?_
    refine jlk_cons (sm_cV (x := yX4_skips) (host := "") (owner := "") isRI (i_X4_skips hI) B q3062 q3064 qs67 w4_X4_skips w6_X4_skips (by decide) (by decide) (by decide) kc_4 hy_X4_skips hl_X4_skips dX4_takesStatement_28 trivial) ?_
    refine jlk_cons (sm_ifne rfl B.1 dX4_takesStatement_31) ?_
    refine jlk_cons (sm_iconst rfl B.1 dX4_takesStatement_34) ?_
    refine jlk_cons (sm_zret B.1 B.2.1 hret dX4_takesStatement_35) ?_
    refine jlk_cons (sm_aload_n rfl B.1 dX4_takesStatement_36) ?_
    refine jlk_cons (sm_bipush rfl B.1 dX4_takesStatement_37) ?_
    refine jlk_cons (sm_cV (x := yX4_skips) (host := "") (owner := "") isRI (i_X4_skips hI) B q3062 q3064 qs67 w4_X4_skips w6_X4_skips (by decide) (by decide) (by decide) kc_4 hy_X4_skips hl_X4_skips dX4_takesStatement_39 trivial) ?_
    refine jlk_cons (sm_ifeq rfl B.1 dX4_takesStatement_42) ?_
    refine jlk_cons (sm_aload_n rfl B.1 dX4_takesStatement_45) ?_
    refine jlk_cons (sm_bipush rfl B.1 dX4_takesStatement_46) ?_
    refine jlk_cons (sm_cV (x := yX4_skips) (host := "") (owner := "") isRI (i_X4_skips hI) B q3062 q3064 qs67 w4_X4_skips w6_X4_skips (by decide) (by decide) (by decide) kc_4 hy_X4_skips hl_X4_skips dX4_takesStatement_48 trivial) ?_
    refine jlk_cons (sm_ifeq rfl B.1 dX4_takesStatement_51) ?_
    refine jlk_cons (sm_aload_n rfl B.1 dX4_takesStatement_54) ?_
    refine jlk_cons (sm_bipush rfl B.1 dX4_takesStatement_55) ?_
    refine jlk_cons (sm_cV (x := yX4_skips) (host := "") (owner := "") isRI (i_X4_skips hI) B q3062 q3064 qs67 w4_X4_skips w6_X4_skips (by decide) (by decide) (by decide) kc_4 hy_X4_skips hl_X4_skips dX4_takesStatement_57 trivial) ?_
    refine jlk_cons (sm_ifne rfl B.1 dX4_takesStatement_60) ?_
    refine jlk_cons (sm_iconst rfl B.1 dX4_takesStatement_63) ?_
    refine jlk_cons (sm_zret B.1 B.2.1 hret dX4_takesStatement_64) ?_
    refine jlk_cons (sm_aload_n rfl B.1 dX4_takesStatement_65) ?_
    refine jlk_cons (sm_iconst rfl B.1 dX4_takesStatement_66) ?_
    refine jlk_cons (sm_iload_n rfl B.1 dX4_takesStatement_67) ?_
    refine jlk_cons (sm_iconst rfl B.1 dX4_takesStatement_68) ?_
    refine jlk_cons (sm_iconst rfl B.1 dX4_takesStatement_69) ?_
    refine jlk_cons (sm_cV (x := yX4_puts) (host := "") (owner := "") isRV (i_X4_puts hI) B q3078 q3080 qs71 w4_X4_puts w6_X4_puts (by decide) (by decide) (by decide) kc_4 hy_X4_puts hl_X4_puts dX4_takesStatement_70 trivial) ?_
    exact jlk_nil
  · skip
    refine jlk_app ?_ ?_
    · refine jlk_cons (sm_iconst rfl B.1 dX4_takesStatement_73) ?_
      refine jlk_cons (sm_zret B.1 B.2.1 hret dX4_takesStatement_74) ?_
      refine jlk_cons (sm_aload_n rfl B.1 dX4_takesStatement_75) ?_
      refine jlk_cons (sm_bipush rfl B.1 dX4_takesStatement_76) ?_
      refine jlk_cons (sm_cV (x := yX4_skips) (host := "") (owner := "") isRI (i_X4_skips hI) B q3062 q3064 qs67 w4_X4_skips w6_X4_skips (by decide) (by decide) (by decide) kc_4 hy_X4_skips hl_X4_skips dX4_takesStatement_78 trivial) ?_
      refine jlk_cons (sm_ifeq rfl B.1 dX4_takesStatement_81) ?_
      refine jlk_cons (sm_aload_n rfl B.1 dX4_takesStatement_84) ?_
      refine jlk_cons (sm_iload_n rfl B.1 dX4_takesStatement_85) ?_
      refine jlk_cons (sm_iload_n rfl B.1 dX4_takesStatement_86) ?_
      refine jlk_cons (sm_cV (x := yX4_takesCall) (host := "") (owner := "") isRI (i_X4_takesCall hI) B q3082 q3084 qs72 w4_X4_takesCall w6_X4_takesCall (by decide) (by decide) (by decide) kc_4 hy_X4_takesCall hl_X4_takesCall dX4_takesStatement_87 trivial) ?_
      refine jlk_cons (sm_zret B.1 B.2.1 hret dX4_takesStatement_90) ?_
      refine jlk_cons (sm_aload_n rfl B.1 dX4_takesStatement_91) ?_
      refine jlk_cons (sm_bipush rfl B.1 dX4_takesStatement_92) ?_
      refine jlk_cons (sm_cV (x := yX4_skips) (host := "") (owner := "") isRI (i_X4_skips hI) B q3062 q3064 qs67 w4_X4_skips w6_X4_skips (by decide) (by decide) (by decide) kc_4 hy_X4_skips hl_X4_skips dX4_takesStatement_94 trivial) ?_
      refine jlk_cons (sm_ifeq rfl B.1 dX4_takesStatement_97) ?_
      refine jlk_cons (sm_iconst rfl B.1 dX4_takesStatement_100) ?_
      refine jlk_cons (sm_goto rfl B.1 dX4_takesStatement_101) ?_
      refine jlk_cons (sm_aload_n rfl B.1 dX4_takesStatement_104) ?_
      refine jlk_cons (sm_bipush rfl B.1 dX4_takesStatement_105) ?_
      refine jlk_cons (sm_cV (x := yX4_skips) (host := "") (owner := "") isRI (i_X4_skips hI) B q3062 q3064 qs67 w4_X4_skips w6_X4_skips (by decide) (by decide) (by decide) kc_4 hy_X4_skips hl_X4_skips dX4_takesStatement_107 trivial) ?_
      refine jlk_cons (sm_ifeq rfl B.1 dX4_takesStatement_110) ?_
      refine jlk_cons (sm_iconst rfl B.1 dX4_takesStatement_113) ?_
      refine jlk_cons (sm_goto rfl B.1 dX4_takesStatement_114) ?_
      refine jlk_cons (sm_iconst rfl B.1 dX4_takesStatement_117) ?_
      refine jlk_cons (sm_istore_n rfl B.1 dX4_takesStatement_118) ?_
      refine jlk_cons (sm_aload_n rfl B.1 dX4_takesStatement_119) ?_
      refine jlk_cons (sm_iload_n rfl B.1 dX4_takesStatement_120) ?_
      refine jlk_cons (sm_cV (x := yX4_name) (host := "") (owner := "") isRI (i_X4_name hI) B q3074 q3076 qs70 w4_X4_name w6_X4_name (by decide) (by decide) (by decide) kc_4 hy_X4_name hl_X4_name dX4_takesStatement_121 trivial) ?_
      refine jlk_cons (sm_istore B.1 dX4_takesStatement_124) ?_
      refine jlk_cons (sm_iload B.1 dX4_takesStatement_126) ?_
      refine jlk_cons (sm_ifge rfl B.1 dX4_takesStatement_128) ?_
      refine jlk_cons (sm_iconst rfl B.1 dX4_takesStatement_131) ?_
      refine jlk_cons (sm_zret B.1 B.2.1 hret dX4_takesStatement_132) ?_
      refine jlk_cons (sm_iconst rfl B.1 dX4_takesStatement_133) ?_
      refine jlk_cons (sm_istore B.1 dX4_takesStatement_134) ?_
      refine jlk_cons (sm_iload_n rfl B.1 dX4_takesStatement_136) ?_
      refine jlk_cons (sm_iconst rfl B.1 dX4_takesStatement_137) ?_
      refine jlk_cons (sm_icmpne rfl B.1 dX4_takesStatement_138) ?_
      refine jlk_cons (sm_aload_n rfl B.1 dX4_takesStatement_141) ?_
      refine jlk_cons (sm_bipush rfl B.1 dX4_takesStatement_142) ?_
      exact jlk_nil
    · skip
      refine jlk_cons (sm_cV (x := yX4_skips) (host := "") (owner := "") isRI (i_X4_skips hI) B q3062 q3064 qs67 w4_X4_skips w6_X4_skips (by decide) (by decide) (by decide) kc_4 hy_X4_skips hl_X4_skips dX4_takesStatement_144 trivial) ?_
      refine jlk_cons (sm_ifeq rfl B.1 dX4_takesStatement_147) ?_
      refine jlk_cons (sm_iconst rfl B.1 dX4_takesStatement_150) ?_
      refine jlk_cons (sm_istore_n rfl B.1 dX4_takesStatement_151) ?_
      refine jlk_cons (sm_aload_n rfl B.1 dX4_takesStatement_152) ?_
      refine jlk_cons (sm_iconst rfl B.1 dX4_takesStatement_153) ?_
      refine jlk_cons (sm_cV (x := yX4_digit) (host := "") (owner := "") isRI (i_X4_digit hI) B q3086 q3088 qs73 w4_X4_digit w6_X4_digit (by decide) (by decide) (by decide) kc_4 hy_X4_digit hl_X4_digit dX4_takesStatement_154 trivial) ?_
      refine jlk_cons (sm_istore B.1 dX4_takesStatement_157) ?_
      refine jlk_cons (sm_iload B.1 dX4_takesStatement_159) ?_
      refine jlk_cons (sm_ifge rfl B.1 dX4_takesStatement_161) ?_
      refine jlk_cons (sm_iconst rfl B.1 dX4_takesStatement_164) ?_
      refine jlk_cons (sm_zret B.1 B.2.1 hret dX4_takesStatement_165) ?_
      refine jlk_cons (sm_aload_n rfl B.1 dX4_takesStatement_166) ?_
      refine jlk_cons (sm_iload_n rfl B.1 dX4_takesStatement_167) ?_
      refine jlk_cons (sm_iload_n rfl B.1 dX4_takesStatement_168) ?_
      refine jlk_cons (sm_iload B.1 dX4_takesStatement_169) ?_
      refine jlk_cons (sm_iload B.1 dX4_takesStatement_171) ?_
      refine jlk_cons (sm_cV (x := yX4_puts) (host := "") (owner := "") isRV (i_X4_puts hI) B q3078 q3080 qs71 w4_X4_puts w6_X4_puts (by decide) (by decide) (by decide) kc_4 hy_X4_puts hl_X4_puts dX4_takesStatement_173 trivial) ?_
      refine jlk_cons (sm_iconst rfl B.1 dX4_takesStatement_176) ?_
      refine jlk_cons (sm_zret B.1 B.2.1 hret dX4_takesStatement_177) ?_
      exact jlk_nil
theorem v_X4_takesStatement (hst : l.stackTraces = false) (hz : jEz (EV (d + 1))) (hI : jIH l D dA lo cs0 d) : jMe l D dA lo cs0 (EV (d + 1)) 167 yX4_takesStatement (ws_ yX4_takesStatement cX4_takesStatement 6 (Option.some Jvm.ClassFile.FieldType.boolean)) (d + 1) := z_meth hz rfl hp_X4_takesStatement (r_X4_takesStatement hst hI)
theorem r_X4_skips (hst : l.stackTraces = false) (hI : jIH l D dA lo cs0 d) : jRows l D dA lo cs0 d 2 (tb_X4_skips (EV d)) yX4_skips cX4_skips (Option.some Jvm.ClassFile.FieldType.boolean) [] := by
  intro p e R s m args below meth c z0 w0 zF wF Q rF hF B hz hw hret hnm
  refine jlk_cons (sm_aload_n rfl B.1 dX4_skips_0) ?_
  refine jlk_cons (sm_cV (x := yX4_next) (host := "") (owner := "") isRI (i_X4_next hI) B q3066 q3068 qs68 w4_X4_next w6_X4_next (by decide) (by decide) (by decide) kc_4 hy_X4_next hl_X4_next dX4_skips_1 trivial) ?_
  refine jlk_cons (sm_iload_n rfl B.1 dX4_skips_4) ?_
  refine jlk_cons (sm_icmpeq rfl B.1 dX4_skips_5) ?_
  refine jlk_cons (sm_iconst rfl B.1 dX4_skips_8) ?_
  refine jlk_cons (sm_zret B.1 B.2.1 hret dX4_skips_9) ?_
  refine jlk_cons (sm_aload_n rfl B.1 dX4_skips_10) ?_
  refine jlk_cons (sm_dup B.1 dX4_skips_11) ?_
  refine jlk_cons (sm_getI B.1 fl_PointerAnalyzerModel_104_4_25 dX4_skips_12) ?_
  refine jlk_cons (sm_iconst rfl B.1 dX4_skips_15) ?_
  refine jlk_cons (sm_iadd B.1 dX4_skips_16) ?_
  refine jlk_cons (sm_putI B.1 fl_PointerAnalyzerModel_104_4_25 tyX4 tyX4_ok nmX4 (Or.inl rfl) (tyX4_ok 9 (by decide)) rfl (by decide) dX4_skips_17) ?_
  refine jlk_cons (sm_iconst rfl B.1 dX4_skips_20) ?_
  refine jlk_cons (sm_zret B.1 B.2.1 hret dX4_skips_21) ?_
  exact jlk_nil
theorem v_X4_skips (hst : l.stackTraces = false) (hz : jEz (EV (d + 1))) (hI : jIH l D dA lo cs0 d) : jMe l D dA lo cs0 (EV (d + 1)) 168 yX4_skips (ws_ yX4_skips cX4_skips 2 (Option.some Jvm.ClassFile.FieldType.boolean)) (d + 1) := z_meth hz rfl hp_X4_skips (r_X4_skips hst hI)
theorem r_X4_findRanks (hst : l.stackTraces = false) (hI : jIH l D dA lo cs0 d) : jRows l D dA lo cs0 d 5 (tb_X4_findRanks (EV d)) yX4_findRanks cX4_findRanks (Option.none : Option Jvm.ClassFile.FieldType) [] := by
  intro p e R s m args below meth c z0 w0 zF wF Q rF hF B hz hw hret hnm
  refine jlk_app ?_ ?_
  · refine jlk_cons (sm_aload_n rfl B.1 dX4_findRanks_0) ?_
    refine jlk_cons (sm_iconst rfl B.1 dX4_findRanks_1) ?_
    refine jlk_cons (sm_cV (x := yX4_findContexts) (host := "") (owner := "") isRV (i_X4_findContexts hI) B q3154 q3156 qs83 w4_X4_findContexts w6_X4_findContexts (by decide) (by decide) (by decide) kc_4 hy_X4_findContexts hl_X4_findContexts dX4_findRanks_2 trivial) ?_
    refine jlk_cons (sm_aload_n rfl B.1 dX4_findRanks_5) ?_
    refine jlk_cons (sm_cV (x := yX4_clears) (host := "") (owner := "") isRV (i_X4_clears hI) B q3173 q3175 qs87 w4_X4_clears w6_X4_clears (by decide) (by decide) (by decide) kc_4 hy_X4_clears hl_X4_clears dX4_findRanks_6 trivial) ?_
    refine jlk_cons (sm_iconst rfl B.1 dX4_findRanks_9) ?_
    refine jlk_cons (sm_istore_n rfl B.1 dX4_findRanks_10) ?_
    refine jlk_cons (sm_iload_n rfl B.1 dX4_findRanks_11) ?_
    refine jlk_cons (sm_aload_n rfl B.1 dX4_findRanks_12) ?_
    refine jlk_cons (sm_getP B.1 fl_PointerAnalyzerModel_45_4_37 dX4_findRanks_13) ?_
    refine jlk_cons (sm_alen B.1 (t := 101) (by decide) rfl dX4_findRanks_16) ?_
    refine jlk_cons (sm_icmpge rfl B.1 dX4_findRanks_17) ?_
    refine jlk_cons (sm_aload_n rfl B.1 dX4_findRanks_20) ?_
    refine jlk_cons (sm_getP B.1 fl_PointerAnalyzerModel_45_4_37 dX4_findRanks_21) ?_
    refine jlk_cons (sm_iload_n rfl B.1 dX4_findRanks_24) ?_
    refine jlk_cons (sm_iconst rfl B.1 dX4_findRanks_25) ?_
    refine jlk_cons (sm_iast B.1 dX4_findRanks_26) ?_
    refine jlk_cons (sm_iinc rfl B.1 dX4_findRanks_27) ?_
    refine jlk_cons (sm_goto rfl B.1 dX4_findRanks_30) ?_
    refine jlk_cons (sm_aload_n rfl B.1 dX4_findRanks_33) ?_
    refine jlk_cons (sm_iconst rfl B.1 dX4_findRanks_34) ?_
    refine jlk_cons (sm_putI B.1 fl_PointerAnalyzerModel_219_4_39 tyX4 tyX4_ok nmX4 (Or.inl rfl) (tyX4_ok 23 (by decide)) rfl (by decide) dX4_findRanks_35) ?_
    refine jlk_cons (sm_iconst rfl B.1 dX4_findRanks_38) ?_
    refine jlk_cons (sm_istore_n rfl B.1 dX4_findRanks_39) ?_
    refine jlk_cons (sm_iload_n rfl B.1 dX4_findRanks_40) ?_
    refine jlk_cons (sm_ifeq rfl B.1 dX4_findRanks_41) ?_
    refine jlk_cons (sm_iconst rfl B.1 dX4_findRanks_44) ?_
    refine jlk_cons (sm_istore_n rfl B.1 dX4_findRanks_45) ?_
    refine jlk_cons (sm_iload_n rfl B.1 dX4_findRanks_46) ?_
    refine jlk_cons (sm_aload_n rfl B.1 dX4_findRanks_47) ?_
    refine jlk_cons (sm_getP B.1 fl_PointerAnalyzerModel_38_4_33 dX4_findRanks_48) ?_
    refine jlk_cons (sm_alen B.1 (t := 105) (by decide) rfl dX4_findRanks_51) ?_
    refine jlk_cons (sm_icmpge rfl B.1 dX4_findRanks_52) ?_
    refine jlk_cons (sm_aload_n rfl B.1 dX4_findRanks_55) ?_
    refine jlk_cons (sm_getP B.1 fl_PointerAnalyzerModel_42_4_34 dX4_findRanks_56) ?_
    refine jlk_cons (sm_iload_n rfl B.1 dX4_findRanks_59) ?_
    refine jlk_cons (sm_aload_n rfl B.1 dX4_findRanks_60) ?_
    refine jlk_cons (sm_getP B.1 fl_PointerAnalyzerModel_38_4_33 dX4_findRanks_61) ?_
    refine jlk_cons (sm_iload_n rfl B.1 dX4_findRanks_64) ?_
    refine jlk_cons (sm_lald B.1 dX4_findRanks_65) ?_
    exact jlk_nil
  · skip
    refine jlk_app ?_ ?_
    · refine jlk_cons (sm_last B.1 dX4_findRanks_66) ?_
      refine jlk_cons (sm_iinc rfl B.1 dX4_findRanks_67) ?_
      refine jlk_cons (sm_goto rfl B.1 dX4_findRanks_70) ?_
      refine jlk_cons (sm_iconst rfl B.1 dX4_findRanks_73) ?_
      refine jlk_cons (sm_istore_n rfl B.1 dX4_findRanks_74) ?_
      refine jlk_cons (sm_iconst rfl B.1 dX4_findRanks_75) ?_
      refine jlk_cons (sm_istore_n rfl B.1 dX4_findRanks_76) ?_
      refine jlk_cons (sm_iload_n rfl B.1 dX4_findRanks_77) ?_
      refine jlk_cons (sm_aload_n rfl B.1 dX4_findRanks_78) ?_
      refine jlk_cons (sm_cV (x := yX4_statements) (host := "") (owner := "") isRI (i_X4_statements hI) B q3110 q3112 qs77 w4_X4_statements w6_X4_statements (by decide) (by decide) (by decide) kc_4 hy_X4_statements hl_X4_statements dX4_findRanks_79 trivial) ?_
      refine jlk_cons (sm_icmpge rfl B.1 dX4_findRanks_82) ?_
      refine jlk_cons (sm_aload_n rfl B.1 dX4_findRanks_85) ?_
      refine jlk_cons (sm_iload_n rfl B.1 dX4_findRanks_86) ?_
      refine jlk_cons (sm_cV (x := yX4_placeOf) (host := "") (owner := "") isRI (i_X4_placeOf hI) B q3122 q3124 qs79 w4_X4_placeOf w6_X4_placeOf (by decide) (by decide) (by decide) kc_4 hy_X4_placeOf hl_X4_placeOf dX4_findRanks_87 trivial) ?_
      refine jlk_cons (sm_istore_n rfl B.1 dX4_findRanks_90) ?_
      refine jlk_cons (sm_aload_n rfl B.1 dX4_findRanks_91) ?_
      refine jlk_cons (sm_iload_n rfl B.1 dX4_findRanks_92) ?_
      refine jlk_cons (sm_bipush rfl B.1 dX4_findRanks_93) ?_
      refine jlk_cons (sm_idiv B.1 dX4_findRanks_95) ?_
      refine jlk_cons (sm_iconst rfl B.1 dX4_findRanks_96) ?_
      refine jlk_cons (sm_cV (x := yX4_contextOf) (host := "") (owner := "") isRI (i_X4_contextOf hI) B q3169 q3171 qs86 w4_X4_contextOf w6_X4_contextOf (by decide) (by decide) (by decide) kc_4 hy_X4_contextOf hl_X4_contextOf dX4_findRanks_97 trivial) ?_
      refine jlk_cons (sm_istore B.1 dX4_findRanks_100) ?_
      refine jlk_cons (sm_iload B.1 dX4_findRanks_102) ?_
      refine jlk_cons (sm_ifge rfl B.1 dX4_findRanks_104) ?_
      refine jlk_cons (sm_goto rfl B.1 dX4_findRanks_107) ?_
      refine jlk_cons (sm_aload_n rfl B.1 dX4_findRanks_110) ?_
      refine jlk_cons (sm_iconst rfl B.1 dX4_findRanks_111) ?_
      refine jlk_cons (sm_putZ B.1 fl_PointerAnalyzerModel_191_4_36 tyX4 tyX4_ok nmX4 (Or.inl rfl) (tyX4_ok 20 (by decide)) rfl (by decide) dX4_findRanks_112) ?_
      refine jlk_cons (sm_aload_n rfl B.1 dX4_findRanks_115) ?_
      refine jlk_cons (sm_aload_n rfl B.1 dX4_findRanks_116) ?_
      refine jlk_cons (sm_getP B.1 fl_PointerAnalyzerModel_42_4_34 dX4_findRanks_117) ?_
      refine jlk_cons (sm_iload_n rfl B.1 dX4_findRanks_120) ?_
      refine jlk_cons (sm_iload B.1 dX4_findRanks_121) ?_
      refine jlk_cons (sm_iconst rfl B.1 dX4_findRanks_123) ?_
      refine jlk_cons (sm_cV (x := yX4_follows) (host := "") (owner := "") isRV (i_X4_follows hI) B q3177 q3179 qs88 w4_X4_follows w6_X4_follows (by decide) (by decide) (by decide) kc_4 hy_X4_follows hl_X4_follows dX4_findRanks_124 trivial) ?_
      refine jlk_cons (sm_aload_n rfl B.1 dX4_findRanks_127) ?_
      refine jlk_cons (sm_getI B.1 fl_PointerAnalyzerModel_191_4_36 dX4_findRanks_128) ?_
      refine jlk_cons (sm_ifne rfl B.1 dX4_findRanks_131) ?_
      refine jlk_cons (sm_goto rfl B.1 dX4_findRanks_134) ?_
      refine jlk_cons (sm_iconst rfl B.1 dX4_findRanks_137) ?_
      exact jlk_nil
    · skip
      refine jlk_cons (sm_istore_n rfl B.1 dX4_findRanks_138) ?_
      refine jlk_cons (sm_aload_n rfl B.1 dX4_findRanks_139) ?_
      refine jlk_cons (sm_iload_n rfl B.1 dX4_findRanks_140) ?_
      refine jlk_cons (sm_aload_n rfl B.1 dX4_findRanks_141) ?_
      refine jlk_cons (sm_getI B.1 fl_PointerAnalyzerModel_219_4_39 dX4_findRanks_142) ?_
      refine jlk_cons (sm_iconst rfl B.1 dX4_findRanks_145) ?_
      refine jlk_cons (sm_iadd B.1 dX4_findRanks_146) ?_
      refine jlk_cons (sm_cV (x := yX4_notes) (host := "") (owner := "") isRV (i_X4_notes hI) B q3200 q3202 qs92 w4_X4_notes w6_X4_notes (by decide) (by decide) (by decide) kc_4 hy_X4_notes hl_X4_notes dX4_findRanks_147 trivial) ?_
      refine jlk_cons (sm_iinc rfl B.1 dX4_findRanks_150) ?_
      refine jlk_cons (sm_goto rfl B.1 dX4_findRanks_153) ?_
      refine jlk_cons (sm_aload_n rfl B.1 dX4_findRanks_156) ?_
      refine jlk_cons (sm_dup B.1 dX4_findRanks_157) ?_
      refine jlk_cons (sm_getI B.1 fl_PointerAnalyzerModel_219_4_39 dX4_findRanks_158) ?_
      refine jlk_cons (sm_iload_n rfl B.1 dX4_findRanks_161) ?_
      refine jlk_cons (sm_ifeq rfl B.1 dX4_findRanks_162) ?_
      refine jlk_cons (sm_iconst rfl B.1 dX4_findRanks_165) ?_
      refine jlk_cons (sm_goto rfl B.1 dX4_findRanks_166) ?_
      refine jlk_cons (sm_iconst rfl B.1 dX4_findRanks_169) ?_
      refine jlk_cons (sm_iadd B.1 dX4_findRanks_170) ?_
      refine jlk_cons (sm_putI B.1 fl_PointerAnalyzerModel_219_4_39 tyX4 tyX4_ok nmX4 (Or.inl rfl) (tyX4_ok 23 (by decide)) rfl (by decide) dX4_findRanks_171) ?_
      refine jlk_cons (sm_goto rfl B.1 dX4_findRanks_174) ?_
      refine jlk_cons (sm_vret B.1 B.2.1 hret dX4_findRanks_177) ?_
      exact jlk_nil
theorem v_X4_findRanks (hst : l.stackTraces = false) (hz : jEz (EV (d + 1))) (hI : jIH l D dA lo cs0 d) : jMe l D dA lo cs0 (EV (d + 1)) 172 yX4_findRanks (ws_ yX4_findRanks cX4_findRanks 5 (Option.none : Option Jvm.ClassFile.FieldType)) (d + 1) := z_meth hz rfl hp_X4_findRanks (r_X4_findRanks hst hI)
theorem r_X4_findContexts (hst : l.stackTraces = false) (hI : jIH l D dA lo cs0 d) : jRows l D dA lo cs0 d 9 (tb_X4_findContexts (EV d)) yX4_findContexts cX4_findContexts (Option.none : Option Jvm.ClassFile.FieldType) [] := by
  intro p e R s m args below meth c z0 w0 zF wF Q rF hF B hz hw hret hnm
  refine jlk_app ?_ ?_
  · refine jlk_cons (sm_aload_n rfl B.1 dX4_findContexts_0) ?_
    refine jlk_cons (sm_iconst rfl B.1 dX4_findContexts_1) ?_
    refine jlk_cons (sm_putI B.1 fl_PointerAnalyzerModel_174_4_32 tyX4 tyX4_ok nmX4 (Or.inl rfl) (tyX4_ok 16 (by decide)) rfl (by decide) dX4_findContexts_2) ?_
    refine jlk_cons (sm_aload_n rfl B.1 dX4_findContexts_5) ?_
    refine jlk_cons (sm_iconst rfl B.1 dX4_findContexts_6) ?_
    refine jlk_cons (sm_iconst rfl B.1 dX4_findContexts_7) ?_
    refine jlk_cons (sm_cV (x := yX4_addsContext) (host := "") (owner := "") isRV (i_X4_addsContext hI) B q3158 q3160 qs84 w4_X4_addsContext w6_X4_addsContext (by decide) (by decide) (by decide) kc_4 hy_X4_addsContext hl_X4_addsContext dX4_findContexts_8 trivial) ?_
    refine jlk_cons (sm_iconst rfl B.1 dX4_findContexts_11) ?_
    refine jlk_cons (sm_istore_n rfl B.1 dX4_findContexts_12) ?_
    refine jlk_cons (sm_iload_n rfl B.1 dX4_findContexts_13) ?_
    refine jlk_cons (sm_aload_n rfl B.1 dX4_findContexts_14) ?_
    refine jlk_cons (sm_getI B.1 fl_PointerAnalyzerModel_174_4_32 dX4_findContexts_15) ?_
    refine jlk_cons (sm_icmpge rfl B.1 dX4_findContexts_18) ?_
    refine jlk_cons (sm_iconst rfl B.1 dX4_findContexts_21) ?_
    refine jlk_cons (sm_istore_n rfl B.1 dX4_findContexts_22) ?_
    refine jlk_cons (sm_aload_n rfl B.1 dX4_findContexts_23) ?_
    refine jlk_cons (sm_getP B.1 fl_PointerAnalyzerModel_32_4_30 dX4_findContexts_24) ?_
    refine jlk_cons (sm_iload_n rfl B.1 dX4_findContexts_27) ?_
    refine jlk_cons (sm_iald B.1 dX4_findContexts_28) ?_
    refine jlk_cons (sm_istore B.1 dX4_findContexts_29) ?_
    refine jlk_cons (sm_aload_n rfl B.1 dX4_findContexts_31) ?_
    refine jlk_cons (sm_getP B.1 fl_PointerAnalyzerModel_35_4_31 dX4_findContexts_32) ?_
    refine jlk_cons (sm_iload_n rfl B.1 dX4_findContexts_35) ?_
    refine jlk_cons (sm_iald B.1 dX4_findContexts_36) ?_
    refine jlk_cons (sm_istore B.1 dX4_findContexts_37) ?_
    refine jlk_cons (sm_iconst rfl B.1 dX4_findContexts_39) ?_
    refine jlk_cons (sm_istore B.1 dX4_findContexts_40) ?_
    refine jlk_cons (sm_iload B.1 dX4_findContexts_42) ?_
    refine jlk_cons (sm_aload_n rfl B.1 dX4_findContexts_44) ?_
    refine jlk_cons (sm_getP B.1 fl_PointerAnalyzerModel_22_4_21 dX4_findContexts_45) ?_
    refine jlk_cons (sm_iload B.1 dX4_findContexts_48) ?_
    refine jlk_cons (sm_iald B.1 dX4_findContexts_50) ?_
    refine jlk_cons (sm_icmpge rfl B.1 dX4_findContexts_51) ?_
    refine jlk_cons (sm_iload_n rfl B.1 dX4_findContexts_54) ?_
    refine jlk_cons (sm_ifne rfl B.1 dX4_findContexts_55) ?_
    refine jlk_cons (sm_bipush rfl B.1 dX4_findContexts_58) ?_
    refine jlk_cons (sm_iload B.1 dX4_findContexts_60) ?_
    refine jlk_cons (sm_imul B.1 dX4_findContexts_62) ?_
    refine jlk_cons (sm_iload B.1 dX4_findContexts_63) ?_
    refine jlk_cons (sm_iadd B.1 dX4_findContexts_65) ?_
    exact jlk_nil
  · skip
    refine jlk_app ?_ ?_
    · refine jlk_cons (sm_istore B.1 dX4_findContexts_66) ?_
      refine jlk_cons (sm_aload_n rfl B.1 dX4_findContexts_68) ?_
      refine jlk_cons (sm_getP B.1 fl_PointerAnalyzerModel_7_4_17 dX4_findContexts_69) ?_
      refine jlk_cons (sm_iload B.1 dX4_findContexts_72) ?_
      refine jlk_cons (sm_iald B.1 dX4_findContexts_74) ?_
      refine jlk_cons (sm_bipush rfl B.1 dX4_findContexts_75) ?_
      refine jlk_cons (sm_icmpeq rfl B.1 dX4_findContexts_77) ?_
      refine jlk_cons (sm_goto rfl B.1 dX4_findContexts_80) ?_
      refine jlk_cons (sm_iload B.1 dX4_findContexts_83) ?_
      refine jlk_cons (sm_aload_n rfl B.1 dX4_findContexts_85) ?_
      refine jlk_cons (sm_iload B.1 dX4_findContexts_86) ?_
      refine jlk_cons (sm_cV (x := yX4_numberOf) (host := "") (owner := "") isRI (i_X4_numberOf hI) B q3162 q3164 qs85 w4_X4_numberOf w6_X4_numberOf (by decide) (by decide) (by decide) kc_4 hy_X4_numberOf hl_X4_numberOf dX4_findContexts_88 trivial) ?_
      refine jlk_cons (sm_iload_n rfl B.1 dX4_findContexts_91) ?_
      refine jlk_cons (sm_cS (x := yX4_codeBehind) (r9 := kr_6) (host := "") (owner := "") isSI (i_X4_codeBehind hI) B q3166 q3167 w4_X4_codeBehind w6_X4_codeBehind (by decide) hy_X4_codeBehind hl_X4_codeBehind dX4_findContexts_92 trivial) ?_
      refine jlk_cons (sm_istore B.1 dX4_findContexts_95) ?_
      refine jlk_cons (sm_aload_n rfl B.1 dX4_findContexts_97) ?_
      refine jlk_cons (sm_aload_n rfl B.1 dX4_findContexts_98) ?_
      refine jlk_cons (sm_getP B.1 fl_PointerAnalyzerModel_19_4_20 dX4_findContexts_99) ?_
      refine jlk_cons (sm_iload B.1 dX4_findContexts_102) ?_
      refine jlk_cons (sm_iald B.1 dX4_findContexts_104) ?_
      refine jlk_cons (sm_iload B.1 dX4_findContexts_105) ?_
      refine jlk_cons (sm_cV (x := yX4_contextOf) (host := "") (owner := "") isRI (i_X4_contextOf hI) B q3169 q3171 qs86 w4_X4_contextOf w6_X4_contextOf (by decide) (by decide) (by decide) kc_4 hy_X4_contextOf hl_X4_contextOf dX4_findContexts_107 trivial) ?_
      refine jlk_cons (sm_iflt rfl B.1 dX4_findContexts_110) ?_
      refine jlk_cons (sm_goto rfl B.1 dX4_findContexts_113) ?_
      refine jlk_cons (sm_aload_n rfl B.1 dX4_findContexts_116) ?_
      refine jlk_cons (sm_aload_n rfl B.1 dX4_findContexts_117) ?_
      refine jlk_cons (sm_getP B.1 fl_PointerAnalyzerModel_19_4_20 dX4_findContexts_118) ?_
      refine jlk_cons (sm_iload B.1 dX4_findContexts_121) ?_
      refine jlk_cons (sm_iald B.1 dX4_findContexts_123) ?_
      refine jlk_cons (sm_iload B.1 dX4_findContexts_124) ?_
      refine jlk_cons (sm_cV (x := yX4_addsContext) (host := "") (owner := "") isRV (i_X4_addsContext hI) B q3158 q3160 qs84 w4_X4_addsContext w6_X4_addsContext (by decide) (by decide) (by decide) kc_4 hy_X4_addsContext hl_X4_addsContext dX4_findContexts_126 trivial) ?_
      refine jlk_cons (sm_iconst rfl B.1 dX4_findContexts_129) ?_
      refine jlk_cons (sm_istore_n rfl B.1 dX4_findContexts_130) ?_
      refine jlk_cons (sm_iinc rfl B.1 dX4_findContexts_131) ?_
      refine jlk_cons (sm_goto rfl B.1 dX4_findContexts_134) ?_
      refine jlk_cons (sm_iload_n rfl B.1 dX4_findContexts_137) ?_
      refine jlk_cons (sm_ifeq rfl B.1 dX4_findContexts_138) ?_
      refine jlk_cons (sm_iconst rfl B.1 dX4_findContexts_141) ?_
      refine jlk_cons (sm_goto rfl B.1 dX4_findContexts_142) ?_
      refine jlk_cons (sm_iload_n rfl B.1 dX4_findContexts_145) ?_
      exact jlk_nil
    · skip
      refine jlk_cons (sm_iconst rfl B.1 dX4_findContexts_146) ?_
      refine jlk_cons (sm_iadd B.1 dX4_findContexts_147) ?_
      refine jlk_cons (sm_istore_n rfl B.1 dX4_findContexts_148) ?_
      refine jlk_cons (sm_goto rfl B.1 dX4_findContexts_149) ?_
      refine jlk_cons (sm_vret B.1 B.2.1 hret dX4_findContexts_152) ?_
      exact jlk_nil
theorem v_X4_findContexts (hst : l.stackTraces = false) (hz : jEz (EV (d + 1))) (hI : jIH l D dA lo cs0 d) : jMe l D dA lo cs0 (EV (d + 1)) 173 yX4_findContexts (ws_ yX4_findContexts cX4_findContexts 9 (Option.none : Option Jvm.ClassFile.FieldType)) (d + 1) := z_meth hz rfl hp_X4_findContexts (r_X4_findContexts hst hI)
theorem r_X4_clears (hst : l.stackTraces = false) (hI : jIH l D dA lo cs0 d) : jRows l D dA lo cs0 d 2 (tb_X4_clears (EV d)) yX4_clears cX4_clears (Option.none : Option Jvm.ClassFile.FieldType) [] := by
  intro p e R s m args below meth c z0 w0 zF wF Q rF hF B hz hw hret hnm
  refine jlk_cons (sm_iconst rfl B.1 dX4_clears_0) ?_
  refine jlk_cons (sm_istore_n rfl B.1 dX4_clears_1) ?_
  refine jlk_cons (sm_iload_n rfl B.1 dX4_clears_2) ?_
  refine jlk_cons (sm_aload_n rfl B.1 dX4_clears_3) ?_
  refine jlk_cons (sm_getP B.1 fl_PointerAnalyzerModel_38_4_33 dX4_clears_4) ?_
  refine jlk_cons (sm_alen B.1 (t := 105) (by decide) rfl dX4_clears_7) ?_
  refine jlk_cons (sm_icmpge rfl B.1 dX4_clears_8) ?_
  refine jlk_cons (sm_aload_n rfl B.1 dX4_clears_11) ?_
  refine jlk_cons (sm_getP B.1 fl_PointerAnalyzerModel_38_4_33 dX4_clears_12) ?_
  refine jlk_cons (sm_iload_n rfl B.1 dX4_clears_15) ?_
  refine jlk_cons (sm_lconst rfl B.1 dX4_clears_16) ?_
  refine jlk_cons (sm_last B.1 dX4_clears_17) ?_
  refine jlk_cons (sm_iinc rfl B.1 dX4_clears_18) ?_
  refine jlk_cons (sm_goto rfl B.1 dX4_clears_21) ?_
  refine jlk_cons (sm_vret B.1 B.2.1 hret dX4_clears_24) ?_
  exact jlk_nil
theorem v_X4_clears (hst : l.stackTraces = false) (hz : jEz (EV (d + 1))) (hI : jIH l D dA lo cs0 d) : jMe l D dA lo cs0 (EV (d + 1)) 174 yX4_clears (ws_ yX4_clears cX4_clears 2 (Option.none : Option Jvm.ClassFile.FieldType)) (d + 1) := z_meth hz rfl hp_X4_clears (r_X4_clears hst hI)
theorem r_X4_follows (hst : l.stackTraces = false) (hI : jIH l D dA lo cs0 d) : jRows l D dA lo cs0 d 9 (tb_X4_follows (EV d)) yX4_follows cX4_follows (Option.none : Option Jvm.ClassFile.FieldType) [] := by
  intro p e R s m args below meth c z0 w0 zF wF Q rF hF B hz hw hret hnm
  refine jlk_app ?_ ?_
  · refine jlk_cons (sm_aload_n rfl B.1 dX4_follows_0) ?_
    refine jlk_cons (sm_getP B.1 fl_PointerAnalyzerModel_13_4_18 dX4_follows_1) ?_
    refine jlk_cons (sm_iload_n rfl B.1 dX4_follows_4) ?_
    refine jlk_cons (sm_iald B.1 dX4_follows_5) ?_
    refine jlk_cons (sm_iload_n rfl B.1 dX4_follows_6) ?_
    refine jlk_cons (sm_cS (x := yX4_cellOf) (r9 := kr_6) (host := "") (owner := "") isSI (i_X4_cellOf hI) B q3181 q3182 w4_X4_cellOf w6_X4_cellOf (by decide) hy_X4_cellOf hl_X4_cellOf dX4_follows_7 trivial) ?_
    refine jlk_cons (sm_istore B.1 dX4_follows_10) ?_
    refine jlk_cons (sm_aload_n rfl B.1 dX4_follows_12) ?_
    refine jlk_cons (sm_getP B.1 fl_PointerAnalyzerModel_16_4_19 dX4_follows_13) ?_
    refine jlk_cons (sm_iload_n rfl B.1 dX4_follows_16) ?_
    refine jlk_cons (sm_iald B.1 dX4_follows_17) ?_
    refine jlk_cons (sm_iload_n rfl B.1 dX4_follows_18) ?_
    refine jlk_cons (sm_cS (x := yX4_cellOf) (r9 := kr_6) (host := "") (owner := "") isSI (i_X4_cellOf hI) B q3181 q3182 w4_X4_cellOf w6_X4_cellOf (by decide) hy_X4_cellOf hl_X4_cellOf dX4_follows_19 trivial) ?_
    refine jlk_cons (sm_istore B.1 dX4_follows_22) ?_
    refine jlk_cons (sm_aload_n rfl B.1 dX4_follows_24) ?_
    refine jlk_cons (sm_getP B.1 fl_PointerAnalyzerModel_7_4_17 dX4_follows_25) ?_
    refine jlk_cons (sm_iload_n rfl B.1 dX4_follows_28) ?_
    refine jlk_cons (sm_iald B.1 dX4_follows_29) ?_
    refine jlk_cons (sm_switch B.1 rfl (List.forall_mem_cons.mpr ⟨⟨by decide, by decide, 38, rfl, rfl⟩, (List.forall_mem_cons.mpr ⟨⟨by decide, by decide, 49, rfl, rfl⟩, (List.forall_mem_cons.mpr ⟨⟨by decide, by decide, 61, rfl, rfl⟩, (List.forall_mem_cons.mpr ⟨⟨by decide, by decide, 101, rfl, rfl⟩, (List.forall_mem_cons.mpr ⟨⟨by decide, by decide, 141, rfl, rfl⟩, (List.forall_mem_cons.mpr ⟨⟨by decide, by decide, 161, rfl, rfl⟩, (List.forall_mem_nil _)⟩)⟩)⟩)⟩)⟩)⟩) (sw_hall 6 (by decide) (by decide)) dX4_follows_30) ?_
    refine jlk_cons (sm_aload_n rfl B.1 dX4_follows_68) ?_
    refine jlk_cons (sm_iload B.1 dX4_follows_69) ?_
    refine jlk_cons (sm_iload B.1 dX4_follows_71) ?_
    refine jlk_cons (sm_cV (x := yX4_adds) (host := "") (owner := "") isRV (i_X4_adds hI) B q3184 q3186 qs89 w4_X4_adds w6_X4_adds (by decide) (by decide) (by decide) kc_4 hy_X4_adds hl_X4_adds dX4_follows_73 trivial) ?_
    refine jlk_cons (sm_goto rfl B.1 dX4_follows_76) ?_
    refine jlk_cons (sm_aload_n rfl B.1 dX4_follows_79) ?_
    refine jlk_cons (sm_aload_n rfl B.1 dX4_follows_80) ?_
    refine jlk_cons (sm_iload B.1 dX4_follows_81) ?_
    refine jlk_cons (sm_iload B.1 dX4_follows_83) ?_
    refine jlk_cons (sm_cV (x := yX4_addsAll) (host := "") (owner := "") isRV (i_X4_addsAll hI) B q3191 q3193 qs90 w4_X4_addsAll w6_X4_addsAll (by decide) (by decide) (by decide) kc_4 hy_X4_addsAll hl_X4_addsAll dX4_follows_85 trivial) ?_
    refine jlk_cons (sm_goto rfl B.1 dX4_follows_88) ?_
    refine jlk_cons (sm_iconst rfl B.1 dX4_follows_91) ?_
    refine jlk_cons (sm_istore B.1 dX4_follows_92) ?_
    refine jlk_cons (sm_iload B.1 dX4_follows_94) ?_
    refine jlk_cons (sm_sipush rfl B.1 dX4_follows_96) ?_
    refine jlk_cons (sm_icmpge rfl B.1 dX4_follows_99) ?_
    refine jlk_cons (sm_aload_n rfl B.1 dX4_follows_102) ?_
    refine jlk_cons (sm_iload B.1 dX4_follows_103) ?_
    refine jlk_cons (sm_iload B.1 dX4_follows_105) ?_
    refine jlk_cons (sm_cS (x := yX4_isIn) (r9 := kr_6) (host := "") (owner := "") isSI (i_X4_isIn hI) B q3188 q3189 w4_X4_isIn w6_X4_isIn (by decide) hy_X4_isIn hl_X4_isIn dX4_follows_107 trivial) ?_
    refine jlk_cons (sm_ifeq rfl B.1 dX4_follows_110) ?_
    exact jlk_nil
  · skip
    refine jlk_app ?_ ?_
    · refine jlk_cons (sm_aload_n rfl B.1 dX4_follows_113) ?_
      refine jlk_cons (sm_aload_n rfl B.1 dX4_follows_114) ?_
      refine jlk_cons (sm_iload B.1 dX4_follows_115) ?_
      refine jlk_cons (sm_iload B.1 dX4_follows_117) ?_
      refine jlk_cons (sm_cV (x := yX4_addsAll) (host := "") (owner := "") isRV (i_X4_addsAll hI) B q3191 q3193 qs90 w4_X4_addsAll w6_X4_addsAll (by decide) (by decide) (by decide) kc_4 hy_X4_addsAll hl_X4_addsAll dX4_follows_119 trivial) ?_
      refine jlk_cons (sm_iinc rfl B.1 dX4_follows_122) ?_
      refine jlk_cons (sm_goto rfl B.1 dX4_follows_125) ?_
      refine jlk_cons (sm_goto rfl B.1 dX4_follows_128) ?_
      refine jlk_cons (sm_iconst rfl B.1 dX4_follows_131) ?_
      refine jlk_cons (sm_istore B.1 dX4_follows_132) ?_
      refine jlk_cons (sm_iload B.1 dX4_follows_134) ?_
      refine jlk_cons (sm_sipush rfl B.1 dX4_follows_136) ?_
      refine jlk_cons (sm_icmpge rfl B.1 dX4_follows_139) ?_
      refine jlk_cons (sm_aload_n rfl B.1 dX4_follows_142) ?_
      refine jlk_cons (sm_iload B.1 dX4_follows_143) ?_
      refine jlk_cons (sm_iload B.1 dX4_follows_145) ?_
      refine jlk_cons (sm_cS (x := yX4_isIn) (r9 := kr_6) (host := "") (owner := "") isSI (i_X4_isIn hI) B q3188 q3189 w4_X4_isIn w6_X4_isIn (by decide) hy_X4_isIn hl_X4_isIn dX4_follows_147 trivial) ?_
      refine jlk_cons (sm_ifeq rfl B.1 dX4_follows_150) ?_
      refine jlk_cons (sm_aload_n rfl B.1 dX4_follows_153) ?_
      refine jlk_cons (sm_aload_n rfl B.1 dX4_follows_154) ?_
      refine jlk_cons (sm_iload B.1 dX4_follows_155) ?_
      refine jlk_cons (sm_iload B.1 dX4_follows_157) ?_
      refine jlk_cons (sm_cV (x := yX4_addsAll) (host := "") (owner := "") isRV (i_X4_addsAll hI) B q3191 q3193 qs90 w4_X4_addsAll w6_X4_addsAll (by decide) (by decide) (by decide) kc_4 hy_X4_addsAll hl_X4_addsAll dX4_follows_159 trivial) ?_
      refine jlk_cons (sm_iinc rfl B.1 dX4_follows_162) ?_
      refine jlk_cons (sm_goto rfl B.1 dX4_follows_165) ?_
      refine jlk_cons (sm_goto rfl B.1 dX4_follows_168) ?_
      refine jlk_cons (sm_aload_n rfl B.1 dX4_follows_171) ?_
      refine jlk_cons (sm_iload B.1 dX4_follows_172) ?_
      refine jlk_cons (sm_sipush rfl B.1 dX4_follows_174) ?_
      refine jlk_cons (sm_iconst rfl B.1 dX4_follows_177) ?_
      refine jlk_cons (sm_aload_n rfl B.1 dX4_follows_178) ?_
      refine jlk_cons (sm_iload_n rfl B.1 dX4_follows_179) ?_
      refine jlk_cons (sm_cV (x := yX4_siteOf) (host := "") (owner := "") isRI (i_X4_siteOf hI) B q3196 q3198 qs91 w4_X4_siteOf w6_X4_siteOf (by decide) (by decide) (by decide) kc_4 hy_X4_siteOf hl_X4_siteOf dX4_follows_180 trivial) ?_
      refine jlk_cons (sm_imul B.1 dX4_follows_183) ?_
      refine jlk_cons (sm_iadd B.1 dX4_follows_184) ?_
      refine jlk_cons (sm_cV (x := yX4_adds) (host := "") (owner := "") isRV (i_X4_adds hI) B q3184 q3186 qs89 w4_X4_adds w6_X4_adds (by decide) (by decide) (by decide) kc_4 hy_X4_adds hl_X4_adds dX4_follows_185 trivial) ?_
      refine jlk_cons (sm_goto rfl B.1 dX4_follows_188) ?_
      refine jlk_cons (sm_iconst rfl B.1 dX4_follows_191) ?_
      refine jlk_cons (sm_istore B.1 dX4_follows_192) ?_
      refine jlk_cons (sm_iload B.1 dX4_follows_194) ?_
      exact jlk_nil
    · skip
      refine jlk_app ?_ ?_
      · refine jlk_cons (sm_sipush rfl B.1 dX4_follows_196) ?_
        refine jlk_cons (sm_icmpge rfl B.1 dX4_follows_199) ?_
        refine jlk_cons (sm_aload_n rfl B.1 dX4_follows_202) ?_
        refine jlk_cons (sm_iload B.1 dX4_follows_203) ?_
        refine jlk_cons (sm_iload B.1 dX4_follows_205) ?_
        refine jlk_cons (sm_cS (x := yX4_isIn) (r9 := kr_6) (host := "") (owner := "") isSI (i_X4_isIn hI) B q3188 q3189 w4_X4_isIn w6_X4_isIn (by decide) hy_X4_isIn hl_X4_isIn dX4_follows_207 trivial) ?_
        refine jlk_cons (sm_ifne rfl B.1 dX4_follows_210) ?_
        refine jlk_cons (sm_goto rfl B.1 dX4_follows_213) ?_
        refine jlk_cons (sm_aload_n rfl B.1 dX4_follows_216) ?_
        refine jlk_cons (sm_getP B.1 fl_PointerAnalyzerModel_19_4_20 dX4_follows_217) ?_
        refine jlk_cons (sm_iload_n rfl B.1 dX4_follows_220) ?_
        refine jlk_cons (sm_iald B.1 dX4_follows_221) ?_
        refine jlk_cons (sm_ifne rfl B.1 dX4_follows_222) ?_
        refine jlk_cons (sm_aload_n rfl B.1 dX4_follows_225) ?_
        refine jlk_cons (sm_iload B.1 dX4_follows_226) ?_
        refine jlk_cons (sm_iload B.1 dX4_follows_228) ?_
        refine jlk_cons (sm_cV (x := yX4_adds) (host := "") (owner := "") isRV (i_X4_adds hI) B q3184 q3186 qs89 w4_X4_adds w6_X4_adds (by decide) (by decide) (by decide) kc_4 hy_X4_adds hl_X4_adds dX4_follows_230 trivial) ?_
        refine jlk_cons (sm_goto rfl B.1 dX4_follows_233) ?_
        refine jlk_cons (sm_iload B.1 dX4_follows_236) ?_
        refine jlk_cons (sm_sipush rfl B.1 dX4_follows_238) ?_
        refine jlk_cons (sm_icmplt rfl B.1 dX4_follows_241) ?_
        refine jlk_cons (sm_iload B.1 dX4_follows_244) ?_
        refine jlk_cons (sm_sipush rfl B.1 dX4_follows_246) ?_
        refine jlk_cons (sm_isub B.1 dX4_follows_249) ?_
        refine jlk_cons (sm_iconst rfl B.1 dX4_follows_250) ?_
        refine jlk_cons (sm_irem B.1 dX4_follows_251) ?_
        refine jlk_cons (sm_aload_n rfl B.1 dX4_follows_252) ?_
        refine jlk_cons (sm_getP B.1 fl_PointerAnalyzerModel_19_4_20 dX4_follows_253) ?_
        refine jlk_cons (sm_iload_n rfl B.1 dX4_follows_256) ?_
        refine jlk_cons (sm_iald B.1 dX4_follows_257) ?_
        refine jlk_cons (sm_iadd B.1 dX4_follows_258) ?_
        refine jlk_cons (sm_iconst rfl B.1 dX4_follows_259) ?_
        refine jlk_cons (sm_icmpgt rfl B.1 dX4_follows_260) ?_
        refine jlk_cons (sm_aload_n rfl B.1 dX4_follows_263) ?_
        refine jlk_cons (sm_iload B.1 dX4_follows_264) ?_
        refine jlk_cons (sm_iload B.1 dX4_follows_266) ?_
        refine jlk_cons (sm_aload_n rfl B.1 dX4_follows_268) ?_
        refine jlk_cons (sm_getP B.1 fl_PointerAnalyzerModel_19_4_20 dX4_follows_269) ?_
        refine jlk_cons (sm_iload_n rfl B.1 dX4_follows_272) ?_
        refine jlk_cons (sm_iald B.1 dX4_follows_273) ?_
        exact jlk_nil
      · skip
        refine jlk_app ?_ ?_
        · refine jlk_cons (sm_iadd B.1 dX4_follows_274) ?_
          refine jlk_cons (sm_cV (x := yX4_adds) (host := "") (owner := "") isRV (i_X4_adds hI) B q3184 q3186 qs89 w4_X4_adds w6_X4_adds (by decide) (by decide) (by decide) kc_4 hy_X4_adds hl_X4_adds dX4_follows_275 trivial) ?_
          refine jlk_cons (sm_iinc rfl B.1 dX4_follows_278) ?_
          refine jlk_cons (sm_goto rfl B.1 dX4_follows_281) ?_
          refine jlk_cons (sm_goto rfl B.1 dX4_follows_284) ?_
          refine jlk_cons (sm_aload_n rfl B.1 dX4_follows_287) ?_
          refine jlk_cons (sm_getP B.1 fl_PointerAnalyzerModel_19_4_20 dX4_follows_288) ?_
          refine jlk_cons (sm_iload_n rfl B.1 dX4_follows_291) ?_
          refine jlk_cons (sm_iald B.1 dX4_follows_292) ?_
          refine jlk_cons (sm_istore B.1 dX4_follows_293) ?_
          refine jlk_cons (sm_aload_n rfl B.1 dX4_follows_295) ?_
          refine jlk_cons (sm_iload B.1 dX4_follows_296) ?_
          refine jlk_cons (sm_aload_n rfl B.1 dX4_follows_298) ?_
          refine jlk_cons (sm_getP B.1 fl_PointerAnalyzerModel_35_4_31 dX4_follows_299) ?_
          refine jlk_cons (sm_iload_n rfl B.1 dX4_follows_302) ?_
          refine jlk_cons (sm_iald B.1 dX4_follows_303) ?_
          refine jlk_cons (sm_aload_n rfl B.1 dX4_follows_304) ?_
          refine jlk_cons (sm_iload_n rfl B.1 dX4_follows_305) ?_
          refine jlk_cons (sm_cV (x := yX4_numberOf) (host := "") (owner := "") isRI (i_X4_numberOf hI) B q3162 q3164 qs85 w4_X4_numberOf w6_X4_numberOf (by decide) (by decide) (by decide) kc_4 hy_X4_numberOf hl_X4_numberOf dX4_follows_306 trivial) ?_
          refine jlk_cons (sm_iload B.1 dX4_follows_309) ?_
          refine jlk_cons (sm_cS (x := yX4_codeBehind) (r9 := kr_6) (host := "") (owner := "") isSI (i_X4_codeBehind hI) B q3166 q3167 w4_X4_codeBehind w6_X4_codeBehind (by decide) hy_X4_codeBehind hl_X4_codeBehind dX4_follows_311 trivial) ?_
          refine jlk_cons (sm_cV (x := yX4_contextOf) (host := "") (owner := "") isRI (i_X4_contextOf hI) B q3169 q3171 qs86 w4_X4_contextOf w6_X4_contextOf (by decide) (by decide) (by decide) kc_4 hy_X4_contextOf hl_X4_contextOf dX4_follows_314 trivial) ?_
          refine jlk_cons (sm_istore B.1 dX4_follows_317) ?_
          refine jlk_cons (sm_aload_n rfl B.1 dX4_follows_319) ?_
          refine jlk_cons (sm_aload_n rfl B.1 dX4_follows_320) ?_
          refine jlk_cons (sm_iconst rfl B.1 dX4_follows_321) ?_
          refine jlk_cons (sm_iconst rfl B.1 dX4_follows_322) ?_
          refine jlk_cons (sm_iload B.1 dX4_follows_323) ?_
          refine jlk_cons (sm_imul B.1 dX4_follows_325) ?_
          refine jlk_cons (sm_iadd B.1 dX4_follows_326) ?_
          refine jlk_cons (sm_iload B.1 dX4_follows_327) ?_
          refine jlk_cons (sm_cV (x := yX4_addsAll) (host := "") (owner := "") isRV (i_X4_addsAll hI) B q3191 q3193 qs90 w4_X4_addsAll w6_X4_addsAll (by decide) (by decide) (by decide) kc_4 hy_X4_addsAll hl_X4_addsAll dX4_follows_329 trivial) ?_
          refine jlk_cons (sm_aload_n rfl B.1 dX4_follows_332) ?_
          refine jlk_cons (sm_aload_n rfl B.1 dX4_follows_333) ?_
          refine jlk_cons (sm_iload B.1 dX4_follows_334) ?_
          refine jlk_cons (sm_iconst rfl B.1 dX4_follows_336) ?_
          refine jlk_cons (sm_iconst rfl B.1 dX4_follows_337) ?_
          refine jlk_cons (sm_iload B.1 dX4_follows_338) ?_
          refine jlk_cons (sm_imul B.1 dX4_follows_340) ?_
          refine jlk_cons (sm_iadd B.1 dX4_follows_341) ?_
          exact jlk_nil
        · skip
          refine jlk_cons (sm_iconst rfl B.1 dX4_follows_342) ?_
          refine jlk_cons (sm_iadd B.1 dX4_follows_343) ?_
          refine jlk_cons (sm_cV (x := yX4_addsAll) (host := "") (owner := "") isRV (i_X4_addsAll hI) B q3191 q3193 qs90 w4_X4_addsAll w6_X4_addsAll (by decide) (by decide) (by decide) kc_4 hy_X4_addsAll hl_X4_addsAll dX4_follows_344 trivial) ?_
          refine jlk_cons (sm_goto rfl B.1 dX4_follows_347) ?_
          refine jlk_cons (sm_vret B.1 B.2.1 hret dX4_follows_350) ?_
          exact jlk_nil
theorem v_X4_follows (hst : l.stackTraces = false) (hz : jEz (EV (d + 1))) (hI : jIH l D dA lo cs0 d) : jMe l D dA lo cs0 (EV (d + 1)) 175 yX4_follows (ws_ yX4_follows cX4_follows 9 (Option.none : Option Jvm.ClassFile.FieldType)) (d + 1) := z_meth hz rfl hp_X4_follows (r_X4_follows hst hI)
theorem r_X4_findUnification (hst : l.stackTraces = false) (hI : jIH l D dA lo cs0 d) : jRows l D dA lo cs0 d 2 (tb_X4_findUnification (EV d)) yX4_findUnification cX4_findUnification (Option.none : Option Jvm.ClassFile.FieldType) [] := by
  intro p e R s m args below meth c z0 w0 zF wF Q rF hF B hz hw hret hnm
  refine jlk_cons (sm_aload_n rfl B.1 dX4_findUnification_0) ?_
  refine jlk_cons (sm_iconst rfl B.1 dX4_findUnification_1) ?_
  refine jlk_cons (sm_putI B.1 fl_PointerAnalyzerModel_278_4_44 tyX4 tyX4_ok nmX4 (Or.inl rfl) (tyX4_ok 28 (by decide)) rfl (by decide) dX4_findUnification_2) ?_
  refine jlk_cons (sm_iconst rfl B.1 dX4_findUnification_5) ?_
  refine jlk_cons (sm_istore_n rfl B.1 dX4_findUnification_6) ?_
  refine jlk_cons (sm_iload_n rfl B.1 dX4_findUnification_7) ?_
  refine jlk_cons (sm_bipush rfl B.1 dX4_findUnification_8) ?_
  refine jlk_cons (sm_icmpge rfl B.1 dX4_findUnification_10) ?_
  refine jlk_cons (sm_aload_n rfl B.1 dX4_findUnification_13) ?_
  refine jlk_cons (sm_cV (x := yX4_made) (host := "") (owner := "") isRI (i_X4_made hI) B q3212 q3214 qs95 w4_X4_made w6_X4_made (by decide) (by decide) (by decide) kc_4 hy_X4_made hl_X4_made dX4_findUnification_14 trivial) ?_
  refine jlk_cons (sm_pop B.1 dX4_findUnification_17) ?_
  refine jlk_cons (sm_iinc rfl B.1 dX4_findUnification_18) ?_
  refine jlk_cons (sm_goto rfl B.1 dX4_findUnification_21) ?_
  refine jlk_cons (sm_iconst rfl B.1 dX4_findUnification_24) ?_
  refine jlk_cons (sm_istore_n rfl B.1 dX4_findUnification_25) ?_
  refine jlk_cons (sm_iload_n rfl B.1 dX4_findUnification_26) ?_
  refine jlk_cons (sm_bipush rfl B.1 dX4_findUnification_27) ?_
  refine jlk_cons (sm_icmpge rfl B.1 dX4_findUnification_29) ?_
  refine jlk_cons (sm_aload_n rfl B.1 dX4_findUnification_32) ?_
  refine jlk_cons (sm_iload_n rfl B.1 dX4_findUnification_33) ?_
  refine jlk_cons (sm_cV (x := yX4_pointed) (host := "") (owner := "") isRI (i_X4_pointed hI) B q3216 q3218 qs96 w4_X4_pointed w6_X4_pointed (by decide) (by decide) (by decide) kc_4 hy_X4_pointed hl_X4_pointed dX4_findUnification_34 trivial) ?_
  refine jlk_cons (sm_pop B.1 dX4_findUnification_37) ?_
  refine jlk_cons (sm_iinc rfl B.1 dX4_findUnification_38) ?_
  refine jlk_cons (sm_goto rfl B.1 dX4_findUnification_41) ?_
  refine jlk_cons (sm_iconst rfl B.1 dX4_findUnification_44) ?_
  refine jlk_cons (sm_istore_n rfl B.1 dX4_findUnification_45) ?_
  refine jlk_cons (sm_iload_n rfl B.1 dX4_findUnification_46) ?_
  refine jlk_cons (sm_aload_n rfl B.1 dX4_findUnification_47) ?_
  refine jlk_cons (sm_cV (x := yX4_statements) (host := "") (owner := "") isRI (i_X4_statements hI) B q3110 q3112 qs77 w4_X4_statements w6_X4_statements (by decide) (by decide) (by decide) kc_4 hy_X4_statements hl_X4_statements dX4_findUnification_48 trivial) ?_
  refine jlk_cons (sm_icmpge rfl B.1 dX4_findUnification_51) ?_
  refine jlk_cons (sm_aload_n rfl B.1 dX4_findUnification_54) ?_
  refine jlk_cons (sm_aload_n rfl B.1 dX4_findUnification_55) ?_
  refine jlk_cons (sm_iload_n rfl B.1 dX4_findUnification_56) ?_
  refine jlk_cons (sm_cV (x := yX4_placeOf) (host := "") (owner := "") isRI (i_X4_placeOf hI) B q3122 q3124 qs79 w4_X4_placeOf w6_X4_placeOf (by decide) (by decide) (by decide) kc_4 hy_X4_placeOf hl_X4_placeOf dX4_findUnification_57 trivial) ?_
  refine jlk_cons (sm_cV (x := yX4_unifiesBy) (host := "") (owner := "") isRV (i_X4_unifiesBy hI) B q3224 q3226 qs98 w4_X4_unifiesBy w6_X4_unifiesBy (by decide) (by decide) (by decide) kc_4 hy_X4_unifiesBy hl_X4_unifiesBy dX4_findUnification_60 trivial) ?_
  refine jlk_cons (sm_iinc rfl B.1 dX4_findUnification_63) ?_
  refine jlk_cons (sm_goto rfl B.1 dX4_findUnification_66) ?_
  refine jlk_cons (sm_vret B.1 B.2.1 hret dX4_findUnification_69) ?_
  exact jlk_nil
theorem v_X4_findUnification (hst : l.stackTraces = false) (hz : jEz (EV (d + 1))) (hI : jIH l D dA lo cs0 d) : jMe l D dA lo cs0 (EV (d + 1)) 176 yX4_findUnification (ws_ yX4_findUnification cX4_findUnification 2 (Option.none : Option Jvm.ClassFile.FieldType)) (d + 1) := z_meth hz rfl hp_X4_findUnification (r_X4_findUnification hst hI)
theorem r_X4_isIn (hst : l.stackTraces = false) (hI : jIH l D dA lo cs0 d) : jRows l D dA lo cs0 d 3 (tb_X4_isIn (EV d)) yX4_isIn cX4_isIn (Option.some Jvm.ClassFile.FieldType.boolean) [] := by
  intro p e R s m args below meth c z0 w0 zF wF Q rF hF B hz hw hret hnm
  refine jlk_cons (sm_aload_n rfl B.1 dX4_isIn_0) ?_
  refine jlk_cons (sm_iconst rfl B.1 dX4_isIn_1) ?_
  refine jlk_cons (sm_iload_n rfl B.1 dX4_isIn_2) ?_
  refine jlk_cons (sm_imul B.1 dX4_isIn_3) ?_
  refine jlk_cons (sm_iload_n rfl B.1 dX4_isIn_4) ?_
  refine jlk_cons (sm_bipush rfl B.1 dX4_isIn_5) ?_
  refine jlk_cons (sm_idiv B.1 dX4_isIn_7) ?_
  refine jlk_cons (sm_iadd B.1 dX4_isIn_8) ?_
  refine jlk_cons (sm_lald B.1 dX4_isIn_9) ?_
  refine jlk_cons (sm_iload_n rfl B.1 dX4_isIn_10) ?_
  refine jlk_cons (sm_bipush rfl B.1 dX4_isIn_11) ?_
  refine jlk_cons (sm_irem B.1 dX4_isIn_13) ?_
  refine jlk_cons (sm_lshr B.1 dX4_isIn_14) ?_
  refine jlk_cons (sm_lconst rfl B.1 dX4_isIn_15) ?_
  refine jlk_cons (sm_land B.1 dX4_isIn_16) ?_
  refine jlk_cons (sm_lconst rfl B.1 dX4_isIn_17) ?_
  refine jlk_cons (sm_lcmp B.1 dX4_isIn_18) ?_
  refine jlk_cons (sm_ifne rfl B.1 dX4_isIn_19) ?_
  refine jlk_cons (sm_iconst rfl B.1 dX4_isIn_22) ?_
  refine jlk_cons (sm_goto rfl B.1 dX4_isIn_23) ?_
  refine jlk_cons (sm_iconst rfl B.1 dX4_isIn_26) ?_
  refine jlk_cons (sm_zret B.1 B.2.1 hret dX4_isIn_27) ?_
  exact jlk_nil
theorem v_X4_isIn (hst : l.stackTraces = false) (hz : jEz (EV (d + 1))) (hI : jIH l D dA lo cs0 d) : jMe l D dA lo cs0 (EV (d + 1)) 183 yX4_isIn (ws_ yX4_isIn cX4_isIn 3 (Option.some Jvm.ClassFile.FieldType.boolean)) (d + 1) := z_meth hz rfl hp_X4_isIn (r_X4_isIn hst hI)
theorem r_X4_targetOf (hst : l.stackTraces = false) (hI : jIH l D dA lo cs0 d) : jRows l D dA lo cs0 d 2 (tb_X4_targetOf (EV d)) yX4_targetOf cX4_targetOf (Option.some Jvm.ClassFile.FieldType.int) [] := by
  intro p e R s m args below meth c z0 w0 zF wF Q rF hF B hz hw hret hnm
  refine jlk_cons (sm_iload_n rfl B.1 dX4_targetOf_0) ?_
  refine jlk_cons (sm_iconst rfl B.1 dX4_targetOf_1) ?_
  refine jlk_cons (sm_icmpge rfl B.1 dX4_targetOf_2) ?_
  refine jlk_cons (sm_iload_n rfl B.1 dX4_targetOf_5) ?_
  refine jlk_cons (sm_goto rfl B.1 dX4_targetOf_6) ?_
  refine jlk_cons (sm_iload_n rfl B.1 dX4_targetOf_9) ?_
  refine jlk_cons (sm_sipush rfl B.1 dX4_targetOf_10) ?_
  refine jlk_cons (sm_icmpge rfl B.1 dX4_targetOf_13) ?_
  refine jlk_cons (sm_iconst rfl B.1 dX4_targetOf_16) ?_
  refine jlk_cons (sm_iconst rfl B.1 dX4_targetOf_17) ?_
  refine jlk_cons (sm_aload_n rfl B.1 dX4_targetOf_18) ?_
  refine jlk_cons (sm_getP B.1 fl_PointerAnalyzerModel_32_4_30 dX4_targetOf_19) ?_
  refine jlk_cons (sm_iload_n rfl B.1 dX4_targetOf_22) ?_
  refine jlk_cons (sm_iconst rfl B.1 dX4_targetOf_23) ?_
  refine jlk_cons (sm_isub B.1 dX4_targetOf_24) ?_
  refine jlk_cons (sm_iconst rfl B.1 dX4_targetOf_25) ?_
  refine jlk_cons (sm_idiv B.1 dX4_targetOf_26) ?_
  refine jlk_cons (sm_iald B.1 dX4_targetOf_27) ?_
  refine jlk_cons (sm_imul B.1 dX4_targetOf_28) ?_
  refine jlk_cons (sm_iadd B.1 dX4_targetOf_29) ?_
  refine jlk_cons (sm_iload_n rfl B.1 dX4_targetOf_30) ?_
  refine jlk_cons (sm_iconst rfl B.1 dX4_targetOf_31) ?_
  refine jlk_cons (sm_irem B.1 dX4_targetOf_32) ?_
  refine jlk_cons (sm_iadd B.1 dX4_targetOf_33) ?_
  refine jlk_cons (sm_goto rfl B.1 dX4_targetOf_34) ?_
  refine jlk_cons (sm_bipush rfl B.1 dX4_targetOf_37) ?_
  refine jlk_cons (sm_iload_n rfl B.1 dX4_targetOf_39) ?_
  refine jlk_cons (sm_iadd B.1 dX4_targetOf_40) ?_
  refine jlk_cons (sm_sipush rfl B.1 dX4_targetOf_41) ?_
  refine jlk_cons (sm_isub B.1 dX4_targetOf_44) ?_
  refine jlk_cons (sm_iret B.1 B.2.1 hret dX4_targetOf_45) ?_
  exact jlk_nil
theorem v_X4_targetOf (hst : l.stackTraces = false) (hz : jEz (EV (d + 1))) (hI : jIH l D dA lo cs0 d) : jMe l D dA lo cs0 (EV (d + 1)) 184 yX4_targetOf (ws_ yX4_targetOf cX4_targetOf 2 (Option.some Jvm.ClassFile.FieldType.int)) (d + 1) := z_meth hz rfl hp_X4_targetOf (r_X4_targetOf hst hI)
theorem r_X4_isTarget (hst : l.stackTraces = false) (hI : jIH l D dA lo cs0 d) : jRows l D dA lo cs0 d 2 (tb_X4_isTarget (EV d)) yX4_isTarget cX4_isTarget (Option.some Jvm.ClassFile.FieldType.boolean) [] := by
  intro p e R s m args below meth c z0 w0 zF wF Q rF hF B hz hw hret hnm
  refine jlk_cons (sm_iload_n rfl B.1 dX4_isTarget_0) ?_
  refine jlk_cons (sm_iflt rfl B.1 dX4_isTarget_1) ?_
  refine jlk_cons (sm_iload_n rfl B.1 dX4_isTarget_4) ?_
  refine jlk_cons (sm_bipush rfl B.1 dX4_isTarget_5) ?_
  refine jlk_cons (sm_iconst rfl B.1 dX4_isTarget_7) ?_
  refine jlk_cons (sm_aload_n rfl B.1 dX4_isTarget_8) ?_
  refine jlk_cons (sm_cV (x := yX4_sites) (host := "") (owner := "") isRI (i_X4_sites hI) B q3134 q3136 qs80 w4_X4_sites w6_X4_sites (by decide) (by decide) (by decide) kc_4 hy_X4_sites hl_X4_sites dX4_isTarget_9 trivial) ?_
  refine jlk_cons (sm_imul B.1 dX4_isTarget_12) ?_
  refine jlk_cons (sm_iadd B.1 dX4_isTarget_13) ?_
  refine jlk_cons (sm_icmpge rfl B.1 dX4_isTarget_14) ?_
  refine jlk_cons (sm_iconst rfl B.1 dX4_isTarget_17) ?_
  refine jlk_cons (sm_goto rfl B.1 dX4_isTarget_18) ?_
  refine jlk_cons (sm_iconst rfl B.1 dX4_isTarget_21) ?_
  refine jlk_cons (sm_zret B.1 B.2.1 hret dX4_isTarget_22) ?_
  exact jlk_nil
theorem v_X4_isTarget (hst : l.stackTraces = false) (hz : jEz (EV (d + 1))) (hI : jIH l D dA lo cs0 d) : jMe l D dA lo cs0 (EV (d + 1)) 191 yX4_isTarget (ws_ yX4_isTarget cX4_isTarget 2 (Option.some Jvm.ClassFile.FieldType.boolean)) (d + 1) := z_meth hz rfl hp_X4_isTarget (r_X4_isTarget hst hI)
theorem r_X4_pointed (hst : l.stackTraces = false) (hI : jIH l D dA lo cs0 d) : jRows l D dA lo cs0 d 3 (tb_X4_pointed (EV d)) yX4_pointed cX4_pointed (Option.some Jvm.ClassFile.FieldType.int) [] := by
  intro p e R s m args below meth c z0 w0 zF wF Q rF hF B hz hw hret hnm
  refine jlk_cons (sm_aload_n rfl B.1 dX4_pointed_0) ?_
  refine jlk_cons (sm_iload_n rfl B.1 dX4_pointed_1) ?_
  refine jlk_cons (sm_cV (x := yX4_rootOf) (host := "") (owner := "") isRI (i_X4_rootOf hI) B q3220 q3222 qs97 w4_X4_rootOf w6_X4_rootOf (by decide) (by decide) (by decide) kc_4 hy_X4_rootOf hl_X4_rootOf dX4_pointed_2 trivial) ?_
  refine jlk_cons (sm_istore_n rfl B.1 dX4_pointed_5) ?_
  refine jlk_cons (sm_aload_n rfl B.1 dX4_pointed_6) ?_
  refine jlk_cons (sm_getP B.1 fl_PointerAnalyzerModel_54_4_41 dX4_pointed_7) ?_
  refine jlk_cons (sm_iload_n rfl B.1 dX4_pointed_10) ?_
  refine jlk_cons (sm_iald B.1 dX4_pointed_11) ?_
  refine jlk_cons (sm_ifge rfl B.1 dX4_pointed_12) ?_
  refine jlk_cons (sm_aload_n rfl B.1 dX4_pointed_15) ?_
  refine jlk_cons (sm_getP B.1 fl_PointerAnalyzerModel_54_4_41 dX4_pointed_16) ?_
  refine jlk_cons (sm_iload_n rfl B.1 dX4_pointed_19) ?_
  refine jlk_cons (sm_aload_n rfl B.1 dX4_pointed_20) ?_
  refine jlk_cons (sm_cV (x := yX4_made) (host := "") (owner := "") isRI (i_X4_made hI) B q3212 q3214 qs95 w4_X4_made w6_X4_made (by decide) (by decide) (by decide) kc_4 hy_X4_made hl_X4_made dX4_pointed_21 trivial) ?_
  refine jlk_cons (sm_iast B.1 dX4_pointed_24) ?_
  refine jlk_cons (sm_aload_n rfl B.1 dX4_pointed_25) ?_
  refine jlk_cons (sm_getP B.1 fl_PointerAnalyzerModel_54_4_41 dX4_pointed_26) ?_
  refine jlk_cons (sm_iload_n rfl B.1 dX4_pointed_29) ?_
  refine jlk_cons (sm_iald B.1 dX4_pointed_30) ?_
  refine jlk_cons (sm_iret B.1 B.2.1 hret dX4_pointed_31) ?_
  exact jlk_nil
theorem v_X4_pointed (hst : l.stackTraces = false) (hz : jEz (EV (d + 1))) (hI : jIH l D dA lo cs0 d) : jMe l D dA lo cs0 (EV (d + 1)) 195 yX4_pointed (ws_ yX4_pointed cX4_pointed 3 (Option.some Jvm.ClassFile.FieldType.int)) (d + 1) := z_meth hz rfl hp_X4_pointed (r_X4_pointed hst hI)
theorem r_X4_edge (hst : l.stackTraces = false) (hI : jIH l D dA lo cs0 d) : jRows l D dA lo cs0 d 4 (tb_X4_edge (EV d)) yX4_edge cX4_edge (Option.some Jvm.ClassFile.FieldType.int) [] := by
  intro p e R s m args below meth c z0 w0 zF wF Q rF hF B hz hw hret hnm
  refine jlk_cons (sm_iload_n rfl B.1 dX4_edge_0) ?_
  refine jlk_cons (sm_iload_n rfl B.1 dX4_edge_1) ?_
  refine jlk_cons (sm_ifeq rfl B.1 dX4_edge_2) ?_
  refine jlk_cons (sm_iload_n rfl B.1 dX4_edge_5) ?_
  refine jlk_cons (sm_goto rfl B.1 dX4_edge_6) ?_
  refine jlk_cons (sm_iload_n rfl B.1 dX4_edge_9) ?_
  refine jlk_cons (sm_ishr B.1 dX4_edge_10) ?_
  refine jlk_cons (sm_iconst rfl B.1 dX4_edge_11) ?_
  refine jlk_cons (sm_iand B.1 dX4_edge_12) ?_
  refine jlk_cons (sm_iconst rfl B.1 dX4_edge_13) ?_
  refine jlk_cons (sm_icmpne rfl B.1 dX4_edge_14) ?_
  refine jlk_cons (sm_iconst rfl B.1 dX4_edge_17) ?_
  refine jlk_cons (sm_iload_n rfl B.1 dX4_edge_18) ?_
  refine jlk_cons (sm_ifeq rfl B.1 dX4_edge_19) ?_
  refine jlk_cons (sm_iload_n rfl B.1 dX4_edge_22) ?_
  refine jlk_cons (sm_goto rfl B.1 dX4_edge_23) ?_
  refine jlk_cons (sm_iload_n rfl B.1 dX4_edge_26) ?_
  refine jlk_cons (sm_ishl B.1 dX4_edge_27) ?_
  refine jlk_cons (sm_goto rfl B.1 dX4_edge_28) ?_
  refine jlk_cons (sm_iconst rfl B.1 dX4_edge_31) ?_
  refine jlk_cons (sm_iret B.1 B.2.1 hret dX4_edge_32) ?_
  exact jlk_nil
theorem v_X4_edge (hst : l.stackTraces = false) (hz : jEz (EV (d + 1))) (hI : jIH l D dA lo cs0 d) : jMe l D dA lo cs0 (EV (d + 1)) 201 yX4_edge (ws_ yX4_edge cX4_edge 4 (Option.some Jvm.ClassFile.FieldType.int)) (d + 1) := z_meth hz rfl hp_X4_edge (r_X4_edge hst hI)
theorem r_X4_placeIn (hst : l.stackTraces = false) (hI : jIH l D dA lo cs0 d) : jRows l D dA lo cs0 d 2 (tb_X4_placeIn (EV d)) yX4_placeIn cX4_placeIn (Option.some Jvm.ClassFile.FieldType.int) [] := by
  intro p e R s m args below meth c z0 w0 zF wF Q rF hF B hz hw hret hnm
  refine jlk_cons (sm_iload_n rfl B.1 dX4_placeIn_0) ?_
  refine jlk_cons (sm_iconst rfl B.1 dX4_placeIn_1) ?_
  refine jlk_cons (sm_icmpge rfl B.1 dX4_placeIn_2) ?_
  refine jlk_cons (sm_iload_n rfl B.1 dX4_placeIn_5) ?_
  refine jlk_cons (sm_goto rfl B.1 dX4_placeIn_6) ?_
  refine jlk_cons (sm_aload_n rfl B.1 dX4_placeIn_9) ?_
  refine jlk_cons (sm_getP B.1 fl_PointerAnalyzerModel_75_4_50 dX4_placeIn_10) ?_
  refine jlk_cons (sm_aload_n rfl B.1 dX4_placeIn_13) ?_
  refine jlk_cons (sm_getI B.1 fl_PointerAnalyzerModel_319_4_52 dX4_placeIn_14) ?_
  refine jlk_cons (sm_iconst rfl B.1 dX4_placeIn_17) ?_
  refine jlk_cons (sm_isub B.1 dX4_placeIn_18) ?_
  refine jlk_cons (sm_iald B.1 dX4_placeIn_19) ?_
  refine jlk_cons (sm_iload_n rfl B.1 dX4_placeIn_20) ?_
  refine jlk_cons (sm_iconst rfl B.1 dX4_placeIn_21) ?_
  refine jlk_cons (sm_irem B.1 dX4_placeIn_22) ?_
  refine jlk_cons (sm_iadd B.1 dX4_placeIn_23) ?_
  refine jlk_cons (sm_iret B.1 B.2.1 hret dX4_placeIn_24) ?_
  exact jlk_nil
theorem v_X4_placeIn (hst : l.stackTraces = false) (hz : jEz (EV (d + 1))) (hI : jIH l D dA lo cs0 d) : jMe l D dA lo cs0 (EV (d + 1)) 204 yX4_placeIn (ws_ yX4_placeIn cX4_placeIn 2 (Option.some Jvm.ClassFile.FieldType.int)) (d + 1) := z_meth hz rfl hp_X4_placeIn (r_X4_placeIn hst hI)
theorem r_X4_assigns (hst : l.stackTraces = false) (hI : jIH l D dA lo cs0 d) : jRows l D dA lo cs0 d 3 (tb_X4_assigns (EV d)) yX4_assigns cX4_assigns (Option.none : Option Jvm.ClassFile.FieldType) [] := by
  intro p e R s m args below meth c z0 w0 zF wF Q rF hF B hz hw hret hnm
  refine jlk_cons (sm_aload_n rfl B.1 dX4_assigns_0) ?_
  refine jlk_cons (sm_getP B.1 fl_PointerAnalyzerModel_63_4_46 dX4_assigns_1) ?_
  refine jlk_cons (sm_iload_n rfl B.1 dX4_assigns_4) ?_
  refine jlk_cons (sm_iload_n rfl B.1 dX4_assigns_5) ?_
  refine jlk_cons (sm_iast B.1 dX4_assigns_6) ?_
  refine jlk_cons (sm_iload_n rfl B.1 dX4_assigns_7) ?_
  refine jlk_cons (sm_ifle rfl B.1 dX4_assigns_8) ?_
  refine jlk_cons (sm_aload_n rfl B.1 dX4_assigns_11) ?_
  refine jlk_cons (sm_getP B.1 fl_PointerAnalyzerModel_78_4_51 dX4_assigns_12) ?_
  refine jlk_cons (sm_aload_n rfl B.1 dX4_assigns_15) ?_
  refine jlk_cons (sm_getP B.1 fl_PointerAnalyzerModel_66_4_47 dX4_assigns_16) ?_
  refine jlk_cons (sm_iload_n rfl B.1 dX4_assigns_19) ?_
  refine jlk_cons (sm_iald B.1 dX4_assigns_20) ?_
  refine jlk_cons (sm_dup2 B.1 dX4_assigns_21) ?_
  refine jlk_cons (sm_lald B.1 dX4_assigns_22) ?_
  refine jlk_cons (sm_lconst rfl B.1 dX4_assigns_23) ?_
  refine jlk_cons (sm_aload_n rfl B.1 dX4_assigns_24) ?_
  refine jlk_cons (sm_getP B.1 fl_PointerAnalyzerModel_66_4_47 dX4_assigns_25) ?_
  refine jlk_cons (sm_iload_n rfl B.1 dX4_assigns_28) ?_
  refine jlk_cons (sm_iconst rfl B.1 dX4_assigns_29) ?_
  refine jlk_cons (sm_isub B.1 dX4_assigns_30) ?_
  refine jlk_cons (sm_iald B.1 dX4_assigns_31) ?_
  refine jlk_cons (sm_lshl B.1 dX4_assigns_32) ?_
  refine jlk_cons (sm_lor B.1 dX4_assigns_33) ?_
  refine jlk_cons (sm_last B.1 dX4_assigns_34) ?_
  refine jlk_cons (sm_vret B.1 B.2.1 hret dX4_assigns_35) ?_
  exact jlk_nil
theorem v_X4_assigns (hst : l.stackTraces = false) (hz : jEz (EV (d + 1))) (hI : jIH l D dA lo cs0 d) : jMe l D dA lo cs0 (EV (d + 1)) 205 yX4_assigns (ws_ yX4_assigns cX4_assigns 3 (Option.none : Option Jvm.ClassFile.FieldType)) (d + 1) := z_meth hz rfl hp_X4_assigns (r_X4_assigns hst hI)
theorem r_X4_siteOf (hst : l.stackTraces = false) (hI : jIH l D dA lo cs0 d) : jRows l D dA lo cs0 d 4 (tb_X4_siteOf (EV d)) yX4_siteOf cX4_siteOf (Option.some Jvm.ClassFile.FieldType.int) [] := by
  intro p e R s m args below meth c z0 w0 zF wF Q rF hF B hz hw hret hnm
  refine jlk_cons (sm_iconst rfl B.1 dX4_siteOf_0) ?_
  refine jlk_cons (sm_istore_n rfl B.1 dX4_siteOf_1) ?_
  refine jlk_cons (sm_iconst rfl B.1 dX4_siteOf_2) ?_
  refine jlk_cons (sm_istore_n rfl B.1 dX4_siteOf_3) ?_
  refine jlk_cons (sm_iload_n rfl B.1 dX4_siteOf_4) ?_
  refine jlk_cons (sm_aload_n rfl B.1 dX4_siteOf_5) ?_
  refine jlk_cons (sm_iload_n rfl B.1 dX4_siteOf_6) ?_
  refine jlk_cons (sm_cV (x := yX4_numberOf) (host := "") (owner := "") isRI (i_X4_numberOf hI) B q3162 q3164 qs85 w4_X4_numberOf w6_X4_numberOf (by decide) (by decide) (by decide) kc_4 hy_X4_numberOf hl_X4_numberOf dX4_siteOf_7 trivial) ?_
  refine jlk_cons (sm_icmpge rfl B.1 dX4_siteOf_10) ?_
  refine jlk_cons (sm_iload_n rfl B.1 dX4_siteOf_13) ?_
  refine jlk_cons (sm_aload_n rfl B.1 dX4_siteOf_14) ?_
  refine jlk_cons (sm_getP B.1 fl_PointerAnalyzerModel_7_4_17 dX4_siteOf_15) ?_
  refine jlk_cons (sm_aload_n rfl B.1 dX4_siteOf_18) ?_
  refine jlk_cons (sm_iload_n rfl B.1 dX4_siteOf_19) ?_
  refine jlk_cons (sm_cV (x := yX4_placeOf) (host := "") (owner := "") isRI (i_X4_placeOf hI) B q3122 q3124 qs79 w4_X4_placeOf w6_X4_placeOf (by decide) (by decide) (by decide) kc_4 hy_X4_placeOf hl_X4_placeOf dX4_siteOf_20 trivial) ?_
  refine jlk_cons (sm_iald B.1 dX4_siteOf_23) ?_
  refine jlk_cons (sm_iconst rfl B.1 dX4_siteOf_24) ?_
  refine jlk_cons (sm_icmpne rfl B.1 dX4_siteOf_25) ?_
  refine jlk_cons (sm_iconst rfl B.1 dX4_siteOf_28) ?_
  refine jlk_cons (sm_goto rfl B.1 dX4_siteOf_29) ?_
  refine jlk_cons (sm_iconst rfl B.1 dX4_siteOf_32) ?_
  refine jlk_cons (sm_iadd B.1 dX4_siteOf_33) ?_
  refine jlk_cons (sm_istore_n rfl B.1 dX4_siteOf_34) ?_
  refine jlk_cons (sm_iinc rfl B.1 dX4_siteOf_35) ?_
  refine jlk_cons (sm_goto rfl B.1 dX4_siteOf_38) ?_
  refine jlk_cons (sm_iload_n rfl B.1 dX4_siteOf_41) ?_
  refine jlk_cons (sm_iret B.1 B.2.1 hret dX4_siteOf_42) ?_
  exact jlk_nil
theorem v_X4_siteOf (hst : l.stackTraces = false) (hz : jEz (EV (d + 1))) (hI : jIH l D dA lo cs0 d) : jMe l D dA lo cs0 (EV (d + 1)) 206 yX4_siteOf (ws_ yX4_siteOf cX4_siteOf 4 (Option.some Jvm.ClassFile.FieldType.int)) (d + 1) := z_meth hz rfl hp_X4_siteOf (r_X4_siteOf hst hI)
theorem r_X4_makesObject (hst : l.stackTraces = false) (hI : jIH l D dA lo cs0 d) : jRows l D dA lo cs0 d 4 (tb_X4_makesObject (EV d)) yX4_makesObject cX4_makesObject (Option.some Jvm.ClassFile.FieldType.int) [] := by
  intro p e R s m args below meth c z0 w0 zF wF Q rF hF B hz hw hret hnm
  refine jlk_app ?_ ?_
  · refine jlk_cons (sm_sipush rfl B.1 dX4_makesObject_0) ?_
    refine jlk_cons (sm_iconst rfl B.1 dX4_makesObject_3) ?_
    refine jlk_cons (sm_aload_n rfl B.1 dX4_makesObject_4) ?_
    refine jlk_cons (sm_getI B.1 fl_PointerAnalyzerModel_316_4_54 dX4_makesObject_5) ?_
    refine jlk_cons (sm_imul B.1 dX4_makesObject_8) ?_
    refine jlk_cons (sm_iadd B.1 dX4_makesObject_9) ?_
    refine jlk_cons (sm_istore_n rfl B.1 dX4_makesObject_10) ?_
    refine jlk_cons (sm_iconst rfl B.1 dX4_makesObject_11) ?_
    refine jlk_cons (sm_istore_n rfl B.1 dX4_makesObject_12) ?_
    refine jlk_cons (sm_iload_n rfl B.1 dX4_makesObject_13) ?_
    refine jlk_cons (sm_iconst rfl B.1 dX4_makesObject_14) ?_
    refine jlk_cons (sm_icmpge rfl B.1 dX4_makesObject_15) ?_
    refine jlk_cons (sm_aload_n rfl B.1 dX4_makesObject_18) ?_
    refine jlk_cons (sm_getP B.1 fl_PointerAnalyzerModel_63_4_46 dX4_makesObject_19) ?_
    refine jlk_cons (sm_iload_n rfl B.1 dX4_makesObject_22) ?_
    refine jlk_cons (sm_iload_n rfl B.1 dX4_makesObject_23) ?_
    refine jlk_cons (sm_iadd B.1 dX4_makesObject_24) ?_
    refine jlk_cons (sm_iconst rfl B.1 dX4_makesObject_25) ?_
    refine jlk_cons (sm_iast B.1 dX4_makesObject_26) ?_
    refine jlk_cons (sm_aload_n rfl B.1 dX4_makesObject_27) ?_
    refine jlk_cons (sm_getP B.1 fl_PointerAnalyzerModel_66_4_47 dX4_makesObject_28) ?_
    refine jlk_cons (sm_iload_n rfl B.1 dX4_makesObject_31) ?_
    refine jlk_cons (sm_iload_n rfl B.1 dX4_makesObject_32) ?_
    refine jlk_cons (sm_iadd B.1 dX4_makesObject_33) ?_
    refine jlk_cons (sm_bipush rfl B.1 dX4_makesObject_34) ?_
    refine jlk_cons (sm_iconst rfl B.1 dX4_makesObject_36) ?_
    refine jlk_cons (sm_iload_n rfl B.1 dX4_makesObject_37) ?_
    refine jlk_cons (sm_imul B.1 dX4_makesObject_38) ?_
    refine jlk_cons (sm_iadd B.1 dX4_makesObject_39) ?_
    refine jlk_cons (sm_iload_n rfl B.1 dX4_makesObject_40) ?_
    refine jlk_cons (sm_iadd B.1 dX4_makesObject_41) ?_
    refine jlk_cons (sm_iast B.1 dX4_makesObject_42) ?_
    refine jlk_cons (sm_iinc rfl B.1 dX4_makesObject_43) ?_
    refine jlk_cons (sm_goto rfl B.1 dX4_makesObject_46) ?_
    refine jlk_cons (sm_aload_n rfl B.1 dX4_makesObject_49) ?_
    refine jlk_cons (sm_dup B.1 dX4_makesObject_50) ?_
    refine jlk_cons (sm_getI B.1 fl_PointerAnalyzerModel_316_4_54 dX4_makesObject_51) ?_
    refine jlk_cons (sm_iconst rfl B.1 dX4_makesObject_54) ?_
    refine jlk_cons (sm_iadd B.1 dX4_makesObject_55) ?_
    refine jlk_cons (sm_putI B.1 fl_PointerAnalyzerModel_316_4_54 tyX4 tyX4_ok nmX4 (Or.inl rfl) (tyX4_ok 38 (by decide)) rfl (by decide) dX4_makesObject_56) ?_
    exact jlk_nil
  · skip
    refine jlk_cons (sm_iload_n rfl B.1 dX4_makesObject_59) ?_
    refine jlk_cons (sm_iconst rfl B.1 dX4_makesObject_60) ?_
    refine jlk_cons (sm_iadd B.1 dX4_makesObject_61) ?_
    refine jlk_cons (sm_iret B.1 B.2.1 hret dX4_makesObject_62) ?_
    exact jlk_nil
theorem v_X4_makesObject (hst : l.stackTraces = false) (hz : jEz (EV (d + 1))) (hI : jIH l D dA lo cs0 d) : jMe l D dA lo cs0 (EV (d + 1)) 207 yX4_makesObject (ws_ yX4_makesObject cX4_makesObject 4 (Option.some Jvm.ClassFile.FieldType.int)) (d + 1) := z_meth hz rfl hp_X4_makesObject (r_X4_makesObject hst hI)
theorem r_X4_offsets (hst : l.stackTraces = false) (hI : jIH l D dA lo cs0 d) : jRows l D dA lo cs0 d 5 (tb_X4_offsets (EV d)) yX4_offsets cX4_offsets (Option.none : Option Jvm.ClassFile.FieldType) [] := by
  intro p e R s m args below meth c z0 w0 zF wF Q rF hF B hz hw hret hnm
  refine jlk_app ?_ ?_
  · refine jlk_cons (sm_iload_n rfl B.1 dX4_offsets_0) ?_
    refine jlk_cons (sm_ifeq rfl B.1 dX4_offsets_1) ?_
    refine jlk_cons (sm_iload_n rfl B.1 dX4_offsets_4) ?_
    refine jlk_cons (sm_ifne rfl B.1 dX4_offsets_5) ?_
    refine jlk_cons (sm_aload_n rfl B.1 dX4_offsets_8) ?_
    refine jlk_cons (sm_iload_n rfl B.1 dX4_offsets_9) ?_
    refine jlk_cons (sm_iload_n rfl B.1 dX4_offsets_10) ?_
    refine jlk_cons (sm_cV (x := yX4_assigns) (host := "") (owner := "") isRV (i_X4_assigns hI) B q3386 q3388 qs116 w4_X4_assigns w6_X4_assigns (by decide) (by decide) (by decide) kc_4 hy_X4_assigns hl_X4_assigns dX4_offsets_11 trivial) ?_
    refine jlk_cons (sm_vret B.1 B.2.1 hret dX4_offsets_14) ?_
    refine jlk_cons (sm_aload_n rfl B.1 dX4_offsets_15) ?_
    refine jlk_cons (sm_getP B.1 fl_PointerAnalyzerModel_66_4_47 dX4_offsets_16) ?_
    refine jlk_cons (sm_iload_n rfl B.1 dX4_offsets_19) ?_
    refine jlk_cons (sm_iconst rfl B.1 dX4_offsets_20) ?_
    refine jlk_cons (sm_isub B.1 dX4_offsets_21) ?_
    refine jlk_cons (sm_iald B.1 dX4_offsets_22) ?_
    refine jlk_cons (sm_istore B.1 dX4_offsets_23) ?_
    refine jlk_cons (sm_iload B.1 dX4_offsets_25) ?_
    refine jlk_cons (sm_bipush rfl B.1 dX4_offsets_27) ?_
    refine jlk_cons (sm_icmplt rfl B.1 dX4_offsets_29) ?_
    refine jlk_cons (sm_iload B.1 dX4_offsets_32) ?_
    refine jlk_cons (sm_bipush rfl B.1 dX4_offsets_34) ?_
    refine jlk_cons (sm_isub B.1 dX4_offsets_36) ?_
    refine jlk_cons (sm_iconst rfl B.1 dX4_offsets_37) ?_
    refine jlk_cons (sm_irem B.1 dX4_offsets_38) ?_
    refine jlk_cons (sm_iload_n rfl B.1 dX4_offsets_39) ?_
    refine jlk_cons (sm_iadd B.1 dX4_offsets_40) ?_
    refine jlk_cons (sm_iconst rfl B.1 dX4_offsets_41) ?_
    refine jlk_cons (sm_icmpgt rfl B.1 dX4_offsets_42) ?_
    refine jlk_cons (sm_aload_n rfl B.1 dX4_offsets_45) ?_
    refine jlk_cons (sm_iload_n rfl B.1 dX4_offsets_46) ?_
    refine jlk_cons (sm_iload_n rfl B.1 dX4_offsets_47) ?_
    refine jlk_cons (sm_iload_n rfl B.1 dX4_offsets_48) ?_
    refine jlk_cons (sm_iadd B.1 dX4_offsets_49) ?_
    refine jlk_cons (sm_cV (x := yX4_assigns) (host := "") (owner := "") isRV (i_X4_assigns hI) B q3386 q3388 qs116 w4_X4_assigns w6_X4_assigns (by decide) (by decide) (by decide) kc_4 hy_X4_assigns hl_X4_assigns dX4_offsets_50 trivial) ?_
    refine jlk_cons (sm_goto rfl B.1 dX4_offsets_53) ?_
    refine jlk_cons (sm_aload_n rfl B.1 dX4_offsets_56) ?_
    refine jlk_cons (sm_dup B.1 dX4_offsets_57) ?_
    refine jlk_cons (sm_getI B.1 fl_PointerAnalyzerModel_313_4_55 dX4_offsets_58) ?_
    refine jlk_cons (sm_iconst rfl B.1 dX4_offsets_61) ?_
    refine jlk_cons (sm_iadd B.1 dX4_offsets_62) ?_
    exact jlk_nil
  · skip
    refine jlk_cons (sm_putI B.1 fl_PointerAnalyzerModel_313_4_55 tyX4 tyX4_ok nmX4 (Or.inl rfl) (tyX4_ok 39 (by decide)) rfl (by decide) dX4_offsets_63) ?_
    refine jlk_cons (sm_vret B.1 B.2.1 hret dX4_offsets_66) ?_
    exact jlk_nil
theorem v_X4_offsets (hst : l.stackTraces = false) (hz : jEz (EV (d + 1))) (hI : jIH l D dA lo cs0 d) : jMe l D dA lo cs0 (EV (d + 1)) 208 yX4_offsets (ws_ yX4_offsets cX4_offsets 5 (Option.none : Option Jvm.ClassFile.FieldType)) (d + 1) := z_meth hz rfl hp_X4_offsets (r_X4_offsets hst hI)
theorem r_X4_passes (hst : l.stackTraces = false) (hI : jIH l D dA lo cs0 d) : jRows l D dA lo cs0 d 3 (tb_X4_passes (EV d)) yX4_passes cX4_passes (Option.some Jvm.ClassFile.FieldType.int) [] := by
  intro p e R s m args below meth c z0 w0 zF wF Q rF hF B hz hw hret hnm
  refine jlk_cons (sm_aload_n rfl B.1 dX4_passes_0) ?_
  refine jlk_cons (sm_getI B.1 fl_PointerAnalyzerModel_350_4_59 dX4_passes_1) ?_
  refine jlk_cons (sm_ifeq rfl B.1 dX4_passes_4) ?_
  refine jlk_cons (sm_iload_n rfl B.1 dX4_passes_7) ?_
  refine jlk_cons (sm_goto rfl B.1 dX4_passes_8) ?_
  refine jlk_cons (sm_aload_n rfl B.1 dX4_passes_11) ?_
  refine jlk_cons (sm_getP B.1 fl_PointerAnalyzerModel_81_4_57 dX4_passes_12) ?_
  refine jlk_cons (sm_aload_n rfl B.1 dX4_passes_15) ?_
  refine jlk_cons (sm_getI B.1 fl_PointerAnalyzerModel_353_4_60 dX4_passes_16) ?_
  refine jlk_cons (sm_iald B.1 dX4_passes_19) ?_
  refine jlk_cons (sm_istore_n rfl B.1 dX4_passes_20) ?_
  refine jlk_cons (sm_aload_n rfl B.1 dX4_passes_21) ?_
  refine jlk_cons (sm_getP B.1 fl_PointerAnalyzerModel_81_4_57 dX4_passes_22) ?_
  refine jlk_cons (sm_aload_n rfl B.1 dX4_passes_25) ?_
  refine jlk_cons (sm_getI B.1 fl_PointerAnalyzerModel_353_4_60 dX4_passes_26) ?_
  refine jlk_cons (sm_iload_n rfl B.1 dX4_passes_29) ?_
  refine jlk_cons (sm_iast B.1 dX4_passes_30) ?_
  refine jlk_cons (sm_aload_n rfl B.1 dX4_passes_31) ?_
  refine jlk_cons (sm_dup B.1 dX4_passes_32) ?_
  refine jlk_cons (sm_getI B.1 fl_PointerAnalyzerModel_353_4_60 dX4_passes_33) ?_
  refine jlk_cons (sm_iconst rfl B.1 dX4_passes_36) ?_
  refine jlk_cons (sm_iadd B.1 dX4_passes_37) ?_
  refine jlk_cons (sm_putI B.1 fl_PointerAnalyzerModel_353_4_60 tyX4 tyX4_ok nmX4 (Or.inl rfl) (tyX4_ok 44 (by decide)) rfl (by decide) dX4_passes_38) ?_
  refine jlk_cons (sm_iload_n rfl B.1 dX4_passes_41) ?_
  refine jlk_cons (sm_iret B.1 B.2.1 hret dX4_passes_42) ?_
  exact jlk_nil
theorem v_X4_passes (hst : l.stackTraces = false) (hz : jEz (EV (d + 1))) (hI : jIH l D dA lo cs0 d) : jMe l D dA lo cs0 (EV (d + 1)) 210 yX4_passes (ws_ yX4_passes cX4_passes 3 (Option.some Jvm.ClassFile.FieldType.int)) (d + 1) := z_meth hz rfl hp_X4_passes (r_X4_passes hst hI)
theorem r_X4_takesStore (hst : l.stackTraces = false) (hI : jIH l D dA lo cs0 d) : jRows l D dA lo cs0 d 4 (tb_X4_takesStore (EV d)) yX4_takesStore cX4_takesStore (Option.some Jvm.ClassFile.FieldType.boolean) [] := by
  intro p e R s m args below meth c z0 w0 zF wF Q rF hF B hz hw hret hnm
  refine jlk_cons (sm_aload_n rfl B.1 dX4_takesStore_0) ?_
  refine jlk_cons (sm_iload_n rfl B.1 dX4_takesStore_1) ?_
  refine jlk_cons (sm_cV (x := yX4_name) (host := "") (owner := "") isRI (i_X4_name hI) B q3074 q3076 qs70 w4_X4_name w6_X4_name (by decide) (by decide) (by decide) kc_4 hy_X4_name hl_X4_name dX4_takesStore_2 trivial) ?_
  refine jlk_cons (sm_istore_n rfl B.1 dX4_takesStore_5) ?_
  refine jlk_cons (sm_iload_n rfl B.1 dX4_takesStore_6) ?_
  refine jlk_cons (sm_iflt rfl B.1 dX4_takesStore_7) ?_
  refine jlk_cons (sm_aload_n rfl B.1 dX4_takesStore_10) ?_
  refine jlk_cons (sm_bipush rfl B.1 dX4_takesStore_11) ?_
  refine jlk_cons (sm_cV (x := yX4_skips) (host := "") (owner := "") isRI (i_X4_skips hI) B q3062 q3064 qs67 w4_X4_skips w6_X4_skips (by decide) (by decide) (by decide) kc_4 hy_X4_skips hl_X4_skips dX4_takesStore_13 trivial) ?_
  refine jlk_cons (sm_ifne rfl B.1 dX4_takesStore_16) ?_
  refine jlk_cons (sm_iconst rfl B.1 dX4_takesStore_19) ?_
  refine jlk_cons (sm_zret B.1 B.2.1 hret dX4_takesStore_20) ?_
  refine jlk_cons (sm_aload_n rfl B.1 dX4_takesStore_21) ?_
  refine jlk_cons (sm_iload_n rfl B.1 dX4_takesStore_22) ?_
  refine jlk_cons (sm_cV (x := yX4_name) (host := "") (owner := "") isRI (i_X4_name hI) B q3074 q3076 qs70 w4_X4_name w6_X4_name (by decide) (by decide) (by decide) kc_4 hy_X4_name hl_X4_name dX4_takesStore_23 trivial) ?_
  refine jlk_cons (sm_istore_n rfl B.1 dX4_takesStore_26) ?_
  refine jlk_cons (sm_iload_n rfl B.1 dX4_takesStore_27) ?_
  refine jlk_cons (sm_ifge rfl B.1 dX4_takesStore_28) ?_
  refine jlk_cons (sm_iconst rfl B.1 dX4_takesStore_31) ?_
  refine jlk_cons (sm_zret B.1 B.2.1 hret dX4_takesStore_32) ?_
  refine jlk_cons (sm_aload_n rfl B.1 dX4_takesStore_33) ?_
  refine jlk_cons (sm_iconst rfl B.1 dX4_takesStore_34) ?_
  refine jlk_cons (sm_iload_n rfl B.1 dX4_takesStore_35) ?_
  refine jlk_cons (sm_iload_n rfl B.1 dX4_takesStore_36) ?_
  refine jlk_cons (sm_iconst rfl B.1 dX4_takesStore_37) ?_
  refine jlk_cons (sm_cV (x := yX4_puts) (host := "") (owner := "") isRV (i_X4_puts hI) B q3078 q3080 qs71 w4_X4_puts w6_X4_puts (by decide) (by decide) (by decide) kc_4 hy_X4_puts hl_X4_puts dX4_takesStore_38 trivial) ?_
  refine jlk_cons (sm_iconst rfl B.1 dX4_takesStore_41) ?_
  refine jlk_cons (sm_zret B.1 B.2.1 hret dX4_takesStore_42) ?_
  exact jlk_nil
theorem v_X4_takesStore (hst : l.stackTraces = false) (hz : jEz (EV (d + 1))) (hI : jIH l D dA lo cs0 d) : jMe l D dA lo cs0 (EV (d + 1)) 229 yX4_takesStore (ws_ yX4_takesStore cX4_takesStore 4 (Option.some Jvm.ClassFile.FieldType.boolean)) (d + 1) := z_meth hz rfl hp_X4_takesStore (r_X4_takesStore hst hI)
theorem r_X4_name (hst : l.stackTraces = false) (hI : jIH l D dA lo cs0 d) : jRows l D dA lo cs0 d 4 (tb_X4_name (EV d)) yX4_name cX4_name (Option.some Jvm.ClassFile.FieldType.int) [] := by
  intro p e R s m args below meth c z0 w0 zF wF Q rF hF B hz hw hret hnm
  refine jlk_app ?_ ?_
  · refine jlk_cons (sm_aload_n rfl B.1 dX4_name_0) ?_
    refine jlk_cons (sm_cV (x := yX4_next) (host := "") (owner := "") isRI (i_X4_next hI) B q3066 q3068 qs68 w4_X4_next w6_X4_next (by decide) (by decide) (by decide) kc_4 hy_X4_next hl_X4_next dX4_name_1 trivial) ?_
    refine jlk_cons (sm_istore_n rfl B.1 dX4_name_4) ?_
    refine jlk_cons (sm_iload_n rfl B.1 dX4_name_5) ?_
    refine jlk_cons (sm_bipush rfl B.1 dX4_name_6) ?_
    refine jlk_cons (sm_bipush rfl B.1 dX4_name_8) ?_
    refine jlk_cons (sm_cS (x := yX4_isBetween) (r9 := kr_6) (host := "") (owner := "") isSI (i_X4_isBetween hI) B q3040 q3041 w4_X4_isBetween w6_X4_isBetween (by decide) hy_X4_isBetween hl_X4_isBetween dX4_name_10 trivial) ?_
    refine jlk_cons (sm_ifeq rfl B.1 dX4_name_13) ?_
    refine jlk_cons (sm_iload_n rfl B.1 dX4_name_16) ?_
    refine jlk_cons (sm_bipush rfl B.1 dX4_name_17) ?_
    refine jlk_cons (sm_isub B.1 dX4_name_19) ?_
    refine jlk_cons (sm_goto rfl B.1 dX4_name_20) ?_
    refine jlk_cons (sm_iload_n rfl B.1 dX4_name_23) ?_
    refine jlk_cons (sm_bipush rfl B.1 dX4_name_24) ?_
    refine jlk_cons (sm_icmpne rfl B.1 dX4_name_26) ?_
    refine jlk_cons (sm_iconst rfl B.1 dX4_name_29) ?_
    refine jlk_cons (sm_goto rfl B.1 dX4_name_30) ?_
    refine jlk_cons (sm_iload_n rfl B.1 dX4_name_33) ?_
    refine jlk_cons (sm_bipush rfl B.1 dX4_name_34) ?_
    refine jlk_cons (sm_icmpne rfl B.1 dX4_name_36) ?_
    refine jlk_cons (sm_iconst rfl B.1 dX4_name_39) ?_
    refine jlk_cons (sm_goto rfl B.1 dX4_name_40) ?_
    refine jlk_cons (sm_iload_n rfl B.1 dX4_name_43) ?_
    refine jlk_cons (sm_bipush rfl B.1 dX4_name_44) ?_
    refine jlk_cons (sm_icmpne rfl B.1 dX4_name_46) ?_
    refine jlk_cons (sm_bipush rfl B.1 dX4_name_49) ?_
    refine jlk_cons (sm_goto rfl B.1 dX4_name_51) ?_
    refine jlk_cons (sm_iload_n rfl B.1 dX4_name_54) ?_
    refine jlk_cons (sm_bipush rfl B.1 dX4_name_55) ?_
    refine jlk_cons (sm_icmpne rfl B.1 dX4_name_57) ?_
    refine jlk_cons (sm_bipush rfl B.1 dX4_name_60) ?_
    refine jlk_cons (sm_goto rfl B.1 dX4_name_62) ?_
    refine jlk_cons (sm_iconst rfl B.1 dX4_name_65) ?_
    refine jlk_cons (sm_istore_n rfl B.1 dX4_name_66) ?_
    refine jlk_cons (sm_iload_n rfl B.1 dX4_name_67) ?_
    refine jlk_cons (sm_ifge rfl B.1 dX4_name_68) ?_
    refine jlk_cons (sm_iconst rfl B.1 dX4_name_71) ?_
    refine jlk_cons (sm_iret B.1 B.2.1 hret dX4_name_72) ?_
    refine jlk_cons (sm_aload_n rfl B.1 dX4_name_73) ?_
    refine jlk_cons (sm_dup B.1 dX4_name_74) ?_
    exact jlk_nil
  · skip
    refine jlk_cons (sm_getI B.1 fl_PointerAnalyzerModel_104_4_25 dX4_name_75) ?_
    refine jlk_cons (sm_iconst rfl B.1 dX4_name_78) ?_
    refine jlk_cons (sm_iadd B.1 dX4_name_79) ?_
    refine jlk_cons (sm_putI B.1 fl_PointerAnalyzerModel_104_4_25 tyX4 tyX4_ok nmX4 (Or.inl rfl) (tyX4_ok 9 (by decide)) rfl (by decide) dX4_name_80) ?_
    refine jlk_cons (sm_iload_n rfl B.1 dX4_name_83) ?_
    refine jlk_cons (sm_iconst rfl B.1 dX4_name_84) ?_
    refine jlk_cons (sm_icmpge rfl B.1 dX4_name_85) ?_
    refine jlk_cons (sm_iload_n rfl B.1 dX4_name_88) ?_
    refine jlk_cons (sm_goto rfl B.1 dX4_name_89) ?_
    refine jlk_cons (sm_iload_n rfl B.1 dX4_name_92) ?_
    refine jlk_cons (sm_iconst rfl B.1 dX4_name_93) ?_
    refine jlk_cons (sm_iload_n rfl B.1 dX4_name_94) ?_
    refine jlk_cons (sm_imul B.1 dX4_name_95) ?_
    refine jlk_cons (sm_iadd B.1 dX4_name_96) ?_
    refine jlk_cons (sm_iret B.1 B.2.1 hret dX4_name_97) ?_
    exact jlk_nil
theorem v_X4_name (hst : l.stackTraces = false) (hz : jEz (EV (d + 1))) (hI : jIH l D dA lo cs0 d) : jMe l D dA lo cs0 (EV (d + 1)) 230 yX4_name (ws_ yX4_name cX4_name 4 (Option.some Jvm.ClassFile.FieldType.int)) (d + 1) := z_meth hz rfl hp_X4_name (r_X4_name hst hI)
theorem r_X4_puts (hst : l.stackTraces = false) (hI : jIH l D dA lo cs0 d) : jRows l D dA lo cs0 d 6 (tb_X4_puts (EV d)) yX4_puts cX4_puts (Option.none : Option Jvm.ClassFile.FieldType) [] := by
  intro p e R s m args below meth c z0 w0 zF wF Q rF hF B hz hw hret hnm
  refine jlk_app ?_ ?_
  · refine jlk_cons (sm_aload_n rfl B.1 dX4_puts_0) ?_
    refine jlk_cons (sm_getP B.1 fl_PointerAnalyzerModel_22_4_21 dX4_puts_1) ?_
    refine jlk_cons (sm_iconst rfl B.1 dX4_puts_4) ?_
    refine jlk_cons (sm_iald B.1 dX4_puts_5) ?_
    refine jlk_cons (sm_bipush rfl B.1 dX4_puts_6) ?_
    refine jlk_cons (sm_icmpge rfl B.1 dX4_puts_8) ?_
    refine jlk_cons (sm_bipush rfl B.1 dX4_puts_11) ?_
    refine jlk_cons (sm_aload_n rfl B.1 dX4_puts_13) ?_
    refine jlk_cons (sm_getP B.1 fl_PointerAnalyzerModel_22_4_21 dX4_puts_14) ?_
    refine jlk_cons (sm_iconst rfl B.1 dX4_puts_17) ?_
    refine jlk_cons (sm_iald B.1 dX4_puts_18) ?_
    refine jlk_cons (sm_iadd B.1 dX4_puts_19) ?_
    refine jlk_cons (sm_istore B.1 dX4_puts_20) ?_
    refine jlk_cons (sm_aload_n rfl B.1 dX4_puts_22) ?_
    refine jlk_cons (sm_getP B.1 fl_PointerAnalyzerModel_7_4_17 dX4_puts_23) ?_
    refine jlk_cons (sm_iload B.1 dX4_puts_26) ?_
    refine jlk_cons (sm_iload_n rfl B.1 dX4_puts_28) ?_
    refine jlk_cons (sm_iast B.1 dX4_puts_29) ?_
    refine jlk_cons (sm_aload_n rfl B.1 dX4_puts_30) ?_
    refine jlk_cons (sm_getP B.1 fl_PointerAnalyzerModel_13_4_18 dX4_puts_31) ?_
    refine jlk_cons (sm_iload B.1 dX4_puts_34) ?_
    refine jlk_cons (sm_iload_n rfl B.1 dX4_puts_36) ?_
    refine jlk_cons (sm_iast B.1 dX4_puts_37) ?_
    refine jlk_cons (sm_aload_n rfl B.1 dX4_puts_38) ?_
    refine jlk_cons (sm_getP B.1 fl_PointerAnalyzerModel_16_4_19 dX4_puts_39) ?_
    refine jlk_cons (sm_iload B.1 dX4_puts_42) ?_
    refine jlk_cons (sm_iload_n rfl B.1 dX4_puts_44) ?_
    refine jlk_cons (sm_iast B.1 dX4_puts_45) ?_
    refine jlk_cons (sm_aload_n rfl B.1 dX4_puts_46) ?_
    refine jlk_cons (sm_getP B.1 fl_PointerAnalyzerModel_19_4_20 dX4_puts_47) ?_
    refine jlk_cons (sm_iload B.1 dX4_puts_50) ?_
    refine jlk_cons (sm_iload B.1 dX4_puts_52) ?_
    refine jlk_cons (sm_iast B.1 dX4_puts_54) ?_
    refine jlk_cons (sm_aload_n rfl B.1 dX4_puts_55) ?_
    refine jlk_cons (sm_getP B.1 fl_PointerAnalyzerModel_22_4_21 dX4_puts_56) ?_
    refine jlk_cons (sm_iconst rfl B.1 dX4_puts_59) ?_
    refine jlk_cons (sm_dup2 B.1 dX4_puts_60) ?_
    refine jlk_cons (sm_iald B.1 dX4_puts_61) ?_
    refine jlk_cons (sm_iconst rfl B.1 dX4_puts_62) ?_
    refine jlk_cons (sm_iadd B.1 dX4_puts_63) ?_
    exact jlk_nil
  · skip
    refine jlk_cons (sm_iast B.1 dX4_puts_64) ?_
    refine jlk_cons (sm_aload_n rfl B.1 dX4_puts_65) ?_
    refine jlk_cons (sm_dup B.1 dX4_puts_66) ?_
    refine jlk_cons (sm_getI B.1 fl_PointerAnalyzerModel_111_4_28 dX4_puts_67) ?_
    refine jlk_cons (sm_iload_n rfl B.1 dX4_puts_70) ?_
    refine jlk_cons (sm_iconst rfl B.1 dX4_puts_71) ?_
    refine jlk_cons (sm_icmpne rfl B.1 dX4_puts_72) ?_
    refine jlk_cons (sm_iconst rfl B.1 dX4_puts_75) ?_
    refine jlk_cons (sm_goto rfl B.1 dX4_puts_76) ?_
    refine jlk_cons (sm_iconst rfl B.1 dX4_puts_79) ?_
    refine jlk_cons (sm_iadd B.1 dX4_puts_80) ?_
    refine jlk_cons (sm_putI B.1 fl_PointerAnalyzerModel_111_4_28 tyX4 tyX4_ok nmX4 (Or.inl rfl) (tyX4_ok 12 (by decide)) rfl (by decide) dX4_puts_81) ?_
    refine jlk_cons (sm_aload_n rfl B.1 dX4_puts_84) ?_
    refine jlk_cons (sm_dup B.1 dX4_puts_85) ?_
    refine jlk_cons (sm_getI B.1 fl_PointerAnalyzerModel_114_4_29 dX4_puts_86) ?_
    refine jlk_cons (sm_iload_n rfl B.1 dX4_puts_89) ?_
    refine jlk_cons (sm_bipush rfl B.1 dX4_puts_90) ?_
    refine jlk_cons (sm_icmpne rfl B.1 dX4_puts_92) ?_
    refine jlk_cons (sm_iconst rfl B.1 dX4_puts_95) ?_
    refine jlk_cons (sm_goto rfl B.1 dX4_puts_96) ?_
    refine jlk_cons (sm_iconst rfl B.1 dX4_puts_99) ?_
    refine jlk_cons (sm_iadd B.1 dX4_puts_100) ?_
    refine jlk_cons (sm_putI B.1 fl_PointerAnalyzerModel_114_4_29 tyX4 tyX4_ok nmX4 (Or.inl rfl) (tyX4_ok 13 (by decide)) rfl (by decide) dX4_puts_101) ?_
    refine jlk_cons (sm_vret B.1 B.2.1 hret dX4_puts_104) ?_
    exact jlk_nil
theorem v_X4_puts (hst : l.stackTraces = false) (hz : jEz (EV (d + 1))) (hI : jIH l D dA lo cs0 d) : jMe l D dA lo cs0 (EV (d + 1)) 231 yX4_puts (ws_ yX4_puts cX4_puts 6 (Option.none : Option Jvm.ClassFile.FieldType)) (d + 1) := z_meth hz rfl hp_X4_puts (r_X4_puts hst hI)
theorem r_X4_takesCall (hst : l.stackTraces = false) (hI : jIH l D dA lo cs0 d) : jRows l D dA lo cs0 d 5 (tb_X4_takesCall (EV d)) yX4_takesCall cX4_takesCall (Option.some Jvm.ClassFile.FieldType.boolean) [] := by
  intro p e R s m args below meth c z0 w0 zF wF Q rF hF B hz hw hret hnm
  refine jlk_cons (sm_aload_n rfl B.1 dX4_takesCall_0) ?_
  refine jlk_cons (sm_iconst rfl B.1 dX4_takesCall_1) ?_
  refine jlk_cons (sm_cV (x := yX4_digit) (host := "") (owner := "") isRI (i_X4_digit hI) B q3086 q3088 qs73 w4_X4_digit w6_X4_digit (by decide) (by decide) (by decide) kc_4 hy_X4_digit hl_X4_digit dX4_takesCall_2 trivial) ?_
  refine jlk_cons (sm_istore_n rfl B.1 dX4_takesCall_5) ?_
  refine jlk_cons (sm_iload_n rfl B.1 dX4_takesCall_6) ?_
  refine jlk_cons (sm_iflt rfl B.1 dX4_takesCall_7) ?_
  refine jlk_cons (sm_aload_n rfl B.1 dX4_takesCall_10) ?_
  refine jlk_cons (sm_bipush rfl B.1 dX4_takesCall_11) ?_
  refine jlk_cons (sm_cV (x := yX4_skips) (host := "") (owner := "") isRI (i_X4_skips hI) B q3062 q3064 qs67 w4_X4_skips w6_X4_skips (by decide) (by decide) (by decide) kc_4 hy_X4_skips hl_X4_skips dX4_takesCall_13 trivial) ?_
  refine jlk_cons (sm_ifne rfl B.1 dX4_takesCall_16) ?_
  refine jlk_cons (sm_iconst rfl B.1 dX4_takesCall_19) ?_
  refine jlk_cons (sm_zret B.1 B.2.1 hret dX4_takesCall_20) ?_
  refine jlk_cons (sm_aload_n rfl B.1 dX4_takesCall_21) ?_
  refine jlk_cons (sm_iload_n rfl B.1 dX4_takesCall_22) ?_
  refine jlk_cons (sm_cV (x := yX4_name) (host := "") (owner := "") isRI (i_X4_name hI) B q3074 q3076 qs70 w4_X4_name w6_X4_name (by decide) (by decide) (by decide) kc_4 hy_X4_name hl_X4_name dX4_takesCall_23 trivial) ?_
  refine jlk_cons (sm_istore B.1 dX4_takesCall_26) ?_
  refine jlk_cons (sm_iload B.1 dX4_takesCall_28) ?_
  refine jlk_cons (sm_iflt rfl B.1 dX4_takesCall_30) ?_
  refine jlk_cons (sm_aload_n rfl B.1 dX4_takesCall_33) ?_
  refine jlk_cons (sm_bipush rfl B.1 dX4_takesCall_34) ?_
  refine jlk_cons (sm_cV (x := yX4_skips) (host := "") (owner := "") isRI (i_X4_skips hI) B q3062 q3064 qs67 w4_X4_skips w6_X4_skips (by decide) (by decide) (by decide) kc_4 hy_X4_skips hl_X4_skips dX4_takesCall_36 trivial) ?_
  refine jlk_cons (sm_ifne rfl B.1 dX4_takesCall_39) ?_
  refine jlk_cons (sm_iconst rfl B.1 dX4_takesCall_42) ?_
  refine jlk_cons (sm_zret B.1 B.2.1 hret dX4_takesCall_43) ?_
  refine jlk_cons (sm_aload_n rfl B.1 dX4_takesCall_44) ?_
  refine jlk_cons (sm_bipush rfl B.1 dX4_takesCall_45) ?_
  refine jlk_cons (sm_iload_n rfl B.1 dX4_takesCall_47) ?_
  refine jlk_cons (sm_iload B.1 dX4_takesCall_48) ?_
  refine jlk_cons (sm_iload_n rfl B.1 dX4_takesCall_50) ?_
  refine jlk_cons (sm_cV (x := yX4_puts) (host := "") (owner := "") isRV (i_X4_puts hI) B q3078 q3080 qs71 w4_X4_puts w6_X4_puts (by decide) (by decide) (by decide) kc_4 hy_X4_puts hl_X4_puts dX4_takesCall_51 trivial) ?_
  refine jlk_cons (sm_iconst rfl B.1 dX4_takesCall_54) ?_
  refine jlk_cons (sm_zret B.1 B.2.1 hret dX4_takesCall_55) ?_
  exact jlk_nil
theorem v_X4_takesCall (hst : l.stackTraces = false) (hz : jEz (EV (d + 1))) (hI : jIH l D dA lo cs0 d) : jMe l D dA lo cs0 (EV (d + 1)) 232 yX4_takesCall (ws_ yX4_takesCall cX4_takesCall 5 (Option.some Jvm.ClassFile.FieldType.boolean)) (d + 1) := z_meth hz rfl hp_X4_takesCall (r_X4_takesCall hst hI)
theorem r_X4_digit (hst : l.stackTraces = false) (hI : jIH l D dA lo cs0 d) : jRows l D dA lo cs0 d 2 (tb_X4_digit (EV d)) yX4_digit cX4_digit (Option.some Jvm.ClassFile.FieldType.int) [] := by
  intro p e R s m args below meth c z0 w0 zF wF Q rF hF B hz hw hret hnm
  refine jlk_cons (sm_aload_n rfl B.1 dX4_digit_0) ?_
  refine jlk_cons (sm_cV (x := yX4_next) (host := "") (owner := "") isRI (i_X4_next hI) B q3066 q3068 qs68 w4_X4_next w6_X4_next (by decide) (by decide) (by decide) kc_4 hy_X4_next hl_X4_next dX4_digit_1 trivial) ?_
  refine jlk_cons (sm_bipush rfl B.1 dX4_digit_4) ?_
  refine jlk_cons (sm_bipush rfl B.1 dX4_digit_6) ?_
  refine jlk_cons (sm_iload_n rfl B.1 dX4_digit_8) ?_
  refine jlk_cons (sm_iadd B.1 dX4_digit_9) ?_
  refine jlk_cons (sm_cS (x := yX4_isBetween) (r9 := kr_6) (host := "") (owner := "") isSI (i_X4_isBetween hI) B q3040 q3041 w4_X4_isBetween w6_X4_isBetween (by decide) hy_X4_isBetween hl_X4_isBetween dX4_digit_10 trivial) ?_
  refine jlk_cons (sm_ifne rfl B.1 dX4_digit_13) ?_
  refine jlk_cons (sm_iconst rfl B.1 dX4_digit_16) ?_
  refine jlk_cons (sm_iret B.1 B.2.1 hret dX4_digit_17) ?_
  refine jlk_cons (sm_aload_n rfl B.1 dX4_digit_18) ?_
  refine jlk_cons (sm_dup B.1 dX4_digit_19) ?_
  refine jlk_cons (sm_getI B.1 fl_PointerAnalyzerModel_104_4_25 dX4_digit_20) ?_
  refine jlk_cons (sm_iconst rfl B.1 dX4_digit_23) ?_
  refine jlk_cons (sm_iadd B.1 dX4_digit_24) ?_
  refine jlk_cons (sm_putI B.1 fl_PointerAnalyzerModel_104_4_25 tyX4 tyX4_ok nmX4 (Or.inl rfl) (tyX4_ok 9 (by decide)) rfl (by decide) dX4_digit_25) ?_
  refine jlk_cons (sm_aload_n rfl B.1 dX4_digit_28) ?_
  refine jlk_cons (sm_getP B.1 fl_PointerAnalyzerModel_25_4_23 dX4_digit_29) ?_
  refine jlk_cons (sm_aload_n rfl B.1 dX4_digit_32) ?_
  refine jlk_cons (sm_getI B.1 fl_PointerAnalyzerModel_104_4_25 dX4_digit_33) ?_
  refine jlk_cons (sm_iconst rfl B.1 dX4_digit_36) ?_
  refine jlk_cons (sm_isub B.1 dX4_digit_37) ?_
  refine jlk_cons (sm_iald B.1 dX4_digit_38) ?_
  refine jlk_cons (sm_bipush rfl B.1 dX4_digit_39) ?_
  refine jlk_cons (sm_isub B.1 dX4_digit_41) ?_
  refine jlk_cons (sm_iret B.1 B.2.1 hret dX4_digit_42) ?_
  exact jlk_nil
theorem v_X4_digit (hst : l.stackTraces = false) (hz : jEz (EV (d + 1))) (hI : jIH l D dA lo cs0 d) : jMe l D dA lo cs0 (EV (d + 1)) 233 yX4_digit (ws_ yX4_digit cX4_digit 2 (Option.some Jvm.ClassFile.FieldType.int)) (d + 1) := z_meth hz rfl hp_X4_digit (r_X4_digit hst hI)
theorem r_X4_next (hst : l.stackTraces = false) (hI : jIH l D dA lo cs0 d) : jRows l D dA lo cs0 d 1 (tb_X4_next (EV d)) yX4_next cX4_next (Option.some Jvm.ClassFile.FieldType.int) [] := by
  intro p e R s m args below meth c z0 w0 zF wF Q rF hF B hz hw hret hnm
  refine jlk_cons (sm_aload_n rfl B.1 dX4_next_0) ?_
  refine jlk_cons (sm_getI B.1 fl_PointerAnalyzerModel_104_4_25 dX4_next_1) ?_
  refine jlk_cons (sm_aload_n rfl B.1 dX4_next_4) ?_
  refine jlk_cons (sm_getI B.1 fl_PointerAnalyzerModel_101_4_24 dX4_next_5) ?_
  refine jlk_cons (sm_icmpge rfl B.1 dX4_next_8) ?_
  refine jlk_cons (sm_aload_n rfl B.1 dX4_next_11) ?_
  refine jlk_cons (sm_getP B.1 fl_PointerAnalyzerModel_25_4_23 dX4_next_12) ?_
  refine jlk_cons (sm_aload_n rfl B.1 dX4_next_15) ?_
  refine jlk_cons (sm_getI B.1 fl_PointerAnalyzerModel_104_4_25 dX4_next_16) ?_
  refine jlk_cons (sm_iald B.1 dX4_next_19) ?_
  refine jlk_cons (sm_goto rfl B.1 dX4_next_20) ?_
  refine jlk_cons (sm_iconst rfl B.1 dX4_next_23) ?_
  refine jlk_cons (sm_iret B.1 B.2.1 hret dX4_next_24) ?_
  exact jlk_nil
theorem v_X4_next (hst : l.stackTraces = false) (hz : jEz (EV (d + 1))) (hI : jIH l D dA lo cs0 d) : jMe l D dA lo cs0 (EV (d + 1)) 234 yX4_next (ws_ yX4_next cX4_next 1 (Option.some Jvm.ClassFile.FieldType.int)) (d + 1) := z_meth hz rfl hp_X4_next (r_X4_next hst hI)
theorem r_X4_contextOf (hst : l.stackTraces = false) (hI : jIH l D dA lo cs0 d) : jRows l D dA lo cs0 d 4 (tb_X4_contextOf (EV d)) yX4_contextOf cX4_contextOf (Option.some Jvm.ClassFile.FieldType.int) [] := by
  intro p e R s m args below meth c z0 w0 zF wF Q rF hF B hz hw hret hnm
  refine jlk_cons (sm_iconst rfl B.1 dX4_contextOf_0) ?_
  refine jlk_cons (sm_istore_n rfl B.1 dX4_contextOf_1) ?_
  refine jlk_cons (sm_iload_n rfl B.1 dX4_contextOf_2) ?_
  refine jlk_cons (sm_aload_n rfl B.1 dX4_contextOf_3) ?_
  refine jlk_cons (sm_getI B.1 fl_PointerAnalyzerModel_174_4_32 dX4_contextOf_4) ?_
  refine jlk_cons (sm_icmpge rfl B.1 dX4_contextOf_7) ?_
  refine jlk_cons (sm_aload_n rfl B.1 dX4_contextOf_10) ?_
  refine jlk_cons (sm_getP B.1 fl_PointerAnalyzerModel_32_4_30 dX4_contextOf_11) ?_
  refine jlk_cons (sm_iload_n rfl B.1 dX4_contextOf_14) ?_
  refine jlk_cons (sm_iald B.1 dX4_contextOf_15) ?_
  refine jlk_cons (sm_iload_n rfl B.1 dX4_contextOf_16) ?_
  refine jlk_cons (sm_icmpne rfl B.1 dX4_contextOf_17) ?_
  refine jlk_cons (sm_aload_n rfl B.1 dX4_contextOf_20) ?_
  refine jlk_cons (sm_getP B.1 fl_PointerAnalyzerModel_35_4_31 dX4_contextOf_21) ?_
  refine jlk_cons (sm_iload_n rfl B.1 dX4_contextOf_24) ?_
  refine jlk_cons (sm_iald B.1 dX4_contextOf_25) ?_
  refine jlk_cons (sm_iload_n rfl B.1 dX4_contextOf_26) ?_
  refine jlk_cons (sm_icmpne rfl B.1 dX4_contextOf_27) ?_
  refine jlk_cons (sm_iload_n rfl B.1 dX4_contextOf_30) ?_
  refine jlk_cons (sm_iret B.1 B.2.1 hret dX4_contextOf_31) ?_
  refine jlk_cons (sm_iinc rfl B.1 dX4_contextOf_32) ?_
  refine jlk_cons (sm_goto rfl B.1 dX4_contextOf_35) ?_
  refine jlk_cons (sm_iconst rfl B.1 dX4_contextOf_38) ?_
  refine jlk_cons (sm_iret B.1 B.2.1 hret dX4_contextOf_39) ?_
  exact jlk_nil
theorem v_X4_contextOf (hst : l.stackTraces = false) (hz : jEz (EV (d + 1))) (hI : jIH l D dA lo cs0 d) : jMe l D dA lo cs0 (EV (d + 1)) 235 yX4_contextOf (ws_ yX4_contextOf cX4_contextOf 4 (Option.some Jvm.ClassFile.FieldType.int)) (d + 1) := z_meth hz rfl hp_X4_contextOf (r_X4_contextOf hst hI)
theorem r_X4_notes (hst : l.stackTraces = false) (hI : jIH l D dA lo cs0 d) : jRows l D dA lo cs0 d 6 (tb_X4_notes (EV d)) yX4_notes cX4_notes (Option.none : Option Jvm.ClassFile.FieldType) [] := by
  intro p e R s m args below meth c z0 w0 zF wF Q rF hF B hz hw hret hnm
  refine jlk_app ?_ ?_
  · refine jlk_cons (sm_iconst rfl B.1 dX4_notes_0) ?_
    refine jlk_cons (sm_istore_n rfl B.1 dX4_notes_1) ?_
    refine jlk_cons (sm_iload_n rfl B.1 dX4_notes_2) ?_
    refine jlk_cons (sm_sipush rfl B.1 dX4_notes_3) ?_
    refine jlk_cons (sm_icmpge rfl B.1 dX4_notes_6) ?_
    refine jlk_cons (sm_iconst rfl B.1 dX4_notes_9) ?_
    refine jlk_cons (sm_istore B.1 dX4_notes_10) ?_
    refine jlk_cons (sm_iload B.1 dX4_notes_12) ?_
    refine jlk_cons (sm_sipush rfl B.1 dX4_notes_14) ?_
    refine jlk_cons (sm_icmpge rfl B.1 dX4_notes_17) ?_
    refine jlk_cons (sm_aload_n rfl B.1 dX4_notes_20) ?_
    refine jlk_cons (sm_getP B.1 fl_PointerAnalyzerModel_38_4_33 dX4_notes_21) ?_
    refine jlk_cons (sm_iload_n rfl B.1 dX4_notes_24) ?_
    refine jlk_cons (sm_iload B.1 dX4_notes_25) ?_
    refine jlk_cons (sm_cS (x := yX4_isIn) (r9 := kr_6) (host := "") (owner := "") isSI (i_X4_isIn hI) B q3188 q3189 w4_X4_isIn w6_X4_isIn (by decide) hy_X4_isIn hl_X4_isIn dX4_notes_27 trivial) ?_
    refine jlk_cons (sm_ifne rfl B.1 dX4_notes_30) ?_
    refine jlk_cons (sm_goto rfl B.1 dX4_notes_33) ?_
    refine jlk_cons (sm_bipush rfl B.1 dX4_notes_36) ?_
    refine jlk_cons (sm_aload_n rfl B.1 dX4_notes_38) ?_
    refine jlk_cons (sm_iload_n rfl B.1 dX4_notes_39) ?_
    refine jlk_cons (sm_cV (x := yX4_targetOf) (host := "") (owner := "") isRI (i_X4_targetOf hI) B q3204 q3206 qs93 w4_X4_targetOf w6_X4_targetOf (by decide) (by decide) (by decide) kc_4 hy_X4_targetOf hl_X4_targetOf dX4_notes_40 trivial) ?_
    refine jlk_cons (sm_imul B.1 dX4_notes_43) ?_
    refine jlk_cons (sm_aload_n rfl B.1 dX4_notes_44) ?_
    refine jlk_cons (sm_iload B.1 dX4_notes_45) ?_
    refine jlk_cons (sm_cV (x := yX4_targetOf) (host := "") (owner := "") isRI (i_X4_targetOf hI) B q3204 q3206 qs93 w4_X4_targetOf w6_X4_targetOf (by decide) (by decide) (by decide) kc_4 hy_X4_targetOf hl_X4_targetOf dX4_notes_47 trivial) ?_
    refine jlk_cons (sm_iadd B.1 dX4_notes_50) ?_
    refine jlk_cons (sm_istore B.1 dX4_notes_51) ?_
    refine jlk_cons (sm_aload_n rfl B.1 dX4_notes_53) ?_
    refine jlk_cons (sm_getP B.1 fl_PointerAnalyzerModel_45_4_37 dX4_notes_54) ?_
    refine jlk_cons (sm_iload B.1 dX4_notes_57) ?_
    refine jlk_cons (sm_iald B.1 dX4_notes_59) ?_
    refine jlk_cons (sm_ifle rfl B.1 dX4_notes_60) ?_
    refine jlk_cons (sm_goto rfl B.1 dX4_notes_63) ?_
    refine jlk_cons (sm_aload_n rfl B.1 dX4_notes_66) ?_
    refine jlk_cons (sm_getP B.1 fl_PointerAnalyzerModel_45_4_37 dX4_notes_67) ?_
    refine jlk_cons (sm_iload B.1 dX4_notes_70) ?_
    refine jlk_cons (sm_iload_n rfl B.1 dX4_notes_72) ?_
    refine jlk_cons (sm_iast B.1 dX4_notes_73) ?_
    refine jlk_cons (sm_aload_n rfl B.1 dX4_notes_74) ?_
    refine jlk_cons (sm_getP B.1 fl_PointerAnalyzerModel_48_4_38 dX4_notes_75) ?_
    exact jlk_nil
  · skip
    refine jlk_cons (sm_iload B.1 dX4_notes_78) ?_
    refine jlk_cons (sm_iload_n rfl B.1 dX4_notes_80) ?_
    refine jlk_cons (sm_iast B.1 dX4_notes_81) ?_
    refine jlk_cons (sm_iinc rfl B.1 dX4_notes_82) ?_
    refine jlk_cons (sm_goto rfl B.1 dX4_notes_85) ?_
    refine jlk_cons (sm_iinc rfl B.1 dX4_notes_88) ?_
    refine jlk_cons (sm_goto rfl B.1 dX4_notes_91) ?_
    refine jlk_cons (sm_vret B.1 B.2.1 hret dX4_notes_94) ?_
    exact jlk_nil
theorem v_X4_notes (hst : l.stackTraces = false) (hz : jEz (EV (d + 1))) (hI : jIH l D dA lo cs0 d) : jMe l D dA lo cs0 (EV (d + 1)) 236 yX4_notes (ws_ yX4_notes cX4_notes 6 (Option.none : Option Jvm.ClassFile.FieldType)) (d + 1) := z_meth hz rfl hp_X4_notes (r_X4_notes hst hI)
theorem r_X4_addsContext (hst : l.stackTraces = false) (hI : jIH l D dA lo cs0 d) : jRows l D dA lo cs0 d 4 (tb_X4_addsContext (EV d)) yX4_addsContext cX4_addsContext (Option.none : Option Jvm.ClassFile.FieldType) [] := by
  intro p e R s m args below meth c z0 w0 zF wF Q rF hF B hz hw hret hnm
  refine jlk_app ?_ ?_
  · refine jlk_cons (sm_aload_n rfl B.1 dX4_addsContext_0) ?_
    refine jlk_cons (sm_getI B.1 fl_PointerAnalyzerModel_174_4_32 dX4_addsContext_1) ?_
    refine jlk_cons (sm_istore_n rfl B.1 dX4_addsContext_4) ?_
    refine jlk_cons (sm_iload_n rfl B.1 dX4_addsContext_5) ?_
    refine jlk_cons (sm_ifle rfl B.1 dX4_addsContext_6) ?_
    refine jlk_cons (sm_aload_n rfl B.1 dX4_addsContext_9) ?_
    refine jlk_cons (sm_getP B.1 fl_PointerAnalyzerModel_32_4_30 dX4_addsContext_10) ?_
    refine jlk_cons (sm_iload_n rfl B.1 dX4_addsContext_13) ?_
    refine jlk_cons (sm_iconst rfl B.1 dX4_addsContext_14) ?_
    refine jlk_cons (sm_isub B.1 dX4_addsContext_15) ?_
    refine jlk_cons (sm_iald B.1 dX4_addsContext_16) ?_
    refine jlk_cons (sm_iload_n rfl B.1 dX4_addsContext_17) ?_
    refine jlk_cons (sm_icmpgt rfl B.1 dX4_addsContext_18) ?_
    refine jlk_cons (sm_aload_n rfl B.1 dX4_addsContext_21) ?_
    refine jlk_cons (sm_getP B.1 fl_PointerAnalyzerModel_32_4_30 dX4_addsContext_22) ?_
    refine jlk_cons (sm_iload_n rfl B.1 dX4_addsContext_25) ?_
    refine jlk_cons (sm_iconst rfl B.1 dX4_addsContext_26) ?_
    refine jlk_cons (sm_isub B.1 dX4_addsContext_27) ?_
    refine jlk_cons (sm_iald B.1 dX4_addsContext_28) ?_
    refine jlk_cons (sm_iload_n rfl B.1 dX4_addsContext_29) ?_
    refine jlk_cons (sm_icmpne rfl B.1 dX4_addsContext_30) ?_
    refine jlk_cons (sm_aload_n rfl B.1 dX4_addsContext_33) ?_
    refine jlk_cons (sm_getP B.1 fl_PointerAnalyzerModel_35_4_31 dX4_addsContext_34) ?_
    refine jlk_cons (sm_iload_n rfl B.1 dX4_addsContext_37) ?_
    refine jlk_cons (sm_iconst rfl B.1 dX4_addsContext_38) ?_
    refine jlk_cons (sm_isub B.1 dX4_addsContext_39) ?_
    refine jlk_cons (sm_iald B.1 dX4_addsContext_40) ?_
    refine jlk_cons (sm_iload_n rfl B.1 dX4_addsContext_41) ?_
    refine jlk_cons (sm_icmple rfl B.1 dX4_addsContext_42) ?_
    refine jlk_cons (sm_aload_n rfl B.1 dX4_addsContext_45) ?_
    refine jlk_cons (sm_getP B.1 fl_PointerAnalyzerModel_32_4_30 dX4_addsContext_46) ?_
    refine jlk_cons (sm_iload_n rfl B.1 dX4_addsContext_49) ?_
    refine jlk_cons (sm_aload_n rfl B.1 dX4_addsContext_50) ?_
    refine jlk_cons (sm_getP B.1 fl_PointerAnalyzerModel_32_4_30 dX4_addsContext_51) ?_
    refine jlk_cons (sm_iload_n rfl B.1 dX4_addsContext_54) ?_
    refine jlk_cons (sm_iconst rfl B.1 dX4_addsContext_55) ?_
    refine jlk_cons (sm_isub B.1 dX4_addsContext_56) ?_
    refine jlk_cons (sm_iald B.1 dX4_addsContext_57) ?_
    refine jlk_cons (sm_iast B.1 dX4_addsContext_58) ?_
    refine jlk_cons (sm_aload_n rfl B.1 dX4_addsContext_59) ?_
    exact jlk_nil
  · skip
    refine jlk_cons (sm_getP B.1 fl_PointerAnalyzerModel_35_4_31 dX4_addsContext_60) ?_
    refine jlk_cons (sm_iload_n rfl B.1 dX4_addsContext_63) ?_
    refine jlk_cons (sm_aload_n rfl B.1 dX4_addsContext_64) ?_
    refine jlk_cons (sm_getP B.1 fl_PointerAnalyzerModel_35_4_31 dX4_addsContext_65) ?_
    refine jlk_cons (sm_iload_n rfl B.1 dX4_addsContext_68) ?_
    refine jlk_cons (sm_iconst rfl B.1 dX4_addsContext_69) ?_
    refine jlk_cons (sm_isub B.1 dX4_addsContext_70) ?_
    refine jlk_cons (sm_iald B.1 dX4_addsContext_71) ?_
    refine jlk_cons (sm_iast B.1 dX4_addsContext_72) ?_
    refine jlk_cons (sm_iinc rfl B.1 dX4_addsContext_73) ?_
    refine jlk_cons (sm_goto rfl B.1 dX4_addsContext_76) ?_
    refine jlk_cons (sm_aload_n rfl B.1 dX4_addsContext_79) ?_
    refine jlk_cons (sm_getP B.1 fl_PointerAnalyzerModel_32_4_30 dX4_addsContext_80) ?_
    refine jlk_cons (sm_iload_n rfl B.1 dX4_addsContext_83) ?_
    refine jlk_cons (sm_iload_n rfl B.1 dX4_addsContext_84) ?_
    refine jlk_cons (sm_iast B.1 dX4_addsContext_85) ?_
    refine jlk_cons (sm_aload_n rfl B.1 dX4_addsContext_86) ?_
    refine jlk_cons (sm_getP B.1 fl_PointerAnalyzerModel_35_4_31 dX4_addsContext_87) ?_
    refine jlk_cons (sm_iload_n rfl B.1 dX4_addsContext_90) ?_
    refine jlk_cons (sm_iload_n rfl B.1 dX4_addsContext_91) ?_
    refine jlk_cons (sm_iast B.1 dX4_addsContext_92) ?_
    refine jlk_cons (sm_aload_n rfl B.1 dX4_addsContext_93) ?_
    refine jlk_cons (sm_dup B.1 dX4_addsContext_94) ?_
    refine jlk_cons (sm_getI B.1 fl_PointerAnalyzerModel_174_4_32 dX4_addsContext_95) ?_
    refine jlk_cons (sm_iconst rfl B.1 dX4_addsContext_98) ?_
    refine jlk_cons (sm_iadd B.1 dX4_addsContext_99) ?_
    refine jlk_cons (sm_putI B.1 fl_PointerAnalyzerModel_174_4_32 tyX4 tyX4_ok nmX4 (Or.inl rfl) (tyX4_ok 16 (by decide)) rfl (by decide) dX4_addsContext_100) ?_
    refine jlk_cons (sm_vret B.1 B.2.1 hret dX4_addsContext_103) ?_
    exact jlk_nil
theorem v_X4_addsContext (hst : l.stackTraces = false) (hz : jEz (EV (d + 1))) (hI : jIH l D dA lo cs0 d) : jMe l D dA lo cs0 (EV (d + 1)) 237 yX4_addsContext (ws_ yX4_addsContext cX4_addsContext 4 (Option.none : Option Jvm.ClassFile.FieldType)) (d + 1) := z_meth hz rfl hp_X4_addsContext (r_X4_addsContext hst hI)
theorem r_X4_numberOf (hst : l.stackTraces = false) (hI : jIH l D dA lo cs0 d) : jRows l D dA lo cs0 d 4 (tb_X4_numberOf (EV d)) yX4_numberOf cX4_numberOf (Option.some Jvm.ClassFile.FieldType.int) [] := by
  intro p e R s m args below meth c z0 w0 zF wF Q rF hF B hz hw hret hnm
  refine jlk_cons (sm_iload_n rfl B.1 dX4_numberOf_0) ?_
  refine jlk_cons (sm_bipush rfl B.1 dX4_numberOf_1) ?_
  refine jlk_cons (sm_irem B.1 dX4_numberOf_3) ?_
  refine jlk_cons (sm_istore_n rfl B.1 dX4_numberOf_4) ?_
  refine jlk_cons (sm_iconst rfl B.1 dX4_numberOf_5) ?_
  refine jlk_cons (sm_istore_n rfl B.1 dX4_numberOf_6) ?_
  refine jlk_cons (sm_iload_n rfl B.1 dX4_numberOf_7) ?_
  refine jlk_cons (sm_iload_n rfl B.1 dX4_numberOf_8) ?_
  refine jlk_cons (sm_bipush rfl B.1 dX4_numberOf_9) ?_
  refine jlk_cons (sm_idiv B.1 dX4_numberOf_11) ?_
  refine jlk_cons (sm_icmpge rfl B.1 dX4_numberOf_12) ?_
  refine jlk_cons (sm_iload_n rfl B.1 dX4_numberOf_15) ?_
  refine jlk_cons (sm_aload_n rfl B.1 dX4_numberOf_16) ?_
  refine jlk_cons (sm_getP B.1 fl_PointerAnalyzerModel_22_4_21 dX4_numberOf_17) ?_
  refine jlk_cons (sm_iload_n rfl B.1 dX4_numberOf_20) ?_
  refine jlk_cons (sm_iald B.1 dX4_numberOf_21) ?_
  refine jlk_cons (sm_iadd B.1 dX4_numberOf_22) ?_
  refine jlk_cons (sm_istore_n rfl B.1 dX4_numberOf_23) ?_
  refine jlk_cons (sm_iinc rfl B.1 dX4_numberOf_24) ?_
  refine jlk_cons (sm_goto rfl B.1 dX4_numberOf_27) ?_
  refine jlk_cons (sm_iload_n rfl B.1 dX4_numberOf_30) ?_
  refine jlk_cons (sm_iret B.1 B.2.1 hret dX4_numberOf_31) ?_
  exact jlk_nil
theorem v_X4_numberOf (hst : l.stackTraces = false) (hz : jEz (EV (d + 1))) (hI : jIH l D dA lo cs0 d) : jMe l D dA lo cs0 (EV (d + 1)) 238 yX4_numberOf (ws_ yX4_numberOf cX4_numberOf 4 (Option.some Jvm.ClassFile.FieldType.int)) (d + 1) := z_meth hz rfl hp_X4_numberOf (r_X4_numberOf hst hI)
theorem r_X4_codeBehind (hst : l.stackTraces = false) (hI : jIH l D dA lo cs0 d) : jRows l D dA lo cs0 d 3 (tb_X4_codeBehind (EV d)) yX4_codeBehind cX4_codeBehind (Option.some Jvm.ClassFile.FieldType.int) [] := by
  intro p e R s m args below meth c z0 w0 zF wF Q rF hF B hz hw hret hnm
  refine jlk_cons (sm_iload_n rfl B.1 dX4_codeBehind_0) ?_
  refine jlk_cons (sm_ifne rfl B.1 dX4_codeBehind_1) ?_
  refine jlk_cons (sm_iconst rfl B.1 dX4_codeBehind_4) ?_
  refine jlk_cons (sm_iret B.1 B.2.1 hret dX4_codeBehind_5) ?_
  refine jlk_cons (sm_iload_n rfl B.1 dX4_codeBehind_6) ?_
  refine jlk_cons (sm_iconst rfl B.1 dX4_codeBehind_7) ?_
  refine jlk_cons (sm_icmpeq rfl B.1 dX4_codeBehind_8) ?_
  refine jlk_cons (sm_iload_n rfl B.1 dX4_codeBehind_11) ?_
  refine jlk_cons (sm_ifne rfl B.1 dX4_codeBehind_12) ?_
  refine jlk_cons (sm_sipush rfl B.1 dX4_codeBehind_15) ?_
  refine jlk_cons (sm_iload_n rfl B.1 dX4_codeBehind_18) ?_
  refine jlk_cons (sm_iadd B.1 dX4_codeBehind_19) ?_
  refine jlk_cons (sm_iret B.1 B.2.1 hret dX4_codeBehind_20) ?_
  refine jlk_cons (sm_sipush rfl B.1 dX4_codeBehind_21) ?_
  refine jlk_cons (sm_iload_n rfl B.1 dX4_codeBehind_24) ?_
  refine jlk_cons (sm_bipush rfl B.1 dX4_codeBehind_25) ?_
  refine jlk_cons (sm_irem B.1 dX4_codeBehind_27) ?_
  refine jlk_cons (sm_bipush rfl B.1 dX4_codeBehind_28) ?_
  refine jlk_cons (sm_imul B.1 dX4_codeBehind_30) ?_
  refine jlk_cons (sm_iadd B.1 dX4_codeBehind_31) ?_
  refine jlk_cons (sm_iload_n rfl B.1 dX4_codeBehind_32) ?_
  refine jlk_cons (sm_iadd B.1 dX4_codeBehind_33) ?_
  refine jlk_cons (sm_iret B.1 B.2.1 hret dX4_codeBehind_34) ?_
  exact jlk_nil
theorem v_X4_codeBehind (hst : l.stackTraces = false) (hz : jEz (EV (d + 1))) (hI : jIH l D dA lo cs0 d) : jMe l D dA lo cs0 (EV (d + 1)) 239 yX4_codeBehind (ws_ yX4_codeBehind cX4_codeBehind 3 (Option.some Jvm.ClassFile.FieldType.int)) (d + 1) := z_meth hz rfl hp_X4_codeBehind (r_X4_codeBehind hst hI)
theorem r_X4_adds (hst : l.stackTraces = false) (hI : jIH l D dA lo cs0 d) : jRows l D dA lo cs0 d 3 (tb_X4_adds (EV d)) yX4_adds cX4_adds (Option.none : Option Jvm.ClassFile.FieldType) [] := by
  intro p e R s m args below meth c z0 w0 zF wF Q rF hF B hz hw hret hnm
  refine jlk_cons (sm_aload_n rfl B.1 dX4_adds_0) ?_
  refine jlk_cons (sm_getP B.1 fl_PointerAnalyzerModel_38_4_33 dX4_adds_1) ?_
  refine jlk_cons (sm_iload_n rfl B.1 dX4_adds_4) ?_
  refine jlk_cons (sm_iload_n rfl B.1 dX4_adds_5) ?_
  refine jlk_cons (sm_cS (x := yX4_isIn) (r9 := kr_6) (host := "") (owner := "") isSI (i_X4_isIn hI) B q3188 q3189 w4_X4_isIn w6_X4_isIn (by decide) hy_X4_isIn hl_X4_isIn dX4_adds_6 trivial) ?_
  refine jlk_cons (sm_ifeq rfl B.1 dX4_adds_9) ?_
  refine jlk_cons (sm_vret B.1 B.2.1 hret dX4_adds_12) ?_
  refine jlk_cons (sm_aload_n rfl B.1 dX4_adds_13) ?_
  refine jlk_cons (sm_getP B.1 fl_PointerAnalyzerModel_38_4_33 dX4_adds_14) ?_
  refine jlk_cons (sm_iconst rfl B.1 dX4_adds_17) ?_
  refine jlk_cons (sm_iload_n rfl B.1 dX4_adds_18) ?_
  refine jlk_cons (sm_imul B.1 dX4_adds_19) ?_
  refine jlk_cons (sm_iload_n rfl B.1 dX4_adds_20) ?_
  refine jlk_cons (sm_bipush rfl B.1 dX4_adds_21) ?_
  refine jlk_cons (sm_idiv B.1 dX4_adds_23) ?_
  refine jlk_cons (sm_iadd B.1 dX4_adds_24) ?_
  refine jlk_cons (sm_dup2 B.1 dX4_adds_25) ?_
  refine jlk_cons (sm_lald B.1 dX4_adds_26) ?_
  refine jlk_cons (sm_lconst rfl B.1 dX4_adds_27) ?_
  refine jlk_cons (sm_iload_n rfl B.1 dX4_adds_28) ?_
  refine jlk_cons (sm_bipush rfl B.1 dX4_adds_29) ?_
  refine jlk_cons (sm_irem B.1 dX4_adds_31) ?_
  refine jlk_cons (sm_lshl B.1 dX4_adds_32) ?_
  refine jlk_cons (sm_lor B.1 dX4_adds_33) ?_
  refine jlk_cons (sm_last B.1 dX4_adds_34) ?_
  refine jlk_cons (sm_aload_n rfl B.1 dX4_adds_35) ?_
  refine jlk_cons (sm_iconst rfl B.1 dX4_adds_36) ?_
  refine jlk_cons (sm_putZ B.1 fl_PointerAnalyzerModel_191_4_36 tyX4 tyX4_ok nmX4 (Or.inl rfl) (tyX4_ok 20 (by decide)) rfl (by decide) dX4_adds_37) ?_
  refine jlk_cons (sm_vret B.1 B.2.1 hret dX4_adds_40) ?_
  exact jlk_nil
theorem v_X4_adds (hst : l.stackTraces = false) (hz : jEz (EV (d + 1))) (hI : jIH l D dA lo cs0 d) : jMe l D dA lo cs0 (EV (d + 1)) 240 yX4_adds (ws_ yX4_adds cX4_adds 3 (Option.none : Option Jvm.ClassFile.FieldType)) (d + 1) := z_meth hz rfl hp_X4_adds (r_X4_adds hst hI)
theorem r_X4_addsAll (hst : l.stackTraces = false) (hI : jIH l D dA lo cs0 d) : jRows l D dA lo cs0 d 7 (tb_X4_addsAll (EV d)) yX4_addsAll cX4_addsAll (Option.none : Option Jvm.ClassFile.FieldType) [] := by
  intro p e R s m args below meth c z0 w0 zF wF Q rF hF B hz hw hret hnm
  refine jlk_app ?_ ?_
  · refine jlk_cons (sm_iconst rfl B.1 dX4_addsAll_0) ?_
    refine jlk_cons (sm_istore B.1 dX4_addsAll_1) ?_
    refine jlk_cons (sm_iload B.1 dX4_addsAll_3) ?_
    refine jlk_cons (sm_iconst rfl B.1 dX4_addsAll_5) ?_
    refine jlk_cons (sm_icmpge rfl B.1 dX4_addsAll_6) ?_
    refine jlk_cons (sm_aload_n rfl B.1 dX4_addsAll_9) ?_
    refine jlk_cons (sm_iconst rfl B.1 dX4_addsAll_10) ?_
    refine jlk_cons (sm_iload_n rfl B.1 dX4_addsAll_11) ?_
    refine jlk_cons (sm_imul B.1 dX4_addsAll_12) ?_
    refine jlk_cons (sm_iload B.1 dX4_addsAll_13) ?_
    refine jlk_cons (sm_iadd B.1 dX4_addsAll_15) ?_
    refine jlk_cons (sm_lald B.1 dX4_addsAll_16) ?_
    refine jlk_cons (sm_aload_n rfl B.1 dX4_addsAll_17) ?_
    refine jlk_cons (sm_getP B.1 fl_PointerAnalyzerModel_38_4_33 dX4_addsAll_18) ?_
    refine jlk_cons (sm_iconst rfl B.1 dX4_addsAll_21) ?_
    refine jlk_cons (sm_iload_n rfl B.1 dX4_addsAll_22) ?_
    refine jlk_cons (sm_imul B.1 dX4_addsAll_23) ?_
    refine jlk_cons (sm_iload B.1 dX4_addsAll_24) ?_
    refine jlk_cons (sm_iadd B.1 dX4_addsAll_26) ?_
    refine jlk_cons (sm_lald B.1 dX4_addsAll_27) ?_
    refine jlk_cons (sm_ldc2 q3195 B.1 dX4_addsAll_28) ?_
    refine jlk_cons (sm_lxor B.1 dX4_addsAll_31) ?_
    refine jlk_cons (sm_land B.1 dX4_addsAll_32) ?_
    refine jlk_cons (sm_lstore B.1 dX4_addsAll_33) ?_
    refine jlk_cons (sm_lload B.1 dX4_addsAll_35) ?_
    refine jlk_cons (sm_lconst rfl B.1 dX4_addsAll_37) ?_
    refine jlk_cons (sm_lcmp B.1 dX4_addsAll_38) ?_
    refine jlk_cons (sm_ifne rfl B.1 dX4_addsAll_39) ?_
    refine jlk_cons (sm_goto rfl B.1 dX4_addsAll_42) ?_
    refine jlk_cons (sm_aload_n rfl B.1 dX4_addsAll_45) ?_
    refine jlk_cons (sm_getP B.1 fl_PointerAnalyzerModel_38_4_33 dX4_addsAll_46) ?_
    refine jlk_cons (sm_iconst rfl B.1 dX4_addsAll_49) ?_
    refine jlk_cons (sm_iload_n rfl B.1 dX4_addsAll_50) ?_
    refine jlk_cons (sm_imul B.1 dX4_addsAll_51) ?_
    refine jlk_cons (sm_iload B.1 dX4_addsAll_52) ?_
    refine jlk_cons (sm_iadd B.1 dX4_addsAll_54) ?_
    refine jlk_cons (sm_dup2 B.1 dX4_addsAll_55) ?_
    refine jlk_cons (sm_lald B.1 dX4_addsAll_56) ?_
    refine jlk_cons (sm_lload B.1 dX4_addsAll_57) ?_
    refine jlk_cons (sm_lor B.1 dX4_addsAll_59) ?_
    exact jlk_nil
  · skip
    refine jlk_cons (sm_last B.1 dX4_addsAll_60) ?_
    refine jlk_cons (sm_aload_n rfl B.1 dX4_addsAll_61) ?_
    refine jlk_cons (sm_iconst rfl B.1 dX4_addsAll_62) ?_
    refine jlk_cons (sm_putZ B.1 fl_PointerAnalyzerModel_191_4_36 tyX4 tyX4_ok nmX4 (Or.inl rfl) (tyX4_ok 20 (by decide)) rfl (by decide) dX4_addsAll_63) ?_
    refine jlk_cons (sm_iinc rfl B.1 dX4_addsAll_66) ?_
    refine jlk_cons (sm_goto rfl B.1 dX4_addsAll_69) ?_
    refine jlk_cons (sm_vret B.1 B.2.1 hret dX4_addsAll_72) ?_
    exact jlk_nil
theorem v_X4_addsAll (hst : l.stackTraces = false) (hz : jEz (EV (d + 1))) (hI : jIH l D dA lo cs0 d) : jMe l D dA lo cs0 (EV (d + 1)) 241 yX4_addsAll (ws_ yX4_addsAll cX4_addsAll 7 (Option.none : Option Jvm.ClassFile.FieldType)) (d + 1) := z_meth hz rfl hp_X4_addsAll (r_X4_addsAll hst hI)
theorem r_X4_made (hst : l.stackTraces = false) (hI : jIH l D dA lo cs0 d) : jRows l D dA lo cs0 d 1 (tb_X4_made (EV d)) yX4_made cX4_made (Option.some Jvm.ClassFile.FieldType.int) [] := by
  intro p e R s m args below meth c z0 w0 zF wF Q rF hF B hz hw hret hnm
  refine jlk_cons (sm_aload_n rfl B.1 dX4_made_0) ?_
  refine jlk_cons (sm_getP B.1 fl_PointerAnalyzerModel_51_4_40 dX4_made_1) ?_
  refine jlk_cons (sm_aload_n rfl B.1 dX4_made_4) ?_
  refine jlk_cons (sm_getI B.1 fl_PointerAnalyzerModel_278_4_44 dX4_made_5) ?_
  refine jlk_cons (sm_aload_n rfl B.1 dX4_made_8) ?_
  refine jlk_cons (sm_getI B.1 fl_PointerAnalyzerModel_278_4_44 dX4_made_9) ?_
  refine jlk_cons (sm_iast B.1 dX4_made_12) ?_
  refine jlk_cons (sm_aload_n rfl B.1 dX4_made_13) ?_
  refine jlk_cons (sm_getP B.1 fl_PointerAnalyzerModel_54_4_41 dX4_made_14) ?_
  refine jlk_cons (sm_aload_n rfl B.1 dX4_made_17) ?_
  refine jlk_cons (sm_getI B.1 fl_PointerAnalyzerModel_278_4_44 dX4_made_18) ?_
  refine jlk_cons (sm_iconst rfl B.1 dX4_made_21) ?_
  refine jlk_cons (sm_iast B.1 dX4_made_22) ?_
  refine jlk_cons (sm_aload_n rfl B.1 dX4_made_23) ?_
  refine jlk_cons (sm_dup B.1 dX4_made_24) ?_
  refine jlk_cons (sm_getI B.1 fl_PointerAnalyzerModel_278_4_44 dX4_made_25) ?_
  refine jlk_cons (sm_iconst rfl B.1 dX4_made_28) ?_
  refine jlk_cons (sm_iadd B.1 dX4_made_29) ?_
  refine jlk_cons (sm_putI B.1 fl_PointerAnalyzerModel_278_4_44 tyX4 tyX4_ok nmX4 (Or.inl rfl) (tyX4_ok 28 (by decide)) rfl (by decide) dX4_made_30) ?_
  refine jlk_cons (sm_aload_n rfl B.1 dX4_made_33) ?_
  refine jlk_cons (sm_getI B.1 fl_PointerAnalyzerModel_278_4_44 dX4_made_34) ?_
  refine jlk_cons (sm_iconst rfl B.1 dX4_made_37) ?_
  refine jlk_cons (sm_isub B.1 dX4_made_38) ?_
  refine jlk_cons (sm_iret B.1 B.2.1 hret dX4_made_39) ?_
  exact jlk_nil
theorem v_X4_made (hst : l.stackTraces = false) (hz : jEz (EV (d + 1))) (hI : jIH l D dA lo cs0 d) : jMe l D dA lo cs0 (EV (d + 1)) 242 yX4_made (ws_ yX4_made cX4_made 1 (Option.some Jvm.ClassFile.FieldType.int)) (d + 1) := z_meth hz rfl hp_X4_made (r_X4_made hst hI)
theorem r_X4_unifiesBy (hst : l.stackTraces = false) (hI : jIH l D dA lo cs0 d) : jRows l D dA lo cs0 d 5 (tb_X4_unifiesBy (EV d)) yX4_unifiesBy cX4_unifiesBy (Option.none : Option Jvm.ClassFile.FieldType) [] := by
  intro p e R s m args below meth c z0 w0 zF wF Q rF hF B hz hw hret hnm
  refine jlk_app ?_ ?_
  · refine jlk_cons (sm_aload_n rfl B.1 dX4_unifiesBy_0) ?_
    refine jlk_cons (sm_getP B.1 fl_PointerAnalyzerModel_13_4_18 dX4_unifiesBy_1) ?_
    refine jlk_cons (sm_iload_n rfl B.1 dX4_unifiesBy_4) ?_
    refine jlk_cons (sm_iald B.1 dX4_unifiesBy_5) ?_
    refine jlk_cons (sm_istore_n rfl B.1 dX4_unifiesBy_6) ?_
    refine jlk_cons (sm_aload_n rfl B.1 dX4_unifiesBy_7) ?_
    refine jlk_cons (sm_getP B.1 fl_PointerAnalyzerModel_16_4_19 dX4_unifiesBy_8) ?_
    refine jlk_cons (sm_iload_n rfl B.1 dX4_unifiesBy_11) ?_
    refine jlk_cons (sm_iald B.1 dX4_unifiesBy_12) ?_
    refine jlk_cons (sm_istore_n rfl B.1 dX4_unifiesBy_13) ?_
    refine jlk_cons (sm_aload_n rfl B.1 dX4_unifiesBy_14) ?_
    refine jlk_cons (sm_getP B.1 fl_PointerAnalyzerModel_19_4_20 dX4_unifiesBy_15) ?_
    refine jlk_cons (sm_iload_n rfl B.1 dX4_unifiesBy_18) ?_
    refine jlk_cons (sm_iald B.1 dX4_unifiesBy_19) ?_
    refine jlk_cons (sm_istore B.1 dX4_unifiesBy_20) ?_
    refine jlk_cons (sm_aload_n rfl B.1 dX4_unifiesBy_22) ?_
    refine jlk_cons (sm_getP B.1 fl_PointerAnalyzerModel_7_4_17 dX4_unifiesBy_23) ?_
    refine jlk_cons (sm_iload_n rfl B.1 dX4_unifiesBy_26) ?_
    refine jlk_cons (sm_iald B.1 dX4_unifiesBy_27) ?_
    refine jlk_cons (sm_switch B.1 rfl (List.forall_mem_cons.mpr ⟨⟨by decide, by decide, 44, rfl, rfl⟩, (List.forall_mem_cons.mpr ⟨⟨by decide, by decide, 162, rfl, rfl⟩, (List.forall_mem_cons.mpr ⟨⟨by decide, by decide, 57, rfl, rfl⟩, (List.forall_mem_cons.mpr ⟨⟨by decide, by decide, 78, rfl, rfl⟩, (List.forall_mem_cons.mpr ⟨⟨by decide, by decide, 99, rfl, rfl⟩, (List.forall_mem_cons.mpr ⟨⟨by decide, by decide, 162, rfl, rfl⟩, (List.forall_mem_cons.mpr ⟨⟨by decide, by decide, 119, rfl, rfl⟩, (List.forall_mem_nil _)⟩)⟩)⟩)⟩)⟩)⟩)⟩) (sw_hall 7 (by decide) (by decide)) dX4_unifiesBy_28) ?_
    refine jlk_cons (sm_aload_n rfl B.1 dX4_unifiesBy_72) ?_
    refine jlk_cons (sm_aload_n rfl B.1 dX4_unifiesBy_73) ?_
    refine jlk_cons (sm_iload_n rfl B.1 dX4_unifiesBy_74) ?_
    refine jlk_cons (sm_cV (x := yX4_pointed) (host := "") (owner := "") isRI (i_X4_pointed hI) B q3216 q3218 qs96 w4_X4_pointed w6_X4_pointed (by decide) (by decide) (by decide) kc_4 hy_X4_pointed hl_X4_pointed dX4_unifiesBy_75 trivial) ?_
    refine jlk_cons (sm_iload_n rfl B.1 dX4_unifiesBy_78) ?_
    refine jlk_cons (sm_cV (x := yX4_unifies) (host := "") (owner := "") isRV (i_X4_unifies hI) B q3228 q3230 qs99 w4_X4_unifies w6_X4_unifies (by decide) (by decide) (by decide) kc_4 hy_X4_unifies hl_X4_unifies dX4_unifiesBy_79 trivial) ?_
    refine jlk_cons (sm_goto rfl B.1 dX4_unifiesBy_82) ?_
    refine jlk_cons (sm_aload_n rfl B.1 dX4_unifiesBy_85) ?_
    refine jlk_cons (sm_aload_n rfl B.1 dX4_unifiesBy_86) ?_
    refine jlk_cons (sm_iload_n rfl B.1 dX4_unifiesBy_87) ?_
    refine jlk_cons (sm_cV (x := yX4_pointed) (host := "") (owner := "") isRI (i_X4_pointed hI) B q3216 q3218 qs96 w4_X4_pointed w6_X4_pointed (by decide) (by decide) (by decide) kc_4 hy_X4_pointed hl_X4_pointed dX4_unifiesBy_88 trivial) ?_
    refine jlk_cons (sm_aload_n rfl B.1 dX4_unifiesBy_91) ?_
    refine jlk_cons (sm_aload_n rfl B.1 dX4_unifiesBy_92) ?_
    refine jlk_cons (sm_iload_n rfl B.1 dX4_unifiesBy_93) ?_
    refine jlk_cons (sm_cV (x := yX4_pointed) (host := "") (owner := "") isRI (i_X4_pointed hI) B q3216 q3218 qs96 w4_X4_pointed w6_X4_pointed (by decide) (by decide) (by decide) kc_4 hy_X4_pointed hl_X4_pointed dX4_unifiesBy_94 trivial) ?_
    refine jlk_cons (sm_cV (x := yX4_pointed) (host := "") (owner := "") isRI (i_X4_pointed hI) B q3216 q3218 qs96 w4_X4_pointed w6_X4_pointed (by decide) (by decide) (by decide) kc_4 hy_X4_pointed hl_X4_pointed dX4_unifiesBy_97 trivial) ?_
    refine jlk_cons (sm_cV (x := yX4_unifies) (host := "") (owner := "") isRV (i_X4_unifies hI) B q3228 q3230 qs99 w4_X4_unifies w6_X4_unifies (by decide) (by decide) (by decide) kc_4 hy_X4_unifies hl_X4_unifies dX4_unifiesBy_100 trivial) ?_
    refine jlk_cons (sm_goto rfl B.1 dX4_unifiesBy_103) ?_
    refine jlk_cons (sm_aload_n rfl B.1 dX4_unifiesBy_106) ?_
    refine jlk_cons (sm_aload_n rfl B.1 dX4_unifiesBy_107) ?_
    exact jlk_nil
  · skip
    refine jlk_app ?_ ?_
    · refine jlk_cons (sm_aload_n rfl B.1 dX4_unifiesBy_108) ?_
      refine jlk_cons (sm_iload_n rfl B.1 dX4_unifiesBy_109) ?_
      refine jlk_cons (sm_cV (x := yX4_pointed) (host := "") (owner := "") isRI (i_X4_pointed hI) B q3216 q3218 qs96 w4_X4_pointed w6_X4_pointed (by decide) (by decide) (by decide) kc_4 hy_X4_pointed hl_X4_pointed dX4_unifiesBy_110 trivial) ?_
      refine jlk_cons (sm_cV (x := yX4_pointed) (host := "") (owner := "") isRI (i_X4_pointed hI) B q3216 q3218 qs96 w4_X4_pointed w6_X4_pointed (by decide) (by decide) (by decide) kc_4 hy_X4_pointed hl_X4_pointed dX4_unifiesBy_113 trivial) ?_
      refine jlk_cons (sm_aload_n rfl B.1 dX4_unifiesBy_116) ?_
      refine jlk_cons (sm_iload_n rfl B.1 dX4_unifiesBy_117) ?_
      refine jlk_cons (sm_cV (x := yX4_pointed) (host := "") (owner := "") isRI (i_X4_pointed hI) B q3216 q3218 qs96 w4_X4_pointed w6_X4_pointed (by decide) (by decide) (by decide) kc_4 hy_X4_pointed hl_X4_pointed dX4_unifiesBy_118 trivial) ?_
      refine jlk_cons (sm_cV (x := yX4_unifies) (host := "") (owner := "") isRV (i_X4_unifies hI) B q3228 q3230 qs99 w4_X4_unifies w6_X4_unifies (by decide) (by decide) (by decide) kc_4 hy_X4_unifies hl_X4_unifies dX4_unifiesBy_121 trivial) ?_
      refine jlk_cons (sm_goto rfl B.1 dX4_unifiesBy_124) ?_
      refine jlk_cons (sm_aload_n rfl B.1 dX4_unifiesBy_127) ?_
      refine jlk_cons (sm_aload_n rfl B.1 dX4_unifiesBy_128) ?_
      refine jlk_cons (sm_iload_n rfl B.1 dX4_unifiesBy_129) ?_
      refine jlk_cons (sm_cV (x := yX4_pointed) (host := "") (owner := "") isRI (i_X4_pointed hI) B q3216 q3218 qs96 w4_X4_pointed w6_X4_pointed (by decide) (by decide) (by decide) kc_4 hy_X4_pointed hl_X4_pointed dX4_unifiesBy_130 trivial) ?_
      refine jlk_cons (sm_bipush rfl B.1 dX4_unifiesBy_133) ?_
      refine jlk_cons (sm_aload_n rfl B.1 dX4_unifiesBy_135) ?_
      refine jlk_cons (sm_iload_n rfl B.1 dX4_unifiesBy_136) ?_
      refine jlk_cons (sm_cV (x := yX4_siteOf) (host := "") (owner := "") isRI (i_X4_siteOf hI) B q3196 q3198 qs91 w4_X4_siteOf w6_X4_siteOf (by decide) (by decide) (by decide) kc_4 hy_X4_siteOf hl_X4_siteOf dX4_unifiesBy_137 trivial) ?_
      refine jlk_cons (sm_iadd B.1 dX4_unifiesBy_140) ?_
      refine jlk_cons (sm_cV (x := yX4_unifies) (host := "") (owner := "") isRV (i_X4_unifies hI) B q3228 q3230 qs99 w4_X4_unifies w6_X4_unifies (by decide) (by decide) (by decide) kc_4 hy_X4_unifies hl_X4_unifies dX4_unifiesBy_141 trivial) ?_
      refine jlk_cons (sm_goto rfl B.1 dX4_unifiesBy_144) ?_
      refine jlk_cons (sm_aload_n rfl B.1 dX4_unifiesBy_147) ?_
      refine jlk_cons (sm_aload_n rfl B.1 dX4_unifiesBy_148) ?_
      refine jlk_cons (sm_iconst rfl B.1 dX4_unifiesBy_149) ?_
      refine jlk_cons (sm_iconst rfl B.1 dX4_unifiesBy_150) ?_
      refine jlk_cons (sm_iload B.1 dX4_unifiesBy_151) ?_
      refine jlk_cons (sm_imul B.1 dX4_unifiesBy_153) ?_
      refine jlk_cons (sm_iadd B.1 dX4_unifiesBy_154) ?_
      refine jlk_cons (sm_cV (x := yX4_pointed) (host := "") (owner := "") isRI (i_X4_pointed hI) B q3216 q3218 qs96 w4_X4_pointed w6_X4_pointed (by decide) (by decide) (by decide) kc_4 hy_X4_pointed hl_X4_pointed dX4_unifiesBy_155 trivial) ?_
      refine jlk_cons (sm_aload_n rfl B.1 dX4_unifiesBy_158) ?_
      refine jlk_cons (sm_iload_n rfl B.1 dX4_unifiesBy_159) ?_
      refine jlk_cons (sm_cV (x := yX4_pointed) (host := "") (owner := "") isRI (i_X4_pointed hI) B q3216 q3218 qs96 w4_X4_pointed w6_X4_pointed (by decide) (by decide) (by decide) kc_4 hy_X4_pointed hl_X4_pointed dX4_unifiesBy_160 trivial) ?_
      refine jlk_cons (sm_cV (x := yX4_unifies) (host := "") (owner := "") isRV (i_X4_unifies hI) B q3228 q3230 qs99 w4_X4_unifies w6_X4_unifies (by decide) (by decide) (by decide) kc_4 hy_X4_unifies hl_X4_unifies dX4_unifiesBy_163 trivial) ?_
      refine jlk_cons (sm_aload_n rfl B.1 dX4_unifiesBy_166) ?_
      refine jlk_cons (sm_aload_n rfl B.1 dX4_unifiesBy_167) ?_
      refine jlk_cons (sm_iload_n rfl B.1 dX4_unifiesBy_168) ?_
      refine jlk_cons (sm_cV (x := yX4_pointed) (host := "") (owner := "") isRI (i_X4_pointed hI) B q3216 q3218 qs96 w4_X4_pointed w6_X4_pointed (by decide) (by decide) (by decide) kc_4 hy_X4_pointed hl_X4_pointed dX4_unifiesBy_169 trivial) ?_
      refine jlk_cons (sm_aload_n rfl B.1 dX4_unifiesBy_172) ?_
      refine jlk_cons (sm_iconst rfl B.1 dX4_unifiesBy_173) ?_
      refine jlk_cons (sm_iconst rfl B.1 dX4_unifiesBy_174) ?_
      refine jlk_cons (sm_iload B.1 dX4_unifiesBy_175) ?_
      exact jlk_nil
    · skip
      refine jlk_cons (sm_imul B.1 dX4_unifiesBy_177) ?_
      refine jlk_cons (sm_iadd B.1 dX4_unifiesBy_178) ?_
      refine jlk_cons (sm_iconst rfl B.1 dX4_unifiesBy_179) ?_
      refine jlk_cons (sm_iadd B.1 dX4_unifiesBy_180) ?_
      refine jlk_cons (sm_cV (x := yX4_pointed) (host := "") (owner := "") isRI (i_X4_pointed hI) B q3216 q3218 qs96 w4_X4_pointed w6_X4_pointed (by decide) (by decide) (by decide) kc_4 hy_X4_pointed hl_X4_pointed dX4_unifiesBy_181 trivial) ?_
      refine jlk_cons (sm_cV (x := yX4_unifies) (host := "") (owner := "") isRV (i_X4_unifies hI) B q3228 q3230 qs99 w4_X4_unifies w6_X4_unifies (by decide) (by decide) (by decide) kc_4 hy_X4_unifies hl_X4_unifies dX4_unifiesBy_184 trivial) ?_
      refine jlk_cons (sm_goto rfl B.1 dX4_unifiesBy_187) ?_
      refine jlk_cons (sm_aload_n rfl B.1 dX4_unifiesBy_190) ?_
      refine jlk_cons (sm_aload_n rfl B.1 dX4_unifiesBy_191) ?_
      refine jlk_cons (sm_iload_n rfl B.1 dX4_unifiesBy_192) ?_
      refine jlk_cons (sm_cV (x := yX4_pointed) (host := "") (owner := "") isRI (i_X4_pointed hI) B q3216 q3218 qs96 w4_X4_pointed w6_X4_pointed (by decide) (by decide) (by decide) kc_4 hy_X4_pointed hl_X4_pointed dX4_unifiesBy_193 trivial) ?_
      refine jlk_cons (sm_aload_n rfl B.1 dX4_unifiesBy_196) ?_
      refine jlk_cons (sm_iload_n rfl B.1 dX4_unifiesBy_197) ?_
      refine jlk_cons (sm_cV (x := yX4_pointed) (host := "") (owner := "") isRI (i_X4_pointed hI) B q3216 q3218 qs96 w4_X4_pointed w6_X4_pointed (by decide) (by decide) (by decide) kc_4 hy_X4_pointed hl_X4_pointed dX4_unifiesBy_198 trivial) ?_
      refine jlk_cons (sm_cV (x := yX4_unifies) (host := "") (owner := "") isRV (i_X4_unifies hI) B q3228 q3230 qs99 w4_X4_unifies w6_X4_unifies (by decide) (by decide) (by decide) kc_4 hy_X4_unifies hl_X4_unifies dX4_unifiesBy_201 trivial) ?_
      refine jlk_cons (sm_vret B.1 B.2.1 hret dX4_unifiesBy_204) ?_
      exact jlk_nil
theorem v_X4_unifiesBy (hst : l.stackTraces = false) (hz : jEz (EV (d + 1))) (hI : jIH l D dA lo cs0 d) : jMe l D dA lo cs0 (EV (d + 1)) 243 yX4_unifiesBy (ws_ yX4_unifiesBy cX4_unifiesBy 5 (Option.none : Option Jvm.ClassFile.FieldType)) (d + 1) := z_meth hz rfl hp_X4_unifiesBy (r_X4_unifiesBy hst hI)
theorem r_X4_unifies (hst : l.stackTraces = false) (hI : jIH l D dA lo cs0 d) : jRows l D dA lo cs0 d 5 (tb_X4_unifies (EV d)) yX4_unifies cX4_unifies (Option.none : Option Jvm.ClassFile.FieldType) [] := by
  intro p e R s m args below meth c z0 w0 zF wF Q rF hF B hz hw hret hnm
  refine jlk_app ?_ ?_
  · refine jlk_cons (sm_aload_n rfl B.1 dX4_unifies_0) ?_
    refine jlk_cons (sm_iconst rfl B.1 dX4_unifies_1) ?_
    refine jlk_cons (sm_putI B.1 fl_PointerAnalyzerModel_287_4_45 tyX4 tyX4_ok nmX4 (Or.inl rfl) (tyX4_ok 29 (by decide)) rfl (by decide) dX4_unifies_2) ?_
    refine jlk_cons (sm_aload_n rfl B.1 dX4_unifies_5) ?_
    refine jlk_cons (sm_getP B.1 fl_PointerAnalyzerModel_57_4_42 dX4_unifies_6) ?_
    refine jlk_cons (sm_iconst rfl B.1 dX4_unifies_9) ?_
    refine jlk_cons (sm_iload_n rfl B.1 dX4_unifies_10) ?_
    refine jlk_cons (sm_iast B.1 dX4_unifies_11) ?_
    refine jlk_cons (sm_aload_n rfl B.1 dX4_unifies_12) ?_
    refine jlk_cons (sm_getP B.1 fl_PointerAnalyzerModel_60_4_43 dX4_unifies_13) ?_
    refine jlk_cons (sm_iconst rfl B.1 dX4_unifies_16) ?_
    refine jlk_cons (sm_iload_n rfl B.1 dX4_unifies_17) ?_
    refine jlk_cons (sm_iast B.1 dX4_unifies_18) ?_
    refine jlk_cons (sm_aload_n rfl B.1 dX4_unifies_19) ?_
    refine jlk_cons (sm_getI B.1 fl_PointerAnalyzerModel_287_4_45 dX4_unifies_20) ?_
    refine jlk_cons (sm_ifle rfl B.1 dX4_unifies_23) ?_
    refine jlk_cons (sm_aload_n rfl B.1 dX4_unifies_26) ?_
    refine jlk_cons (sm_dup B.1 dX4_unifies_27) ?_
    refine jlk_cons (sm_getI B.1 fl_PointerAnalyzerModel_287_4_45 dX4_unifies_28) ?_
    refine jlk_cons (sm_iconst rfl B.1 dX4_unifies_31) ?_
    refine jlk_cons (sm_isub B.1 dX4_unifies_32) ?_
    refine jlk_cons (sm_putI B.1 fl_PointerAnalyzerModel_287_4_45 tyX4 tyX4_ok nmX4 (Or.inl rfl) (tyX4_ok 29 (by decide)) rfl (by decide) dX4_unifies_33) ?_
    refine jlk_cons (sm_aload_n rfl B.1 dX4_unifies_36) ?_
    refine jlk_cons (sm_aload_n rfl B.1 dX4_unifies_37) ?_
    refine jlk_cons (sm_getP B.1 fl_PointerAnalyzerModel_57_4_42 dX4_unifies_38) ?_
    refine jlk_cons (sm_aload_n rfl B.1 dX4_unifies_41) ?_
    refine jlk_cons (sm_getI B.1 fl_PointerAnalyzerModel_287_4_45 dX4_unifies_42) ?_
    refine jlk_cons (sm_iald B.1 dX4_unifies_45) ?_
    refine jlk_cons (sm_cV (x := yX4_rootOf) (host := "") (owner := "") isRI (i_X4_rootOf hI) B q3220 q3222 qs97 w4_X4_rootOf w6_X4_rootOf (by decide) (by decide) (by decide) kc_4 hy_X4_rootOf hl_X4_rootOf dX4_unifies_46 trivial) ?_
    refine jlk_cons (sm_istore_n rfl B.1 dX4_unifies_49) ?_
    refine jlk_cons (sm_aload_n rfl B.1 dX4_unifies_50) ?_
    refine jlk_cons (sm_aload_n rfl B.1 dX4_unifies_51) ?_
    refine jlk_cons (sm_getP B.1 fl_PointerAnalyzerModel_60_4_43 dX4_unifies_52) ?_
    refine jlk_cons (sm_aload_n rfl B.1 dX4_unifies_55) ?_
    refine jlk_cons (sm_getI B.1 fl_PointerAnalyzerModel_287_4_45 dX4_unifies_56) ?_
    refine jlk_cons (sm_iald B.1 dX4_unifies_59) ?_
    refine jlk_cons (sm_cV (x := yX4_rootOf) (host := "") (owner := "") isRI (i_X4_rootOf hI) B q3220 q3222 qs97 w4_X4_rootOf w6_X4_rootOf (by decide) (by decide) (by decide) kc_4 hy_X4_rootOf hl_X4_rootOf dX4_unifies_60 trivial) ?_
    refine jlk_cons (sm_istore B.1 dX4_unifies_63) ?_
    refine jlk_cons (sm_iload_n rfl B.1 dX4_unifies_65) ?_
    refine jlk_cons (sm_iload B.1 dX4_unifies_66) ?_
    exact jlk_nil
  · skip
    refine jlk_app ?_ ?_
    · refine jlk_cons (sm_icmpne rfl B.1 dX4_unifies_68) ?_
      refine jlk_cons (sm_goto rfl B.1 dX4_unifies_71) ?_
      refine jlk_cons (sm_aload_n rfl B.1 dX4_unifies_74) ?_
      refine jlk_cons (sm_getP B.1 fl_PointerAnalyzerModel_51_4_40 dX4_unifies_75) ?_
      refine jlk_cons (sm_iload B.1 dX4_unifies_78) ?_
      refine jlk_cons (sm_iload_n rfl B.1 dX4_unifies_80) ?_
      refine jlk_cons (sm_iast B.1 dX4_unifies_81) ?_
      refine jlk_cons (sm_aload_n rfl B.1 dX4_unifies_82) ?_
      refine jlk_cons (sm_getP B.1 fl_PointerAnalyzerModel_54_4_41 dX4_unifies_83) ?_
      refine jlk_cons (sm_iload_n rfl B.1 dX4_unifies_86) ?_
      refine jlk_cons (sm_iald B.1 dX4_unifies_87) ?_
      refine jlk_cons (sm_ifge rfl B.1 dX4_unifies_88) ?_
      refine jlk_cons (sm_aload_n rfl B.1 dX4_unifies_91) ?_
      refine jlk_cons (sm_getP B.1 fl_PointerAnalyzerModel_54_4_41 dX4_unifies_92) ?_
      refine jlk_cons (sm_iload_n rfl B.1 dX4_unifies_95) ?_
      refine jlk_cons (sm_aload_n rfl B.1 dX4_unifies_96) ?_
      refine jlk_cons (sm_getP B.1 fl_PointerAnalyzerModel_54_4_41 dX4_unifies_97) ?_
      refine jlk_cons (sm_iload B.1 dX4_unifies_100) ?_
      refine jlk_cons (sm_iald B.1 dX4_unifies_102) ?_
      refine jlk_cons (sm_iast B.1 dX4_unifies_103) ?_
      refine jlk_cons (sm_goto rfl B.1 dX4_unifies_104) ?_
      refine jlk_cons (sm_aload_n rfl B.1 dX4_unifies_107) ?_
      refine jlk_cons (sm_getP B.1 fl_PointerAnalyzerModel_54_4_41 dX4_unifies_108) ?_
      refine jlk_cons (sm_iload B.1 dX4_unifies_111) ?_
      refine jlk_cons (sm_iald B.1 dX4_unifies_113) ?_
      refine jlk_cons (sm_iflt rfl B.1 dX4_unifies_114) ?_
      refine jlk_cons (sm_aload_n rfl B.1 dX4_unifies_117) ?_
      refine jlk_cons (sm_getP B.1 fl_PointerAnalyzerModel_57_4_42 dX4_unifies_118) ?_
      refine jlk_cons (sm_aload_n rfl B.1 dX4_unifies_121) ?_
      refine jlk_cons (sm_getI B.1 fl_PointerAnalyzerModel_287_4_45 dX4_unifies_122) ?_
      refine jlk_cons (sm_aload_n rfl B.1 dX4_unifies_125) ?_
      refine jlk_cons (sm_getP B.1 fl_PointerAnalyzerModel_54_4_41 dX4_unifies_126) ?_
      refine jlk_cons (sm_iload_n rfl B.1 dX4_unifies_129) ?_
      refine jlk_cons (sm_iald B.1 dX4_unifies_130) ?_
      refine jlk_cons (sm_iast B.1 dX4_unifies_131) ?_
      refine jlk_cons (sm_aload_n rfl B.1 dX4_unifies_132) ?_
      refine jlk_cons (sm_getP B.1 fl_PointerAnalyzerModel_60_4_43 dX4_unifies_133) ?_
      refine jlk_cons (sm_aload_n rfl B.1 dX4_unifies_136) ?_
      refine jlk_cons (sm_getI B.1 fl_PointerAnalyzerModel_287_4_45 dX4_unifies_137) ?_
      refine jlk_cons (sm_aload_n rfl B.1 dX4_unifies_140) ?_
      exact jlk_nil
    · skip
      refine jlk_cons (sm_getP B.1 fl_PointerAnalyzerModel_54_4_41 dX4_unifies_141) ?_
      refine jlk_cons (sm_iload B.1 dX4_unifies_144) ?_
      refine jlk_cons (sm_iald B.1 dX4_unifies_146) ?_
      refine jlk_cons (sm_iast B.1 dX4_unifies_147) ?_
      refine jlk_cons (sm_aload_n rfl B.1 dX4_unifies_148) ?_
      refine jlk_cons (sm_dup B.1 dX4_unifies_149) ?_
      refine jlk_cons (sm_getI B.1 fl_PointerAnalyzerModel_287_4_45 dX4_unifies_150) ?_
      refine jlk_cons (sm_iconst rfl B.1 dX4_unifies_153) ?_
      refine jlk_cons (sm_iadd B.1 dX4_unifies_154) ?_
      refine jlk_cons (sm_putI B.1 fl_PointerAnalyzerModel_287_4_45 tyX4 tyX4_ok nmX4 (Or.inl rfl) (tyX4_ok 29 (by decide)) rfl (by decide) dX4_unifies_155) ?_
      refine jlk_cons (sm_goto rfl B.1 dX4_unifies_158) ?_
      refine jlk_cons (sm_vret B.1 B.2.1 hret dX4_unifies_161) ?_
      exact jlk_nil
theorem v_X4_unifies (hst : l.stackTraces = false) (hz : jEz (EV (d + 1))) (hI : jIH l D dA lo cs0 d) : jMe l D dA lo cs0 (EV (d + 1)) 288 yX4_unifies (ws_ yX4_unifies cX4_unifies 5 (Option.none : Option Jvm.ClassFile.FieldType)) (d + 1) := z_meth hz rfl hp_X4_unifies (r_X4_unifies hst hI)
end ROWS
