/-! ROWS OF THE SIMULATION (printed by an own program) -/
set_option maxRecDepth 100000
section ROWS
variable {l : Launch} {D : va_G} {dA : Nat → ClassId} {lo : Nat} {cs0 : Nat → Option Nat} {d : Nat}
theorem r_X0_appendCharacter (hst : l.stackTraces = false) (hI : jIH l D dA lo cs0 d) : jRows l D dA lo cs0 d 4 (tb_X0_appendCharacter (EV d)) yX0_appendCharacter cX0_appendCharacter (Option.some Jvm.ClassFile.FieldType.int) [((0 : Nat), (9 : Nat), (12 : Nat), (13 : Nat)), ((0 : Nat), (9 : Nat), (15 : Nat), (15 : Nat))] := by
  intro p e R s m args below meth c z0 w0 zF wF Q rF hF B hz hw hret hnm
  refine jlk_cons (sm_aload_n rfl B.1 dX0_appendCharacter_0) ?_
  refine jlk_cons (sm_iconst rfl B.1 dX0_appendCharacter_1) ?_
  refine jlk_cons (sm_aload_n rfl B.1 dX0_appendCharacter_2) ?_
  refine jlk_cons (sm_iload_n rfl B.1 dX0_appendCharacter_3) ?_
  refine jlk_cons (sm_cV (x := yX1_appendCharacter) (host := "") (owner := "") isXRI (i_X1_appendCharacter hI) B q2395 q2396 q2397 w4_X1_appendCharacter w6_X1_appendCharacter (by decide) (by decide) (by decide) kc_1 hy_X1_appendCharacter hl_X1_appendCharacter dX0_appendCharacter_4 (jHok_yes (by decide) (jHm_of (by decide) q2393 (jex7 (hm_n (by decide) kc_6 (B.1.2.2.2.2.2.2.2.2.2.1.2.2.1 _ (List.mem_of_getElem? (i := 2) rfl))) (hm_n (by decide) kc_19 (B.1.2.2.2.2.2.2.2.2.2.1.2.2.1 _ (List.mem_of_getElem? (i := 8) rfl))) (hm_n (by decide) kc_29 (B.1.2.2.2.2.2.2.2.2.2.1.2.2.1 _ (List.mem_of_getElem? (i := 14) rfl))) (hm_y (by decide) kc_30 (q1324)) (hm_n (by decide) kc_31 (B.1.2.2.2.2.2.2.2.2.2.1.2.2.1 _ (List.mem_of_getElem? (i := 27) rfl))) (hm_n (by decide) kc_32 (B.1.2.2.2.2.2.2.2.2.2.1.2.2.1 _ (List.mem_of_getElem? (i := 33) rfl))) (hm_n (by decide) kc_33 (B.1.2.2.2.2.2.2.2.2.2.1.2.2.1 _ (List.mem_of_getElem? (i := 39) rfl))))) (jHok_yes (by decide) (jHm_of (by decide) q2394 (jex7 (hm_n (by decide) kc_6 (B.1.2.2.2.2.2.2.2.2.2.1.2.2.1 _ (List.mem_of_getElem? (i := 3) rfl))) (hm_n (by decide) kc_19 (B.1.2.2.2.2.2.2.2.2.2.1.2.2.1 _ (List.mem_of_getElem? (i := 9) rfl))) (hm_n (by decide) kc_29 (B.1.2.2.2.2.2.2.2.2.2.1.2.2.1 _ (List.mem_of_getElem? (i := 15) rfl))) (hm_n (by decide) kc_30 (B.1.2.2.2.2.2.2.2.2.2.1.2.2.1 _ (List.mem_of_getElem? (i := 21) rfl))) (hm_y (by decide) kc_31 (q2412)) (hm_n (by decide) kc_32 (B.1.2.2.2.2.2.2.2.2.2.1.2.2.1 _ (List.mem_of_getElem? (i := 34) rfl))) (hm_n (by decide) kc_33 (B.1.2.2.2.2.2.2.2.2.2.1.2.2.1 _ (List.mem_of_getElem? (i := 40) rfl))))) rfl))) ?_
  refine jlk_cons (sm_i2l B.1 dX0_appendCharacter_7) ?_
  refine jlk_cons (sm_last B.1 dX0_appendCharacter_8) ?_
  refine jlk_cons (sm_goto rfl B.1 dX0_appendCharacter_9) ?_
  refine jlk_cons (sm_astore_n rfl B.1 dX0_appendCharacter_12) ?_
  refine jlk_cons (sm_iconst rfl B.1 dX0_appendCharacter_13) ?_
  refine jlk_cons (sm_iret B.1 B.2.1 hret dX0_appendCharacter_14) ?_
  refine jlk_cons (sm_astore_n rfl B.1 dX0_appendCharacter_15) ?_
  refine jlk_cons (sm_iconst rfl B.1 dX0_appendCharacter_16) ?_
  refine jlk_cons (sm_iret B.1 B.2.1 hret dX0_appendCharacter_17) ?_
  refine jlk_cons (sm_iconst rfl B.1 dX0_appendCharacter_18) ?_
  refine jlk_cons (sm_iret B.1 B.2.1 hret dX0_appendCharacter_19) ?_
  exact jlk_nil
theorem v_X0_appendCharacter (hst : l.stackTraces = false) (hz : jEz (EV (d + 1))) (hI : jIH l D dA lo cs0 d) : jMe l D dA lo cs0 (EV (d + 1)) 4 yX0_appendCharacter (wsW_ yX0_appendCharacter cX0_appendCharacter 4 (Option.some Jvm.ClassFile.FieldType.int) [((0 : Nat), (9 : Nat), (12 : Nat), (13 : Nat)), ((0 : Nat), (9 : Nat), (15 : Nat), (15 : Nat))]) (d + 1) := z_methW hz rfl hp_X0_appendCharacter (r_X0_appendCharacter hst hI)
theorem r_X0_setBody (hst : l.stackTraces = false) (hI : jIH l D dA lo cs0 d) : jRows l D dA lo cs0 d 4 (tb_X0_setBody (EV d)) yX0_setBody cX0_setBody (Option.some Jvm.ClassFile.FieldType.int) [((0 : Nat), (9 : Nat), (12 : Nat), (20 : Nat)), ((0 : Nat), (9 : Nat), (15 : Nat), (13 : Nat)), ((0 : Nat), (9 : Nat), (18 : Nat), (15 : Nat))] := by
  intro p e R s m args below meth c z0 w0 zF wF Q rF hF B hz hw hret hnm
  refine jlk_cons (sm_aload_n rfl B.1 dX0_setBody_0) ?_
  refine jlk_cons (sm_iconst rfl B.1 dX0_setBody_1) ?_
  refine jlk_cons (sm_aload_n rfl B.1 dX0_setBody_2) ?_
  refine jlk_cons (sm_iload_n rfl B.1 dX0_setBody_3) ?_
  refine jlk_cons (sm_cV (x := yX1_setBody) (host := "") (owner := "") isXRI (i_X1_setBody hI) B q2444 q2445 q2446 w4_X1_setBody w6_X1_setBody (by decide) (by decide) (by decide) kc_1 hy_X1_setBody hl_X1_setBody dX0_setBody_4 (jHok_yes (by decide) (jHm_of (by decide) q2428 (jex7 (hm_n (by decide) kc_6 (B.1.2.2.2.2.2.2.2.2.2.1.2.2.1 _ (List.mem_of_getElem? (i := 4) rfl))) (hm_n (by decide) kc_19 (B.1.2.2.2.2.2.2.2.2.2.1.2.2.1 _ (List.mem_of_getElem? (i := 10) rfl))) (hm_n (by decide) kc_29 (B.1.2.2.2.2.2.2.2.2.2.1.2.2.1 _ (List.mem_of_getElem? (i := 16) rfl))) (hm_n (by decide) kc_30 (B.1.2.2.2.2.2.2.2.2.2.1.2.2.1 _ (List.mem_of_getElem? (i := 22) rfl))) (hm_n (by decide) kc_31 (B.1.2.2.2.2.2.2.2.2.2.1.2.2.1 _ (List.mem_of_getElem? (i := 28) rfl))) (hm_y (by decide) kc_32 (q1668)) (hm_n (by decide) kc_33 (B.1.2.2.2.2.2.2.2.2.2.1.2.2.1 _ (List.mem_of_getElem? (i := 41) rfl))))) (jHok_yes (by decide) (jHm_of (by decide) q2393 (jex7 (hm_n (by decide) kc_6 (B.1.2.2.2.2.2.2.2.2.2.1.2.2.1 _ (List.mem_of_getElem? (i := 2) rfl))) (hm_n (by decide) kc_19 (B.1.2.2.2.2.2.2.2.2.2.1.2.2.1 _ (List.mem_of_getElem? (i := 8) rfl))) (hm_n (by decide) kc_29 (B.1.2.2.2.2.2.2.2.2.2.1.2.2.1 _ (List.mem_of_getElem? (i := 14) rfl))) (hm_y (by decide) kc_30 (q1324)) (hm_n (by decide) kc_31 (B.1.2.2.2.2.2.2.2.2.2.1.2.2.1 _ (List.mem_of_getElem? (i := 27) rfl))) (hm_n (by decide) kc_32 (B.1.2.2.2.2.2.2.2.2.2.1.2.2.1 _ (List.mem_of_getElem? (i := 33) rfl))) (hm_n (by decide) kc_33 (B.1.2.2.2.2.2.2.2.2.2.1.2.2.1 _ (List.mem_of_getElem? (i := 39) rfl))))) (jHok_yes (by decide) (jHm_of (by decide) q2394 (jex7 (hm_n (by decide) kc_6 (B.1.2.2.2.2.2.2.2.2.2.1.2.2.1 _ (List.mem_of_getElem? (i := 3) rfl))) (hm_n (by decide) kc_19 (B.1.2.2.2.2.2.2.2.2.2.1.2.2.1 _ (List.mem_of_getElem? (i := 9) rfl))) (hm_n (by decide) kc_29 (B.1.2.2.2.2.2.2.2.2.2.1.2.2.1 _ (List.mem_of_getElem? (i := 15) rfl))) (hm_n (by decide) kc_30 (B.1.2.2.2.2.2.2.2.2.2.1.2.2.1 _ (List.mem_of_getElem? (i := 21) rfl))) (hm_y (by decide) kc_31 (q2412)) (hm_n (by decide) kc_32 (B.1.2.2.2.2.2.2.2.2.2.1.2.2.1 _ (List.mem_of_getElem? (i := 34) rfl))) (hm_n (by decide) kc_33 (B.1.2.2.2.2.2.2.2.2.2.1.2.2.1 _ (List.mem_of_getElem? (i := 40) rfl))))) rfl)))) ?_
  refine jlk_cons (sm_i2l B.1 dX0_setBody_7) ?_
  refine jlk_cons (sm_last B.1 dX0_setBody_8) ?_
  refine jlk_cons (sm_goto rfl B.1 dX0_setBody_9) ?_
  refine jlk_cons (sm_astore_n rfl B.1 dX0_setBody_12) ?_
  refine jlk_cons (sm_iconst rfl B.1 dX0_setBody_13) ?_
  refine jlk_cons (sm_iret B.1 B.2.1 hret dX0_setBody_14) ?_
  refine jlk_cons (sm_astore_n rfl B.1 dX0_setBody_15) ?_
  refine jlk_cons (sm_iconst rfl B.1 dX0_setBody_16) ?_
  refine jlk_cons (sm_iret B.1 B.2.1 hret dX0_setBody_17) ?_
  refine jlk_cons (sm_astore_n rfl B.1 dX0_setBody_18) ?_
  refine jlk_cons (sm_iconst rfl B.1 dX0_setBody_19) ?_
  refine jlk_cons (sm_iret B.1 B.2.1 hret dX0_setBody_20) ?_
  refine jlk_cons (sm_iconst rfl B.1 dX0_setBody_21) ?_
  refine jlk_cons (sm_iret B.1 B.2.1 hret dX0_setBody_22) ?_
  exact jlk_nil
theorem v_X0_setBody (hst : l.stackTraces = false) (hz : jEz (EV (d + 1))) (hI : jIH l D dA lo cs0 d) : jMe l D dA lo cs0 (EV (d + 1)) 7 yX0_setBody (wsW_ yX0_setBody cX0_setBody 4 (Option.some Jvm.ClassFile.FieldType.int) [((0 : Nat), (9 : Nat), (12 : Nat), (20 : Nat)), ((0 : Nat), (9 : Nat), (15 : Nat), (13 : Nat)), ((0 : Nat), (9 : Nat), (18 : Nat), (15 : Nat))]) (d + 1) := z_methW hz rfl hp_X0_setBody (r_X0_setBody hst hI)
theorem r_X0_kind (hst : l.stackTraces = false) (hI : jIH l D dA lo cs0 d) : jRows l D dA lo cs0 d 4 (tb_X0_kind (EV d)) yX0_kind cX0_kind (Option.some Jvm.ClassFile.FieldType.int) [((0 : Nat), (9 : Nat), (12 : Nat), (20 : Nat))] := by
  intro p e R s m args below meth c z0 w0 zF wF Q rF hF B hz hw hret hnm
  refine jlk_cons (sm_aload_n rfl B.1 dX0_kind_0) ?_
  refine jlk_cons (sm_iconst rfl B.1 dX0_kind_1) ?_
  refine jlk_cons (sm_aload_n rfl B.1 dX0_kind_2) ?_
  refine jlk_cons (sm_iload_n rfl B.1 dX0_kind_3) ?_
  refine jlk_cons (sm_cV (x := yX1_kind) (host := "") (owner := "") isXRI (i_X1_kind hI) B q2662 q2663 q2664 w4_X1_kind w6_X1_kind (by decide) (by decide) (by decide) kc_1 hy_X1_kind hl_X1_kind dX0_kind_4 (jHok_yes (by decide) (jHm_of (by decide) q2428 (jex7 (hm_n (by decide) kc_6 (B.1.2.2.2.2.2.2.2.2.2.1.2.2.1 _ (List.mem_of_getElem? (i := 4) rfl))) (hm_n (by decide) kc_19 (B.1.2.2.2.2.2.2.2.2.2.1.2.2.1 _ (List.mem_of_getElem? (i := 10) rfl))) (hm_n (by decide) kc_29 (B.1.2.2.2.2.2.2.2.2.2.1.2.2.1 _ (List.mem_of_getElem? (i := 16) rfl))) (hm_n (by decide) kc_30 (B.1.2.2.2.2.2.2.2.2.2.1.2.2.1 _ (List.mem_of_getElem? (i := 22) rfl))) (hm_n (by decide) kc_31 (B.1.2.2.2.2.2.2.2.2.2.1.2.2.1 _ (List.mem_of_getElem? (i := 28) rfl))) (hm_y (by decide) kc_32 (q1668)) (hm_n (by decide) kc_33 (B.1.2.2.2.2.2.2.2.2.2.1.2.2.1 _ (List.mem_of_getElem? (i := 41) rfl))))) rfl)) ?_
  refine jlk_cons (sm_i2l B.1 dX0_kind_7) ?_
  refine jlk_cons (sm_last B.1 dX0_kind_8) ?_
  refine jlk_cons (sm_goto rfl B.1 dX0_kind_9) ?_
  refine jlk_cons (sm_astore_n rfl B.1 dX0_kind_12) ?_
  refine jlk_cons (sm_iconst rfl B.1 dX0_kind_13) ?_
  refine jlk_cons (sm_iret B.1 B.2.1 hret dX0_kind_14) ?_
  refine jlk_cons (sm_iconst rfl B.1 dX0_kind_15) ?_
  refine jlk_cons (sm_iret B.1 B.2.1 hret dX0_kind_16) ?_
  exact jlk_nil
theorem v_X0_kind (hst : l.stackTraces = false) (hz : jEz (EV (d + 1))) (hI : jIH l D dA lo cs0 d) : jMe l D dA lo cs0 (EV (d + 1)) 13 yX0_kind (wsW_ yX0_kind cX0_kind 4 (Option.some Jvm.ClassFile.FieldType.int) [((0 : Nat), (9 : Nat), (12 : Nat), (20 : Nat))]) (d + 1) := z_methW hz rfl hp_X0_kind (r_X0_kind hst hI)
theorem r_X0_functionOf (hst : l.stackTraces = false) (hI : jIH l D dA lo cs0 d) : jRows l D dA lo cs0 d 4 (tb_X0_functionOf (EV d)) yX0_functionOf cX0_functionOf (Option.some Jvm.ClassFile.FieldType.int) [((0 : Nat), (9 : Nat), (12 : Nat), (20 : Nat))] := by
  intro p e R s m args below meth c z0 w0 zF wF Q rF hF B hz hw hret hnm
  refine jlk_cons (sm_aload_n rfl B.1 dX0_functionOf_0) ?_
  refine jlk_cons (sm_iconst rfl B.1 dX0_functionOf_1) ?_
  refine jlk_cons (sm_aload_n rfl B.1 dX0_functionOf_2) ?_
  refine jlk_cons (sm_iload_n rfl B.1 dX0_functionOf_3) ?_
  refine jlk_cons (sm_cV (x := yX1_functionOf) (host := "") (owner := "") isXRI (i_X1_functionOf hI) B q2675 q2676 q2677 w4_X1_functionOf w6_X1_functionOf (by decide) (by decide) (by decide) kc_1 hy_X1_functionOf hl_X1_functionOf dX0_functionOf_4 (jHok_yes (by decide) (jHm_of (by decide) q2428 (jex7 (hm_n (by decide) kc_6 (B.1.2.2.2.2.2.2.2.2.2.1.2.2.1 _ (List.mem_of_getElem? (i := 4) rfl))) (hm_n (by decide) kc_19 (B.1.2.2.2.2.2.2.2.2.2.1.2.2.1 _ (List.mem_of_getElem? (i := 10) rfl))) (hm_n (by decide) kc_29 (B.1.2.2.2.2.2.2.2.2.2.1.2.2.1 _ (List.mem_of_getElem? (i := 16) rfl))) (hm_n (by decide) kc_30 (B.1.2.2.2.2.2.2.2.2.2.1.2.2.1 _ (List.mem_of_getElem? (i := 22) rfl))) (hm_n (by decide) kc_31 (B.1.2.2.2.2.2.2.2.2.2.1.2.2.1 _ (List.mem_of_getElem? (i := 28) rfl))) (hm_y (by decide) kc_32 (q1668)) (hm_n (by decide) kc_33 (B.1.2.2.2.2.2.2.2.2.2.1.2.2.1 _ (List.mem_of_getElem? (i := 41) rfl))))) rfl)) ?_
  refine jlk_cons (sm_i2l B.1 dX0_functionOf_7) ?_
  refine jlk_cons (sm_last B.1 dX0_functionOf_8) ?_
  refine jlk_cons (sm_goto rfl B.1 dX0_functionOf_9) ?_
  refine jlk_cons (sm_astore_n rfl B.1 dX0_functionOf_12) ?_
  refine jlk_cons (sm_iconst rfl B.1 dX0_functionOf_13) ?_
  refine jlk_cons (sm_iret B.1 B.2.1 hret dX0_functionOf_14) ?_
  refine jlk_cons (sm_iconst rfl B.1 dX0_functionOf_15) ?_
  refine jlk_cons (sm_iret B.1 B.2.1 hret dX0_functionOf_16) ?_
  exact jlk_nil
theorem v_X0_functionOf (hst : l.stackTraces = false) (hz : jEz (EV (d + 1))) (hI : jIH l D dA lo cs0 d) : jMe l D dA lo cs0 (EV (d + 1)) 15 yX0_functionOf (wsW_ yX0_functionOf cX0_functionOf 4 (Option.some Jvm.ClassFile.FieldType.int) [((0 : Nat), (9 : Nat), (12 : Nat), (20 : Nat))]) (d + 1) := z_methW hz rfl hp_X0_functionOf (r_X0_functionOf hst hI)
theorem r_X0_setLimit (hst : l.stackTraces = false) (hI : jIH l D dA lo cs0 d) : jRows l D dA lo cs0 d 4 (tb_X0_setLimit (EV d)) yX0_setLimit cX0_setLimit (Option.some Jvm.ClassFile.FieldType.int) [((0 : Nat), (9 : Nat), (12 : Nat), (13 : Nat))] := by
  intro p e R s m args below meth c z0 w0 zF wF Q rF hF B hz hw hret hnm
  refine jlk_cons (sm_aload_n rfl B.1 dX0_setLimit_0) ?_
  refine jlk_cons (sm_iconst rfl B.1 dX0_setLimit_1) ?_
  refine jlk_cons (sm_aload_n rfl B.1 dX0_setLimit_2) ?_
  refine jlk_cons (sm_iload_n rfl B.1 dX0_setLimit_3) ?_
  refine jlk_cons (sm_cV (x := yX1_setLimit) (host := "") (owner := "") isXRI (i_X1_setLimit hI) B q2682 q2683 q2684 w4_X1_setLimit w6_X1_setLimit (by decide) (by decide) (by decide) kc_1 hy_X1_setLimit hl_X1_setLimit dX0_setLimit_4 (jHok_yes (by decide) (jHm_of (by decide) q2393 (jex7 (hm_n (by decide) kc_6 (B.1.2.2.2.2.2.2.2.2.2.1.2.2.1 _ (List.mem_of_getElem? (i := 2) rfl))) (hm_n (by decide) kc_19 (B.1.2.2.2.2.2.2.2.2.2.1.2.2.1 _ (List.mem_of_getElem? (i := 8) rfl))) (hm_n (by decide) kc_29 (B.1.2.2.2.2.2.2.2.2.2.1.2.2.1 _ (List.mem_of_getElem? (i := 14) rfl))) (hm_y (by decide) kc_30 (q1324)) (hm_n (by decide) kc_31 (B.1.2.2.2.2.2.2.2.2.2.1.2.2.1 _ (List.mem_of_getElem? (i := 27) rfl))) (hm_n (by decide) kc_32 (B.1.2.2.2.2.2.2.2.2.2.1.2.2.1 _ (List.mem_of_getElem? (i := 33) rfl))) (hm_n (by decide) kc_33 (B.1.2.2.2.2.2.2.2.2.2.1.2.2.1 _ (List.mem_of_getElem? (i := 39) rfl))))) rfl)) ?_
  refine jlk_cons (sm_i2l B.1 dX0_setLimit_7) ?_
  refine jlk_cons (sm_last B.1 dX0_setLimit_8) ?_
  refine jlk_cons (sm_goto rfl B.1 dX0_setLimit_9) ?_
  refine jlk_cons (sm_astore_n rfl B.1 dX0_setLimit_12) ?_
  refine jlk_cons (sm_iconst rfl B.1 dX0_setLimit_13) ?_
  refine jlk_cons (sm_iret B.1 B.2.1 hret dX0_setLimit_14) ?_
  refine jlk_cons (sm_iconst rfl B.1 dX0_setLimit_15) ?_
  refine jlk_cons (sm_iret B.1 B.2.1 hret dX0_setLimit_16) ?_
  exact jlk_nil
theorem v_X0_setLimit (hst : l.stackTraces = false) (hz : jEz (EV (d + 1))) (hI : jIH l D dA lo cs0 d) : jMe l D dA lo cs0 (EV (d + 1)) 19 yX0_setLimit (wsW_ yX0_setLimit cX0_setLimit 4 (Option.some Jvm.ClassFile.FieldType.int) [((0 : Nat), (9 : Nat), (12 : Nat), (13 : Nat))]) (d + 1) := z_methW hz rfl hp_X0_setLimit (r_X0_setLimit hst hI)
theorem r_X0_contextCount (hst : l.stackTraces = false) (hI : jIH l D dA lo cs0 d) : jRows l D dA lo cs0 d 4 (tb_X0_contextCount (EV d)) yX0_contextCount cX0_contextCount (Option.some Jvm.ClassFile.FieldType.int) [((0 : Nat), (9 : Nat), (12 : Nat), (20 : Nat))] := by
  intro p e R s m args below meth c z0 w0 zF wF Q rF hF B hz hw hret hnm
  refine jlk_cons (sm_aload_n rfl B.1 dX0_contextCount_0) ?_
  refine jlk_cons (sm_iconst rfl B.1 dX0_contextCount_1) ?_
  refine jlk_cons (sm_aload_n rfl B.1 dX0_contextCount_2) ?_
  refine jlk_cons (sm_iload_n rfl B.1 dX0_contextCount_3) ?_
  refine jlk_cons (sm_cV (x := yX1_contextCount) (host := "") (owner := "") isXRI (i_X1_contextCount hI) B q2689 q2690 q2691 w4_X1_contextCount w6_X1_contextCount (by decide) (by decide) (by decide) kc_1 hy_X1_contextCount hl_X1_contextCount dX0_contextCount_4 (jHok_yes (by decide) (jHm_of (by decide) q2428 (jex7 (hm_n (by decide) kc_6 (B.1.2.2.2.2.2.2.2.2.2.1.2.2.1 _ (List.mem_of_getElem? (i := 4) rfl))) (hm_n (by decide) kc_19 (B.1.2.2.2.2.2.2.2.2.2.1.2.2.1 _ (List.mem_of_getElem? (i := 10) rfl))) (hm_n (by decide) kc_29 (B.1.2.2.2.2.2.2.2.2.2.1.2.2.1 _ (List.mem_of_getElem? (i := 16) rfl))) (hm_n (by decide) kc_30 (B.1.2.2.2.2.2.2.2.2.2.1.2.2.1 _ (List.mem_of_getElem? (i := 22) rfl))) (hm_n (by decide) kc_31 (B.1.2.2.2.2.2.2.2.2.2.1.2.2.1 _ (List.mem_of_getElem? (i := 28) rfl))) (hm_y (by decide) kc_32 (q1668)) (hm_n (by decide) kc_33 (B.1.2.2.2.2.2.2.2.2.2.1.2.2.1 _ (List.mem_of_getElem? (i := 41) rfl))))) rfl)) ?_
  refine jlk_cons (sm_i2l B.1 dX0_contextCount_7) ?_
  refine jlk_cons (sm_last B.1 dX0_contextCount_8) ?_
  refine jlk_cons (sm_goto rfl B.1 dX0_contextCount_9) ?_
  refine jlk_cons (sm_astore_n rfl B.1 dX0_contextCount_12) ?_
  refine jlk_cons (sm_iconst rfl B.1 dX0_contextCount_13) ?_
  refine jlk_cons (sm_iret B.1 B.2.1 hret dX0_contextCount_14) ?_
  refine jlk_cons (sm_iconst rfl B.1 dX0_contextCount_15) ?_
  refine jlk_cons (sm_iret B.1 B.2.1 hret dX0_contextCount_16) ?_
  exact jlk_nil
theorem v_X0_contextCount (hst : l.stackTraces = false) (hz : jEz (EV (d + 1))) (hI : jIH l D dA lo cs0 d) : jMe l D dA lo cs0 (EV (d + 1)) 21 yX0_contextCount (wsW_ yX0_contextCount cX0_contextCount 4 (Option.some Jvm.ClassFile.FieldType.int) [((0 : Nat), (9 : Nat), (12 : Nat), (20 : Nat))]) (d + 1) := z_methW hz rfl hp_X0_contextCount (r_X0_contextCount hst hI)
theorem r_X0_contextLength (hst : l.stackTraces = false) (hI : jIH l D dA lo cs0 d) : jRows l D dA lo cs0 d 5 (tb_X0_contextLength (EV d)) yX0_contextLength cX0_contextLength (Option.some Jvm.ClassFile.FieldType.int) [((0 : Nat), (10 : Nat), (13 : Nat), (20 : Nat))] := by
  intro p e R s m args below meth c z0 w0 zF wF Q rF hF B hz hw hret hnm
  refine jlk_cons (sm_aload_n rfl B.1 dX0_contextLength_0) ?_
  refine jlk_cons (sm_iconst rfl B.1 dX0_contextLength_1) ?_
  refine jlk_cons (sm_aload_n rfl B.1 dX0_contextLength_2) ?_
  refine jlk_cons (sm_iload_n rfl B.1 dX0_contextLength_3) ?_
  refine jlk_cons (sm_iload_n rfl B.1 dX0_contextLength_4) ?_
  refine jlk_cons (sm_cV (x := yX1_contextLength) (host := "") (owner := "") isXRI (i_X1_contextLength hI) B q2697 q2698 q2699 w4_X1_contextLength w6_X1_contextLength (by decide) (by decide) (by decide) kc_1 hy_X1_contextLength hl_X1_contextLength dX0_contextLength_5 (jHok_yes (by decide) (jHm_of (by decide) q2428 (jex7 (hm_n (by decide) kc_6 (B.1.2.2.2.2.2.2.2.2.2.1.2.2.1 _ (List.mem_of_getElem? (i := 4) rfl))) (hm_n (by decide) kc_19 (B.1.2.2.2.2.2.2.2.2.2.1.2.2.1 _ (List.mem_of_getElem? (i := 10) rfl))) (hm_n (by decide) kc_29 (B.1.2.2.2.2.2.2.2.2.2.1.2.2.1 _ (List.mem_of_getElem? (i := 16) rfl))) (hm_n (by decide) kc_30 (B.1.2.2.2.2.2.2.2.2.2.1.2.2.1 _ (List.mem_of_getElem? (i := 22) rfl))) (hm_n (by decide) kc_31 (B.1.2.2.2.2.2.2.2.2.2.1.2.2.1 _ (List.mem_of_getElem? (i := 28) rfl))) (hm_y (by decide) kc_32 (q1668)) (hm_n (by decide) kc_33 (B.1.2.2.2.2.2.2.2.2.2.1.2.2.1 _ (List.mem_of_getElem? (i := 41) rfl))))) rfl)) ?_
  refine jlk_cons (sm_i2l B.1 dX0_contextLength_8) ?_
  refine jlk_cons (sm_last B.1 dX0_contextLength_9) ?_
  refine jlk_cons (sm_goto rfl B.1 dX0_contextLength_10) ?_
  refine jlk_cons (sm_astore B.1 dX0_contextLength_13) ?_
  refine jlk_cons (sm_iconst rfl B.1 dX0_contextLength_15) ?_
  refine jlk_cons (sm_iret B.1 B.2.1 hret dX0_contextLength_16) ?_
  refine jlk_cons (sm_iconst rfl B.1 dX0_contextLength_17) ?_
  refine jlk_cons (sm_iret B.1 B.2.1 hret dX0_contextLength_18) ?_
  exact jlk_nil
theorem v_X0_contextLength (hst : l.stackTraces = false) (hz : jEz (EV (d + 1))) (hI : jIH l D dA lo cs0 d) : jMe l D dA lo cs0 (EV (d + 1)) 23 yX0_contextLength (wsW_ yX0_contextLength cX0_contextLength 5 (Option.some Jvm.ClassFile.FieldType.int) [((0 : Nat), (10 : Nat), (13 : Nat), (20 : Nat))]) (d + 1) := z_methW hz rfl hp_X0_contextLength (r_X0_contextLength hst hI)
theorem r_X0_contextCall (hst : l.stackTraces = false) (hI : jIH l D dA lo cs0 d) : jRows l D dA lo cs0 d 6 (tb_X0_contextCall (EV d)) yX0_contextCall cX0_contextCall (Option.some Jvm.ClassFile.FieldType.int) [((0 : Nat), (12 : Nat), (15 : Nat), (20 : Nat))] := by
  intro p e R s m args below meth c z0 w0 zF wF Q rF hF B hz hw hret hnm
  refine jlk_cons (sm_aload B.1 dX0_contextCall_0) ?_
  refine jlk_cons (sm_iconst rfl B.1 dX0_contextCall_2) ?_
  refine jlk_cons (sm_aload_n rfl B.1 dX0_contextCall_3) ?_
  refine jlk_cons (sm_iload_n rfl B.1 dX0_contextCall_4) ?_
  refine jlk_cons (sm_iload_n rfl B.1 dX0_contextCall_5) ?_
  refine jlk_cons (sm_iload_n rfl B.1 dX0_contextCall_6) ?_
  refine jlk_cons (sm_cV (x := yX1_contextCall) (host := "") (owner := "") isXRI (i_X1_contextCall hI) B q2709 q2710 q2711 w4_X1_contextCall w6_X1_contextCall (by decide) (by decide) (by decide) kc_1 hy_X1_contextCall hl_X1_contextCall dX0_contextCall_7 (jHok_yes (by decide) (jHm_of (by decide) q2428 (jex7 (hm_n (by decide) kc_6 (B.1.2.2.2.2.2.2.2.2.2.1.2.2.1 _ (List.mem_of_getElem? (i := 4) rfl))) (hm_n (by decide) kc_19 (B.1.2.2.2.2.2.2.2.2.2.1.2.2.1 _ (List.mem_of_getElem? (i := 10) rfl))) (hm_n (by decide) kc_29 (B.1.2.2.2.2.2.2.2.2.2.1.2.2.1 _ (List.mem_of_getElem? (i := 16) rfl))) (hm_n (by decide) kc_30 (B.1.2.2.2.2.2.2.2.2.2.1.2.2.1 _ (List.mem_of_getElem? (i := 22) rfl))) (hm_n (by decide) kc_31 (B.1.2.2.2.2.2.2.2.2.2.1.2.2.1 _ (List.mem_of_getElem? (i := 28) rfl))) (hm_y (by decide) kc_32 (q1668)) (hm_n (by decide) kc_33 (B.1.2.2.2.2.2.2.2.2.2.1.2.2.1 _ (List.mem_of_getElem? (i := 41) rfl))))) rfl)) ?_
  refine jlk_cons (sm_i2l B.1 dX0_contextCall_10) ?_
  refine jlk_cons (sm_last B.1 dX0_contextCall_11) ?_
  refine jlk_cons (sm_goto rfl B.1 dX0_contextCall_12) ?_
  refine jlk_cons (sm_astore B.1 dX0_contextCall_15) ?_
  refine jlk_cons (sm_iconst rfl B.1 dX0_contextCall_17) ?_
  refine jlk_cons (sm_iret B.1 B.2.1 hret dX0_contextCall_18) ?_
  refine jlk_cons (sm_iconst rfl B.1 dX0_contextCall_19) ?_
  refine jlk_cons (sm_iret B.1 B.2.1 hret dX0_contextCall_20) ?_
  exact jlk_nil
theorem v_X0_contextCall (hst : l.stackTraces = false) (hz : jEz (EV (d + 1))) (hI : jIH l D dA lo cs0 d) : jMe l D dA lo cs0 (EV (d + 1)) 25 yX0_contextCall (wsW_ yX0_contextCall cX0_contextCall 6 (Option.some Jvm.ClassFile.FieldType.int) [((0 : Nat), (12 : Nat), (15 : Nat), (20 : Nat))]) (d + 1) := z_methW hz rfl hp_X0_contextCall (r_X0_contextCall hst hI)
theorem r_X0_pointsTo (hst : l.stackTraces = false) (hI : jIH l D dA lo cs0 d) : jRows l D dA lo cs0 d 4 (tb_X0_pointsTo (EV d)) yX0_pointsTo cX0_pointsTo (Option.some Jvm.ClassFile.FieldType.int) [((0 : Nat), (8 : Nat), (11 : Nat), (20 : Nat))] := by
  intro p e R s m args below meth c z0 w0 zF wF Q rF hF B hz hw hret hnm
  refine jlk_cons (sm_aload_n rfl B.1 dX0_pointsTo_0) ?_
  refine jlk_cons (sm_iconst rfl B.1 dX0_pointsTo_1) ?_
  refine jlk_cons (sm_aload_n rfl B.1 dX0_pointsTo_2) ?_
  refine jlk_cons (sm_iload_n rfl B.1 dX0_pointsTo_3) ?_
  refine jlk_cons (sm_cV (x := yX1_pointsTo) (host := "") (owner := "") isXRL (i_X1_pointsTo hI) B q2716 q2717 q2718 w4_X1_pointsTo w6_X1_pointsTo (by decide) (by decide) (by decide) kc_1 hy_X1_pointsTo hl_X1_pointsTo dX0_pointsTo_4 (jHok_yes (by decide) (jHm_of (by decide) q2428 (jex7 (hm_n (by decide) kc_6 (B.1.2.2.2.2.2.2.2.2.2.1.2.2.1 _ (List.mem_of_getElem? (i := 4) rfl))) (hm_n (by decide) kc_19 (B.1.2.2.2.2.2.2.2.2.2.1.2.2.1 _ (List.mem_of_getElem? (i := 10) rfl))) (hm_n (by decide) kc_29 (B.1.2.2.2.2.2.2.2.2.2.1.2.2.1 _ (List.mem_of_getElem? (i := 16) rfl))) (hm_n (by decide) kc_30 (B.1.2.2.2.2.2.2.2.2.2.1.2.2.1 _ (List.mem_of_getElem? (i := 22) rfl))) (hm_n (by decide) kc_31 (B.1.2.2.2.2.2.2.2.2.2.1.2.2.1 _ (List.mem_of_getElem? (i := 28) rfl))) (hm_y (by decide) kc_32 (q1668)) (hm_n (by decide) kc_33 (B.1.2.2.2.2.2.2.2.2.2.1.2.2.1 _ (List.mem_of_getElem? (i := 41) rfl))))) rfl)) ?_
  refine jlk_cons (sm_last B.1 dX0_pointsTo_7) ?_
  refine jlk_cons (sm_goto rfl B.1 dX0_pointsTo_8) ?_
  refine jlk_cons (sm_astore_n rfl B.1 dX0_pointsTo_11) ?_
  refine jlk_cons (sm_iconst rfl B.1 dX0_pointsTo_12) ?_
  refine jlk_cons (sm_iret B.1 B.2.1 hret dX0_pointsTo_13) ?_
  refine jlk_cons (sm_iconst rfl B.1 dX0_pointsTo_14) ?_
  refine jlk_cons (sm_iret B.1 B.2.1 hret dX0_pointsTo_15) ?_
  exact jlk_nil
theorem v_X0_pointsTo (hst : l.stackTraces = false) (hz : jEz (EV (d + 1))) (hI : jIH l D dA lo cs0 d) : jMe l D dA lo cs0 (EV (d + 1)) 27 yX0_pointsTo (wsW_ yX0_pointsTo cX0_pointsTo 4 (Option.some Jvm.ClassFile.FieldType.int) [((0 : Nat), (8 : Nat), (11 : Nat), (20 : Nat))]) (d + 1) := z_methW hz rfl hp_X0_pointsTo (r_X0_pointsTo hst hI)
theorem r_X0_pointsToIn (hst : l.stackTraces = false) (hI : jIH l D dA lo cs0 d) : jRows l D dA lo cs0 d 5 (tb_X0_pointsToIn (EV d)) yX0_pointsToIn cX0_pointsToIn (Option.some Jvm.ClassFile.FieldType.int) [((0 : Nat), (9 : Nat), (12 : Nat), (20 : Nat))] := by
  intro p e R s m args below meth c z0 w0 zF wF Q rF hF B hz hw hret hnm
  refine jlk_cons (sm_aload_n rfl B.1 dX0_pointsToIn_0) ?_
  refine jlk_cons (sm_iconst rfl B.1 dX0_pointsToIn_1) ?_
  refine jlk_cons (sm_aload_n rfl B.1 dX0_pointsToIn_2) ?_
  refine jlk_cons (sm_iload_n rfl B.1 dX0_pointsToIn_3) ?_
  refine jlk_cons (sm_iload_n rfl B.1 dX0_pointsToIn_4) ?_
  refine jlk_cons (sm_cV (x := yX1_pointsToIn) (host := "") (owner := "") isXRL (i_X1_pointsToIn hI) B q2726 q2727 q2728 w4_X1_pointsToIn w6_X1_pointsToIn (by decide) (by decide) (by decide) kc_1 hy_X1_pointsToIn hl_X1_pointsToIn dX0_pointsToIn_5 (jHok_yes (by decide) (jHm_of (by decide) q2428 (jex7 (hm_n (by decide) kc_6 (B.1.2.2.2.2.2.2.2.2.2.1.2.2.1 _ (List.mem_of_getElem? (i := 4) rfl))) (hm_n (by decide) kc_19 (B.1.2.2.2.2.2.2.2.2.2.1.2.2.1 _ (List.mem_of_getElem? (i := 10) rfl))) (hm_n (by decide) kc_29 (B.1.2.2.2.2.2.2.2.2.2.1.2.2.1 _ (List.mem_of_getElem? (i := 16) rfl))) (hm_n (by decide) kc_30 (B.1.2.2.2.2.2.2.2.2.2.1.2.2.1 _ (List.mem_of_getElem? (i := 22) rfl))) (hm_n (by decide) kc_31 (B.1.2.2.2.2.2.2.2.2.2.1.2.2.1 _ (List.mem_of_getElem? (i := 28) rfl))) (hm_y (by decide) kc_32 (q1668)) (hm_n (by decide) kc_33 (B.1.2.2.2.2.2.2.2.2.2.1.2.2.1 _ (List.mem_of_getElem? (i := 41) rfl))))) rfl)) ?_
  refine jlk_cons (sm_last B.1 dX0_pointsToIn_8) ?_
  refine jlk_cons (sm_goto rfl B.1 dX0_pointsToIn_9) ?_
  refine jlk_cons (sm_astore B.1 dX0_pointsToIn_12) ?_
  refine jlk_cons (sm_iconst rfl B.1 dX0_pointsToIn_14) ?_
  refine jlk_cons (sm_iret B.1 B.2.1 hret dX0_pointsToIn_15) ?_
  refine jlk_cons (sm_iconst rfl B.1 dX0_pointsToIn_16) ?_
  refine jlk_cons (sm_iret B.1 B.2.1 hret dX0_pointsToIn_17) ?_
  exact jlk_nil
theorem v_X0_pointsToIn (hst : l.stackTraces = false) (hz : jEz (EV (d + 1))) (hI : jIH l D dA lo cs0 d) : jMe l D dA lo cs0 (EV (d + 1)) 29 yX0_pointsToIn (wsW_ yX0_pointsToIn cX0_pointsToIn 5 (Option.some Jvm.ClassFile.FieldType.int) [((0 : Nat), (9 : Nat), (12 : Nat), (20 : Nat))]) (d + 1) := z_methW hz rfl hp_X0_pointsToIn (r_X0_pointsToIn hst hI)
theorem r_X0_fieldPointsTo (hst : l.stackTraces = false) (hI : jIH l D dA lo cs0 d) : jRows l D dA lo cs0 d 5 (tb_X0_fieldPointsTo (EV d)) yX0_fieldPointsTo cX0_fieldPointsTo (Option.some Jvm.ClassFile.FieldType.int) [((0 : Nat), (9 : Nat), (12 : Nat), (20 : Nat))] := by
  intro p e R s m args below meth c z0 w0 zF wF Q rF hF B hz hw hret hnm
  refine jlk_cons (sm_aload_n rfl B.1 dX0_fieldPointsTo_0) ?_
  refine jlk_cons (sm_iconst rfl B.1 dX0_fieldPointsTo_1) ?_
  refine jlk_cons (sm_aload_n rfl B.1 dX0_fieldPointsTo_2) ?_
  refine jlk_cons (sm_iload_n rfl B.1 dX0_fieldPointsTo_3) ?_
  refine jlk_cons (sm_iload_n rfl B.1 dX0_fieldPointsTo_4) ?_
  refine jlk_cons (sm_cV (x := yX1_fieldPointsTo) (host := "") (owner := "") isXRL (i_X1_fieldPointsTo hI) B q2736 q2737 q2738 w4_X1_fieldPointsTo w6_X1_fieldPointsTo (by decide) (by decide) (by decide) kc_1 hy_X1_fieldPointsTo hl_X1_fieldPointsTo dX0_fieldPointsTo_5 (jHok_yes (by decide) (jHm_of (by decide) q2428 (jex7 (hm_n (by decide) kc_6 (B.1.2.2.2.2.2.2.2.2.2.1.2.2.1 _ (List.mem_of_getElem? (i := 4) rfl))) (hm_n (by decide) kc_19 (B.1.2.2.2.2.2.2.2.2.2.1.2.2.1 _ (List.mem_of_getElem? (i := 10) rfl))) (hm_n (by decide) kc_29 (B.1.2.2.2.2.2.2.2.2.2.1.2.2.1 _ (List.mem_of_getElem? (i := 16) rfl))) (hm_n (by decide) kc_30 (B.1.2.2.2.2.2.2.2.2.2.1.2.2.1 _ (List.mem_of_getElem? (i := 22) rfl))) (hm_n (by decide) kc_31 (B.1.2.2.2.2.2.2.2.2.2.1.2.2.1 _ (List.mem_of_getElem? (i := 28) rfl))) (hm_y (by decide) kc_32 (q1668)) (hm_n (by decide) kc_33 (B.1.2.2.2.2.2.2.2.2.2.1.2.2.1 _ (List.mem_of_getElem? (i := 41) rfl))))) rfl)) ?_
  refine jlk_cons (sm_last B.1 dX0_fieldPointsTo_8) ?_
  refine jlk_cons (sm_goto rfl B.1 dX0_fieldPointsTo_9) ?_
  refine jlk_cons (sm_astore B.1 dX0_fieldPointsTo_12) ?_
  refine jlk_cons (sm_iconst rfl B.1 dX0_fieldPointsTo_14) ?_
  refine jlk_cons (sm_iret B.1 B.2.1 hret dX0_fieldPointsTo_15) ?_
  refine jlk_cons (sm_iconst rfl B.1 dX0_fieldPointsTo_16) ?_
  refine jlk_cons (sm_iret B.1 B.2.1 hret dX0_fieldPointsTo_17) ?_
  exact jlk_nil
theorem v_X0_fieldPointsTo (hst : l.stackTraces = false) (hz : jEz (EV (d + 1))) (hI : jIH l D dA lo cs0 d) : jMe l D dA lo cs0 (EV (d + 1)) 31 yX0_fieldPointsTo (wsW_ yX0_fieldPointsTo cX0_fieldPointsTo 5 (Option.some Jvm.ClassFile.FieldType.int) [((0 : Nat), (9 : Nat), (12 : Nat), (20 : Nat))]) (d + 1) := z_methW hz rfl hp_X0_fieldPointsTo (r_X0_fieldPointsTo hst hI)
theorem r_X0_mayAlias (hst : l.stackTraces = false) (hI : jIH l D dA lo cs0 d) : jRows l D dA lo cs0 d 5 (tb_X0_mayAlias (EV d)) yX0_mayAlias cX0_mayAlias (Option.some Jvm.ClassFile.FieldType.int) [((0 : Nat), (17 : Nat), (20 : Nat), (20 : Nat))] := by
  intro p e R s m args below meth c z0 w0 zF wF Q rF hF B hz hw hret hnm
  refine jlk_cons (sm_aload_n rfl B.1 dX0_mayAlias_0) ?_
  refine jlk_cons (sm_iconst rfl B.1 dX0_mayAlias_1) ?_
  refine jlk_cons (sm_aload_n rfl B.1 dX0_mayAlias_2) ?_
  refine jlk_cons (sm_iload_n rfl B.1 dX0_mayAlias_3) ?_
  refine jlk_cons (sm_iload_n rfl B.1 dX0_mayAlias_4) ?_
  refine jlk_cons (sm_cV (x := yX1_mayAlias) (host := "") (owner := "") isXRI (i_X1_mayAlias hI) B q2747 q2748 q2749 w4_X1_mayAlias w6_X1_mayAlias (by decide) (by decide) (by decide) kc_1 hy_X1_mayAlias hl_X1_mayAlias dX0_mayAlias_5 (jHok_yes (by decide) (jHm_of (by decide) q2428 (jex7 (hm_n (by decide) kc_6 (B.1.2.2.2.2.2.2.2.2.2.1.2.2.1 _ (List.mem_of_getElem? (i := 4) rfl))) (hm_n (by decide) kc_19 (B.1.2.2.2.2.2.2.2.2.2.1.2.2.1 _ (List.mem_of_getElem? (i := 10) rfl))) (hm_n (by decide) kc_29 (B.1.2.2.2.2.2.2.2.2.2.1.2.2.1 _ (List.mem_of_getElem? (i := 16) rfl))) (hm_n (by decide) kc_30 (B.1.2.2.2.2.2.2.2.2.2.1.2.2.1 _ (List.mem_of_getElem? (i := 22) rfl))) (hm_n (by decide) kc_31 (B.1.2.2.2.2.2.2.2.2.2.1.2.2.1 _ (List.mem_of_getElem? (i := 28) rfl))) (hm_y (by decide) kc_32 (q1668)) (hm_n (by decide) kc_33 (B.1.2.2.2.2.2.2.2.2.2.1.2.2.1 _ (List.mem_of_getElem? (i := 41) rfl))))) rfl)) ?_
  refine jlk_cons (sm_ifeq rfl B.1 dX0_mayAlias_8) ?_
  refine jlk_cons (sm_lconst rfl B.1 dX0_mayAlias_11) ?_
  refine jlk_cons (sm_goto rfl B.1 dX0_mayAlias_12) ?_
  refine jlk_cons (sm_lconst rfl B.1 dX0_mayAlias_15) ?_
  refine jlk_cons (sm_last B.1 dX0_mayAlias_16) ?_
  refine jlk_cons (sm_goto rfl B.1 dX0_mayAlias_17) ?_
  refine jlk_cons (sm_astore B.1 dX0_mayAlias_20) ?_
  refine jlk_cons (sm_iconst rfl B.1 dX0_mayAlias_22) ?_
  refine jlk_cons (sm_iret B.1 B.2.1 hret dX0_mayAlias_23) ?_
  refine jlk_cons (sm_iconst rfl B.1 dX0_mayAlias_24) ?_
  refine jlk_cons (sm_iret B.1 B.2.1 hret dX0_mayAlias_25) ?_
  exact jlk_nil
theorem v_X0_mayAlias (hst : l.stackTraces = false) (hz : jEz (EV (d + 1))) (hI : jIH l D dA lo cs0 d) : jMe l D dA lo cs0 (EV (d + 1)) 35 yX0_mayAlias (wsW_ yX0_mayAlias cX0_mayAlias 5 (Option.some Jvm.ClassFile.FieldType.int) [((0 : Nat), (17 : Nat), (20 : Nat), (20 : Nat))]) (d + 1) := z_methW hz rfl hp_X0_mayAlias (r_X0_mayAlias hst hI)
theorem r_X0_reach (hst : l.stackTraces = false) (hI : jIH l D dA lo cs0 d) : jRows l D dA lo cs0 d 4 (tb_X0_reach (EV d)) yX0_reach cX0_reach (Option.some Jvm.ClassFile.FieldType.int) [((0 : Nat), (8 : Nat), (11 : Nat), (20 : Nat))] := by
  intro p e R s m args below meth c z0 w0 zF wF Q rF hF B hz hw hret hnm
  refine jlk_cons (sm_aload_n rfl B.1 dX0_reach_0) ?_
  refine jlk_cons (sm_iconst rfl B.1 dX0_reach_1) ?_
  refine jlk_cons (sm_aload_n rfl B.1 dX0_reach_2) ?_
  refine jlk_cons (sm_iload_n rfl B.1 dX0_reach_3) ?_
  refine jlk_cons (sm_cV (x := yX1_reach) (host := "") (owner := "") isXRL (i_X1_reach hI) B q2754 q2755 q2756 w4_X1_reach w6_X1_reach (by decide) (by decide) (by decide) kc_1 hy_X1_reach hl_X1_reach dX0_reach_4 (jHok_yes (by decide) (jHm_of (by decide) q2428 (jex7 (hm_n (by decide) kc_6 (B.1.2.2.2.2.2.2.2.2.2.1.2.2.1 _ (List.mem_of_getElem? (i := 4) rfl))) (hm_n (by decide) kc_19 (B.1.2.2.2.2.2.2.2.2.2.1.2.2.1 _ (List.mem_of_getElem? (i := 10) rfl))) (hm_n (by decide) kc_29 (B.1.2.2.2.2.2.2.2.2.2.1.2.2.1 _ (List.mem_of_getElem? (i := 16) rfl))) (hm_n (by decide) kc_30 (B.1.2.2.2.2.2.2.2.2.2.1.2.2.1 _ (List.mem_of_getElem? (i := 22) rfl))) (hm_n (by decide) kc_31 (B.1.2.2.2.2.2.2.2.2.2.1.2.2.1 _ (List.mem_of_getElem? (i := 28) rfl))) (hm_y (by decide) kc_32 (q1668)) (hm_n (by decide) kc_33 (B.1.2.2.2.2.2.2.2.2.2.1.2.2.1 _ (List.mem_of_getElem? (i := 41) rfl))))) rfl)) ?_
  refine jlk_cons (sm_last B.1 dX0_reach_7) ?_
  refine jlk_cons (sm_goto rfl B.1 dX0_reach_8) ?_
  refine jlk_cons (sm_astore_n rfl B.1 dX0_reach_11) ?_
  refine jlk_cons (sm_iconst rfl B.1 dX0_reach_12) ?_
  refine jlk_cons (sm_iret B.1 B.2.1 hret dX0_reach_13) ?_
  refine jlk_cons (sm_iconst rfl B.1 dX0_reach_14) ?_
  refine jlk_cons (sm_iret B.1 B.2.1 hret dX0_reach_15) ?_
  exact jlk_nil
theorem v_X0_reach (hst : l.stackTraces = false) (hz : jEz (EV (d + 1))) (hI : jIH l D dA lo cs0 d) : jMe l D dA lo cs0 (EV (d + 1)) 37 yX0_reach (wsW_ yX0_reach cX0_reach 4 (Option.some Jvm.ClassFile.FieldType.int) [((0 : Nat), (8 : Nat), (11 : Nat), (20 : Nat))]) (d + 1) := z_methW hz rfl hp_X0_reach (r_X0_reach hst hI)
theorem r_X0_rank (hst : l.stackTraces = false) (hI : jIH l D dA lo cs0 d) : jRows l D dA lo cs0 d 5 (tb_X0_rank (EV d)) yX0_rank cX0_rank (Option.some Jvm.ClassFile.FieldType.int) [((0 : Nat), (10 : Nat), (13 : Nat), (20 : Nat)), ((0 : Nat), (10 : Nat), (17 : Nat), (63 : Nat))] := by
  intro p e R s m args below meth c z0 w0 zF wF Q rF hF B hz hw hret hnm
  refine jlk_cons (sm_aload_n rfl B.1 dX0_rank_0) ?_
  refine jlk_cons (sm_iconst rfl B.1 dX0_rank_1) ?_
  refine jlk_cons (sm_aload_n rfl B.1 dX0_rank_2) ?_
  refine jlk_cons (sm_iload_n rfl B.1 dX0_rank_3) ?_
  refine jlk_cons (sm_iload_n rfl B.1 dX0_rank_4) ?_
  refine jlk_cons (sm_cV (x := yX1_rank) (host := "") (owner := "") isXRI (i_X1_rank hI) B q2762 q2763 q2764 w4_X1_rank w6_X1_rank (by decide) (by decide) (by decide) kc_1 hy_X1_rank hl_X1_rank dX0_rank_5 (jHok_yes (by decide) (jHm_of (by decide) q2428 (jex7 (hm_n (by decide) kc_6 (B.1.2.2.2.2.2.2.2.2.2.1.2.2.1 _ (List.mem_of_getElem? (i := 4) rfl))) (hm_n (by decide) kc_19 (B.1.2.2.2.2.2.2.2.2.2.1.2.2.1 _ (List.mem_of_getElem? (i := 10) rfl))) (hm_n (by decide) kc_29 (B.1.2.2.2.2.2.2.2.2.2.1.2.2.1 _ (List.mem_of_getElem? (i := 16) rfl))) (hm_n (by decide) kc_30 (B.1.2.2.2.2.2.2.2.2.2.1.2.2.1 _ (List.mem_of_getElem? (i := 22) rfl))) (hm_n (by decide) kc_31 (B.1.2.2.2.2.2.2.2.2.2.1.2.2.1 _ (List.mem_of_getElem? (i := 28) rfl))) (hm_y (by decide) kc_32 (q1668)) (hm_n (by decide) kc_33 (B.1.2.2.2.2.2.2.2.2.2.1.2.2.1 _ (List.mem_of_getElem? (i := 41) rfl))))) (jHok_yes (by decide) (jHm_of (by decide) q2761 (jex7 (hm_n (by decide) kc_6 (B.1.2.2.2.2.2.2.2.2.2.1.2.2.1 _ (List.mem_of_getElem? (i := 1) rfl))) (hm_n (by decide) kc_19 (B.1.2.2.2.2.2.2.2.2.2.1.2.2.1 _ (List.mem_of_getElem? (i := 7) rfl))) (hm_y (by decide) kc_29 (q949)) (hm_n (by decide) kc_30 (B.1.2.2.2.2.2.2.2.2.2.1.2.2.1 _ (List.mem_of_getElem? (i := 20) rfl))) (hm_n (by decide) kc_31 (B.1.2.2.2.2.2.2.2.2.2.1.2.2.1 _ (List.mem_of_getElem? (i := 26) rfl))) (hm_n (by decide) kc_32 (B.1.2.2.2.2.2.2.2.2.2.1.2.2.1 _ (List.mem_of_getElem? (i := 32) rfl))) (hm_n (by decide) kc_33 (B.1.2.2.2.2.2.2.2.2.2.1.2.2.1 _ (List.mem_of_getElem? (i := 38) rfl))))) rfl))) ?_
  refine jlk_cons (sm_i2l B.1 dX0_rank_8) ?_
  refine jlk_cons (sm_last B.1 dX0_rank_9) ?_
  refine jlk_cons (sm_goto rfl B.1 dX0_rank_10) ?_
  refine jlk_cons (sm_astore B.1 dX0_rank_13) ?_
  refine jlk_cons (sm_iconst rfl B.1 dX0_rank_15) ?_
  refine jlk_cons (sm_iret B.1 B.2.1 hret dX0_rank_16) ?_
  refine jlk_cons (sm_astore B.1 dX0_rank_17) ?_
  refine jlk_cons (sm_iconst rfl B.1 dX0_rank_19) ?_
  refine jlk_cons (sm_iret B.1 B.2.1 hret dX0_rank_20) ?_
  refine jlk_cons (sm_iconst rfl B.1 dX0_rank_21) ?_
  refine jlk_cons (sm_iret B.1 B.2.1 hret dX0_rank_22) ?_
  exact jlk_nil
theorem v_X0_rank (hst : l.stackTraces = false) (hz : jEz (EV (d + 1))) (hI : jIH l D dA lo cs0 d) : jMe l D dA lo cs0 (EV (d + 1)) 41 yX0_rank (wsW_ yX0_rank cX0_rank 5 (Option.some Jvm.ClassFile.FieldType.int) [((0 : Nat), (10 : Nat), (13 : Nat), (20 : Nat)), ((0 : Nat), (10 : Nat), (17 : Nat), (63 : Nat))]) (d + 1) := z_methW hz rfl hp_X0_rank (r_X0_rank hst hI)
theorem r_X0_reason (hst : l.stackTraces = false) (hI : jIH l D dA lo cs0 d) : jRows l D dA lo cs0 d 5 (tb_X0_reason (EV d)) yX0_reason cX0_reason (Option.some Jvm.ClassFile.FieldType.int) [((0 : Nat), (10 : Nat), (13 : Nat), (20 : Nat)), ((0 : Nat), (10 : Nat), (17 : Nat), (63 : Nat))] := by
  intro p e R s m args below meth c z0 w0 zF wF Q rF hF B hz hw hret hnm
  refine jlk_cons (sm_aload_n rfl B.1 dX0_reason_0) ?_
  refine jlk_cons (sm_iconst rfl B.1 dX0_reason_1) ?_
  refine jlk_cons (sm_aload_n rfl B.1 dX0_reason_2) ?_
  refine jlk_cons (sm_iload_n rfl B.1 dX0_reason_3) ?_
  refine jlk_cons (sm_iload_n rfl B.1 dX0_reason_4) ?_
  refine jlk_cons (sm_cV (x := yX1_reason) (host := "") (owner := "") isXRI (i_X1_reason hI) B q2775 q2776 q2777 w4_X1_reason w6_X1_reason (by decide) (by decide) (by decide) kc_1 hy_X1_reason hl_X1_reason dX0_reason_5 (jHok_yes (by decide) (jHm_of (by decide) q2428 (jex7 (hm_n (by decide) kc_6 (B.1.2.2.2.2.2.2.2.2.2.1.2.2.1 _ (List.mem_of_getElem? (i := 4) rfl))) (hm_n (by decide) kc_19 (B.1.2.2.2.2.2.2.2.2.2.1.2.2.1 _ (List.mem_of_getElem? (i := 10) rfl))) (hm_n (by decide) kc_29 (B.1.2.2.2.2.2.2.2.2.2.1.2.2.1 _ (List.mem_of_getElem? (i := 16) rfl))) (hm_n (by decide) kc_30 (B.1.2.2.2.2.2.2.2.2.2.1.2.2.1 _ (List.mem_of_getElem? (i := 22) rfl))) (hm_n (by decide) kc_31 (B.1.2.2.2.2.2.2.2.2.2.1.2.2.1 _ (List.mem_of_getElem? (i := 28) rfl))) (hm_y (by decide) kc_32 (q1668)) (hm_n (by decide) kc_33 (B.1.2.2.2.2.2.2.2.2.2.1.2.2.1 _ (List.mem_of_getElem? (i := 41) rfl))))) (jHok_yes (by decide) (jHm_of (by decide) q2761 (jex7 (hm_n (by decide) kc_6 (B.1.2.2.2.2.2.2.2.2.2.1.2.2.1 _ (List.mem_of_getElem? (i := 1) rfl))) (hm_n (by decide) kc_19 (B.1.2.2.2.2.2.2.2.2.2.1.2.2.1 _ (List.mem_of_getElem? (i := 7) rfl))) (hm_y (by decide) kc_29 (q949)) (hm_n (by decide) kc_30 (B.1.2.2.2.2.2.2.2.2.2.1.2.2.1 _ (List.mem_of_getElem? (i := 20) rfl))) (hm_n (by decide) kc_31 (B.1.2.2.2.2.2.2.2.2.2.1.2.2.1 _ (List.mem_of_getElem? (i := 26) rfl))) (hm_n (by decide) kc_32 (B.1.2.2.2.2.2.2.2.2.2.1.2.2.1 _ (List.mem_of_getElem? (i := 32) rfl))) (hm_n (by decide) kc_33 (B.1.2.2.2.2.2.2.2.2.2.1.2.2.1 _ (List.mem_of_getElem? (i := 38) rfl))))) rfl))) ?_
  refine jlk_cons (sm_i2l B.1 dX0_reason_8) ?_
  refine jlk_cons (sm_last B.1 dX0_reason_9) ?_
  refine jlk_cons (sm_goto rfl B.1 dX0_reason_10) ?_
  refine jlk_cons (sm_astore B.1 dX0_reason_13) ?_
  refine jlk_cons (sm_iconst rfl B.1 dX0_reason_15) ?_
  refine jlk_cons (sm_iret B.1 B.2.1 hret dX0_reason_16) ?_
  refine jlk_cons (sm_astore B.1 dX0_reason_17) ?_
  refine jlk_cons (sm_iconst rfl B.1 dX0_reason_19) ?_
  refine jlk_cons (sm_iret B.1 B.2.1 hret dX0_reason_20) ?_
  refine jlk_cons (sm_iconst rfl B.1 dX0_reason_21) ?_
  refine jlk_cons (sm_iret B.1 B.2.1 hret dX0_reason_22) ?_
  exact jlk_nil
theorem v_X0_reason (hst : l.stackTraces = false) (hz : jEz (EV (d + 1))) (hI : jIH l D dA lo cs0 d) : jMe l D dA lo cs0 (EV (d + 1)) 43 yX0_reason (wsW_ yX0_reason cX0_reason 5 (Option.some Jvm.ClassFile.FieldType.int) [((0 : Nat), (10 : Nat), (13 : Nat), (20 : Nat)), ((0 : Nat), (10 : Nat), (17 : Nat), (63 : Nat))]) (d + 1) := z_methW hz rfl hp_X0_reason (r_X0_reason hst hI)
theorem r_X0_unifiedTargets (hst : l.stackTraces = false) (hI : jIH l D dA lo cs0 d) : jRows l D dA lo cs0 d 4 (tb_X0_unifiedTargets (EV d)) yX0_unifiedTargets cX0_unifiedTargets (Option.some Jvm.ClassFile.FieldType.int) [((0 : Nat), (8 : Nat), (11 : Nat), (20 : Nat))] := by
  intro p e R s m args below meth c z0 w0 zF wF Q rF hF B hz hw hret hnm
  refine jlk_cons (sm_aload_n rfl B.1 dX0_unifiedTargets_0) ?_
  refine jlk_cons (sm_iconst rfl B.1 dX0_unifiedTargets_1) ?_
  refine jlk_cons (sm_aload_n rfl B.1 dX0_unifiedTargets_2) ?_
  refine jlk_cons (sm_iload_n rfl B.1 dX0_unifiedTargets_3) ?_
  refine jlk_cons (sm_cV (x := yX1_unifiedTargets) (host := "") (owner := "") isXRL (i_X1_unifiedTargets hI) B q2782 q2783 q2784 w4_X1_unifiedTargets w6_X1_unifiedTargets (by decide) (by decide) (by decide) kc_1 hy_X1_unifiedTargets hl_X1_unifiedTargets dX0_unifiedTargets_4 (jHok_yes (by decide) (jHm_of (by decide) q2428 (jex7 (hm_n (by decide) kc_6 (B.1.2.2.2.2.2.2.2.2.2.1.2.2.1 _ (List.mem_of_getElem? (i := 4) rfl))) (hm_n (by decide) kc_19 (B.1.2.2.2.2.2.2.2.2.2.1.2.2.1 _ (List.mem_of_getElem? (i := 10) rfl))) (hm_n (by decide) kc_29 (B.1.2.2.2.2.2.2.2.2.2.1.2.2.1 _ (List.mem_of_getElem? (i := 16) rfl))) (hm_n (by decide) kc_30 (B.1.2.2.2.2.2.2.2.2.2.1.2.2.1 _ (List.mem_of_getElem? (i := 22) rfl))) (hm_n (by decide) kc_31 (B.1.2.2.2.2.2.2.2.2.2.1.2.2.1 _ (List.mem_of_getElem? (i := 28) rfl))) (hm_y (by decide) kc_32 (q1668)) (hm_n (by decide) kc_33 (B.1.2.2.2.2.2.2.2.2.2.1.2.2.1 _ (List.mem_of_getElem? (i := 41) rfl))))) rfl)) ?_
  refine jlk_cons (sm_last B.1 dX0_unifiedTargets_7) ?_
  refine jlk_cons (sm_goto rfl B.1 dX0_unifiedTargets_8) ?_
  refine jlk_cons (sm_astore_n rfl B.1 dX0_unifiedTargets_11) ?_
  refine jlk_cons (sm_iconst rfl B.1 dX0_unifiedTargets_12) ?_
  refine jlk_cons (sm_iret B.1 B.2.1 hret dX0_unifiedTargets_13) ?_
  refine jlk_cons (sm_iconst rfl B.1 dX0_unifiedTargets_14) ?_
  refine jlk_cons (sm_iret B.1 B.2.1 hret dX0_unifiedTargets_15) ?_
  exact jlk_nil
theorem v_X0_unifiedTargets (hst : l.stackTraces = false) (hz : jEz (EV (d + 1))) (hI : jIH l D dA lo cs0 d) : jMe l D dA lo cs0 (EV (d + 1)) 47 yX0_unifiedTargets (wsW_ yX0_unifiedTargets cX0_unifiedTargets 4 (Option.some Jvm.ClassFile.FieldType.int) [((0 : Nat), (8 : Nat), (11 : Nat), (20 : Nat))]) (d + 1) := z_methW hz rfl hp_X0_unifiedTargets (r_X0_unifiedTargets hst hI)
theorem r_X0_areUnified (hst : l.stackTraces = false) (hI : jIH l D dA lo cs0 d) : jRows l D dA lo cs0 d 5 (tb_X0_areUnified (EV d)) yX0_areUnified cX0_areUnified (Option.some Jvm.ClassFile.FieldType.int) [((0 : Nat), (17 : Nat), (20 : Nat), (20 : Nat))] := by
  intro p e R s m args below meth c z0 w0 zF wF Q rF hF B hz hw hret hnm
  refine jlk_cons (sm_aload_n rfl B.1 dX0_areUnified_0) ?_
  refine jlk_cons (sm_iconst rfl B.1 dX0_areUnified_1) ?_
  refine jlk_cons (sm_aload_n rfl B.1 dX0_areUnified_2) ?_
  refine jlk_cons (sm_iload_n rfl B.1 dX0_areUnified_3) ?_
  refine jlk_cons (sm_iload_n rfl B.1 dX0_areUnified_4) ?_
  refine jlk_cons (sm_cV (x := yX1_areUnified) (host := "") (owner := "") isXRI (i_X1_areUnified hI) B q2795 q2796 q2797 w4_X1_areUnified w6_X1_areUnified (by decide) (by decide) (by decide) kc_1 hy_X1_areUnified hl_X1_areUnified dX0_areUnified_5 (jHok_yes (by decide) (jHm_of (by decide) q2428 (jex7 (hm_n (by decide) kc_6 (B.1.2.2.2.2.2.2.2.2.2.1.2.2.1 _ (List.mem_of_getElem? (i := 4) rfl))) (hm_n (by decide) kc_19 (B.1.2.2.2.2.2.2.2.2.2.1.2.2.1 _ (List.mem_of_getElem? (i := 10) rfl))) (hm_n (by decide) kc_29 (B.1.2.2.2.2.2.2.2.2.2.1.2.2.1 _ (List.mem_of_getElem? (i := 16) rfl))) (hm_n (by decide) kc_30 (B.1.2.2.2.2.2.2.2.2.2.1.2.2.1 _ (List.mem_of_getElem? (i := 22) rfl))) (hm_n (by decide) kc_31 (B.1.2.2.2.2.2.2.2.2.2.1.2.2.1 _ (List.mem_of_getElem? (i := 28) rfl))) (hm_y (by decide) kc_32 (q1668)) (hm_n (by decide) kc_33 (B.1.2.2.2.2.2.2.2.2.2.1.2.2.1 _ (List.mem_of_getElem? (i := 41) rfl))))) rfl)) ?_
  refine jlk_cons (sm_ifeq rfl B.1 dX0_areUnified_8) ?_
  refine jlk_cons (sm_lconst rfl B.1 dX0_areUnified_11) ?_
  refine jlk_cons (sm_goto rfl B.1 dX0_areUnified_12) ?_
  refine jlk_cons (sm_lconst rfl B.1 dX0_areUnified_15) ?_
  refine jlk_cons (sm_last B.1 dX0_areUnified_16) ?_
  refine jlk_cons (sm_goto rfl B.1 dX0_areUnified_17) ?_
  refine jlk_cons (sm_astore B.1 dX0_areUnified_20) ?_
  refine jlk_cons (sm_iconst rfl B.1 dX0_areUnified_22) ?_
  refine jlk_cons (sm_iret B.1 B.2.1 hret dX0_areUnified_23) ?_
  refine jlk_cons (sm_iconst rfl B.1 dX0_areUnified_24) ?_
  refine jlk_cons (sm_iret B.1 B.2.1 hret dX0_areUnified_25) ?_
  exact jlk_nil
theorem v_X0_areUnified (hst : l.stackTraces = false) (hz : jEz (EV (d + 1))) (hI : jIH l D dA lo cs0 d) : jMe l D dA lo cs0 (EV (d + 1)) 49 yX0_areUnified (wsW_ yX0_areUnified cX0_areUnified 5 (Option.some Jvm.ClassFile.FieldType.int) [((0 : Nat), (17 : Nat), (20 : Nat), (20 : Nat))]) (d + 1) := z_methW hz rfl hp_X0_areUnified (r_X0_areUnified hst hI)
theorem r_X0_modifies (hst : l.stackTraces = false) (hI : jIH l D dA lo cs0 d) : jRows l D dA lo cs0 d 4 (tb_X0_modifies (EV d)) yX0_modifies cX0_modifies (Option.some Jvm.ClassFile.FieldType.int) [((0 : Nat), (8 : Nat), (11 : Nat), (20 : Nat))] := by
  intro p e R s m args below meth c z0 w0 zF wF Q rF hF B hz hw hret hnm
  refine jlk_cons (sm_aload_n rfl B.1 dX0_modifies_0) ?_
  refine jlk_cons (sm_iconst rfl B.1 dX0_modifies_1) ?_
  refine jlk_cons (sm_aload_n rfl B.1 dX0_modifies_2) ?_
  refine jlk_cons (sm_iload_n rfl B.1 dX0_modifies_3) ?_
  refine jlk_cons (sm_cV (x := yX1_modifies) (host := "") (owner := "") isXRL (i_X1_modifies hI) B q2803 q2804 q2805 w4_X1_modifies w6_X1_modifies (by decide) (by decide) (by decide) kc_1 hy_X1_modifies hl_X1_modifies dX0_modifies_4 (jHok_yes (by decide) (jHm_of (by decide) q2428 (jex7 (hm_n (by decide) kc_6 (B.1.2.2.2.2.2.2.2.2.2.1.2.2.1 _ (List.mem_of_getElem? (i := 4) rfl))) (hm_n (by decide) kc_19 (B.1.2.2.2.2.2.2.2.2.2.1.2.2.1 _ (List.mem_of_getElem? (i := 10) rfl))) (hm_n (by decide) kc_29 (B.1.2.2.2.2.2.2.2.2.2.1.2.2.1 _ (List.mem_of_getElem? (i := 16) rfl))) (hm_n (by decide) kc_30 (B.1.2.2.2.2.2.2.2.2.2.1.2.2.1 _ (List.mem_of_getElem? (i := 22) rfl))) (hm_n (by decide) kc_31 (B.1.2.2.2.2.2.2.2.2.2.1.2.2.1 _ (List.mem_of_getElem? (i := 28) rfl))) (hm_y (by decide) kc_32 (q1668)) (hm_n (by decide) kc_33 (B.1.2.2.2.2.2.2.2.2.2.1.2.2.1 _ (List.mem_of_getElem? (i := 41) rfl))))) rfl)) ?_
  refine jlk_cons (sm_last B.1 dX0_modifies_7) ?_
  refine jlk_cons (sm_goto rfl B.1 dX0_modifies_8) ?_
  refine jlk_cons (sm_astore_n rfl B.1 dX0_modifies_11) ?_
  refine jlk_cons (sm_iconst rfl B.1 dX0_modifies_12) ?_
  refine jlk_cons (sm_iret B.1 B.2.1 hret dX0_modifies_13) ?_
  refine jlk_cons (sm_iconst rfl B.1 dX0_modifies_14) ?_
  refine jlk_cons (sm_iret B.1 B.2.1 hret dX0_modifies_15) ?_
  exact jlk_nil
theorem v_X0_modifies (hst : l.stackTraces = false) (hz : jEz (EV (d + 1))) (hI : jIH l D dA lo cs0 d) : jMe l D dA lo cs0 (EV (d + 1)) 53 yX0_modifies (wsW_ yX0_modifies cX0_modifies 4 (Option.some Jvm.ClassFile.FieldType.int) [((0 : Nat), (8 : Nat), (11 : Nat), (20 : Nat))]) (d + 1) := z_methW hz rfl hp_X0_modifies (r_X0_modifies hst hI)
theorem r_X0_isReachable (hst : l.stackTraces = false) (hI : jIH l D dA lo cs0 d) : jRows l D dA lo cs0 d 4 (tb_X0_isReachable (EV d)) yX0_isReachable cX0_isReachable (Option.some Jvm.ClassFile.FieldType.int) [((0 : Nat), (16 : Nat), (19 : Nat), (20 : Nat))] := by
  intro p e R s m args below meth c z0 w0 zF wF Q rF hF B hz hw hret hnm
  refine jlk_cons (sm_aload_n rfl B.1 dX0_isReachable_0) ?_
  refine jlk_cons (sm_iconst rfl B.1 dX0_isReachable_1) ?_
  refine jlk_cons (sm_aload_n rfl B.1 dX0_isReachable_2) ?_
  refine jlk_cons (sm_iload_n rfl B.1 dX0_isReachable_3) ?_
  refine jlk_cons (sm_cV (x := yX1_isReachable) (host := "") (owner := "") isXRI (i_X1_isReachable hI) B q2812 q2813 q2814 w4_X1_isReachable w6_X1_isReachable (by decide) (by decide) (by decide) kc_1 hy_X1_isReachable hl_X1_isReachable dX0_isReachable_4 (jHok_yes (by decide) (jHm_of (by decide) q2428 (jex7 (hm_n (by decide) kc_6 (B.1.2.2.2.2.2.2.2.2.2.1.2.2.1 _ (List.mem_of_getElem? (i := 4) rfl))) (hm_n (by decide) kc_19 (B.1.2.2.2.2.2.2.2.2.2.1.2.2.1 _ (List.mem_of_getElem? (i := 10) rfl))) (hm_n (by decide) kc_29 (B.1.2.2.2.2.2.2.2.2.2.1.2.2.1 _ (List.mem_of_getElem? (i := 16) rfl))) (hm_n (by decide) kc_30 (B.1.2.2.2.2.2.2.2.2.2.1.2.2.1 _ (List.mem_of_getElem? (i := 22) rfl))) (hm_n (by decide) kc_31 (B.1.2.2.2.2.2.2.2.2.2.1.2.2.1 _ (List.mem_of_getElem? (i := 28) rfl))) (hm_y (by decide) kc_32 (q1668)) (hm_n (by decide) kc_33 (B.1.2.2.2.2.2.2.2.2.2.1.2.2.1 _ (List.mem_of_getElem? (i := 41) rfl))))) rfl)) ?_
  refine jlk_cons (sm_ifeq rfl B.1 dX0_isReachable_7) ?_
  refine jlk_cons (sm_lconst rfl B.1 dX0_isReachable_10) ?_
  refine jlk_cons (sm_goto rfl B.1 dX0_isReachable_11) ?_
  refine jlk_cons (sm_lconst rfl B.1 dX0_isReachable_14) ?_
  refine jlk_cons (sm_last B.1 dX0_isReachable_15) ?_
  refine jlk_cons (sm_goto rfl B.1 dX0_isReachable_16) ?_
  refine jlk_cons (sm_astore_n rfl B.1 dX0_isReachable_19) ?_
  refine jlk_cons (sm_iconst rfl B.1 dX0_isReachable_20) ?_
  refine jlk_cons (sm_iret B.1 B.2.1 hret dX0_isReachable_21) ?_
  refine jlk_cons (sm_iconst rfl B.1 dX0_isReachable_22) ?_
  refine jlk_cons (sm_iret B.1 B.2.1 hret dX0_isReachable_23) ?_
  exact jlk_nil
theorem v_X0_isReachable (hst : l.stackTraces = false) (hz : jEz (EV (d + 1))) (hI : jIH l D dA lo cs0 d) : jMe l D dA lo cs0 (EV (d + 1)) 55 yX0_isReachable (wsW_ yX0_isReachable cX0_isReachable 4 (Option.some Jvm.ClassFile.FieldType.int) [((0 : Nat), (16 : Nat), (19 : Nat), (20 : Nat))]) (d + 1) := z_methW hz rfl hp_X0_isReachable (r_X0_isReachable hst hI)
theorem r_X0_isRecursive (hst : l.stackTraces = false) (hI : jIH l D dA lo cs0 d) : jRows l D dA lo cs0 d 4 (tb_X0_isRecursive (EV d)) yX0_isRecursive cX0_isRecursive (Option.some Jvm.ClassFile.FieldType.int) [((0 : Nat), (16 : Nat), (19 : Nat), (20 : Nat))] := by
  intro p e R s m args below meth c z0 w0 zF wF Q rF hF B hz hw hret hnm
  refine jlk_cons (sm_aload_n rfl B.1 dX0_isRecursive_0) ?_
  refine jlk_cons (sm_iconst rfl B.1 dX0_isRecursive_1) ?_
  refine jlk_cons (sm_aload_n rfl B.1 dX0_isRecursive_2) ?_
  refine jlk_cons (sm_iload_n rfl B.1 dX0_isRecursive_3) ?_
  refine jlk_cons (sm_cV (x := yX1_isRecursive) (host := "") (owner := "") isXRI (i_X1_isRecursive hI) B q2819 q2820 q2821 w4_X1_isRecursive w6_X1_isRecursive (by decide) (by decide) (by decide) kc_1 hy_X1_isRecursive hl_X1_isRecursive dX0_isRecursive_4 (jHok_yes (by decide) (jHm_of (by decide) q2428 (jex7 (hm_n (by decide) kc_6 (B.1.2.2.2.2.2.2.2.2.2.1.2.2.1 _ (List.mem_of_getElem? (i := 4) rfl))) (hm_n (by decide) kc_19 (B.1.2.2.2.2.2.2.2.2.2.1.2.2.1 _ (List.mem_of_getElem? (i := 10) rfl))) (hm_n (by decide) kc_29 (B.1.2.2.2.2.2.2.2.2.2.1.2.2.1 _ (List.mem_of_getElem? (i := 16) rfl))) (hm_n (by decide) kc_30 (B.1.2.2.2.2.2.2.2.2.2.1.2.2.1 _ (List.mem_of_getElem? (i := 22) rfl))) (hm_n (by decide) kc_31 (B.1.2.2.2.2.2.2.2.2.2.1.2.2.1 _ (List.mem_of_getElem? (i := 28) rfl))) (hm_y (by decide) kc_32 (q1668)) (hm_n (by decide) kc_33 (B.1.2.2.2.2.2.2.2.2.2.1.2.2.1 _ (List.mem_of_getElem? (i := 41) rfl))))) rfl)) ?_
  refine jlk_cons (sm_ifeq rfl B.1 dX0_isRecursive_7) ?_
  refine jlk_cons (sm_lconst rfl B.1 dX0_isRecursive_10) ?_
  refine jlk_cons (sm_goto rfl B.1 dX0_isRecursive_11) ?_
  refine jlk_cons (sm_lconst rfl B.1 dX0_isRecursive_14) ?_
  refine jlk_cons (sm_last B.1 dX0_isRecursive_15) ?_
  refine jlk_cons (sm_goto rfl B.1 dX0_isRecursive_16) ?_
  refine jlk_cons (sm_astore_n rfl B.1 dX0_isRecursive_19) ?_
  refine jlk_cons (sm_iconst rfl B.1 dX0_isRecursive_20) ?_
  refine jlk_cons (sm_iret B.1 B.2.1 hret dX0_isRecursive_21) ?_
  refine jlk_cons (sm_iconst rfl B.1 dX0_isRecursive_22) ?_
  refine jlk_cons (sm_iret B.1 B.2.1 hret dX0_isRecursive_23) ?_
  exact jlk_nil
theorem v_X0_isRecursive (hst : l.stackTraces = false) (hz : jEz (EV (d + 1))) (hI : jIH l D dA lo cs0 d) : jMe l D dA lo cs0 (EV (d + 1)) 57 yX0_isRecursive (wsW_ yX0_isRecursive cX0_isRecursive 4 (Option.some Jvm.ClassFile.FieldType.int) [((0 : Nat), (16 : Nat), (19 : Nat), (20 : Nat))]) (d + 1) := z_methW hz rfl hp_X0_isRecursive (r_X0_isRecursive hst hI)
theorem r_X0_cycleOf (hst : l.stackTraces = false) (hI : jIH l D dA lo cs0 d) : jRows l D dA lo cs0 d 4 (tb_X0_cycleOf (EV d)) yX0_cycleOf cX0_cycleOf (Option.some Jvm.ClassFile.FieldType.int) [((0 : Nat), (9 : Nat), (12 : Nat), (20 : Nat))] := by
  intro p e R s m args below meth c z0 w0 zF wF Q rF hF B hz hw hret hnm
  refine jlk_cons (sm_aload_n rfl B.1 dX0_cycleOf_0) ?_
  refine jlk_cons (sm_iconst rfl B.1 dX0_cycleOf_1) ?_
  refine jlk_cons (sm_aload_n rfl B.1 dX0_cycleOf_2) ?_
  refine jlk_cons (sm_iload_n rfl B.1 dX0_cycleOf_3) ?_
  refine jlk_cons (sm_cV (x := yX1_cycleOf) (host := "") (owner := "") isXRI (i_X1_cycleOf hI) B q2826 q2827 q2828 w4_X1_cycleOf w6_X1_cycleOf (by decide) (by decide) (by decide) kc_1 hy_X1_cycleOf hl_X1_cycleOf dX0_cycleOf_4 (jHok_yes (by decide) (jHm_of (by decide) q2428 (jex7 (hm_n (by decide) kc_6 (B.1.2.2.2.2.2.2.2.2.2.1.2.2.1 _ (List.mem_of_getElem? (i := 4) rfl))) (hm_n (by decide) kc_19 (B.1.2.2.2.2.2.2.2.2.2.1.2.2.1 _ (List.mem_of_getElem? (i := 10) rfl))) (hm_n (by decide) kc_29 (B.1.2.2.2.2.2.2.2.2.2.1.2.2.1 _ (List.mem_of_getElem? (i := 16) rfl))) (hm_n (by decide) kc_30 (B.1.2.2.2.2.2.2.2.2.2.1.2.2.1 _ (List.mem_of_getElem? (i := 22) rfl))) (hm_n (by decide) kc_31 (B.1.2.2.2.2.2.2.2.2.2.1.2.2.1 _ (List.mem_of_getElem? (i := 28) rfl))) (hm_y (by decide) kc_32 (q1668)) (hm_n (by decide) kc_33 (B.1.2.2.2.2.2.2.2.2.2.1.2.2.1 _ (List.mem_of_getElem? (i := 41) rfl))))) rfl)) ?_
  refine jlk_cons (sm_i2l B.1 dX0_cycleOf_7) ?_
  refine jlk_cons (sm_last B.1 dX0_cycleOf_8) ?_
  refine jlk_cons (sm_goto rfl B.1 dX0_cycleOf_9) ?_
  refine jlk_cons (sm_astore_n rfl B.1 dX0_cycleOf_12) ?_
  refine jlk_cons (sm_iconst rfl B.1 dX0_cycleOf_13) ?_
  refine jlk_cons (sm_iret B.1 B.2.1 hret dX0_cycleOf_14) ?_
  refine jlk_cons (sm_iconst rfl B.1 dX0_cycleOf_15) ?_
  refine jlk_cons (sm_iret B.1 B.2.1 hret dX0_cycleOf_16) ?_
  exact jlk_nil
theorem v_X0_cycleOf (hst : l.stackTraces = false) (hz : jEz (EV (d + 1))) (hI : jIH l D dA lo cs0 d) : jMe l D dA lo cs0 (EV (d + 1)) 59 yX0_cycleOf (wsW_ yX0_cycleOf cX0_cycleOf 4 (Option.some Jvm.ClassFile.FieldType.int) [((0 : Nat), (9 : Nat), (12 : Nat), (20 : Nat))]) (d + 1) := z_methW hz rfl hp_X0_cycleOf (r_X0_cycleOf hst hI)
theorem r_X0_observed (hst : l.stackTraces = false) (hI : jIH l D dA lo cs0 d) : jRows l D dA lo cs0 d 4 (tb_X0_observed (EV d)) yX0_observed cX0_observed (Option.some Jvm.ClassFile.FieldType.int) [((0 : Nat), (8 : Nat), (11 : Nat), (20 : Nat))] := by
  intro p e R s m args below meth c z0 w0 zF wF Q rF hF B hz hw hret hnm
  refine jlk_cons (sm_aload_n rfl B.1 dX0_observed_0) ?_
  refine jlk_cons (sm_iconst rfl B.1 dX0_observed_1) ?_
  refine jlk_cons (sm_aload_n rfl B.1 dX0_observed_2) ?_
  refine jlk_cons (sm_iload_n rfl B.1 dX0_observed_3) ?_
  refine jlk_cons (sm_cV (x := yX1_observed) (host := "") (owner := "") isXRL (i_X1_observed hI) B q2839 q2840 q2841 w4_X1_observed w6_X1_observed (by decide) (by decide) (by decide) kc_1 hy_X1_observed hl_X1_observed dX0_observed_4 (jHok_yes (by decide) (jHm_of (by decide) q2428 (jex7 (hm_n (by decide) kc_6 (B.1.2.2.2.2.2.2.2.2.2.1.2.2.1 _ (List.mem_of_getElem? (i := 4) rfl))) (hm_n (by decide) kc_19 (B.1.2.2.2.2.2.2.2.2.2.1.2.2.1 _ (List.mem_of_getElem? (i := 10) rfl))) (hm_n (by decide) kc_29 (B.1.2.2.2.2.2.2.2.2.2.1.2.2.1 _ (List.mem_of_getElem? (i := 16) rfl))) (hm_n (by decide) kc_30 (B.1.2.2.2.2.2.2.2.2.2.1.2.2.1 _ (List.mem_of_getElem? (i := 22) rfl))) (hm_n (by decide) kc_31 (B.1.2.2.2.2.2.2.2.2.2.1.2.2.1 _ (List.mem_of_getElem? (i := 28) rfl))) (hm_y (by decide) kc_32 (q1668)) (hm_n (by decide) kc_33 (B.1.2.2.2.2.2.2.2.2.2.1.2.2.1 _ (List.mem_of_getElem? (i := 41) rfl))))) rfl)) ?_
  refine jlk_cons (sm_last B.1 dX0_observed_7) ?_
  refine jlk_cons (sm_goto rfl B.1 dX0_observed_8) ?_
  refine jlk_cons (sm_astore_n rfl B.1 dX0_observed_11) ?_
  refine jlk_cons (sm_iconst rfl B.1 dX0_observed_12) ?_
  refine jlk_cons (sm_iret B.1 B.2.1 hret dX0_observed_13) ?_
  refine jlk_cons (sm_iconst rfl B.1 dX0_observed_14) ?_
  refine jlk_cons (sm_iret B.1 B.2.1 hret dX0_observed_15) ?_
  exact jlk_nil
theorem v_X0_observed (hst : l.stackTraces = false) (hz : jEz (EV (d + 1))) (hI : jIH l D dA lo cs0 d) : jMe l D dA lo cs0 (EV (d + 1)) 63 yX0_observed (wsW_ yX0_observed cX0_observed 4 (Option.some Jvm.ClassFile.FieldType.int) [((0 : Nat), (8 : Nat), (11 : Nat), (20 : Nat))]) (d + 1) := z_methW hz rfl hp_X0_observed (r_X0_observed hst hI)
theorem r_X0_fieldObserved (hst : l.stackTraces = false) (hI : jIH l D dA lo cs0 d) : jRows l D dA lo cs0 d 5 (tb_X0_fieldObserved (EV d)) yX0_fieldObserved cX0_fieldObserved (Option.some Jvm.ClassFile.FieldType.int) [((0 : Nat), (9 : Nat), (12 : Nat), (20 : Nat))] := by
  intro p e R s m args below meth c z0 w0 zF wF Q rF hF B hz hw hret hnm
  refine jlk_cons (sm_aload_n rfl B.1 dX0_fieldObserved_0) ?_
  refine jlk_cons (sm_iconst rfl B.1 dX0_fieldObserved_1) ?_
  refine jlk_cons (sm_aload_n rfl B.1 dX0_fieldObserved_2) ?_
  refine jlk_cons (sm_iload_n rfl B.1 dX0_fieldObserved_3) ?_
  refine jlk_cons (sm_iload_n rfl B.1 dX0_fieldObserved_4) ?_
  refine jlk_cons (sm_cV (x := yX1_fieldObserved) (host := "") (owner := "") isXRL (i_X1_fieldObserved hI) B q2846 q2847 q2848 w4_X1_fieldObserved w6_X1_fieldObserved (by decide) (by decide) (by decide) kc_1 hy_X1_fieldObserved hl_X1_fieldObserved dX0_fieldObserved_5 (jHok_yes (by decide) (jHm_of (by decide) q2428 (jex7 (hm_n (by decide) kc_6 (B.1.2.2.2.2.2.2.2.2.2.1.2.2.1 _ (List.mem_of_getElem? (i := 4) rfl))) (hm_n (by decide) kc_19 (B.1.2.2.2.2.2.2.2.2.2.1.2.2.1 _ (List.mem_of_getElem? (i := 10) rfl))) (hm_n (by decide) kc_29 (B.1.2.2.2.2.2.2.2.2.2.1.2.2.1 _ (List.mem_of_getElem? (i := 16) rfl))) (hm_n (by decide) kc_30 (B.1.2.2.2.2.2.2.2.2.2.1.2.2.1 _ (List.mem_of_getElem? (i := 22) rfl))) (hm_n (by decide) kc_31 (B.1.2.2.2.2.2.2.2.2.2.1.2.2.1 _ (List.mem_of_getElem? (i := 28) rfl))) (hm_y (by decide) kc_32 (q1668)) (hm_n (by decide) kc_33 (B.1.2.2.2.2.2.2.2.2.2.1.2.2.1 _ (List.mem_of_getElem? (i := 41) rfl))))) rfl)) ?_
  refine jlk_cons (sm_last B.1 dX0_fieldObserved_8) ?_
  refine jlk_cons (sm_goto rfl B.1 dX0_fieldObserved_9) ?_
  refine jlk_cons (sm_astore B.1 dX0_fieldObserved_12) ?_
  refine jlk_cons (sm_iconst rfl B.1 dX0_fieldObserved_14) ?_
  refine jlk_cons (sm_iret B.1 B.2.1 hret dX0_fieldObserved_15) ?_
  refine jlk_cons (sm_iconst rfl B.1 dX0_fieldObserved_16) ?_
  refine jlk_cons (sm_iret B.1 B.2.1 hret dX0_fieldObserved_17) ?_
  exact jlk_nil
theorem v_X0_fieldObserved (hst : l.stackTraces = false) (hz : jEz (EV (d + 1))) (hI : jIH l D dA lo cs0 d) : jMe l D dA lo cs0 (EV (d + 1)) 65 yX0_fieldObserved (wsW_ yX0_fieldObserved cX0_fieldObserved 5 (Option.some Jvm.ClassFile.FieldType.int) [((0 : Nat), (9 : Nat), (12 : Nat), (20 : Nat))]) (d + 1) := z_methW hz rfl hp_X0_fieldObserved (r_X0_fieldObserved hst hI)
theorem r_X0_precision (hst : l.stackTraces = false) (hI : jIH l D dA lo cs0 d) : jRows l D dA lo cs0 d 3 (tb_X0_precision (EV d)) yX0_precision cX0_precision (Option.some Jvm.ClassFile.FieldType.int) [((0 : Nat), (7 : Nat), (10 : Nat), (97 : Nat))] := by
  intro p e R s m args below meth c z0 w0 zF wF Q rF hF B hz hw hret hnm
  refine jlk_cons (sm_aload_n rfl B.1 dX0_precision_0) ?_
  refine jlk_cons (sm_iconst rfl B.1 dX0_precision_1) ?_
  refine jlk_cons (sm_aload_n rfl B.1 dX0_precision_2) ?_
  refine jlk_cons (sm_cV (x := yX1_precision) (host := "") (owner := "") isXRD (i_X1_precision hI) B q2867 q2868 q2869 w4_X1_precision w6_X1_precision (by decide) (by decide) (by decide) kc_1 hy_X1_precision hl_X1_precision dX0_precision_3 (jHok_yes (by decide) (jHm_of (by decide) q2853 (jex7 (hm_n (by decide) kc_6 (B.1.2.2.2.2.2.2.2.2.2.1.2.2.1 _ (List.mem_of_getElem? (i := 5) rfl))) (hm_n (by decide) kc_19 (B.1.2.2.2.2.2.2.2.2.2.1.2.2.1 _ (List.mem_of_getElem? (i := 11) rfl))) (hm_n (by decide) kc_29 (B.1.2.2.2.2.2.2.2.2.2.1.2.2.1 _ (List.mem_of_getElem? (i := 17) rfl))) (hm_n (by decide) kc_30 (B.1.2.2.2.2.2.2.2.2.2.1.2.2.1 _ (List.mem_of_getElem? (i := 23) rfl))) (hm_n (by decide) kc_31 (B.1.2.2.2.2.2.2.2.2.2.1.2.2.1 _ (List.mem_of_getElem? (i := 29) rfl))) (hm_n (by decide) kc_32 (B.1.2.2.2.2.2.2.2.2.2.1.2.2.1 _ (List.mem_of_getElem? (i := 35) rfl))) (hm_y (by decide) kc_33 (q2865)))) rfl)) ?_
  refine jlk_cons (sm_dast B.1 dX0_precision_6) ?_
  refine jlk_cons (sm_goto rfl B.1 dX0_precision_7) ?_
  refine jlk_cons (sm_astore_n rfl B.1 dX0_precision_10) ?_
  refine jlk_cons (sm_iconst rfl B.1 dX0_precision_11) ?_
  refine jlk_cons (sm_iret B.1 B.2.1 hret dX0_precision_12) ?_
  refine jlk_cons (sm_iconst rfl B.1 dX0_precision_13) ?_
  refine jlk_cons (sm_iret B.1 B.2.1 hret dX0_precision_14) ?_
  exact jlk_nil
theorem v_X0_precision (hst : l.stackTraces = false) (hz : jEz (EV (d + 1))) (hI : jIH l D dA lo cs0 d) : jMe l D dA lo cs0 (EV (d + 1)) 71 yX0_precision (wsW_ yX0_precision cX0_precision 3 (Option.some Jvm.ClassFile.FieldType.int) [((0 : Nat), (7 : Nat), (10 : Nat), (97 : Nat))]) (d + 1) := z_methW hz rfl hp_X0_precision (r_X0_precision hst hI)
theorem r_X0_averageTargets (hst : l.stackTraces = false) (hI : jIH l D dA lo cs0 d) : jRows l D dA lo cs0 d 3 (tb_X0_averageTargets (EV d)) yX0_averageTargets cX0_averageTargets (Option.some Jvm.ClassFile.FieldType.int) [((0 : Nat), (8 : Nat), (11 : Nat), (97 : Nat))] := by
  intro p e R s m args below meth c z0 w0 zF wF Q rF hF B hz hw hret hnm
  refine jlk_cons (sm_aload_n rfl B.1 dX0_averageTargets_0) ?_
  refine jlk_cons (sm_iconst rfl B.1 dX0_averageTargets_1) ?_
  refine jlk_cons (sm_aload_n rfl B.1 dX0_averageTargets_2) ?_
  refine jlk_cons (sm_cV (x := yX1_averageTargets) (host := "") (owner := "") isXRF (i_X1_averageTargets hI) B q2880 q2881 q2882 w4_X1_averageTargets w6_X1_averageTargets (by decide) (by decide) (by decide) kc_1 hy_X1_averageTargets hl_X1_averageTargets dX0_averageTargets_3 (jHok_yes (by decide) (jHm_of (by decide) q2853 (jex7 (hm_n (by decide) kc_6 (B.1.2.2.2.2.2.2.2.2.2.1.2.2.1 _ (List.mem_of_getElem? (i := 5) rfl))) (hm_n (by decide) kc_19 (B.1.2.2.2.2.2.2.2.2.2.1.2.2.1 _ (List.mem_of_getElem? (i := 11) rfl))) (hm_n (by decide) kc_29 (B.1.2.2.2.2.2.2.2.2.2.1.2.2.1 _ (List.mem_of_getElem? (i := 17) rfl))) (hm_n (by decide) kc_30 (B.1.2.2.2.2.2.2.2.2.2.1.2.2.1 _ (List.mem_of_getElem? (i := 23) rfl))) (hm_n (by decide) kc_31 (B.1.2.2.2.2.2.2.2.2.2.1.2.2.1 _ (List.mem_of_getElem? (i := 29) rfl))) (hm_n (by decide) kc_32 (B.1.2.2.2.2.2.2.2.2.2.1.2.2.1 _ (List.mem_of_getElem? (i := 35) rfl))) (hm_y (by decide) kc_33 (q2865)))) rfl)) ?_
  refine jlk_cons (sm_f2d B.1 dX0_averageTargets_6) ?_
  refine jlk_cons (sm_dast B.1 dX0_averageTargets_7) ?_
  refine jlk_cons (sm_goto rfl B.1 dX0_averageTargets_8) ?_
  refine jlk_cons (sm_astore_n rfl B.1 dX0_averageTargets_11) ?_
  refine jlk_cons (sm_iconst rfl B.1 dX0_averageTargets_12) ?_
  refine jlk_cons (sm_iret B.1 B.2.1 hret dX0_averageTargets_13) ?_
  refine jlk_cons (sm_iconst rfl B.1 dX0_averageTargets_14) ?_
  refine jlk_cons (sm_iret B.1 B.2.1 hret dX0_averageTargets_15) ?_
  exact jlk_nil
theorem v_X0_averageTargets (hst : l.stackTraces = false) (hz : jEz (EV (d + 1))) (hI : jIH l D dA lo cs0 d) : jMe l D dA lo cs0 (EV (d + 1)) 73 yX0_averageTargets (wsW_ yX0_averageTargets cX0_averageTargets 3 (Option.some Jvm.ClassFile.FieldType.int) [((0 : Nat), (8 : Nat), (11 : Nat), (97 : Nat))]) (d + 1) := z_methW hz rfl hp_X0_averageTargets (r_X0_averageTargets hst hI)
theorem r_X0_restore (hst : l.stackTraces = false) (hI : jIH l D dA lo cs0 d) : jRows l D dA lo cs0 d 2 (tb_X0_restore (EV d)) yX0_restore cX0_restore (Option.some Jvm.ClassFile.FieldType.int) [((0 : Nat), (4 : Nat), (7 : Nat), (15 : Nat))] := by
  intro p e R s m args below meth c z0 w0 zF wF Q rF hF B hz hw hret hnm
  refine jlk_cons (sm_aload_n rfl B.1 dX0_restore_0) ?_
  refine jlk_cons (sm_cV (x := yX1_restore) (host := "") (owner := "") isXRV (i_X1_restore hI) B q2887 q2888 q2889 w4_X1_restore w6_X1_restore (by decide) (by decide) (by decide) kc_1 hy_X1_restore hl_X1_restore dX0_restore_1 (jHok_yes (by decide) (jHm_of (by decide) q2394 (jex7 (hm_n (by decide) kc_6 (B.1.2.2.2.2.2.2.2.2.2.1.2.2.1 _ (List.mem_of_getElem? (i := 3) rfl))) (hm_n (by decide) kc_19 (B.1.2.2.2.2.2.2.2.2.2.1.2.2.1 _ (List.mem_of_getElem? (i := 9) rfl))) (hm_n (by decide) kc_29 (B.1.2.2.2.2.2.2.2.2.2.1.2.2.1 _ (List.mem_of_getElem? (i := 15) rfl))) (hm_n (by decide) kc_30 (B.1.2.2.2.2.2.2.2.2.2.1.2.2.1 _ (List.mem_of_getElem? (i := 21) rfl))) (hm_y (by decide) kc_31 (q2412)) (hm_n (by decide) kc_32 (B.1.2.2.2.2.2.2.2.2.2.1.2.2.1 _ (List.mem_of_getElem? (i := 34) rfl))) (hm_n (by decide) kc_33 (B.1.2.2.2.2.2.2.2.2.2.1.2.2.1 _ (List.mem_of_getElem? (i := 40) rfl))))) rfl)) ?_
  refine jlk_cons (sm_goto rfl B.1 dX0_restore_4) ?_
  refine jlk_cons (sm_astore_n rfl B.1 dX0_restore_7) ?_
  refine jlk_cons (sm_iconst rfl B.1 dX0_restore_8) ?_
  refine jlk_cons (sm_iret B.1 B.2.1 hret dX0_restore_9) ?_
  refine jlk_cons (sm_iconst rfl B.1 dX0_restore_10) ?_
  refine jlk_cons (sm_iret B.1 B.2.1 hret dX0_restore_11) ?_
  exact jlk_nil
theorem v_X0_restore (hst : l.stackTraces = false) (hz : jEz (EV (d + 1))) (hI : jIH l D dA lo cs0 d) : jMe l D dA lo cs0 (EV (d + 1)) 77 yX0_restore (wsW_ yX0_restore cX0_restore 2 (Option.some Jvm.ClassFile.FieldType.int) [((0 : Nat), (4 : Nat), (7 : Nat), (15 : Nat))]) (d + 1) := z_methW hz rfl hp_X0_restore (r_X0_restore hst hI)
theorem r_L_law (hst : l.stackTraces = false) (hI : jIH l D dA lo cs0 d) : jRows l D dA lo cs0 d 9 (tb_L_law (EV d)) x cL_law ret [] := by
  intro p e R s m args below meth c z0 w0 zF wF Q rF hF B hz hw hret hnm
  refine jlk_app ?_ ?_
  · refine jlk_cons (sm_new B.1 kc_1 (by decide) (by decide) in_X1 tyX1 tyX1_ok kd_1 q190 q191 q123 B.2.2.2 hz hw dL_law_0) ?_
    refine jlk_cons (sm_dup B.1 dL_law_3) ?_
    refine jlk_cons (sm_cI (x := yX1_init) (r9 := kr_6) (host := "") (owner := "") isNV (i_X1_init hI) B q192 q193 w4_X1_init w6_X1_init (by decide) rfl hy_X1_init hl_X1_init dL_law_4 trivial) ?_
    refine jlk_cons (sm_astore_n rfl B.1 dL_law_7) ?_
    refine jlk_cons (sm_new B.1 kc_4 (by decide) (by decide) in_X4 tyX4 tyX4_ok kd_4 q2891 q2892 q160 B.2.2.2 hz hw dL_law_8) ?_
    refine jlk_cons (sm_dup B.1 dL_law_11) ?_
    refine jlk_cons (sm_cI (x := yX4_init) (r9 := kr_6) (host := "") (owner := "") isNV (i_X4_init hI) B q2893 q2894 w4_X4_init w6_X4_init (by decide) rfl hy_X4_init hl_X4_init dL_law_12 trivial) ?_
    refine jlk_cons (sm_astore_n rfl B.1 dL_law_15) ?_
    refine jlk_cons (sm_iconst rfl B.1 dL_law_16) ?_
    refine jlk_cons (sm_newA B.1 (at9 := .long) rfl (by decide) rfl (by decide) hc_105 (fun _ => rfl) q1594 B.2.2.2 hz hw dL_law_17) ?_
    refine jlk_cons (sm_astore_n rfl B.1 dL_law_19) ?_
    refine jlk_cons (sm_iconst rfl B.1 dL_law_20) ?_
    refine jlk_cons (sm_newA B.1 (at9 := .double) rfl (by decide) rfl (by decide) hc_106 (fun _ => rfl) q3442 B.2.2.2 hz hw dL_law_21) ?_
    refine jlk_cons (sm_astore B.1 dL_law_23) ?_
    refine jlk_cons (sm_iconst rfl B.1 dL_law_25) ?_
    refine jlk_cons (sm_istore B.1 dL_law_26) ?_
    refine jlk_cons (sm_iload B.1 dL_law_28) ?_
    refine jlk_cons (sm_aload_n rfl B.1 dL_law_30) ?_
    refine jlk_cons (sm_alen0 B.1 (by decide) (fun q => q.1) dL_law_31) ?_
    refine jlk_cons (sm_iconst rfl B.1 dL_law_32) ?_
    refine jlk_cons (sm_isub B.1 dL_law_33) ?_
    refine jlk_cons (sm_icmpgt rfl B.1 dL_law_34) ?_
    refine jlk_cons (sm_aload_n rfl B.1 dL_law_37) ?_
    refine jlk_cons (sm_iload B.1 dL_law_38) ?_
    refine jlk_cons (sm_iald0 B.1 dL_law_40) ?_
    refine jlk_cons (sm_bipush rfl B.1 dL_law_41) ?_
    refine jlk_cons (sm_iand B.1 dL_law_43) ?_
    refine jlk_cons (sm_switch B.1 rfl (List.forall_mem_cons.mpr ⟨⟨by decide, by decide, 164, rfl, rfl⟩, (List.forall_mem_cons.mpr ⟨⟨by decide, by decide, 220, rfl, rfl⟩, (List.forall_mem_cons.mpr ⟨⟨by decide, by decide, 276, rfl, rfl⟩, (List.forall_mem_cons.mpr ⟨⟨by decide, by decide, 289, rfl, rfl⟩, (List.forall_mem_cons.mpr ⟨⟨by decide, by decide, 302, rfl, rfl⟩, (List.forall_mem_cons.mpr ⟨⟨by decide, by decide, 358, rfl, rfl⟩, (List.forall_mem_cons.mpr ⟨⟨by decide, by decide, 414, rfl, rfl⟩, (List.forall_mem_cons.mpr ⟨⟨by decide, by decide, 427, rfl, rfl⟩, (List.forall_mem_cons.mpr ⟨⟨by decide, by decide, 483, rfl, rfl⟩, (List.forall_mem_cons.mpr ⟨⟨by decide, by decide, 539, rfl, rfl⟩, (List.forall_mem_cons.mpr ⟨⟨by decide, by decide, 607, rfl, rfl⟩, (List.forall_mem_cons.mpr ⟨⟨by decide, by decide, 687, rfl, rfl⟩, (List.forall_mem_cons.mpr ⟨⟨by decide, by decide, 742, rfl, rfl⟩, (List.forall_mem_cons.mpr ⟨⟨by decide, by decide, 809, rfl, rfl⟩, (List.forall_mem_cons.mpr ⟨⟨by decide, by decide, 876, rfl, rfl⟩, (List.forall_mem_cons.mpr ⟨⟨by decide, by decide, 889, rfl, rfl⟩, (List.forall_mem_cons.mpr ⟨⟨by decide, by decide, 964, rfl, rfl⟩, (List.forall_mem_cons.mpr ⟨⟨by decide, by decide, 1019, rfl, rfl⟩, (List.forall_mem_cons.mpr ⟨⟨by decide, by decide, 1032, rfl, rfl⟩, (List.forall_mem_cons.mpr ⟨⟨by decide, by decide, 1100, rfl, rfl⟩, (List.forall_mem_cons.mpr ⟨⟨by decide, by decide, 1168, rfl, rfl⟩, (List.forall_mem_cons.mpr ⟨⟨by decide, by decide, 1181, rfl, rfl⟩, (List.forall_mem_cons.mpr ⟨⟨by decide, by decide, 1236, rfl, rfl⟩, (List.forall_mem_cons.mpr ⟨⟨by decide, by decide, 1311, rfl, rfl⟩, (List.forall_mem_cons.mpr ⟨⟨by decide, by decide, 1324, rfl, rfl⟩, (List.forall_mem_cons.mpr ⟨⟨by decide, by decide, 1379, rfl, rfl⟩, (List.forall_mem_cons.mpr ⟨⟨by decide, by decide, 1442, rfl, rfl⟩, (List.forall_mem_cons.mpr ⟨⟨by decide, by decide, 1505, rfl, rfl⟩, (List.forall_mem_cons.mpr ⟨⟨by decide, by decide, 1561, rfl, rfl⟩, (List.forall_mem_cons.mpr ⟨⟨by decide, by decide, 1574, rfl, rfl⟩, (List.forall_mem_cons.mpr ⟨⟨by decide, by decide, 1629, rfl, rfl⟩, (List.forall_mem_cons.mpr ⟨⟨by decide, by decide, 1696, rfl, rfl⟩, (List.forall_mem_cons.mpr ⟨⟨by decide, by decide, 1709, rfl, rfl⟩, (List.forall_mem_cons.mpr ⟨⟨by decide, by decide, 1722, rfl, rfl⟩, (List.forall_mem_cons.mpr ⟨⟨by decide, by decide, 1787, rfl, rfl⟩, (List.forall_mem_cons.mpr ⟨⟨by decide, by decide, 1853, rfl, rfl⟩, (List.forall_mem_cons.mpr ⟨⟨by decide, by decide, 1864, rfl, rfl⟩, (List.forall_mem_nil _)⟩)⟩)⟩)⟩)⟩)⟩)⟩)⟩)⟩)⟩)⟩)⟩)⟩)⟩)⟩)⟩)⟩)⟩)⟩)⟩)⟩)⟩)⟩)⟩)⟩)⟩)⟩)⟩)⟩)⟩)⟩)⟩)⟩)⟩)⟩)⟩)⟩) (sw_hall 37 (by decide) (by decide)) dL_law_44) ?_
    refine jlk_cons (sm_aload_n rfl B.1 dL_law_208) ?_
    refine jlk_cons (sm_aload_n rfl B.1 dL_law_209) ?_
    refine jlk_cons (sm_iload B.1 dL_law_210) ?_
    refine jlk_cons (sm_iconst rfl B.1 dL_law_212) ?_
    refine jlk_cons (sm_iadd B.1 dL_law_213) ?_
    refine jlk_cons (sm_iald0 B.1 dL_law_214) ?_
    refine jlk_cons (sm_aload_n rfl B.1 dL_law_215) ?_
    refine jlk_cons (sm_cSW (x := yX0_appendCharacter) (r9 := kr_6) (host := "") (owner := "") isSI (i_X0_appendCharacter hI) B q2390 q2391 w4_X0_appendCharacter w6_X0_appendCharacter (by decide) hy_X0_appendCharacter hl_X0_appendCharacter dL_law_216 trivial) ?_
    refine jlk_cons (sm_istore B.1 dL_law_219) ?_
    refine jlk_cons (sm_aload_n rfl B.1 dL_law_221) ?_
    refine jlk_cons (sm_aload_n rfl B.1 dL_law_222) ?_
    refine jlk_cons (sm_iload B.1 dL_law_223) ?_
    exact jlk_nil
  · skip
    refine jlk_app ?_ ?_
    · refine jlk_cons (sm_iconst rfl B.1 dL_law_225) ?_
      refine jlk_cons (sm_iadd B.1 dL_law_226) ?_
      refine jlk_cons (sm_iald0 B.1 dL_law_227) ?_
      refine jlk_cons (sm_cV (x := yX4_appendCharacter) (host := "") (owner := "") isRI (i_X4_appendCharacter hI) B q3036 q3037 q3038 w4_X4_appendCharacter w6_X4_appendCharacter (by decide) (by decide) (by decide) kc_4 hy_X4_appendCharacter hl_X4_appendCharacter dL_law_228 trivial) ?_
      refine jlk_cons (sm_istore B.1 dL_law_231) ?_
      refine jlk_cons (sm_aload_n rfl B.1 dL_law_233) ?_
      refine jlk_cons (sm_cV (x := yX4_thrown) (host := "") (owner := "") isRI (i_X4_thrown hI) B q3032 q3033 q3034 w4_X4_thrown w6_X4_thrown (by decide) (by decide) (by decide) kc_4 hy_X4_thrown hl_X4_thrown dL_law_234 trivial) ?_
      refine jlk_cons (sm_iload B.1 dL_law_237) ?_
      refine jlk_cons (sm_icmpeq rfl B.1 dL_law_239) ?_
      refine jlk_cons (sm_iconst rfl B.1 dL_law_242) ?_
      refine jlk_cons (sm_zret B.1 B.2.1 hret dL_law_243) ?_
      refine jlk_cons (sm_iload B.1 dL_law_244) ?_
      refine jlk_cons (sm_ifne rfl B.1 dL_law_246) ?_
      refine jlk_cons (sm_aload_n rfl B.1 dL_law_249) ?_
      refine jlk_cons (sm_iconst rfl B.1 dL_law_250) ?_
      refine jlk_cons (sm_lald B.1 dL_law_251) ?_
      refine jlk_cons (sm_iload B.1 dL_law_252) ?_
      refine jlk_cons (sm_i2l B.1 dL_law_254) ?_
      refine jlk_cons (sm_lcmp B.1 dL_law_255) ?_
      refine jlk_cons (sm_ifeq rfl B.1 dL_law_256) ?_
      refine jlk_cons (sm_iconst rfl B.1 dL_law_259) ?_
      refine jlk_cons (sm_zret B.1 B.2.1 hret dL_law_260) ?_
      refine jlk_cons (sm_goto rfl B.1 dL_law_261) ?_
      refine jlk_cons (sm_aload_n rfl B.1 dL_law_264) ?_
      refine jlk_cons (sm_aload_n rfl B.1 dL_law_265) ?_
      refine jlk_cons (sm_iload B.1 dL_law_266) ?_
      refine jlk_cons (sm_iconst rfl B.1 dL_law_268) ?_
      refine jlk_cons (sm_iadd B.1 dL_law_269) ?_
      refine jlk_cons (sm_iald0 B.1 dL_law_270) ?_
      refine jlk_cons (sm_aload_n rfl B.1 dL_law_271) ?_
      refine jlk_cons (sm_cSW (x := yX0_setBody) (r9 := kr_6) (host := "") (owner := "") isSI (i_X0_setBody hI) B q2425 q2426 w4_X0_setBody w6_X0_setBody (by decide) hy_X0_setBody hl_X0_setBody dL_law_272 trivial) ?_
      refine jlk_cons (sm_istore B.1 dL_law_275) ?_
      refine jlk_cons (sm_aload_n rfl B.1 dL_law_277) ?_
      refine jlk_cons (sm_aload_n rfl B.1 dL_law_278) ?_
      refine jlk_cons (sm_iload B.1 dL_law_279) ?_
      refine jlk_cons (sm_iconst rfl B.1 dL_law_281) ?_
      refine jlk_cons (sm_iadd B.1 dL_law_282) ?_
      refine jlk_cons (sm_iald0 B.1 dL_law_283) ?_
      refine jlk_cons (sm_cV (x := yX4_setBody) (host := "") (owner := "") isRI (i_X4_setBody hI) B q3047 q3048 q3049 w4_X4_setBody w6_X4_setBody (by decide) (by decide) (by decide) kc_4 hy_X4_setBody hl_X4_setBody dL_law_284 trivial) ?_
      refine jlk_cons (sm_istore B.1 dL_law_287) ?_
      exact jlk_nil
    · skip
      refine jlk_app ?_ ?_
      · refine jlk_cons (sm_aload_n rfl B.1 dL_law_289) ?_
        refine jlk_cons (sm_cV (x := yX4_thrown) (host := "") (owner := "") isRI (i_X4_thrown hI) B q3032 q3033 q3034 w4_X4_thrown w6_X4_thrown (by decide) (by decide) (by decide) kc_4 hy_X4_thrown hl_X4_thrown dL_law_290 trivial) ?_
        refine jlk_cons (sm_iload B.1 dL_law_293) ?_
        refine jlk_cons (sm_icmpeq rfl B.1 dL_law_295) ?_
        refine jlk_cons (sm_iconst rfl B.1 dL_law_298) ?_
        refine jlk_cons (sm_zret B.1 B.2.1 hret dL_law_299) ?_
        refine jlk_cons (sm_iload B.1 dL_law_300) ?_
        refine jlk_cons (sm_ifne rfl B.1 dL_law_302) ?_
        refine jlk_cons (sm_aload_n rfl B.1 dL_law_305) ?_
        refine jlk_cons (sm_iconst rfl B.1 dL_law_306) ?_
        refine jlk_cons (sm_lald B.1 dL_law_307) ?_
        refine jlk_cons (sm_iload B.1 dL_law_308) ?_
        refine jlk_cons (sm_i2l B.1 dL_law_310) ?_
        refine jlk_cons (sm_lcmp B.1 dL_law_311) ?_
        refine jlk_cons (sm_ifeq rfl B.1 dL_law_312) ?_
        refine jlk_cons (sm_iconst rfl B.1 dL_law_315) ?_
        refine jlk_cons (sm_zret B.1 B.2.1 hret dL_law_316) ?_
        refine jlk_cons (sm_goto rfl B.1 dL_law_317) ?_
        refine jlk_cons (sm_aload_n rfl B.1 dL_law_320) ?_
        refine jlk_cons (sm_cV (x := yX1_faultPosition) (host := "") (owner := "") isRI (i_X1_faultPosition hI) B q1276 q1277 q1278 w4_X1_faultPosition w6_X1_faultPosition (by decide) (by decide) (by decide) kc_1 hy_X1_faultPosition hl_X1_faultPosition dL_law_321 trivial) ?_
        refine jlk_cons (sm_aload_n rfl B.1 dL_law_324) ?_
        refine jlk_cons (sm_cV (x := yX4_faultPosition) (host := "") (owner := "") isRI (i_X4_faultPosition hI) B q3102 q3103 q3104 w4_X4_faultPosition w6_X4_faultPosition (by decide) (by decide) (by decide) kc_4 hy_X4_faultPosition hl_X4_faultPosition dL_law_325 trivial) ?_
        refine jlk_cons (sm_icmpeq rfl B.1 dL_law_328) ?_
        refine jlk_cons (sm_iconst rfl B.1 dL_law_331) ?_
        refine jlk_cons (sm_zret B.1 B.2.1 hret dL_law_332) ?_
        refine jlk_cons (sm_aload_n rfl B.1 dL_law_333) ?_
        refine jlk_cons (sm_cV (x := yX1_statementCount) (host := "") (owner := "") isRI (i_X1_statementCount hI) B q1280 q1281 q1282 w4_X1_statementCount w6_X1_statementCount (by decide) (by decide) (by decide) kc_1 hy_X1_statementCount hl_X1_statementCount dL_law_334 trivial) ?_
        refine jlk_cons (sm_aload_n rfl B.1 dL_law_337) ?_
        refine jlk_cons (sm_cV (x := yX4_statementCount) (host := "") (owner := "") isRI (i_X4_statementCount hI) B q3106 q3107 q3108 w4_X4_statementCount w6_X4_statementCount (by decide) (by decide) (by decide) kc_4 hy_X4_statementCount hl_X4_statementCount dL_law_338 trivial) ?_
        refine jlk_cons (sm_icmpeq rfl B.1 dL_law_341) ?_
        refine jlk_cons (sm_iconst rfl B.1 dL_law_344) ?_
        refine jlk_cons (sm_zret B.1 B.2.1 hret dL_law_345) ?_
        refine jlk_cons (sm_aload_n rfl B.1 dL_law_346) ?_
        refine jlk_cons (sm_aload_n rfl B.1 dL_law_347) ?_
        refine jlk_cons (sm_iload B.1 dL_law_348) ?_
        refine jlk_cons (sm_iconst rfl B.1 dL_law_350) ?_
        refine jlk_cons (sm_iadd B.1 dL_law_351) ?_
        refine jlk_cons (sm_iald0 B.1 dL_law_352) ?_
        refine jlk_cons (sm_aload_n rfl B.1 dL_law_353) ?_
        refine jlk_cons (sm_cSW (x := yX0_kind) (r9 := kr_6) (host := "") (owner := "") isSI (i_X0_kind hI) B q2659 q2660 w4_X0_kind w6_X0_kind (by decide) hy_X0_kind hl_X0_kind dL_law_354 trivial) ?_
        exact jlk_nil
      · skip
        refine jlk_app ?_ ?_
        · refine jlk_cons (sm_istore B.1 dL_law_357) ?_
          refine jlk_cons (sm_aload_n rfl B.1 dL_law_359) ?_
          refine jlk_cons (sm_aload_n rfl B.1 dL_law_360) ?_
          refine jlk_cons (sm_iload B.1 dL_law_361) ?_
          refine jlk_cons (sm_iconst rfl B.1 dL_law_363) ?_
          refine jlk_cons (sm_iadd B.1 dL_law_364) ?_
          refine jlk_cons (sm_iald0 B.1 dL_law_365) ?_
          refine jlk_cons (sm_cV (x := yX4_kind) (host := "") (owner := "") isRI (i_X4_kind hI) B q3114 q3115 q3116 w4_X4_kind w6_X4_kind (by decide) (by decide) (by decide) kc_4 hy_X4_kind hl_X4_kind dL_law_366 trivial) ?_
          refine jlk_cons (sm_istore B.1 dL_law_369) ?_
          refine jlk_cons (sm_aload_n rfl B.1 dL_law_371) ?_
          refine jlk_cons (sm_cV (x := yX4_thrown) (host := "") (owner := "") isRI (i_X4_thrown hI) B q3032 q3033 q3034 w4_X4_thrown w6_X4_thrown (by decide) (by decide) (by decide) kc_4 hy_X4_thrown hl_X4_thrown dL_law_372 trivial) ?_
          refine jlk_cons (sm_iload B.1 dL_law_375) ?_
          refine jlk_cons (sm_icmpeq rfl B.1 dL_law_377) ?_
          refine jlk_cons (sm_iconst rfl B.1 dL_law_380) ?_
          refine jlk_cons (sm_zret B.1 B.2.1 hret dL_law_381) ?_
          refine jlk_cons (sm_iload B.1 dL_law_382) ?_
          refine jlk_cons (sm_ifne rfl B.1 dL_law_384) ?_
          refine jlk_cons (sm_aload_n rfl B.1 dL_law_387) ?_
          refine jlk_cons (sm_iconst rfl B.1 dL_law_388) ?_
          refine jlk_cons (sm_lald B.1 dL_law_389) ?_
          refine jlk_cons (sm_iload B.1 dL_law_390) ?_
          refine jlk_cons (sm_i2l B.1 dL_law_392) ?_
          refine jlk_cons (sm_lcmp B.1 dL_law_393) ?_
          refine jlk_cons (sm_ifeq rfl B.1 dL_law_394) ?_
          refine jlk_cons (sm_iconst rfl B.1 dL_law_397) ?_
          refine jlk_cons (sm_zret B.1 B.2.1 hret dL_law_398) ?_
          refine jlk_cons (sm_goto rfl B.1 dL_law_399) ?_
          refine jlk_cons (sm_aload_n rfl B.1 dL_law_402) ?_
          refine jlk_cons (sm_aload_n rfl B.1 dL_law_403) ?_
          refine jlk_cons (sm_iload B.1 dL_law_404) ?_
          refine jlk_cons (sm_iconst rfl B.1 dL_law_406) ?_
          refine jlk_cons (sm_iadd B.1 dL_law_407) ?_
          refine jlk_cons (sm_iald0 B.1 dL_law_408) ?_
          refine jlk_cons (sm_aload_n rfl B.1 dL_law_409) ?_
          refine jlk_cons (sm_cSW (x := yX0_functionOf) (r9 := kr_6) (host := "") (owner := "") isSI (i_X0_functionOf hI) B q2672 q2673 w4_X0_functionOf w6_X0_functionOf (by decide) hy_X0_functionOf hl_X0_functionOf dL_law_410 trivial) ?_
          refine jlk_cons (sm_istore B.1 dL_law_413) ?_
          refine jlk_cons (sm_aload_n rfl B.1 dL_law_415) ?_
          refine jlk_cons (sm_aload_n rfl B.1 dL_law_416) ?_
          refine jlk_cons (sm_iload B.1 dL_law_417) ?_
          refine jlk_cons (sm_iconst rfl B.1 dL_law_419) ?_
          exact jlk_nil
        · skip
          refine jlk_app ?_ ?_
          · refine jlk_cons (sm_iadd B.1 dL_law_420) ?_
            refine jlk_cons (sm_iald0 B.1 dL_law_421) ?_
            refine jlk_cons (sm_cV (x := yX4_functionOf) (host := "") (owner := "") isRI (i_X4_functionOf hI) B q3126 q3127 q3128 w4_X4_functionOf w6_X4_functionOf (by decide) (by decide) (by decide) kc_4 hy_X4_functionOf hl_X4_functionOf dL_law_422 trivial) ?_
            refine jlk_cons (sm_istore B.1 dL_law_425) ?_
            refine jlk_cons (sm_aload_n rfl B.1 dL_law_427) ?_
            refine jlk_cons (sm_cV (x := yX4_thrown) (host := "") (owner := "") isRI (i_X4_thrown hI) B q3032 q3033 q3034 w4_X4_thrown w6_X4_thrown (by decide) (by decide) (by decide) kc_4 hy_X4_thrown hl_X4_thrown dL_law_428 trivial) ?_
            refine jlk_cons (sm_iload B.1 dL_law_431) ?_
            refine jlk_cons (sm_icmpeq rfl B.1 dL_law_433) ?_
            refine jlk_cons (sm_iconst rfl B.1 dL_law_436) ?_
            refine jlk_cons (sm_zret B.1 B.2.1 hret dL_law_437) ?_
            refine jlk_cons (sm_iload B.1 dL_law_438) ?_
            refine jlk_cons (sm_ifne rfl B.1 dL_law_440) ?_
            refine jlk_cons (sm_aload_n rfl B.1 dL_law_443) ?_
            refine jlk_cons (sm_iconst rfl B.1 dL_law_444) ?_
            refine jlk_cons (sm_lald B.1 dL_law_445) ?_
            refine jlk_cons (sm_iload B.1 dL_law_446) ?_
            refine jlk_cons (sm_i2l B.1 dL_law_448) ?_
            refine jlk_cons (sm_lcmp B.1 dL_law_449) ?_
            refine jlk_cons (sm_ifeq rfl B.1 dL_law_450) ?_
            refine jlk_cons (sm_iconst rfl B.1 dL_law_453) ?_
            refine jlk_cons (sm_zret B.1 B.2.1 hret dL_law_454) ?_
            refine jlk_cons (sm_goto rfl B.1 dL_law_455) ?_
            refine jlk_cons (sm_aload_n rfl B.1 dL_law_458) ?_
            refine jlk_cons (sm_cV (x := yX1_siteCount) (host := "") (owner := "") isRI (i_X1_siteCount hI) B q1285 q1286 q1287 w4_X1_siteCount w6_X1_siteCount (by decide) (by decide) (by decide) kc_1 hy_X1_siteCount hl_X1_siteCount dL_law_459 trivial) ?_
            refine jlk_cons (sm_aload_n rfl B.1 dL_law_462) ?_
            refine jlk_cons (sm_cV (x := yX4_siteCount) (host := "") (owner := "") isRI (i_X4_siteCount hI) B q3130 q3131 q3132 w4_X4_siteCount w6_X4_siteCount (by decide) (by decide) (by decide) kc_4 hy_X4_siteCount hl_X4_siteCount dL_law_463 trivial) ?_
            refine jlk_cons (sm_icmpeq rfl B.1 dL_law_466) ?_
            refine jlk_cons (sm_iconst rfl B.1 dL_law_469) ?_
            refine jlk_cons (sm_zret B.1 B.2.1 hret dL_law_470) ?_
            refine jlk_cons (sm_aload_n rfl B.1 dL_law_471) ?_
            refine jlk_cons (sm_aload_n rfl B.1 dL_law_472) ?_
            refine jlk_cons (sm_iload B.1 dL_law_473) ?_
            refine jlk_cons (sm_iconst rfl B.1 dL_law_475) ?_
            refine jlk_cons (sm_iadd B.1 dL_law_476) ?_
            refine jlk_cons (sm_iald0 B.1 dL_law_477) ?_
            refine jlk_cons (sm_aload_n rfl B.1 dL_law_478) ?_
            refine jlk_cons (sm_cSW (x := yX0_setLimit) (r9 := kr_6) (host := "") (owner := "") isSI (i_X0_setLimit hI) B q2679 q2680 w4_X0_setLimit w6_X0_setLimit (by decide) hy_X0_setLimit hl_X0_setLimit dL_law_479 trivial) ?_
            refine jlk_cons (sm_istore B.1 dL_law_482) ?_
            refine jlk_cons (sm_aload_n rfl B.1 dL_law_484) ?_
            refine jlk_cons (sm_aload_n rfl B.1 dL_law_485) ?_
            exact jlk_nil
          · skip
            refine jlk_app ?_ ?_
            · refine jlk_cons (sm_iload B.1 dL_law_486) ?_
              refine jlk_cons (sm_iconst rfl B.1 dL_law_488) ?_
              refine jlk_cons (sm_iadd B.1 dL_law_489) ?_
              refine jlk_cons (sm_iald0 B.1 dL_law_490) ?_
              refine jlk_cons (sm_cV (x := yX4_setLimit) (host := "") (owner := "") isRI (i_X4_setLimit hI) B q3138 q3139 q3140 w4_X4_setLimit w6_X4_setLimit (by decide) (by decide) (by decide) kc_4 hy_X4_setLimit hl_X4_setLimit dL_law_491 trivial) ?_
              refine jlk_cons (sm_istore B.1 dL_law_494) ?_
              refine jlk_cons (sm_aload_n rfl B.1 dL_law_496) ?_
              refine jlk_cons (sm_cV (x := yX4_thrown) (host := "") (owner := "") isRI (i_X4_thrown hI) B q3032 q3033 q3034 w4_X4_thrown w6_X4_thrown (by decide) (by decide) (by decide) kc_4 hy_X4_thrown hl_X4_thrown dL_law_497 trivial) ?_
              refine jlk_cons (sm_iload B.1 dL_law_500) ?_
              refine jlk_cons (sm_icmpeq rfl B.1 dL_law_502) ?_
              refine jlk_cons (sm_iconst rfl B.1 dL_law_505) ?_
              refine jlk_cons (sm_zret B.1 B.2.1 hret dL_law_506) ?_
              refine jlk_cons (sm_iload B.1 dL_law_507) ?_
              refine jlk_cons (sm_ifne rfl B.1 dL_law_509) ?_
              refine jlk_cons (sm_aload_n rfl B.1 dL_law_512) ?_
              refine jlk_cons (sm_iconst rfl B.1 dL_law_513) ?_
              refine jlk_cons (sm_lald B.1 dL_law_514) ?_
              refine jlk_cons (sm_iload B.1 dL_law_515) ?_
              refine jlk_cons (sm_i2l B.1 dL_law_517) ?_
              refine jlk_cons (sm_lcmp B.1 dL_law_518) ?_
              refine jlk_cons (sm_ifeq rfl B.1 dL_law_519) ?_
              refine jlk_cons (sm_iconst rfl B.1 dL_law_522) ?_
              refine jlk_cons (sm_zret B.1 B.2.1 hret dL_law_523) ?_
              refine jlk_cons (sm_goto rfl B.1 dL_law_524) ?_
              refine jlk_cons (sm_aload_n rfl B.1 dL_law_527) ?_
              refine jlk_cons (sm_aload_n rfl B.1 dL_law_528) ?_
              refine jlk_cons (sm_iload B.1 dL_law_529) ?_
              refine jlk_cons (sm_iconst rfl B.1 dL_law_531) ?_
              refine jlk_cons (sm_iadd B.1 dL_law_532) ?_
              refine jlk_cons (sm_iald0 B.1 dL_law_533) ?_
              refine jlk_cons (sm_aload_n rfl B.1 dL_law_534) ?_
              refine jlk_cons (sm_cSW (x := yX0_contextCount) (r9 := kr_6) (host := "") (owner := "") isSI (i_X0_contextCount hI) B q2686 q2687 w4_X0_contextCount w6_X0_contextCount (by decide) hy_X0_contextCount hl_X0_contextCount dL_law_535 trivial) ?_
              refine jlk_cons (sm_istore B.1 dL_law_538) ?_
              refine jlk_cons (sm_aload_n rfl B.1 dL_law_540) ?_
              refine jlk_cons (sm_aload_n rfl B.1 dL_law_541) ?_
              refine jlk_cons (sm_iload B.1 dL_law_542) ?_
              refine jlk_cons (sm_iconst rfl B.1 dL_law_544) ?_
              refine jlk_cons (sm_iadd B.1 dL_law_545) ?_
              refine jlk_cons (sm_iald0 B.1 dL_law_546) ?_
              refine jlk_cons (sm_cV (x := yX4_contextCount) (host := "") (owner := "") isRI (i_X4_contextCount hI) B q3142 q3143 q3144 w4_X4_contextCount w6_X4_contextCount (by decide) (by decide) (by decide) kc_4 hy_X4_contextCount hl_X4_contextCount dL_law_547 trivial) ?_
              exact jlk_nil
            · skip
              refine jlk_app ?_ ?_
              · refine jlk_cons (sm_istore B.1 dL_law_550) ?_
                refine jlk_cons (sm_aload_n rfl B.1 dL_law_552) ?_
                refine jlk_cons (sm_cV (x := yX4_thrown) (host := "") (owner := "") isRI (i_X4_thrown hI) B q3032 q3033 q3034 w4_X4_thrown w6_X4_thrown (by decide) (by decide) (by decide) kc_4 hy_X4_thrown hl_X4_thrown dL_law_553 trivial) ?_
                refine jlk_cons (sm_iload B.1 dL_law_556) ?_
                refine jlk_cons (sm_icmpeq rfl B.1 dL_law_558) ?_
                refine jlk_cons (sm_iconst rfl B.1 dL_law_561) ?_
                refine jlk_cons (sm_zret B.1 B.2.1 hret dL_law_562) ?_
                refine jlk_cons (sm_iload B.1 dL_law_563) ?_
                refine jlk_cons (sm_ifne rfl B.1 dL_law_565) ?_
                refine jlk_cons (sm_aload_n rfl B.1 dL_law_568) ?_
                refine jlk_cons (sm_iconst rfl B.1 dL_law_569) ?_
                refine jlk_cons (sm_lald B.1 dL_law_570) ?_
                refine jlk_cons (sm_iload B.1 dL_law_571) ?_
                refine jlk_cons (sm_i2l B.1 dL_law_573) ?_
                refine jlk_cons (sm_lcmp B.1 dL_law_574) ?_
                refine jlk_cons (sm_ifeq rfl B.1 dL_law_575) ?_
                refine jlk_cons (sm_iconst rfl B.1 dL_law_578) ?_
                refine jlk_cons (sm_zret B.1 B.2.1 hret dL_law_579) ?_
                refine jlk_cons (sm_goto rfl B.1 dL_law_580) ?_
                refine jlk_cons (sm_aload_n rfl B.1 dL_law_583) ?_
                refine jlk_cons (sm_aload_n rfl B.1 dL_law_584) ?_
                refine jlk_cons (sm_iload B.1 dL_law_585) ?_
                refine jlk_cons (sm_iconst rfl B.1 dL_law_587) ?_
                refine jlk_cons (sm_iadd B.1 dL_law_588) ?_
                refine jlk_cons (sm_iald0 B.1 dL_law_589) ?_
                refine jlk_cons (sm_aload_n rfl B.1 dL_law_590) ?_
                refine jlk_cons (sm_iload B.1 dL_law_591) ?_
                refine jlk_cons (sm_iconst rfl B.1 dL_law_593) ?_
                refine jlk_cons (sm_iadd B.1 dL_law_594) ?_
                refine jlk_cons (sm_iald0 B.1 dL_law_595) ?_
                refine jlk_cons (sm_aload_n rfl B.1 dL_law_596) ?_
                refine jlk_cons (sm_cSW (x := yX0_contextLength) (r9 := kr_6) (host := "") (owner := "") isSI (i_X0_contextLength hI) B q2694 q2695 w4_X0_contextLength w6_X0_contextLength (by decide) hy_X0_contextLength hl_X0_contextLength dL_law_597 trivial) ?_
                refine jlk_cons (sm_istore B.1 dL_law_600) ?_
                refine jlk_cons (sm_aload_n rfl B.1 dL_law_602) ?_
                refine jlk_cons (sm_aload_n rfl B.1 dL_law_603) ?_
                refine jlk_cons (sm_iload B.1 dL_law_604) ?_
                refine jlk_cons (sm_iconst rfl B.1 dL_law_606) ?_
                refine jlk_cons (sm_iadd B.1 dL_law_607) ?_
                refine jlk_cons (sm_iald0 B.1 dL_law_608) ?_
                refine jlk_cons (sm_aload_n rfl B.1 dL_law_609) ?_
                exact jlk_nil
              · skip
                refine jlk_app ?_ ?_
                · refine jlk_cons (sm_iload B.1 dL_law_610) ?_
                  refine jlk_cons (sm_iconst rfl B.1 dL_law_612) ?_
                  refine jlk_cons (sm_iadd B.1 dL_law_613) ?_
                  refine jlk_cons (sm_iald0 B.1 dL_law_614) ?_
                  refine jlk_cons (sm_cV (x := yX4_contextLength) (host := "") (owner := "") isRI (i_X4_contextLength hI) B q3236 q3237 q3238 w4_X4_contextLength w6_X4_contextLength (by decide) (by decide) (by decide) kc_4 hy_X4_contextLength hl_X4_contextLength dL_law_615 trivial) ?_
                  refine jlk_cons (sm_istore B.1 dL_law_618) ?_
                  refine jlk_cons (sm_aload_n rfl B.1 dL_law_620) ?_
                  refine jlk_cons (sm_cV (x := yX4_thrown) (host := "") (owner := "") isRI (i_X4_thrown hI) B q3032 q3033 q3034 w4_X4_thrown w6_X4_thrown (by decide) (by decide) (by decide) kc_4 hy_X4_thrown hl_X4_thrown dL_law_621 trivial) ?_
                  refine jlk_cons (sm_iload B.1 dL_law_624) ?_
                  refine jlk_cons (sm_icmpeq rfl B.1 dL_law_626) ?_
                  refine jlk_cons (sm_iconst rfl B.1 dL_law_629) ?_
                  refine jlk_cons (sm_zret B.1 B.2.1 hret dL_law_630) ?_
                  refine jlk_cons (sm_iload B.1 dL_law_631) ?_
                  refine jlk_cons (sm_ifne rfl B.1 dL_law_633) ?_
                  refine jlk_cons (sm_aload_n rfl B.1 dL_law_636) ?_
                  refine jlk_cons (sm_iconst rfl B.1 dL_law_637) ?_
                  refine jlk_cons (sm_lald B.1 dL_law_638) ?_
                  refine jlk_cons (sm_iload B.1 dL_law_639) ?_
                  refine jlk_cons (sm_i2l B.1 dL_law_641) ?_
                  refine jlk_cons (sm_lcmp B.1 dL_law_642) ?_
                  refine jlk_cons (sm_ifeq rfl B.1 dL_law_643) ?_
                  refine jlk_cons (sm_iconst rfl B.1 dL_law_646) ?_
                  refine jlk_cons (sm_zret B.1 B.2.1 hret dL_law_647) ?_
                  refine jlk_cons (sm_goto rfl B.1 dL_law_648) ?_
                  refine jlk_cons (sm_aload_n rfl B.1 dL_law_651) ?_
                  refine jlk_cons (sm_aload_n rfl B.1 dL_law_652) ?_
                  refine jlk_cons (sm_iload B.1 dL_law_653) ?_
                  refine jlk_cons (sm_iconst rfl B.1 dL_law_655) ?_
                  refine jlk_cons (sm_iadd B.1 dL_law_656) ?_
                  refine jlk_cons (sm_iald0 B.1 dL_law_657) ?_
                  refine jlk_cons (sm_aload_n rfl B.1 dL_law_658) ?_
                  refine jlk_cons (sm_iload B.1 dL_law_659) ?_
                  refine jlk_cons (sm_iconst rfl B.1 dL_law_661) ?_
                  refine jlk_cons (sm_iadd B.1 dL_law_662) ?_
                  refine jlk_cons (sm_iald0 B.1 dL_law_663) ?_
                  refine jlk_cons (sm_aload_n rfl B.1 dL_law_664) ?_
                  refine jlk_cons (sm_iload B.1 dL_law_665) ?_
                  refine jlk_cons (sm_iconst rfl B.1 dL_law_667) ?_
                  refine jlk_cons (sm_iadd B.1 dL_law_668) ?_
                  refine jlk_cons (sm_iald0 B.1 dL_law_669) ?_
                  exact jlk_nil
                · skip
                  refine jlk_app ?_ ?_
                  · refine jlk_cons (sm_aload_n rfl B.1 dL_law_670) ?_
                    refine jlk_cons (sm_cSW (x := yX0_contextCall) (r9 := kr_6) (host := "") (owner := "") isSI (i_X0_contextCall hI) B q2706 q2707 w4_X0_contextCall w6_X0_contextCall (by decide) hy_X0_contextCall hl_X0_contextCall dL_law_671 trivial) ?_
                    refine jlk_cons (sm_istore B.1 dL_law_674) ?_
                    refine jlk_cons (sm_aload_n rfl B.1 dL_law_676) ?_
                    refine jlk_cons (sm_aload_n rfl B.1 dL_law_677) ?_
                    refine jlk_cons (sm_iload B.1 dL_law_678) ?_
                    refine jlk_cons (sm_iconst rfl B.1 dL_law_680) ?_
                    refine jlk_cons (sm_iadd B.1 dL_law_681) ?_
                    refine jlk_cons (sm_iald0 B.1 dL_law_682) ?_
                    refine jlk_cons (sm_aload_n rfl B.1 dL_law_683) ?_
                    refine jlk_cons (sm_iload B.1 dL_law_684) ?_
                    refine jlk_cons (sm_iconst rfl B.1 dL_law_686) ?_
                    refine jlk_cons (sm_iadd B.1 dL_law_687) ?_
                    refine jlk_cons (sm_iald0 B.1 dL_law_688) ?_
                    refine jlk_cons (sm_aload_n rfl B.1 dL_law_689) ?_
                    refine jlk_cons (sm_iload B.1 dL_law_690) ?_
                    refine jlk_cons (sm_iconst rfl B.1 dL_law_692) ?_
                    refine jlk_cons (sm_iadd B.1 dL_law_693) ?_
                    refine jlk_cons (sm_iald0 B.1 dL_law_694) ?_
                    refine jlk_cons (sm_cV (x := yX4_contextCall) (host := "") (owner := "") isRI (i_X4_contextCall hI) B q3248 q3249 q3250 w4_X4_contextCall w6_X4_contextCall (by decide) (by decide) (by decide) kc_4 hy_X4_contextCall hl_X4_contextCall dL_law_695 trivial) ?_
                    refine jlk_cons (sm_istore B.1 dL_law_698) ?_
                    refine jlk_cons (sm_aload_n rfl B.1 dL_law_700) ?_
                    refine jlk_cons (sm_cV (x := yX4_thrown) (host := "") (owner := "") isRI (i_X4_thrown hI) B q3032 q3033 q3034 w4_X4_thrown w6_X4_thrown (by decide) (by decide) (by decide) kc_4 hy_X4_thrown hl_X4_thrown dL_law_701 trivial) ?_
                    refine jlk_cons (sm_iload B.1 dL_law_704) ?_
                    refine jlk_cons (sm_icmpeq rfl B.1 dL_law_706) ?_
                    refine jlk_cons (sm_iconst rfl B.1 dL_law_709) ?_
                    refine jlk_cons (sm_zret B.1 B.2.1 hret dL_law_710) ?_
                    refine jlk_cons (sm_iload B.1 dL_law_711) ?_
                    refine jlk_cons (sm_ifne rfl B.1 dL_law_713) ?_
                    refine jlk_cons (sm_aload_n rfl B.1 dL_law_716) ?_
                    refine jlk_cons (sm_iconst rfl B.1 dL_law_717) ?_
                    refine jlk_cons (sm_lald B.1 dL_law_718) ?_
                    refine jlk_cons (sm_iload B.1 dL_law_719) ?_
                    refine jlk_cons (sm_i2l B.1 dL_law_721) ?_
                    refine jlk_cons (sm_lcmp B.1 dL_law_722) ?_
                    refine jlk_cons (sm_ifeq rfl B.1 dL_law_723) ?_
                    refine jlk_cons (sm_iconst rfl B.1 dL_law_726) ?_
                    refine jlk_cons (sm_zret B.1 B.2.1 hret dL_law_727) ?_
                    refine jlk_cons (sm_goto rfl B.1 dL_law_728) ?_
                    refine jlk_cons (sm_aload_n rfl B.1 dL_law_731) ?_
                    exact jlk_nil
                  · skip
                    refine jlk_app ?_ ?_
                    · refine jlk_cons (sm_aload_n rfl B.1 dL_law_732) ?_
                      refine jlk_cons (sm_iload B.1 dL_law_733) ?_
                      refine jlk_cons (sm_iconst rfl B.1 dL_law_735) ?_
                      refine jlk_cons (sm_iadd B.1 dL_law_736) ?_
                      refine jlk_cons (sm_iald0 B.1 dL_law_737) ?_
                      refine jlk_cons (sm_aload_n rfl B.1 dL_law_738) ?_
                      refine jlk_cons (sm_cSW (x := yX0_pointsTo) (r9 := kr_6) (host := "") (owner := "") isSI (i_X0_pointsTo hI) B q2713 q2714 w4_X0_pointsTo w6_X0_pointsTo (by decide) hy_X0_pointsTo hl_X0_pointsTo dL_law_739 trivial) ?_
                      refine jlk_cons (sm_istore B.1 dL_law_742) ?_
                      refine jlk_cons (sm_aload_n rfl B.1 dL_law_744) ?_
                      refine jlk_cons (sm_aload_n rfl B.1 dL_law_745) ?_
                      refine jlk_cons (sm_iload B.1 dL_law_746) ?_
                      refine jlk_cons (sm_iconst rfl B.1 dL_law_748) ?_
                      refine jlk_cons (sm_iadd B.1 dL_law_749) ?_
                      refine jlk_cons (sm_iald0 B.1 dL_law_750) ?_
                      refine jlk_cons (sm_cV (x := yX4_pointsTo) (host := "") (owner := "") isRL (i_X4_pointsTo hI) B q3252 q3253 q3254 w4_X4_pointsTo w6_X4_pointsTo (by decide) (by decide) (by decide) kc_4 hy_X4_pointsTo hl_X4_pointsTo dL_law_751 trivial) ?_
                      refine jlk_cons (sm_lstore B.1 dL_law_754) ?_
                      refine jlk_cons (sm_aload_n rfl B.1 dL_law_756) ?_
                      refine jlk_cons (sm_cV (x := yX4_thrown) (host := "") (owner := "") isRI (i_X4_thrown hI) B q3032 q3033 q3034 w4_X4_thrown w6_X4_thrown (by decide) (by decide) (by decide) kc_4 hy_X4_thrown hl_X4_thrown dL_law_757 trivial) ?_
                      refine jlk_cons (sm_iload B.1 dL_law_760) ?_
                      refine jlk_cons (sm_icmpeq rfl B.1 dL_law_762) ?_
                      refine jlk_cons (sm_iconst rfl B.1 dL_law_765) ?_
                      refine jlk_cons (sm_zret B.1 B.2.1 hret dL_law_766) ?_
                      refine jlk_cons (sm_iload B.1 dL_law_767) ?_
                      refine jlk_cons (sm_ifne rfl B.1 dL_law_769) ?_
                      refine jlk_cons (sm_aload_n rfl B.1 dL_law_772) ?_
                      refine jlk_cons (sm_iconst rfl B.1 dL_law_773) ?_
                      refine jlk_cons (sm_lald B.1 dL_law_774) ?_
                      refine jlk_cons (sm_lload B.1 dL_law_775) ?_
                      refine jlk_cons (sm_lcmp B.1 dL_law_777) ?_
                      refine jlk_cons (sm_ifeq rfl B.1 dL_law_778) ?_
                      refine jlk_cons (sm_iconst rfl B.1 dL_law_781) ?_
                      refine jlk_cons (sm_zret B.1 B.2.1 hret dL_law_782) ?_
                      refine jlk_cons (sm_goto rfl B.1 dL_law_783) ?_
                      refine jlk_cons (sm_aload_n rfl B.1 dL_law_786) ?_
                      refine jlk_cons (sm_aload_n rfl B.1 dL_law_787) ?_
                      refine jlk_cons (sm_iload B.1 dL_law_788) ?_
                      refine jlk_cons (sm_iconst rfl B.1 dL_law_790) ?_
                      refine jlk_cons (sm_iadd B.1 dL_law_791) ?_
                      refine jlk_cons (sm_iald0 B.1 dL_law_792) ?_
                      refine jlk_cons (sm_aload_n rfl B.1 dL_law_793) ?_
                      exact jlk_nil
                    · skip
                      refine jlk_app ?_ ?_
                      · refine jlk_cons (sm_iload B.1 dL_law_794) ?_
                        refine jlk_cons (sm_iconst rfl B.1 dL_law_796) ?_
                        refine jlk_cons (sm_iadd B.1 dL_law_797) ?_
                        refine jlk_cons (sm_iald0 B.1 dL_law_798) ?_
                        refine jlk_cons (sm_aload_n rfl B.1 dL_law_799) ?_
                        refine jlk_cons (sm_cSW (x := yX0_pointsToIn) (r9 := kr_6) (host := "") (owner := "") isSI (i_X0_pointsToIn hI) B q2723 q2724 w4_X0_pointsToIn w6_X0_pointsToIn (by decide) hy_X0_pointsToIn hl_X0_pointsToIn dL_law_800 trivial) ?_
                        refine jlk_cons (sm_istore B.1 dL_law_803) ?_
                        refine jlk_cons (sm_aload_n rfl B.1 dL_law_805) ?_
                        refine jlk_cons (sm_aload_n rfl B.1 dL_law_806) ?_
                        refine jlk_cons (sm_iload B.1 dL_law_807) ?_
                        refine jlk_cons (sm_iconst rfl B.1 dL_law_809) ?_
                        refine jlk_cons (sm_iadd B.1 dL_law_810) ?_
                        refine jlk_cons (sm_iald0 B.1 dL_law_811) ?_
                        refine jlk_cons (sm_aload_n rfl B.1 dL_law_812) ?_
                        refine jlk_cons (sm_iload B.1 dL_law_813) ?_
                        refine jlk_cons (sm_iconst rfl B.1 dL_law_815) ?_
                        refine jlk_cons (sm_iadd B.1 dL_law_816) ?_
                        refine jlk_cons (sm_iald0 B.1 dL_law_817) ?_
                        refine jlk_cons (sm_cV (x := yX4_pointsToIn) (host := "") (owner := "") isRL (i_X4_pointsToIn hI) B q3267 q3268 q3269 w4_X4_pointsToIn w6_X4_pointsToIn (by decide) (by decide) (by decide) kc_4 hy_X4_pointsToIn hl_X4_pointsToIn dL_law_818 trivial) ?_
                        refine jlk_cons (sm_lstore B.1 dL_law_821) ?_
                        refine jlk_cons (sm_aload_n rfl B.1 dL_law_823) ?_
                        refine jlk_cons (sm_cV (x := yX4_thrown) (host := "") (owner := "") isRI (i_X4_thrown hI) B q3032 q3033 q3034 w4_X4_thrown w6_X4_thrown (by decide) (by decide) (by decide) kc_4 hy_X4_thrown hl_X4_thrown dL_law_824 trivial) ?_
                        refine jlk_cons (sm_iload B.1 dL_law_827) ?_
                        refine jlk_cons (sm_icmpeq rfl B.1 dL_law_829) ?_
                        refine jlk_cons (sm_iconst rfl B.1 dL_law_832) ?_
                        refine jlk_cons (sm_zret B.1 B.2.1 hret dL_law_833) ?_
                        refine jlk_cons (sm_iload B.1 dL_law_834) ?_
                        refine jlk_cons (sm_ifne rfl B.1 dL_law_836) ?_
                        refine jlk_cons (sm_aload_n rfl B.1 dL_law_839) ?_
                        refine jlk_cons (sm_iconst rfl B.1 dL_law_840) ?_
                        refine jlk_cons (sm_lald B.1 dL_law_841) ?_
                        refine jlk_cons (sm_lload B.1 dL_law_842) ?_
                        refine jlk_cons (sm_lcmp B.1 dL_law_844) ?_
                        refine jlk_cons (sm_ifeq rfl B.1 dL_law_845) ?_
                        refine jlk_cons (sm_iconst rfl B.1 dL_law_848) ?_
                        refine jlk_cons (sm_zret B.1 B.2.1 hret dL_law_849) ?_
                        refine jlk_cons (sm_goto rfl B.1 dL_law_850) ?_
                        refine jlk_cons (sm_aload_n rfl B.1 dL_law_853) ?_
                        refine jlk_cons (sm_aload_n rfl B.1 dL_law_854) ?_
                        refine jlk_cons (sm_iload B.1 dL_law_855) ?_
                        exact jlk_nil
                      · skip
                        refine jlk_app ?_ ?_
                        · refine jlk_cons (sm_iconst rfl B.1 dL_law_857) ?_
                          refine jlk_cons (sm_iadd B.1 dL_law_858) ?_
                          refine jlk_cons (sm_iald0 B.1 dL_law_859) ?_
                          refine jlk_cons (sm_aload_n rfl B.1 dL_law_860) ?_
                          refine jlk_cons (sm_iload B.1 dL_law_861) ?_
                          refine jlk_cons (sm_iconst rfl B.1 dL_law_863) ?_
                          refine jlk_cons (sm_iadd B.1 dL_law_864) ?_
                          refine jlk_cons (sm_iald0 B.1 dL_law_865) ?_
                          refine jlk_cons (sm_aload_n rfl B.1 dL_law_866) ?_
                          refine jlk_cons (sm_cSW (x := yX0_fieldPointsTo) (r9 := kr_6) (host := "") (owner := "") isSI (i_X0_fieldPointsTo hI) B q2733 q2734 w4_X0_fieldPointsTo w6_X0_fieldPointsTo (by decide) hy_X0_fieldPointsTo hl_X0_fieldPointsTo dL_law_867 trivial) ?_
                          refine jlk_cons (sm_istore B.1 dL_law_870) ?_
                          refine jlk_cons (sm_aload_n rfl B.1 dL_law_872) ?_
                          refine jlk_cons (sm_aload_n rfl B.1 dL_law_873) ?_
                          refine jlk_cons (sm_iload B.1 dL_law_874) ?_
                          refine jlk_cons (sm_iconst rfl B.1 dL_law_876) ?_
                          refine jlk_cons (sm_iadd B.1 dL_law_877) ?_
                          refine jlk_cons (sm_iald0 B.1 dL_law_878) ?_
                          refine jlk_cons (sm_aload_n rfl B.1 dL_law_879) ?_
                          refine jlk_cons (sm_iload B.1 dL_law_880) ?_
                          refine jlk_cons (sm_iconst rfl B.1 dL_law_882) ?_
                          refine jlk_cons (sm_iadd B.1 dL_law_883) ?_
                          refine jlk_cons (sm_iald0 B.1 dL_law_884) ?_
                          refine jlk_cons (sm_cV (x := yX4_fieldPointsTo) (host := "") (owner := "") isRL (i_X4_fieldPointsTo hI) B q3271 q3272 q3273 w4_X4_fieldPointsTo w6_X4_fieldPointsTo (by decide) (by decide) (by decide) kc_4 hy_X4_fieldPointsTo hl_X4_fieldPointsTo dL_law_885 trivial) ?_
                          refine jlk_cons (sm_lstore B.1 dL_law_888) ?_
                          refine jlk_cons (sm_aload_n rfl B.1 dL_law_890) ?_
                          refine jlk_cons (sm_cV (x := yX4_thrown) (host := "") (owner := "") isRI (i_X4_thrown hI) B q3032 q3033 q3034 w4_X4_thrown w6_X4_thrown (by decide) (by decide) (by decide) kc_4 hy_X4_thrown hl_X4_thrown dL_law_891 trivial) ?_
                          refine jlk_cons (sm_iload B.1 dL_law_894) ?_
                          refine jlk_cons (sm_icmpeq rfl B.1 dL_law_896) ?_
                          refine jlk_cons (sm_iconst rfl B.1 dL_law_899) ?_
                          refine jlk_cons (sm_zret B.1 B.2.1 hret dL_law_900) ?_
                          refine jlk_cons (sm_iload B.1 dL_law_901) ?_
                          refine jlk_cons (sm_ifne rfl B.1 dL_law_903) ?_
                          refine jlk_cons (sm_aload_n rfl B.1 dL_law_906) ?_
                          refine jlk_cons (sm_iconst rfl B.1 dL_law_907) ?_
                          refine jlk_cons (sm_lald B.1 dL_law_908) ?_
                          refine jlk_cons (sm_lload B.1 dL_law_909) ?_
                          refine jlk_cons (sm_lcmp B.1 dL_law_911) ?_
                          refine jlk_cons (sm_ifeq rfl B.1 dL_law_912) ?_
                          refine jlk_cons (sm_iconst rfl B.1 dL_law_915) ?_
                          refine jlk_cons (sm_zret B.1 B.2.1 hret dL_law_916) ?_
                          exact jlk_nil
                        · skip
                          refine jlk_app ?_ ?_
                          · refine jlk_cons (sm_goto rfl B.1 dL_law_917) ?_
                            refine jlk_cons (sm_aload_n rfl B.1 dL_law_920) ?_
                            refine jlk_cons (sm_cV (x := yX1_factCount) (host := "") (owner := "") isRI (i_X1_factCount hI) B q1289 q1290 q1291 w4_X1_factCount w6_X1_factCount (by decide) (by decide) (by decide) kc_1 hy_X1_factCount hl_X1_factCount dL_law_921 trivial) ?_
                            refine jlk_cons (sm_aload_n rfl B.1 dL_law_924) ?_
                            refine jlk_cons (sm_cV (x := yX4_factCount) (host := "") (owner := "") isRI (i_X4_factCount hI) B q3279 q3280 q3281 w4_X4_factCount w6_X4_factCount (by decide) (by decide) (by decide) kc_4 hy_X4_factCount hl_X4_factCount dL_law_925 trivial) ?_
                            refine jlk_cons (sm_icmpeq rfl B.1 dL_law_928) ?_
                            refine jlk_cons (sm_iconst rfl B.1 dL_law_931) ?_
                            refine jlk_cons (sm_zret B.1 B.2.1 hret dL_law_932) ?_
                            refine jlk_cons (sm_aload_n rfl B.1 dL_law_933) ?_
                            refine jlk_cons (sm_aload_n rfl B.1 dL_law_934) ?_
                            refine jlk_cons (sm_iload B.1 dL_law_935) ?_
                            refine jlk_cons (sm_iconst rfl B.1 dL_law_937) ?_
                            refine jlk_cons (sm_iadd B.1 dL_law_938) ?_
                            refine jlk_cons (sm_iald0 B.1 dL_law_939) ?_
                            refine jlk_cons (sm_aload_n rfl B.1 dL_law_940) ?_
                            refine jlk_cons (sm_iload B.1 dL_law_941) ?_
                            refine jlk_cons (sm_iconst rfl B.1 dL_law_943) ?_
                            refine jlk_cons (sm_iadd B.1 dL_law_944) ?_
                            refine jlk_cons (sm_iald0 B.1 dL_law_945) ?_
                            refine jlk_cons (sm_aload_n rfl B.1 dL_law_946) ?_
                            refine jlk_cons (sm_cSW (x := yX0_mayAlias) (r9 := kr_6) (host := "") (owner := "") isSI (i_X0_mayAlias hI) B q2744 q2745 w4_X0_mayAlias w6_X0_mayAlias (by decide) hy_X0_mayAlias hl_X0_mayAlias dL_law_947 trivial) ?_
                            refine jlk_cons (sm_istore B.1 dL_law_950) ?_
                            refine jlk_cons (sm_aload_n rfl B.1 dL_law_952) ?_
                            refine jlk_cons (sm_aload_n rfl B.1 dL_law_953) ?_
                            refine jlk_cons (sm_iload B.1 dL_law_954) ?_
                            refine jlk_cons (sm_iconst rfl B.1 dL_law_956) ?_
                            refine jlk_cons (sm_iadd B.1 dL_law_957) ?_
                            refine jlk_cons (sm_iald0 B.1 dL_law_958) ?_
                            refine jlk_cons (sm_aload_n rfl B.1 dL_law_959) ?_
                            refine jlk_cons (sm_iload B.1 dL_law_960) ?_
                            refine jlk_cons (sm_iconst rfl B.1 dL_law_962) ?_
                            refine jlk_cons (sm_iadd B.1 dL_law_963) ?_
                            refine jlk_cons (sm_iald0 B.1 dL_law_964) ?_
                            refine jlk_cons (sm_cV (x := yX4_mayAlias) (host := "") (owner := "") isRI (i_X4_mayAlias hI) B q3286 q3287 q3288 w4_X4_mayAlias w6_X4_mayAlias (by decide) (by decide) (by decide) kc_4 hy_X4_mayAlias hl_X4_mayAlias dL_law_965 trivial) ?_
                            refine jlk_cons (sm_istore B.1 dL_law_968) ?_
                            refine jlk_cons (sm_aload_n rfl B.1 dL_law_970) ?_
                            refine jlk_cons (sm_cV (x := yX4_thrown) (host := "") (owner := "") isRI (i_X4_thrown hI) B q3032 q3033 q3034 w4_X4_thrown w6_X4_thrown (by decide) (by decide) (by decide) kc_4 hy_X4_thrown hl_X4_thrown dL_law_971 trivial) ?_
                            refine jlk_cons (sm_iload B.1 dL_law_974) ?_
                            refine jlk_cons (sm_icmpeq rfl B.1 dL_law_976) ?_
                            refine jlk_cons (sm_iconst rfl B.1 dL_law_979) ?_
                            exact jlk_nil
                          · skip
                            refine jlk_app ?_ ?_
                            · refine jlk_cons (sm_zret B.1 B.2.1 hret dL_law_980) ?_
                              refine jlk_cons (sm_iload B.1 dL_law_981) ?_
                              refine jlk_cons (sm_ifne rfl B.1 dL_law_983) ?_
                              refine jlk_cons (sm_aload_n rfl B.1 dL_law_986) ?_
                              refine jlk_cons (sm_iconst rfl B.1 dL_law_987) ?_
                              refine jlk_cons (sm_lald B.1 dL_law_988) ?_
                              refine jlk_cons (sm_iload B.1 dL_law_989) ?_
                              refine jlk_cons (sm_ifeq rfl B.1 dL_law_991) ?_
                              refine jlk_cons (sm_lconst rfl B.1 dL_law_994) ?_
                              refine jlk_cons (sm_goto rfl B.1 dL_law_995) ?_
                              refine jlk_cons (sm_lconst rfl B.1 dL_law_998) ?_
                              refine jlk_cons (sm_lcmp B.1 dL_law_999) ?_
                              refine jlk_cons (sm_ifeq rfl B.1 dL_law_1000) ?_
                              refine jlk_cons (sm_iconst rfl B.1 dL_law_1003) ?_
                              refine jlk_cons (sm_zret B.1 B.2.1 hret dL_law_1004) ?_
                              refine jlk_cons (sm_goto rfl B.1 dL_law_1005) ?_
                              refine jlk_cons (sm_aload_n rfl B.1 dL_law_1008) ?_
                              refine jlk_cons (sm_aload_n rfl B.1 dL_law_1009) ?_
                              refine jlk_cons (sm_iload B.1 dL_law_1010) ?_
                              refine jlk_cons (sm_iconst rfl B.1 dL_law_1012) ?_
                              refine jlk_cons (sm_iadd B.1 dL_law_1013) ?_
                              refine jlk_cons (sm_iald0 B.1 dL_law_1014) ?_
                              refine jlk_cons (sm_aload_n rfl B.1 dL_law_1015) ?_
                              refine jlk_cons (sm_cSW (x := yX0_reach) (r9 := kr_6) (host := "") (owner := "") isSI (i_X0_reach hI) B q2751 q2752 w4_X0_reach w6_X0_reach (by decide) hy_X0_reach hl_X0_reach dL_law_1016 trivial) ?_
                              refine jlk_cons (sm_istore B.1 dL_law_1019) ?_
                              refine jlk_cons (sm_aload_n rfl B.1 dL_law_1021) ?_
                              refine jlk_cons (sm_aload_n rfl B.1 dL_law_1022) ?_
                              refine jlk_cons (sm_iload B.1 dL_law_1023) ?_
                              refine jlk_cons (sm_iconst rfl B.1 dL_law_1025) ?_
                              refine jlk_cons (sm_iadd B.1 dL_law_1026) ?_
                              refine jlk_cons (sm_iald0 B.1 dL_law_1027) ?_
                              refine jlk_cons (sm_cV (x := yX4_reach) (host := "") (owner := "") isRL (i_X4_reach hI) B q3294 q3295 q3296 w4_X4_reach w6_X4_reach (by decide) (by decide) (by decide) kc_4 hy_X4_reach hl_X4_reach dL_law_1028 trivial) ?_
                              refine jlk_cons (sm_lstore B.1 dL_law_1031) ?_
                              refine jlk_cons (sm_aload_n rfl B.1 dL_law_1033) ?_
                              refine jlk_cons (sm_cV (x := yX4_thrown) (host := "") (owner := "") isRI (i_X4_thrown hI) B q3032 q3033 q3034 w4_X4_thrown w6_X4_thrown (by decide) (by decide) (by decide) kc_4 hy_X4_thrown hl_X4_thrown dL_law_1034 trivial) ?_
                              refine jlk_cons (sm_iload B.1 dL_law_1037) ?_
                              refine jlk_cons (sm_icmpeq rfl B.1 dL_law_1039) ?_
                              refine jlk_cons (sm_iconst rfl B.1 dL_law_1042) ?_
                              refine jlk_cons (sm_zret B.1 B.2.1 hret dL_law_1043) ?_
                              refine jlk_cons (sm_iload B.1 dL_law_1044) ?_
                              exact jlk_nil
                            · skip
                              refine jlk_app ?_ ?_
                              · refine jlk_cons (sm_ifne rfl B.1 dL_law_1046) ?_
                                refine jlk_cons (sm_aload_n rfl B.1 dL_law_1049) ?_
                                refine jlk_cons (sm_iconst rfl B.1 dL_law_1050) ?_
                                refine jlk_cons (sm_lald B.1 dL_law_1051) ?_
                                refine jlk_cons (sm_lload B.1 dL_law_1052) ?_
                                refine jlk_cons (sm_lcmp B.1 dL_law_1054) ?_
                                refine jlk_cons (sm_ifeq rfl B.1 dL_law_1055) ?_
                                refine jlk_cons (sm_iconst rfl B.1 dL_law_1058) ?_
                                refine jlk_cons (sm_zret B.1 B.2.1 hret dL_law_1059) ?_
                                refine jlk_cons (sm_goto rfl B.1 dL_law_1060) ?_
                                refine jlk_cons (sm_aload_n rfl B.1 dL_law_1063) ?_
                                refine jlk_cons (sm_cV (x := yX1_escapingSites) (host := "") (owner := "") isRI (i_X1_escapingSites hI) B q2112 q2113 q2114 w4_X1_escapingSites w6_X1_escapingSites (by decide) (by decide) (by decide) kc_1 hy_X1_escapingSites hl_X1_escapingSites dL_law_1064 trivial) ?_
                                refine jlk_cons (sm_aload_n rfl B.1 dL_law_1067) ?_
                                refine jlk_cons (sm_cV (x := yX4_escapingSites) (host := "") (owner := "") isRI (i_X4_escapingSites hI) B q3302 q3303 q3304 w4_X4_escapingSites w6_X4_escapingSites (by decide) (by decide) (by decide) kc_4 hy_X4_escapingSites hl_X4_escapingSites dL_law_1068 trivial) ?_
                                refine jlk_cons (sm_icmpeq rfl B.1 dL_law_1071) ?_
                                refine jlk_cons (sm_iconst rfl B.1 dL_law_1074) ?_
                                refine jlk_cons (sm_zret B.1 B.2.1 hret dL_law_1075) ?_
                                refine jlk_cons (sm_aload_n rfl B.1 dL_law_1076) ?_
                                refine jlk_cons (sm_aload_n rfl B.1 dL_law_1077) ?_
                                refine jlk_cons (sm_iload B.1 dL_law_1078) ?_
                                refine jlk_cons (sm_iconst rfl B.1 dL_law_1080) ?_
                                refine jlk_cons (sm_iadd B.1 dL_law_1081) ?_
                                refine jlk_cons (sm_iald0 B.1 dL_law_1082) ?_
                                refine jlk_cons (sm_aload_n rfl B.1 dL_law_1083) ?_
                                refine jlk_cons (sm_iload B.1 dL_law_1084) ?_
                                refine jlk_cons (sm_iconst rfl B.1 dL_law_1086) ?_
                                refine jlk_cons (sm_iadd B.1 dL_law_1087) ?_
                                refine jlk_cons (sm_iald0 B.1 dL_law_1088) ?_
                                refine jlk_cons (sm_aload_n rfl B.1 dL_law_1089) ?_
                                refine jlk_cons (sm_cSW (x := yX0_rank) (r9 := kr_6) (host := "") (owner := "") isSI (i_X0_rank hI) B q2758 q2759 w4_X0_rank w6_X0_rank (by decide) hy_X0_rank hl_X0_rank dL_law_1090 trivial) ?_
                                refine jlk_cons (sm_istore B.1 dL_law_1093) ?_
                                refine jlk_cons (sm_aload_n rfl B.1 dL_law_1095) ?_
                                refine jlk_cons (sm_aload_n rfl B.1 dL_law_1096) ?_
                                refine jlk_cons (sm_iload B.1 dL_law_1097) ?_
                                refine jlk_cons (sm_iconst rfl B.1 dL_law_1099) ?_
                                refine jlk_cons (sm_iadd B.1 dL_law_1100) ?_
                                refine jlk_cons (sm_iald0 B.1 dL_law_1101) ?_
                                refine jlk_cons (sm_aload_n rfl B.1 dL_law_1102) ?_
                                refine jlk_cons (sm_iload B.1 dL_law_1103) ?_
                                refine jlk_cons (sm_iconst rfl B.1 dL_law_1105) ?_
                                exact jlk_nil
                              · skip
                                refine jlk_app ?_ ?_
                                · refine jlk_cons (sm_iadd B.1 dL_law_1106) ?_
                                  refine jlk_cons (sm_iald0 B.1 dL_law_1107) ?_
                                  refine jlk_cons (sm_cV (x := yX4_rank) (host := "") (owner := "") isRI (i_X4_rank hI) B q3307 q3308 q3309 w4_X4_rank w6_X4_rank (by decide) (by decide) (by decide) kc_4 hy_X4_rank hl_X4_rank dL_law_1108 trivial) ?_
                                  refine jlk_cons (sm_istore B.1 dL_law_1111) ?_
                                  refine jlk_cons (sm_aload_n rfl B.1 dL_law_1113) ?_
                                  refine jlk_cons (sm_cV (x := yX4_thrown) (host := "") (owner := "") isRI (i_X4_thrown hI) B q3032 q3033 q3034 w4_X4_thrown w6_X4_thrown (by decide) (by decide) (by decide) kc_4 hy_X4_thrown hl_X4_thrown dL_law_1114 trivial) ?_
                                  refine jlk_cons (sm_iload B.1 dL_law_1117) ?_
                                  refine jlk_cons (sm_icmpeq rfl B.1 dL_law_1119) ?_
                                  refine jlk_cons (sm_iconst rfl B.1 dL_law_1122) ?_
                                  refine jlk_cons (sm_zret B.1 B.2.1 hret dL_law_1123) ?_
                                  refine jlk_cons (sm_iload B.1 dL_law_1124) ?_
                                  refine jlk_cons (sm_ifne rfl B.1 dL_law_1126) ?_
                                  refine jlk_cons (sm_aload_n rfl B.1 dL_law_1129) ?_
                                  refine jlk_cons (sm_iconst rfl B.1 dL_law_1130) ?_
                                  refine jlk_cons (sm_lald B.1 dL_law_1131) ?_
                                  refine jlk_cons (sm_iload B.1 dL_law_1132) ?_
                                  refine jlk_cons (sm_i2l B.1 dL_law_1134) ?_
                                  refine jlk_cons (sm_lcmp B.1 dL_law_1135) ?_
                                  refine jlk_cons (sm_ifeq rfl B.1 dL_law_1136) ?_
                                  refine jlk_cons (sm_iconst rfl B.1 dL_law_1139) ?_
                                  refine jlk_cons (sm_zret B.1 B.2.1 hret dL_law_1140) ?_
                                  refine jlk_cons (sm_goto rfl B.1 dL_law_1141) ?_
                                  refine jlk_cons (sm_aload_n rfl B.1 dL_law_1144) ?_
                                  refine jlk_cons (sm_aload_n rfl B.1 dL_law_1145) ?_
                                  refine jlk_cons (sm_iload B.1 dL_law_1146) ?_
                                  refine jlk_cons (sm_iconst rfl B.1 dL_law_1148) ?_
                                  refine jlk_cons (sm_iadd B.1 dL_law_1149) ?_
                                  refine jlk_cons (sm_iald0 B.1 dL_law_1150) ?_
                                  refine jlk_cons (sm_aload_n rfl B.1 dL_law_1151) ?_
                                  refine jlk_cons (sm_iload B.1 dL_law_1152) ?_
                                  refine jlk_cons (sm_iconst rfl B.1 dL_law_1154) ?_
                                  refine jlk_cons (sm_iadd B.1 dL_law_1155) ?_
                                  refine jlk_cons (sm_iald0 B.1 dL_law_1156) ?_
                                  refine jlk_cons (sm_aload_n rfl B.1 dL_law_1157) ?_
                                  refine jlk_cons (sm_cSW (x := yX0_reason) (r9 := kr_6) (host := "") (owner := "") isSI (i_X0_reason hI) B q2772 q2773 w4_X0_reason w6_X0_reason (by decide) hy_X0_reason hl_X0_reason dL_law_1158 trivial) ?_
                                  refine jlk_cons (sm_istore B.1 dL_law_1161) ?_
                                  refine jlk_cons (sm_aload_n rfl B.1 dL_law_1163) ?_
                                  refine jlk_cons (sm_aload_n rfl B.1 dL_law_1164) ?_
                                  refine jlk_cons (sm_iload B.1 dL_law_1165) ?_
                                  refine jlk_cons (sm_iconst rfl B.1 dL_law_1167) ?_
                                  exact jlk_nil
                                · skip
                                  refine jlk_app ?_ ?_
                                  · refine jlk_cons (sm_iadd B.1 dL_law_1168) ?_
                                    refine jlk_cons (sm_iald0 B.1 dL_law_1169) ?_
                                    refine jlk_cons (sm_aload_n rfl B.1 dL_law_1170) ?_
                                    refine jlk_cons (sm_iload B.1 dL_law_1171) ?_
                                    refine jlk_cons (sm_iconst rfl B.1 dL_law_1173) ?_
                                    refine jlk_cons (sm_iadd B.1 dL_law_1174) ?_
                                    refine jlk_cons (sm_iald0 B.1 dL_law_1175) ?_
                                    refine jlk_cons (sm_cV (x := yX4_reason) (host := "") (owner := "") isRI (i_X4_reason hI) B q3319 q3320 q3321 w4_X4_reason w6_X4_reason (by decide) (by decide) (by decide) kc_4 hy_X4_reason hl_X4_reason dL_law_1176 trivial) ?_
                                    refine jlk_cons (sm_istore B.1 dL_law_1179) ?_
                                    refine jlk_cons (sm_aload_n rfl B.1 dL_law_1181) ?_
                                    refine jlk_cons (sm_cV (x := yX4_thrown) (host := "") (owner := "") isRI (i_X4_thrown hI) B q3032 q3033 q3034 w4_X4_thrown w6_X4_thrown (by decide) (by decide) (by decide) kc_4 hy_X4_thrown hl_X4_thrown dL_law_1182 trivial) ?_
                                    refine jlk_cons (sm_iload B.1 dL_law_1185) ?_
                                    refine jlk_cons (sm_icmpeq rfl B.1 dL_law_1187) ?_
                                    refine jlk_cons (sm_iconst rfl B.1 dL_law_1190) ?_
                                    refine jlk_cons (sm_zret B.1 B.2.1 hret dL_law_1191) ?_
                                    refine jlk_cons (sm_iload B.1 dL_law_1192) ?_
                                    refine jlk_cons (sm_ifne rfl B.1 dL_law_1194) ?_
                                    refine jlk_cons (sm_aload_n rfl B.1 dL_law_1197) ?_
                                    refine jlk_cons (sm_iconst rfl B.1 dL_law_1198) ?_
                                    refine jlk_cons (sm_lald B.1 dL_law_1199) ?_
                                    refine jlk_cons (sm_iload B.1 dL_law_1200) ?_
                                    refine jlk_cons (sm_i2l B.1 dL_law_1202) ?_
                                    refine jlk_cons (sm_lcmp B.1 dL_law_1203) ?_
                                    refine jlk_cons (sm_ifeq rfl B.1 dL_law_1204) ?_
                                    refine jlk_cons (sm_iconst rfl B.1 dL_law_1207) ?_
                                    refine jlk_cons (sm_zret B.1 B.2.1 hret dL_law_1208) ?_
                                    refine jlk_cons (sm_goto rfl B.1 dL_law_1209) ?_
                                    refine jlk_cons (sm_aload_n rfl B.1 dL_law_1212) ?_
                                    refine jlk_cons (sm_cV (x := yX1_roundCount) (host := "") (owner := "") isRI (i_X1_roundCount hI) B q2134 q2135 q2136 w4_X1_roundCount w6_X1_roundCount (by decide) (by decide) (by decide) kc_1 hy_X1_roundCount hl_X1_roundCount dL_law_1213 trivial) ?_
                                    refine jlk_cons (sm_aload_n rfl B.1 dL_law_1216) ?_
                                    refine jlk_cons (sm_cV (x := yX4_roundCount) (host := "") (owner := "") isRI (i_X4_roundCount hI) B q3323 q3324 q3325 w4_X4_roundCount w6_X4_roundCount (by decide) (by decide) (by decide) kc_4 hy_X4_roundCount hl_X4_roundCount dL_law_1217 trivial) ?_
                                    refine jlk_cons (sm_icmpeq rfl B.1 dL_law_1220) ?_
                                    refine jlk_cons (sm_iconst rfl B.1 dL_law_1223) ?_
                                    refine jlk_cons (sm_zret B.1 B.2.1 hret dL_law_1224) ?_
                                    refine jlk_cons (sm_aload_n rfl B.1 dL_law_1225) ?_
                                    refine jlk_cons (sm_aload_n rfl B.1 dL_law_1226) ?_
                                    refine jlk_cons (sm_iload B.1 dL_law_1227) ?_
                                    refine jlk_cons (sm_iconst rfl B.1 dL_law_1229) ?_
                                    refine jlk_cons (sm_iadd B.1 dL_law_1230) ?_
                                    refine jlk_cons (sm_iald0 B.1 dL_law_1231) ?_
                                    exact jlk_nil
                                  · skip
                                    refine jlk_app ?_ ?_
                                    · refine jlk_cons (sm_aload_n rfl B.1 dL_law_1232) ?_
                                      refine jlk_cons (sm_cSW (x := yX0_unifiedTargets) (r9 := kr_6) (host := "") (owner := "") isSI (i_X0_unifiedTargets hI) B q2779 q2780 w4_X0_unifiedTargets w6_X0_unifiedTargets (by decide) hy_X0_unifiedTargets hl_X0_unifiedTargets dL_law_1233 trivial) ?_
                                      refine jlk_cons (sm_istore B.1 dL_law_1236) ?_
                                      refine jlk_cons (sm_aload_n rfl B.1 dL_law_1238) ?_
                                      refine jlk_cons (sm_aload_n rfl B.1 dL_law_1239) ?_
                                      refine jlk_cons (sm_iload B.1 dL_law_1240) ?_
                                      refine jlk_cons (sm_iconst rfl B.1 dL_law_1242) ?_
                                      refine jlk_cons (sm_iadd B.1 dL_law_1243) ?_
                                      refine jlk_cons (sm_iald0 B.1 dL_law_1244) ?_
                                      refine jlk_cons (sm_cV (x := yX4_unifiedTargets) (host := "") (owner := "") isRL (i_X4_unifiedTargets hI) B q3327 q3328 q3329 w4_X4_unifiedTargets w6_X4_unifiedTargets (by decide) (by decide) (by decide) kc_4 hy_X4_unifiedTargets hl_X4_unifiedTargets dL_law_1245 trivial) ?_
                                      refine jlk_cons (sm_lstore B.1 dL_law_1248) ?_
                                      refine jlk_cons (sm_aload_n rfl B.1 dL_law_1250) ?_
                                      refine jlk_cons (sm_cV (x := yX4_thrown) (host := "") (owner := "") isRI (i_X4_thrown hI) B q3032 q3033 q3034 w4_X4_thrown w6_X4_thrown (by decide) (by decide) (by decide) kc_4 hy_X4_thrown hl_X4_thrown dL_law_1251 trivial) ?_
                                      refine jlk_cons (sm_iload B.1 dL_law_1254) ?_
                                      refine jlk_cons (sm_icmpeq rfl B.1 dL_law_1256) ?_
                                      refine jlk_cons (sm_iconst rfl B.1 dL_law_1259) ?_
                                      refine jlk_cons (sm_zret B.1 B.2.1 hret dL_law_1260) ?_
                                      refine jlk_cons (sm_iload B.1 dL_law_1261) ?_
                                      refine jlk_cons (sm_ifne rfl B.1 dL_law_1263) ?_
                                      refine jlk_cons (sm_aload_n rfl B.1 dL_law_1266) ?_
                                      refine jlk_cons (sm_iconst rfl B.1 dL_law_1267) ?_
                                      refine jlk_cons (sm_lald B.1 dL_law_1268) ?_
                                      refine jlk_cons (sm_lload B.1 dL_law_1269) ?_
                                      refine jlk_cons (sm_lcmp B.1 dL_law_1271) ?_
                                      refine jlk_cons (sm_ifeq rfl B.1 dL_law_1272) ?_
                                      refine jlk_cons (sm_iconst rfl B.1 dL_law_1275) ?_
                                      refine jlk_cons (sm_zret B.1 B.2.1 hret dL_law_1276) ?_
                                      refine jlk_cons (sm_goto rfl B.1 dL_law_1277) ?_
                                      refine jlk_cons (sm_aload_n rfl B.1 dL_law_1280) ?_
                                      refine jlk_cons (sm_aload_n rfl B.1 dL_law_1281) ?_
                                      refine jlk_cons (sm_iload B.1 dL_law_1282) ?_
                                      refine jlk_cons (sm_iconst rfl B.1 dL_law_1284) ?_
                                      refine jlk_cons (sm_iadd B.1 dL_law_1285) ?_
                                      refine jlk_cons (sm_iald0 B.1 dL_law_1286) ?_
                                      refine jlk_cons (sm_aload_n rfl B.1 dL_law_1287) ?_
                                      refine jlk_cons (sm_iload B.1 dL_law_1288) ?_
                                      refine jlk_cons (sm_iconst rfl B.1 dL_law_1290) ?_
                                      refine jlk_cons (sm_iadd B.1 dL_law_1291) ?_
                                      refine jlk_cons (sm_iald0 B.1 dL_law_1292) ?_
                                      refine jlk_cons (sm_aload_n rfl B.1 dL_law_1293) ?_
                                      exact jlk_nil
                                    · skip
                                      refine jlk_app ?_ ?_
                                      · refine jlk_cons (sm_cSW (x := yX0_areUnified) (r9 := kr_6) (host := "") (owner := "") isSI (i_X0_areUnified hI) B q2792 q2793 w4_X0_areUnified w6_X0_areUnified (by decide) hy_X0_areUnified hl_X0_areUnified dL_law_1294 trivial) ?_
                                        refine jlk_cons (sm_istore B.1 dL_law_1297) ?_
                                        refine jlk_cons (sm_aload_n rfl B.1 dL_law_1299) ?_
                                        refine jlk_cons (sm_aload_n rfl B.1 dL_law_1300) ?_
                                        refine jlk_cons (sm_iload B.1 dL_law_1301) ?_
                                        refine jlk_cons (sm_iconst rfl B.1 dL_law_1303) ?_
                                        refine jlk_cons (sm_iadd B.1 dL_law_1304) ?_
                                        refine jlk_cons (sm_iald0 B.1 dL_law_1305) ?_
                                        refine jlk_cons (sm_aload_n rfl B.1 dL_law_1306) ?_
                                        refine jlk_cons (sm_iload B.1 dL_law_1307) ?_
                                        refine jlk_cons (sm_iconst rfl B.1 dL_law_1309) ?_
                                        refine jlk_cons (sm_iadd B.1 dL_law_1310) ?_
                                        refine jlk_cons (sm_iald0 B.1 dL_law_1311) ?_
                                        refine jlk_cons (sm_cV (x := yX4_areUnified) (host := "") (owner := "") isRI (i_X4_areUnified hI) B q3335 q3336 q3337 w4_X4_areUnified w6_X4_areUnified (by decide) (by decide) (by decide) kc_4 hy_X4_areUnified hl_X4_areUnified dL_law_1312 trivial) ?_
                                        refine jlk_cons (sm_istore B.1 dL_law_1315) ?_
                                        refine jlk_cons (sm_aload_n rfl B.1 dL_law_1317) ?_
                                        refine jlk_cons (sm_cV (x := yX4_thrown) (host := "") (owner := "") isRI (i_X4_thrown hI) B q3032 q3033 q3034 w4_X4_thrown w6_X4_thrown (by decide) (by decide) (by decide) kc_4 hy_X4_thrown hl_X4_thrown dL_law_1318 trivial) ?_
                                        refine jlk_cons (sm_iload B.1 dL_law_1321) ?_
                                        refine jlk_cons (sm_icmpeq rfl B.1 dL_law_1323) ?_
                                        refine jlk_cons (sm_iconst rfl B.1 dL_law_1326) ?_
                                        refine jlk_cons (sm_zret B.1 B.2.1 hret dL_law_1327) ?_
                                        refine jlk_cons (sm_iload B.1 dL_law_1328) ?_
                                        refine jlk_cons (sm_ifne rfl B.1 dL_law_1330) ?_
                                        refine jlk_cons (sm_aload_n rfl B.1 dL_law_1333) ?_
                                        refine jlk_cons (sm_iconst rfl B.1 dL_law_1334) ?_
                                        refine jlk_cons (sm_lald B.1 dL_law_1335) ?_
                                        refine jlk_cons (sm_iload B.1 dL_law_1336) ?_
                                        refine jlk_cons (sm_ifeq rfl B.1 dL_law_1338) ?_
                                        refine jlk_cons (sm_lconst rfl B.1 dL_law_1341) ?_
                                        refine jlk_cons (sm_goto rfl B.1 dL_law_1342) ?_
                                        refine jlk_cons (sm_lconst rfl B.1 dL_law_1345) ?_
                                        refine jlk_cons (sm_lcmp B.1 dL_law_1346) ?_
                                        refine jlk_cons (sm_ifeq rfl B.1 dL_law_1347) ?_
                                        refine jlk_cons (sm_iconst rfl B.1 dL_law_1350) ?_
                                        refine jlk_cons (sm_zret B.1 B.2.1 hret dL_law_1351) ?_
                                        refine jlk_cons (sm_goto rfl B.1 dL_law_1352) ?_
                                        refine jlk_cons (sm_aload_n rfl B.1 dL_law_1355) ?_
                                        refine jlk_cons (sm_cV (x := yX1_unifiedClasses) (host := "") (owner := "") isRI (i_X1_unifiedClasses hI) B q2200 q2201 q2202 w4_X1_unifiedClasses w6_X1_unifiedClasses (by decide) (by decide) (by decide) kc_1 hy_X1_unifiedClasses hl_X1_unifiedClasses dL_law_1356 trivial) ?_
                                        refine jlk_cons (sm_aload_n rfl B.1 dL_law_1359) ?_
                                        refine jlk_cons (sm_cV (x := yX4_unifiedClasses) (host := "") (owner := "") isRI (i_X4_unifiedClasses hI) B q3339 q3340 q3341 w4_X4_unifiedClasses w6_X4_unifiedClasses (by decide) (by decide) (by decide) kc_4 hy_X4_unifiedClasses hl_X4_unifiedClasses dL_law_1360 trivial) ?_
                                        exact jlk_nil
                                      · skip
                                        refine jlk_app ?_ ?_
                                        · refine jlk_cons (sm_icmpeq rfl B.1 dL_law_1363) ?_
                                          refine jlk_cons (sm_iconst rfl B.1 dL_law_1366) ?_
                                          refine jlk_cons (sm_zret B.1 B.2.1 hret dL_law_1367) ?_
                                          refine jlk_cons (sm_aload_n rfl B.1 dL_law_1368) ?_
                                          refine jlk_cons (sm_aload_n rfl B.1 dL_law_1369) ?_
                                          refine jlk_cons (sm_iload B.1 dL_law_1370) ?_
                                          refine jlk_cons (sm_iconst rfl B.1 dL_law_1372) ?_
                                          refine jlk_cons (sm_iadd B.1 dL_law_1373) ?_
                                          refine jlk_cons (sm_iald0 B.1 dL_law_1374) ?_
                                          refine jlk_cons (sm_aload_n rfl B.1 dL_law_1375) ?_
                                          refine jlk_cons (sm_cSW (x := yX0_modifies) (r9 := kr_6) (host := "") (owner := "") isSI (i_X0_modifies hI) B q2800 q2801 w4_X0_modifies w6_X0_modifies (by decide) hy_X0_modifies hl_X0_modifies dL_law_1376 trivial) ?_
                                          refine jlk_cons (sm_istore B.1 dL_law_1379) ?_
                                          refine jlk_cons (sm_aload_n rfl B.1 dL_law_1381) ?_
                                          refine jlk_cons (sm_aload_n rfl B.1 dL_law_1382) ?_
                                          refine jlk_cons (sm_iload B.1 dL_law_1383) ?_
                                          refine jlk_cons (sm_iconst rfl B.1 dL_law_1385) ?_
                                          refine jlk_cons (sm_iadd B.1 dL_law_1386) ?_
                                          refine jlk_cons (sm_iald0 B.1 dL_law_1387) ?_
                                          refine jlk_cons (sm_cV (x := yX4_modifies) (host := "") (owner := "") isRL (i_X4_modifies hI) B q3343 q3344 q3345 w4_X4_modifies w6_X4_modifies (by decide) (by decide) (by decide) kc_4 hy_X4_modifies hl_X4_modifies dL_law_1388 trivial) ?_
                                          refine jlk_cons (sm_lstore B.1 dL_law_1391) ?_
                                          refine jlk_cons (sm_aload_n rfl B.1 dL_law_1393) ?_
                                          refine jlk_cons (sm_cV (x := yX4_thrown) (host := "") (owner := "") isRI (i_X4_thrown hI) B q3032 q3033 q3034 w4_X4_thrown w6_X4_thrown (by decide) (by decide) (by decide) kc_4 hy_X4_thrown hl_X4_thrown dL_law_1394 trivial) ?_
                                          refine jlk_cons (sm_iload B.1 dL_law_1397) ?_
                                          refine jlk_cons (sm_icmpeq rfl B.1 dL_law_1399) ?_
                                          refine jlk_cons (sm_iconst rfl B.1 dL_law_1402) ?_
                                          refine jlk_cons (sm_zret B.1 B.2.1 hret dL_law_1403) ?_
                                          refine jlk_cons (sm_iload B.1 dL_law_1404) ?_
                                          refine jlk_cons (sm_ifne rfl B.1 dL_law_1406) ?_
                                          refine jlk_cons (sm_aload_n rfl B.1 dL_law_1409) ?_
                                          refine jlk_cons (sm_iconst rfl B.1 dL_law_1410) ?_
                                          refine jlk_cons (sm_lald B.1 dL_law_1411) ?_
                                          refine jlk_cons (sm_lload B.1 dL_law_1412) ?_
                                          refine jlk_cons (sm_lcmp B.1 dL_law_1414) ?_
                                          refine jlk_cons (sm_ifeq rfl B.1 dL_law_1415) ?_
                                          refine jlk_cons (sm_iconst rfl B.1 dL_law_1418) ?_
                                          refine jlk_cons (sm_zret B.1 B.2.1 hret dL_law_1419) ?_
                                          refine jlk_cons (sm_goto rfl B.1 dL_law_1420) ?_
                                          refine jlk_cons (sm_aload_n rfl B.1 dL_law_1423) ?_
                                          refine jlk_cons (sm_aload_n rfl B.1 dL_law_1424) ?_
                                          refine jlk_cons (sm_iload B.1 dL_law_1425) ?_
                                          exact jlk_nil
                                        · skip
                                          refine jlk_app ?_ ?_
                                          · refine jlk_cons (sm_iconst rfl B.1 dL_law_1427) ?_
                                            refine jlk_cons (sm_iadd B.1 dL_law_1428) ?_
                                            refine jlk_cons (sm_iald0 B.1 dL_law_1429) ?_
                                            refine jlk_cons (sm_aload_n rfl B.1 dL_law_1430) ?_
                                            refine jlk_cons (sm_cSW (x := yX0_isReachable) (r9 := kr_6) (host := "") (owner := "") isSI (i_X0_isReachable hI) B q2809 q2810 w4_X0_isReachable w6_X0_isReachable (by decide) hy_X0_isReachable hl_X0_isReachable dL_law_1431 trivial) ?_
                                            refine jlk_cons (sm_istore B.1 dL_law_1434) ?_
                                            refine jlk_cons (sm_aload_n rfl B.1 dL_law_1436) ?_
                                            refine jlk_cons (sm_aload_n rfl B.1 dL_law_1437) ?_
                                            refine jlk_cons (sm_iload B.1 dL_law_1438) ?_
                                            refine jlk_cons (sm_iconst rfl B.1 dL_law_1440) ?_
                                            refine jlk_cons (sm_iadd B.1 dL_law_1441) ?_
                                            refine jlk_cons (sm_iald0 B.1 dL_law_1442) ?_
                                            refine jlk_cons (sm_cV (x := yX4_isReachable) (host := "") (owner := "") isRI (i_X4_isReachable hI) B q3351 q3352 q3353 w4_X4_isReachable w6_X4_isReachable (by decide) (by decide) (by decide) kc_4 hy_X4_isReachable hl_X4_isReachable dL_law_1443 trivial) ?_
                                            refine jlk_cons (sm_istore B.1 dL_law_1446) ?_
                                            refine jlk_cons (sm_aload_n rfl B.1 dL_law_1448) ?_
                                            refine jlk_cons (sm_cV (x := yX4_thrown) (host := "") (owner := "") isRI (i_X4_thrown hI) B q3032 q3033 q3034 w4_X4_thrown w6_X4_thrown (by decide) (by decide) (by decide) kc_4 hy_X4_thrown hl_X4_thrown dL_law_1449 trivial) ?_
                                            refine jlk_cons (sm_iload B.1 dL_law_1452) ?_
                                            refine jlk_cons (sm_icmpeq rfl B.1 dL_law_1454) ?_
                                            refine jlk_cons (sm_iconst rfl B.1 dL_law_1457) ?_
                                            refine jlk_cons (sm_zret B.1 B.2.1 hret dL_law_1458) ?_
                                            refine jlk_cons (sm_iload B.1 dL_law_1459) ?_
                                            refine jlk_cons (sm_ifne rfl B.1 dL_law_1461) ?_
                                            refine jlk_cons (sm_aload_n rfl B.1 dL_law_1464) ?_
                                            refine jlk_cons (sm_iconst rfl B.1 dL_law_1465) ?_
                                            refine jlk_cons (sm_lald B.1 dL_law_1466) ?_
                                            refine jlk_cons (sm_iload B.1 dL_law_1467) ?_
                                            refine jlk_cons (sm_ifeq rfl B.1 dL_law_1469) ?_
                                            refine jlk_cons (sm_lconst rfl B.1 dL_law_1472) ?_
                                            refine jlk_cons (sm_goto rfl B.1 dL_law_1473) ?_
                                            refine jlk_cons (sm_lconst rfl B.1 dL_law_1476) ?_
                                            refine jlk_cons (sm_lcmp B.1 dL_law_1477) ?_
                                            refine jlk_cons (sm_ifeq rfl B.1 dL_law_1478) ?_
                                            refine jlk_cons (sm_iconst rfl B.1 dL_law_1481) ?_
                                            refine jlk_cons (sm_zret B.1 B.2.1 hret dL_law_1482) ?_
                                            refine jlk_cons (sm_goto rfl B.1 dL_law_1483) ?_
                                            refine jlk_cons (sm_aload_n rfl B.1 dL_law_1486) ?_
                                            refine jlk_cons (sm_aload_n rfl B.1 dL_law_1487) ?_
                                            refine jlk_cons (sm_iload B.1 dL_law_1488) ?_
                                            refine jlk_cons (sm_iconst rfl B.1 dL_law_1490) ?_
                                            refine jlk_cons (sm_iadd B.1 dL_law_1491) ?_
                                            exact jlk_nil
                                          · skip
                                            refine jlk_app ?_ ?_
                                            · refine jlk_cons (sm_iald0 B.1 dL_law_1492) ?_
                                              refine jlk_cons (sm_aload_n rfl B.1 dL_law_1493) ?_
                                              refine jlk_cons (sm_cSW (x := yX0_isRecursive) (r9 := kr_6) (host := "") (owner := "") isSI (i_X0_isRecursive hI) B q2816 q2817 w4_X0_isRecursive w6_X0_isRecursive (by decide) hy_X0_isRecursive hl_X0_isRecursive dL_law_1494 trivial) ?_
                                              refine jlk_cons (sm_istore B.1 dL_law_1497) ?_
                                              refine jlk_cons (sm_aload_n rfl B.1 dL_law_1499) ?_
                                              refine jlk_cons (sm_aload_n rfl B.1 dL_law_1500) ?_
                                              refine jlk_cons (sm_iload B.1 dL_law_1501) ?_
                                              refine jlk_cons (sm_iconst rfl B.1 dL_law_1503) ?_
                                              refine jlk_cons (sm_iadd B.1 dL_law_1504) ?_
                                              refine jlk_cons (sm_iald0 B.1 dL_law_1505) ?_
                                              refine jlk_cons (sm_cV (x := yX4_isRecursive) (host := "") (owner := "") isRI (i_X4_isRecursive hI) B q3355 q3356 q3357 w4_X4_isRecursive w6_X4_isRecursive (by decide) (by decide) (by decide) kc_4 hy_X4_isRecursive hl_X4_isRecursive dL_law_1506 trivial) ?_
                                              refine jlk_cons (sm_istore B.1 dL_law_1509) ?_
                                              refine jlk_cons (sm_aload_n rfl B.1 dL_law_1511) ?_
                                              refine jlk_cons (sm_cV (x := yX4_thrown) (host := "") (owner := "") isRI (i_X4_thrown hI) B q3032 q3033 q3034 w4_X4_thrown w6_X4_thrown (by decide) (by decide) (by decide) kc_4 hy_X4_thrown hl_X4_thrown dL_law_1512 trivial) ?_
                                              refine jlk_cons (sm_iload B.1 dL_law_1515) ?_
                                              refine jlk_cons (sm_icmpeq rfl B.1 dL_law_1517) ?_
                                              refine jlk_cons (sm_iconst rfl B.1 dL_law_1520) ?_
                                              refine jlk_cons (sm_zret B.1 B.2.1 hret dL_law_1521) ?_
                                              refine jlk_cons (sm_iload B.1 dL_law_1522) ?_
                                              refine jlk_cons (sm_ifne rfl B.1 dL_law_1524) ?_
                                              refine jlk_cons (sm_aload_n rfl B.1 dL_law_1527) ?_
                                              refine jlk_cons (sm_iconst rfl B.1 dL_law_1528) ?_
                                              refine jlk_cons (sm_lald B.1 dL_law_1529) ?_
                                              refine jlk_cons (sm_iload B.1 dL_law_1530) ?_
                                              refine jlk_cons (sm_ifeq rfl B.1 dL_law_1532) ?_
                                              refine jlk_cons (sm_lconst rfl B.1 dL_law_1535) ?_
                                              refine jlk_cons (sm_goto rfl B.1 dL_law_1536) ?_
                                              refine jlk_cons (sm_lconst rfl B.1 dL_law_1539) ?_
                                              refine jlk_cons (sm_lcmp B.1 dL_law_1540) ?_
                                              refine jlk_cons (sm_ifeq rfl B.1 dL_law_1541) ?_
                                              refine jlk_cons (sm_iconst rfl B.1 dL_law_1544) ?_
                                              refine jlk_cons (sm_zret B.1 B.2.1 hret dL_law_1545) ?_
                                              refine jlk_cons (sm_goto rfl B.1 dL_law_1546) ?_
                                              refine jlk_cons (sm_aload_n rfl B.1 dL_law_1549) ?_
                                              refine jlk_cons (sm_aload_n rfl B.1 dL_law_1550) ?_
                                              refine jlk_cons (sm_iload B.1 dL_law_1551) ?_
                                              refine jlk_cons (sm_iconst rfl B.1 dL_law_1553) ?_
                                              refine jlk_cons (sm_iadd B.1 dL_law_1554) ?_
                                              refine jlk_cons (sm_iald0 B.1 dL_law_1555) ?_
                                              refine jlk_cons (sm_aload_n rfl B.1 dL_law_1556) ?_
                                              exact jlk_nil
                                            · skip
                                              refine jlk_app ?_ ?_
                                              · refine jlk_cons (sm_cSW (x := yX0_cycleOf) (r9 := kr_6) (host := "") (owner := "") isSI (i_X0_cycleOf hI) B q2823 q2824 w4_X0_cycleOf w6_X0_cycleOf (by decide) hy_X0_cycleOf hl_X0_cycleOf dL_law_1557 trivial) ?_
                                                refine jlk_cons (sm_istore B.1 dL_law_1560) ?_
                                                refine jlk_cons (sm_aload_n rfl B.1 dL_law_1562) ?_
                                                refine jlk_cons (sm_aload_n rfl B.1 dL_law_1563) ?_
                                                refine jlk_cons (sm_iload B.1 dL_law_1564) ?_
                                                refine jlk_cons (sm_iconst rfl B.1 dL_law_1566) ?_
                                                refine jlk_cons (sm_iadd B.1 dL_law_1567) ?_
                                                refine jlk_cons (sm_iald0 B.1 dL_law_1568) ?_
                                                refine jlk_cons (sm_cV (x := yX4_cycleOf) (host := "") (owner := "") isRI (i_X4_cycleOf hI) B q3359 q3360 q3361 w4_X4_cycleOf w6_X4_cycleOf (by decide) (by decide) (by decide) kc_4 hy_X4_cycleOf hl_X4_cycleOf dL_law_1569 trivial) ?_
                                                refine jlk_cons (sm_istore B.1 dL_law_1572) ?_
                                                refine jlk_cons (sm_aload_n rfl B.1 dL_law_1574) ?_
                                                refine jlk_cons (sm_cV (x := yX4_thrown) (host := "") (owner := "") isRI (i_X4_thrown hI) B q3032 q3033 q3034 w4_X4_thrown w6_X4_thrown (by decide) (by decide) (by decide) kc_4 hy_X4_thrown hl_X4_thrown dL_law_1575 trivial) ?_
                                                refine jlk_cons (sm_iload B.1 dL_law_1578) ?_
                                                refine jlk_cons (sm_icmpeq rfl B.1 dL_law_1580) ?_
                                                refine jlk_cons (sm_iconst rfl B.1 dL_law_1583) ?_
                                                refine jlk_cons (sm_zret B.1 B.2.1 hret dL_law_1584) ?_
                                                refine jlk_cons (sm_iload B.1 dL_law_1585) ?_
                                                refine jlk_cons (sm_ifne rfl B.1 dL_law_1587) ?_
                                                refine jlk_cons (sm_aload_n rfl B.1 dL_law_1590) ?_
                                                refine jlk_cons (sm_iconst rfl B.1 dL_law_1591) ?_
                                                refine jlk_cons (sm_lald B.1 dL_law_1592) ?_
                                                refine jlk_cons (sm_iload B.1 dL_law_1593) ?_
                                                refine jlk_cons (sm_i2l B.1 dL_law_1595) ?_
                                                refine jlk_cons (sm_lcmp B.1 dL_law_1596) ?_
                                                refine jlk_cons (sm_ifeq rfl B.1 dL_law_1597) ?_
                                                refine jlk_cons (sm_iconst rfl B.1 dL_law_1600) ?_
                                                refine jlk_cons (sm_zret B.1 B.2.1 hret dL_law_1601) ?_
                                                refine jlk_cons (sm_goto rfl B.1 dL_law_1602) ?_
                                                refine jlk_cons (sm_aload_n rfl B.1 dL_law_1605) ?_
                                                refine jlk_cons (sm_cV (x := yX1_run) (host := "") (owner := "") isRI (i_X1_run hI) B q2259 q2260 q2261 w4_X1_run w6_X1_run (by decide) (by decide) (by decide) kc_1 hy_X1_run hl_X1_run dL_law_1606 trivial) ?_
                                                refine jlk_cons (sm_aload_n rfl B.1 dL_law_1609) ?_
                                                refine jlk_cons (sm_cV (x := yX4_run) (host := "") (owner := "") isRI (i_X4_run hI) B q3370 q3371 q3372 w4_X4_run w6_X4_run (by decide) (by decide) (by decide) kc_4 hy_X4_run hl_X4_run dL_law_1610 trivial) ?_
                                                refine jlk_cons (sm_icmpeq rfl B.1 dL_law_1613) ?_
                                                refine jlk_cons (sm_iconst rfl B.1 dL_law_1616) ?_
                                                refine jlk_cons (sm_zret B.1 B.2.1 hret dL_law_1617) ?_
                                                refine jlk_cons (sm_aload_n rfl B.1 dL_law_1618) ?_
                                                refine jlk_cons (sm_aload_n rfl B.1 dL_law_1619) ?_
                                                refine jlk_cons (sm_iload B.1 dL_law_1620) ?_
                                                refine jlk_cons (sm_iconst rfl B.1 dL_law_1622) ?_
                                                refine jlk_cons (sm_iadd B.1 dL_law_1623) ?_
                                                exact jlk_nil
                                              · skip
                                                refine jlk_app ?_ ?_
                                                · refine jlk_cons (sm_iald0 B.1 dL_law_1624) ?_
                                                  refine jlk_cons (sm_aload_n rfl B.1 dL_law_1625) ?_
                                                  refine jlk_cons (sm_cSW (x := yX0_observed) (r9 := kr_6) (host := "") (owner := "") isSI (i_X0_observed hI) B q2836 q2837 w4_X0_observed w6_X0_observed (by decide) hy_X0_observed hl_X0_observed dL_law_1626 trivial) ?_
                                                  refine jlk_cons (sm_istore B.1 dL_law_1629) ?_
                                                  refine jlk_cons (sm_aload_n rfl B.1 dL_law_1631) ?_
                                                  refine jlk_cons (sm_aload_n rfl B.1 dL_law_1632) ?_
                                                  refine jlk_cons (sm_iload B.1 dL_law_1633) ?_
                                                  refine jlk_cons (sm_iconst rfl B.1 dL_law_1635) ?_
                                                  refine jlk_cons (sm_iadd B.1 dL_law_1636) ?_
                                                  refine jlk_cons (sm_iald0 B.1 dL_law_1637) ?_
                                                  refine jlk_cons (sm_cV (x := yX4_observed) (host := "") (owner := "") isRL (i_X4_observed hI) B q3402 q3403 q3404 w4_X4_observed w6_X4_observed (by decide) (by decide) (by decide) kc_4 hy_X4_observed hl_X4_observed dL_law_1638 trivial) ?_
                                                  refine jlk_cons (sm_lstore B.1 dL_law_1641) ?_
                                                  refine jlk_cons (sm_aload_n rfl B.1 dL_law_1643) ?_
                                                  refine jlk_cons (sm_cV (x := yX4_thrown) (host := "") (owner := "") isRI (i_X4_thrown hI) B q3032 q3033 q3034 w4_X4_thrown w6_X4_thrown (by decide) (by decide) (by decide) kc_4 hy_X4_thrown hl_X4_thrown dL_law_1644 trivial) ?_
                                                  refine jlk_cons (sm_iload B.1 dL_law_1647) ?_
                                                  refine jlk_cons (sm_icmpeq rfl B.1 dL_law_1649) ?_
                                                  refine jlk_cons (sm_iconst rfl B.1 dL_law_1652) ?_
                                                  refine jlk_cons (sm_zret B.1 B.2.1 hret dL_law_1653) ?_
                                                  refine jlk_cons (sm_iload B.1 dL_law_1654) ?_
                                                  refine jlk_cons (sm_ifne rfl B.1 dL_law_1656) ?_
                                                  refine jlk_cons (sm_aload_n rfl B.1 dL_law_1659) ?_
                                                  refine jlk_cons (sm_iconst rfl B.1 dL_law_1660) ?_
                                                  refine jlk_cons (sm_lald B.1 dL_law_1661) ?_
                                                  refine jlk_cons (sm_lload B.1 dL_law_1662) ?_
                                                  refine jlk_cons (sm_lcmp B.1 dL_law_1664) ?_
                                                  refine jlk_cons (sm_ifeq rfl B.1 dL_law_1665) ?_
                                                  refine jlk_cons (sm_iconst rfl B.1 dL_law_1668) ?_
                                                  refine jlk_cons (sm_zret B.1 B.2.1 hret dL_law_1669) ?_
                                                  refine jlk_cons (sm_goto rfl B.1 dL_law_1670) ?_
                                                  refine jlk_cons (sm_aload_n rfl B.1 dL_law_1673) ?_
                                                  refine jlk_cons (sm_aload_n rfl B.1 dL_law_1674) ?_
                                                  refine jlk_cons (sm_iload B.1 dL_law_1675) ?_
                                                  refine jlk_cons (sm_iconst rfl B.1 dL_law_1677) ?_
                                                  refine jlk_cons (sm_iadd B.1 dL_law_1678) ?_
                                                  refine jlk_cons (sm_iald0 B.1 dL_law_1679) ?_
                                                  refine jlk_cons (sm_aload_n rfl B.1 dL_law_1680) ?_
                                                  refine jlk_cons (sm_iload B.1 dL_law_1681) ?_
                                                  refine jlk_cons (sm_iconst rfl B.1 dL_law_1683) ?_
                                                  refine jlk_cons (sm_iadd B.1 dL_law_1684) ?_
                                                  refine jlk_cons (sm_iald0 B.1 dL_law_1685) ?_
                                                  exact jlk_nil
                                                · skip
                                                  refine jlk_app ?_ ?_
                                                  · refine jlk_cons (sm_aload_n rfl B.1 dL_law_1686) ?_
                                                    refine jlk_cons (sm_cSW (x := yX0_fieldObserved) (r9 := kr_6) (host := "") (owner := "") isSI (i_X0_fieldObserved hI) B q2843 q2844 w4_X0_fieldObserved w6_X0_fieldObserved (by decide) hy_X0_fieldObserved hl_X0_fieldObserved dL_law_1687 trivial) ?_
                                                    refine jlk_cons (sm_istore B.1 dL_law_1690) ?_
                                                    refine jlk_cons (sm_aload_n rfl B.1 dL_law_1692) ?_
                                                    refine jlk_cons (sm_aload_n rfl B.1 dL_law_1693) ?_
                                                    refine jlk_cons (sm_iload B.1 dL_law_1694) ?_
                                                    refine jlk_cons (sm_iconst rfl B.1 dL_law_1696) ?_
                                                    refine jlk_cons (sm_iadd B.1 dL_law_1697) ?_
                                                    refine jlk_cons (sm_iald0 B.1 dL_law_1698) ?_
                                                    refine jlk_cons (sm_aload_n rfl B.1 dL_law_1699) ?_
                                                    refine jlk_cons (sm_iload B.1 dL_law_1700) ?_
                                                    refine jlk_cons (sm_iconst rfl B.1 dL_law_1702) ?_
                                                    refine jlk_cons (sm_iadd B.1 dL_law_1703) ?_
                                                    refine jlk_cons (sm_iald0 B.1 dL_law_1704) ?_
                                                    refine jlk_cons (sm_cV (x := yX4_fieldObserved) (host := "") (owner := "") isRL (i_X4_fieldObserved hI) B q3406 q3407 q3408 w4_X4_fieldObserved w6_X4_fieldObserved (by decide) (by decide) (by decide) kc_4 hy_X4_fieldObserved hl_X4_fieldObserved dL_law_1705 trivial) ?_
                                                    refine jlk_cons (sm_lstore B.1 dL_law_1708) ?_
                                                    refine jlk_cons (sm_aload_n rfl B.1 dL_law_1710) ?_
                                                    refine jlk_cons (sm_cV (x := yX4_thrown) (host := "") (owner := "") isRI (i_X4_thrown hI) B q3032 q3033 q3034 w4_X4_thrown w6_X4_thrown (by decide) (by decide) (by decide) kc_4 hy_X4_thrown hl_X4_thrown dL_law_1711 trivial) ?_
                                                    refine jlk_cons (sm_iload B.1 dL_law_1714) ?_
                                                    refine jlk_cons (sm_icmpeq rfl B.1 dL_law_1716) ?_
                                                    refine jlk_cons (sm_iconst rfl B.1 dL_law_1719) ?_
                                                    refine jlk_cons (sm_zret B.1 B.2.1 hret dL_law_1720) ?_
                                                    refine jlk_cons (sm_iload B.1 dL_law_1721) ?_
                                                    refine jlk_cons (sm_ifne rfl B.1 dL_law_1723) ?_
                                                    refine jlk_cons (sm_aload_n rfl B.1 dL_law_1726) ?_
                                                    refine jlk_cons (sm_iconst rfl B.1 dL_law_1727) ?_
                                                    refine jlk_cons (sm_lald B.1 dL_law_1728) ?_
                                                    refine jlk_cons (sm_lload B.1 dL_law_1729) ?_
                                                    refine jlk_cons (sm_lcmp B.1 dL_law_1731) ?_
                                                    refine jlk_cons (sm_ifeq rfl B.1 dL_law_1732) ?_
                                                    refine jlk_cons (sm_iconst rfl B.1 dL_law_1735) ?_
                                                    refine jlk_cons (sm_zret B.1 B.2.1 hret dL_law_1736) ?_
                                                    refine jlk_cons (sm_goto rfl B.1 dL_law_1737) ?_
                                                    refine jlk_cons (sm_aload_n rfl B.1 dL_law_1740) ?_
                                                    refine jlk_cons (sm_cV (x := yX1_faults) (host := "") (owner := "") isRI (i_X1_faults hI) B q2378 q2379 q2380 w4_X1_faults w6_X1_faults (by decide) (by decide) (by decide) kc_1 hy_X1_faults hl_X1_faults dL_law_1741 trivial) ?_
                                                    refine jlk_cons (sm_aload_n rfl B.1 dL_law_1744) ?_
                                                    refine jlk_cons (sm_cV (x := yX4_faults) (host := "") (owner := "") isRI (i_X4_faults hI) B q3410 q3411 q3412 w4_X4_faults w6_X4_faults (by decide) (by decide) (by decide) kc_4 hy_X4_faults hl_X4_faults dL_law_1745 trivial) ?_
                                                    refine jlk_cons (sm_icmpeq rfl B.1 dL_law_1748) ?_
                                                    refine jlk_cons (sm_iconst rfl B.1 dL_law_1751) ?_
                                                    refine jlk_cons (sm_zret B.1 B.2.1 hret dL_law_1752) ?_
                                                    exact jlk_nil
                                                  · skip
                                                    refine jlk_app ?_ ?_
                                                    · refine jlk_cons (sm_aload_n rfl B.1 dL_law_1753) ?_
                                                      refine jlk_cons (sm_cV (x := yX1_objects) (host := "") (owner := "") isRI (i_X1_objects hI) B q2382 q2383 q2384 w4_X1_objects w6_X1_objects (by decide) (by decide) (by decide) kc_1 hy_X1_objects hl_X1_objects dL_law_1754 trivial) ?_
                                                      refine jlk_cons (sm_aload_n rfl B.1 dL_law_1757) ?_
                                                      refine jlk_cons (sm_cV (x := yX4_objects) (host := "") (owner := "") isRI (i_X4_objects hI) B q3414 q3415 q3416 w4_X4_objects w6_X4_objects (by decide) (by decide) (by decide) kc_4 hy_X4_objects hl_X4_objects dL_law_1758 trivial) ?_
                                                      refine jlk_cons (sm_icmpeq rfl B.1 dL_law_1761) ?_
                                                      refine jlk_cons (sm_iconst rfl B.1 dL_law_1764) ?_
                                                      refine jlk_cons (sm_zret B.1 B.2.1 hret dL_law_1765) ?_
                                                      refine jlk_cons (sm_aload_n rfl B.1 dL_law_1766) ?_
                                                      refine jlk_cons (sm_aload B.1 dL_law_1767) ?_
                                                      refine jlk_cons (sm_cSW (x := yX0_precision) (r9 := kr_6) (host := "") (owner := "") isSI (i_X0_precision hI) B q2850 q2851 w4_X0_precision w6_X0_precision (by decide) hy_X0_precision hl_X0_precision dL_law_1769 trivial) ?_
                                                      refine jlk_cons (sm_istore B.1 dL_law_1772) ?_
                                                      refine jlk_cons (sm_aload_n rfl B.1 dL_law_1774) ?_
                                                      refine jlk_cons (sm_cV (x := yX4_precision) (host := "") (owner := "") isRD (i_X4_precision hI) B q3418 q3419 q3420 w4_X4_precision w6_X4_precision (by decide) (by decide) (by decide) kc_4 hy_X4_precision hl_X4_precision dL_law_1775 trivial) ?_
                                                      refine jlk_cons (sm_dstore B.1 dL_law_1778) ?_
                                                      refine jlk_cons (sm_aload_n rfl B.1 dL_law_1780) ?_
                                                      refine jlk_cons (sm_cV (x := yX4_thrown) (host := "") (owner := "") isRI (i_X4_thrown hI) B q3032 q3033 q3034 w4_X4_thrown w6_X4_thrown (by decide) (by decide) (by decide) kc_4 hy_X4_thrown hl_X4_thrown dL_law_1781 trivial) ?_
                                                      refine jlk_cons (sm_iload B.1 dL_law_1784) ?_
                                                      refine jlk_cons (sm_icmpeq rfl B.1 dL_law_1786) ?_
                                                      refine jlk_cons (sm_iconst rfl B.1 dL_law_1789) ?_
                                                      refine jlk_cons (sm_zret B.1 B.2.1 hret dL_law_1790) ?_
                                                      refine jlk_cons (sm_iload B.1 dL_law_1791) ?_
                                                      refine jlk_cons (sm_ifne rfl B.1 dL_law_1793) ?_
                                                      refine jlk_cons (sm_aload B.1 dL_law_1796) ?_
                                                      refine jlk_cons (sm_iconst rfl B.1 dL_law_1798) ?_
                                                      refine jlk_cons (sm_dald B.1 dL_law_1799) ?_
                                                      refine jlk_cons (sm_dload B.1 dL_law_1800) ?_
                                                      refine jlk_cons (sm_dcmp B.1 dL_law_1802) ?_
                                                      refine jlk_cons (sm_ifeq rfl B.1 dL_law_1803) ?_
                                                      refine jlk_cons (sm_aload B.1 dL_law_1806) ?_
                                                      refine jlk_cons (sm_iconst rfl B.1 dL_law_1808) ?_
                                                      refine jlk_cons (sm_dald B.1 dL_law_1809) ?_
                                                      refine jlk_cons (sm_aload B.1 dL_law_1810) ?_
                                                      refine jlk_cons (sm_iconst rfl B.1 dL_law_1812) ?_
                                                      refine jlk_cons (sm_dald B.1 dL_law_1813) ?_
                                                      refine jlk_cons (sm_dcmp B.1 dL_law_1814) ?_
                                                      refine jlk_cons (sm_ifeq rfl B.1 dL_law_1815) ?_
                                                      refine jlk_cons (sm_dload B.1 dL_law_1818) ?_
                                                      refine jlk_cons (sm_dload B.1 dL_law_1820) ?_
                                                      refine jlk_cons (sm_dcmp B.1 dL_law_1822) ?_
                                                      refine jlk_cons (sm_ifne rfl B.1 dL_law_1823) ?_
                                                      exact jlk_nil
                                                    · skip
                                                      refine jlk_app ?_ ?_
                                                      · refine jlk_cons (sm_iconst rfl B.1 dL_law_1826) ?_
                                                        refine jlk_cons (sm_zret B.1 B.2.1 hret dL_law_1827) ?_
                                                        refine jlk_cons (sm_goto rfl B.1 dL_law_1828) ?_
                                                        refine jlk_cons (sm_aload_n rfl B.1 dL_law_1831) ?_
                                                        refine jlk_cons (sm_aload B.1 dL_law_1832) ?_
                                                        refine jlk_cons (sm_cSW (x := yX0_averageTargets) (r9 := kr_6) (host := "") (owner := "") isSI (i_X0_averageTargets hI) B q2877 q2878 w4_X0_averageTargets w6_X0_averageTargets (by decide) hy_X0_averageTargets hl_X0_averageTargets dL_law_1834 trivial) ?_
                                                        refine jlk_cons (sm_istore B.1 dL_law_1837) ?_
                                                        refine jlk_cons (sm_aload_n rfl B.1 dL_law_1839) ?_
                                                        refine jlk_cons (sm_cV (x := yX4_averageTargets) (host := "") (owner := "") isRF (i_X4_averageTargets hI) B q3422 q3423 q3424 w4_X4_averageTargets w6_X4_averageTargets (by decide) (by decide) (by decide) kc_4 hy_X4_averageTargets hl_X4_averageTargets dL_law_1840 trivial) ?_
                                                        refine jlk_cons (sm_fstore B.1 dL_law_1843) ?_
                                                        refine jlk_cons (sm_aload_n rfl B.1 dL_law_1845) ?_
                                                        refine jlk_cons (sm_cV (x := yX4_thrown) (host := "") (owner := "") isRI (i_X4_thrown hI) B q3032 q3033 q3034 w4_X4_thrown w6_X4_thrown (by decide) (by decide) (by decide) kc_4 hy_X4_thrown hl_X4_thrown dL_law_1846 trivial) ?_
                                                        refine jlk_cons (sm_iload B.1 dL_law_1849) ?_
                                                        refine jlk_cons (sm_icmpeq rfl B.1 dL_law_1851) ?_
                                                        refine jlk_cons (sm_iconst rfl B.1 dL_law_1854) ?_
                                                        refine jlk_cons (sm_zret B.1 B.2.1 hret dL_law_1855) ?_
                                                        refine jlk_cons (sm_iload B.1 dL_law_1856) ?_
                                                        refine jlk_cons (sm_ifne rfl B.1 dL_law_1858) ?_
                                                        refine jlk_cons (sm_aload B.1 dL_law_1861) ?_
                                                        refine jlk_cons (sm_iconst rfl B.1 dL_law_1863) ?_
                                                        refine jlk_cons (sm_dald B.1 dL_law_1864) ?_
                                                        refine jlk_cons (sm_fload B.1 dL_law_1865) ?_
                                                        refine jlk_cons (sm_f2d B.1 dL_law_1867) ?_
                                                        refine jlk_cons (sm_dcmp B.1 dL_law_1868) ?_
                                                        refine jlk_cons (sm_ifeq rfl B.1 dL_law_1869) ?_
                                                        refine jlk_cons (sm_aload B.1 dL_law_1872) ?_
                                                        refine jlk_cons (sm_iconst rfl B.1 dL_law_1874) ?_
                                                        refine jlk_cons (sm_dald B.1 dL_law_1875) ?_
                                                        refine jlk_cons (sm_aload B.1 dL_law_1876) ?_
                                                        refine jlk_cons (sm_iconst rfl B.1 dL_law_1878) ?_
                                                        refine jlk_cons (sm_dald B.1 dL_law_1879) ?_
                                                        refine jlk_cons (sm_dcmp B.1 dL_law_1880) ?_
                                                        refine jlk_cons (sm_ifeq rfl B.1 dL_law_1881) ?_
                                                        refine jlk_cons (sm_fload B.1 dL_law_1884) ?_
                                                        refine jlk_cons (sm_fload B.1 dL_law_1886) ?_
                                                        refine jlk_cons (sm_fcmp B.1 dL_law_1888) ?_
                                                        refine jlk_cons (sm_ifne rfl B.1 dL_law_1889) ?_
                                                        refine jlk_cons (sm_iconst rfl B.1 dL_law_1892) ?_
                                                        refine jlk_cons (sm_zret B.1 B.2.1 hret dL_law_1893) ?_
                                                        refine jlk_cons (sm_goto rfl B.1 dL_law_1894) ?_
                                                        exact jlk_nil
                                                      · skip
                                                        refine jlk_cons (sm_aload_n rfl B.1 dL_law_1897) ?_
                                                        refine jlk_cons (sm_cV (x := yX1_save) (host := "") (owner := "") isRV (i_X1_save hI) B q2386 q2387 q2388 w4_X1_save w6_X1_save (by decide) (by decide) (by decide) kc_1 hy_X1_save hl_X1_save dL_law_1898 trivial) ?_
                                                        refine jlk_cons (sm_aload_n rfl B.1 dL_law_1901) ?_
                                                        refine jlk_cons (sm_cV (x := yX4_save) (host := "") (owner := "") isRV (i_X4_save hI) B q3426 q3427 q3428 w4_X4_save w6_X4_save (by decide) (by decide) (by decide) kc_4 hy_X4_save hl_X4_save dL_law_1902 trivial) ?_
                                                        refine jlk_cons (sm_goto rfl B.1 dL_law_1905) ?_
                                                        refine jlk_cons (sm_aload_n rfl B.1 dL_law_1908) ?_
                                                        refine jlk_cons (sm_cSW (x := yX0_restore) (r9 := kr_6) (host := "") (owner := "") isSI (i_X0_restore hI) B q2884 q2885 w4_X0_restore w6_X0_restore (by decide) hy_X0_restore hl_X0_restore dL_law_1909 trivial) ?_
                                                        refine jlk_cons (sm_istore B.1 dL_law_1912) ?_
                                                        refine jlk_cons (sm_aload_n rfl B.1 dL_law_1914) ?_
                                                        refine jlk_cons (sm_cV (x := yX4_restore) (host := "") (owner := "") isRV (i_X4_restore hI) B q3438 q3439 q3440 w4_X4_restore w6_X4_restore (by decide) (by decide) (by decide) kc_4 hy_X4_restore hl_X4_restore dL_law_1915 trivial) ?_
                                                        refine jlk_cons (sm_aload_n rfl B.1 dL_law_1918) ?_
                                                        refine jlk_cons (sm_cV (x := yX4_thrown) (host := "") (owner := "") isRI (i_X4_thrown hI) B q3032 q3033 q3034 w4_X4_thrown w6_X4_thrown (by decide) (by decide) (by decide) kc_4 hy_X4_thrown hl_X4_thrown dL_law_1919 trivial) ?_
                                                        refine jlk_cons (sm_iload B.1 dL_law_1922) ?_
                                                        refine jlk_cons (sm_icmpeq rfl B.1 dL_law_1924) ?_
                                                        refine jlk_cons (sm_iconst rfl B.1 dL_law_1927) ?_
                                                        refine jlk_cons (sm_zret B.1 B.2.1 hret dL_law_1928) ?_
                                                        refine jlk_cons (sm_goto rfl B.1 dL_law_1929) ?_
                                                        refine jlk_cons (sm_iinc rfl B.1 dL_law_1932) ?_
                                                        refine jlk_cons (sm_goto rfl B.1 dL_law_1935) ?_
                                                        refine jlk_cons (sm_iconst rfl B.1 dL_law_1938) ?_
                                                        refine jlk_cons (sm_zret B.1 B.2.1 hret dL_law_1939) ?_
                                                        exact jlk_nil
end ROWS
