/-! ROWS OF THE SIMULATION (printed by an own program) -/
set_option maxRecDepth 100000
section ROWS
variable {l : Launch} {D : va_G} {dA : Nat → ClassId} {lo : Nat} {cs0 : Nat → Option Nat} {d : Nat}
theorem r_J4_init (hst : l.stackTraces = false) (hI : jIH l D dA lo cs0 d) : jRows l D dA lo cs0 d 1 (tb_J4_init (EV d)) yJ4_init cJ4_init (Option.none : Option Jvm.ClassFile.FieldType) [] := by
  intro p e R s m args below meth c z0 w0 zF wF Q rF hF B hz hw hret hnm
  refine jlk_cons (sm_aload_n rfl B.1 dJ4_init_0) ?_
  refine jlk_cons (sm_cI (x := yJ3_init) (r9 := kr_6) (host := "") (owner := "") isNV (i_J3_init hI) B q244 q245 w4_J3_init w6_J3_init (by decide) rfl hy_J3_init hl_J3_init dJ4_init_1 trivial) ?_
  refine jlk_cons (sm_aload_n rfl B.1 dJ4_init_4) ?_
  refine jlk_cons (sm_cstS B.1 (List.mem_of_getElem? (i := 0) rfl) q251 dJ4_init_5) ?_
  refine jlk_cons (sm_putP B.1 fl_java_util_ArrayList_9_21_124 tyJ4 tyJ4_ok nmJ4 (Or.inl rfl) rfl (tyJ4_ok 1 (by decide)) rfl (by decide) dJ4_init_8) ?_
  refine jlk_cons (sm_vret B.1 B.2.1 hret dJ4_init_11) ?_
  exact jlk_nil
theorem v_J4_init (hst : l.stackTraces = false) (hz : jEz (EV (d + 1))) (hI : jIH l D dA lo cs0 d) : jMe l D dA lo cs0 (EV (d + 1)) 81 yJ4_init (ws_ yJ4_init cJ4_init 1 (Option.none : Option Jvm.ClassFile.FieldType)) (d + 1) := z_meth hz rfl hp_J4_init (r_J4_init hst hI)
theorem r_J4_size (hst : l.stackTraces = false) (hI : jIH l D dA lo cs0 d) : jRows l D dA lo cs0 d 1 (tb_J4_size (EV d)) yJ4_size cJ4_size (Option.some Jvm.ClassFile.FieldType.int) [] := by
  intro p e R s m args below meth c z0 w0 zF wF Q rF hF B hz hw hret hnm
  refine jlk_cons (sm_aload_n rfl B.1 dJ4_size_0) ?_
  refine jlk_cons (sm_getI B.1 fl_java_util_ArrayList_48_21_125 dJ4_size_1) ?_
  refine jlk_cons (sm_iret B.1 B.2.1 hret dJ4_size_4) ?_
  exact jlk_nil
theorem v_J4_size (hst : l.stackTraces = false) (hz : jEz (EV (d + 1))) (hI : jIH l D dA lo cs0 d) : jMe l D dA lo cs0 (EV (d + 1)) 92 yJ4_size (ws_ yJ4_size cJ4_size 1 (Option.some Jvm.ClassFile.FieldType.int)) (d + 1) := z_meth hz rfl hp_J4_size (r_J4_size hst hI)
theorem r_J1_init (hst : l.stackTraces = false) (hI : jIH l D dA lo cs0 d) : jRows l D dA lo cs0 d 1 (tb_J1_init (EV d)) yJ1_init cJ1_init (Option.none : Option Jvm.ClassFile.FieldType) [] := by
  intro p e R s m args below meth c z0 w0 zF wF Q rF hF B hz hw hret hnm
  refine jlk_cons (sm_aload_n rfl B.1 dJ1_init_0) ?_
  refine jlk_cons (sm_cI (x := yJ0_init) (r9 := kr_6) (host := "") (owner := "") isNV (i_J0_init hI) B q209 q210 w4_J0_init w6_J0_init (by decide) rfl hy_J0_init hl_J0_init dJ1_init_1 trivial) ?_
  refine jlk_cons (sm_aload_n rfl B.1 dJ1_init_4) ?_
  refine jlk_cons (sm_iconst rfl B.1 dJ1_init_5) ?_
  refine jlk_cons (sm_putI B.1 fl_java_util_TreeMap_7_20_118 tyJ1 tyJ1_ok nmJ1 (Or.inl rfl) (tyJ1_ok 4 (by decide)) rfl (by decide) dJ1_init_6) ?_
  refine jlk_cons (sm_aload_n rfl B.1 dJ1_init_9) ?_
  refine jlk_cons (sm_iconst rfl B.1 dJ1_init_10) ?_
  refine jlk_cons (sm_putI B.1 fl_java_util_TreeMap_13_20_119 tyJ1 tyJ1_ok nmJ1 (Or.inl rfl) (tyJ1_ok 5 (by decide)) rfl (by decide) dJ1_init_11) ?_
  refine jlk_cons (sm_aload_n rfl B.1 dJ1_init_14) ?_
  refine jlk_cons (sm_null B.1 dJ1_init_15) ?_
  refine jlk_cons (sm_putP B.1 fl_java_util_TreeMap_16_20_116 tyJ1 tyJ1_ok nmJ1 (Or.inr ⟨rfl, hnm, rfl⟩) rfl (tyJ1_ok 2 (by decide)) rfl (by decide) dJ1_init_16) ?_
  refine jlk_cons (sm_vret B.1 B.2.1 hret dJ1_init_19) ?_
  exact jlk_nil
theorem v_J1_init (hst : l.stackTraces = false) (hz : jEz (EV (d + 1))) (hI : jIH l D dA lo cs0 d) : jMe l D dA lo cs0 (EV (d + 1)) 150 yJ1_init (ws_ yJ1_init cJ1_init 1 (Option.none : Option Jvm.ClassFile.FieldType)) (d + 1) := z_meth hz rfl hp_J1_init (r_J1_init hst hI)
theorem r_J6_valueOf (hst : l.stackTraces = false) (hI : jIH l D dA lo cs0 d) : jRows l D dA lo cs0 d 1 (tb_J6_valueOf (EV d)) yJ6_valueOf cJ6_valueOf (Option.some (Jvm.ClassFile.FieldType.object "java/lang/Integer")) [] := by
  intro p e R s m args below meth c z0 w0 zF wF Q rF hF B hz hw hret hnm
  refine jlk_cons (sm_iload_n rfl B.1 dJ6_valueOf_0) ?_
  refine jlk_cons (sm_bipush rfl B.1 dJ6_valueOf_1) ?_
  refine jlk_cons (sm_icmplt rfl B.1 dJ6_valueOf_3) ?_
  refine jlk_cons (sm_iload_n rfl B.1 dJ6_valueOf_6) ?_
  refine jlk_cons (sm_getsI B.1 (List.mem_of_getElem? (i := 0) rfl) q271 dJ6_valueOf_7) ?_
  refine jlk_cons (sm_icmpgt rfl B.1 dJ6_valueOf_10) ?_
  refine jlk_cons (sm_cstS B.1 (List.mem_of_getElem? (i := 10) rfl) q273 dJ6_valueOf_13) ?_
  refine jlk_cons (sm_iload_n rfl B.1 dJ6_valueOf_16) ?_
  refine jlk_cons (sm_sipush rfl B.1 dJ6_valueOf_17) ?_
  refine jlk_cons (sm_iadd B.1 dJ6_valueOf_20) ?_
  refine jlk_cons (sm_aald12 B.1 dJ6_valueOf_21) ?_
  refine jlk_cons (sm_aret B.1 B.2.1 hret (Or.inl ⟨_, rfl⟩) dJ6_valueOf_22) ?_
  refine jlk_cons (sm_new B.1 kc_22 (by decide) (by decide) in_J6 tyJ6 tyJ6_ok kd_22 q275 q276 q131 B.2.2.2 hz hw dJ6_valueOf_23) ?_
  refine jlk_cons (sm_dup B.1 dJ6_valueOf_26) ?_
  refine jlk_cons (sm_iload_n rfl B.1 dJ6_valueOf_27) ?_
  exact jlk_nil
theorem v_J6_valueOf (hst : l.stackTraces = false) (hz : jEz (EV (d + 1))) (hI : jIH l D dA lo cs0 d) : jMe l D dA lo cs0 (EV (d + 1)) 151 yJ6_valueOf (ws_ yJ6_valueOf cJ6_valueOf 1 (Option.some (Jvm.ClassFile.FieldType.object "java/lang/Integer"))) (d + 1) := z_meth hz rfl hp_J6_valueOf (r_J6_valueOf hst hI)
theorem r_J1_put (hst : l.stackTraces = false) (hI : jIH l D dA lo cs0 d) : jRows l D dA lo cs0 d 3 (tb_J1_put (EV d)) yJ1_put cJ1_put (Option.some (Jvm.ClassFile.FieldType.object "java/lang/Object")) [] := by
  intro p e R s m args below meth c z0 w0 zF wF Q rF hF B hz hw hret hnm
  refine jlk_cons (sm_aload_n rfl B.1 dJ1_put_0) ?_
  refine jlk_cons (sm_aload_n rfl B.1 dJ1_put_1) ?_
  refine jlk_cons (sm_aload_n rfl B.1 dJ1_put_2) ?_
  refine jlk_cons (sm_iconst rfl B.1 dJ1_put_3) ?_
  refine jlk_cons (sm_cV (x := yJ1_put_2) (host := "") (owner := "") isRP (i_J1_put_2 hI) B q292 q294 qs0 w4_J1_put_2 w6_J1_put_2 (by decide) (by decide) (by decide) kc_20 hy_J1_put_2 hl_J1_put_2 dJ1_put_4 trivial) ?_
  refine jlk_cons (sm_aret B.1 B.2.1 hret (Or.inl ⟨_, rfl⟩) dJ1_put_7) ?_
  exact jlk_nil
theorem v_J1_put (hst : l.stackTraces = false) (hz : jEz (EV (d + 1))) (hI : jIH l D dA lo cs0 d) : jMe l D dA lo cs0 (EV (d + 1)) 152 yJ1_put (ws_ yJ1_put cJ1_put 3 (Option.some (Jvm.ClassFile.FieldType.object "java/lang/Object"))) (d + 1) := z_meth hz rfl hp_J1_put (r_J1_put hst hI)
theorem r_J3_init (hst : l.stackTraces = false) (hI : jIH l D dA lo cs0 d) : jRows l D dA lo cs0 d 1 (tb_J3_init (EV d)) yJ3_init cJ3_init (Option.none : Option Jvm.ClassFile.FieldType) [] := by
  intro p e R s m args below meth c z0 w0 zF wF Q rF hF B hz hw hret hnm
  refine jlk_cons (sm_aload_n rfl B.1 dJ3_init_0) ?_
  refine jlk_cons (sm_cI (x := yJ2_init) (r9 := kr_6) (host := "") (owner := "") isNV (i_J2_init hI) B q247 q248 w4_J2_init w6_J2_init (by decide) rfl hy_J2_init hl_J2_init dJ3_init_1 trivial) ?_
  refine jlk_cons (sm_aload_n rfl B.1 dJ3_init_4) ?_
  refine jlk_cons (sm_iconst rfl B.1 dJ3_init_5) ?_
  refine jlk_cons (sm_putI B.1 fl_java_util_AbstractList_7_21_123 tyJ4 tyJ4_ok nmJ4 (Or.inl rfl) (tyJ4_ok 0 (by decide)) rfl (by decide) dJ3_init_6) ?_
  refine jlk_cons (sm_vret B.1 B.2.1 hret dJ3_init_9) ?_
  exact jlk_nil
theorem v_J3_init (hst : l.stackTraces = false) (hz : jEz (EV (d + 1))) (hI : jIH l D dA lo cs0 d) : jMe l D dA lo cs0 (EV (d + 1)) 153 yJ3_init (ws_ yJ3_init cJ3_init 1 (Option.none : Option Jvm.ClassFile.FieldType)) (d + 1) := z_meth hz rfl hp_J3_init (r_J3_init hst hI)
theorem r_J1_putAll (hst : l.stackTraces = false) (hI : jIH l D dA lo cs0 d) : jRows l D dA lo cs0 d 4 (tb_J1_putAll (EV d)) yJ1_putAll cJ1_putAll (Option.none : Option Jvm.ClassFile.FieldType) [((54 : Nat), (72 : Nat), (75 : Nat), (46 : Nat)), ((54 : Nat), (72 : Nat), (75 : Nat), (48 : Nat))] := by
  intro p e R s m args below meth c z0 w0 zF wF Q rF hF B hz hw hret hnm
  refine jlk_cons (sm_aload_n rfl B.1 dJ1_putAll_0) ?_
  refine jlk_cons (sm_cF (x := ⟨"java/util/Map", "size", "()I"⟩) (host := "") (owner := "") isRI (i_J1_size hI) B (List.mem_of_getElem? (i := 0) rfl) q730 q734 q736 w4_J1_size w6_J1_size (by decide) (by decide) (by decide) kc_20 (hl_J1_size : _) dJ1_putAll_1 trivial) ?_
  refine jlk_cons (sm_istore_n rfl B.1 dJ1_putAll_6) ?_
  refine jlk_cons (sm_aload_n rfl B.1 dJ1_putAll_7) ?_
  refine jlk_cons (sm_getI B.1 fl_java_util_TreeMap_7_20_118 dJ1_putAll_8) ?_
  refine jlk_cons (sm_ifne rfl B.1 dJ1_putAll_11) ?_
  refine jlk_cons (sm_iload_n rfl B.1 dJ1_putAll_14) ?_
  refine jlk_cons (sm_ifeq rfl B.1 dJ1_putAll_15) ?_
  refine jlk_cons (sm_aload_n rfl B.1 dJ1_putAll_18) ?_
  refine jlk_cons (sm_inst B.1 q739 (List.forall_mem_cons.mpr ⟨⟨by decide, by decide, _, kc_20, Or.inr q744⟩, (List.forall_mem_nil _)⟩) dJ1_putAll_19) ?_
  refine jlk_cons (sm_ifeq rfl B.1 dJ1_putAll_22) ?_
  refine jlk_cons (sm_aload_n rfl B.1 dJ1_putAll_25) ?_
  refine jlk_cons (sm_getP B.1 fl_java_util_TreeMap_16_20_116 dJ1_putAll_26) ?_
  refine jlk_cons (sm_aload_n rfl B.1 dJ1_putAll_29) ?_
  refine jlk_cons (sm_cast B.1 q739 (List.forall_mem_cons.mpr ⟨⟨by decide, by decide, _, kc_20, Or.inr q744⟩, (List.forall_mem_nil _)⟩) dJ1_putAll_30) ?_
  refine jlk_cons (sm_cF (x := ⟨"java/util/SortedMap", "comparator", "()Ljava/util/Comparator;"⟩) (host := "") (owner := "") isRP (i_J1_comparator hI) B (List.mem_of_getElem? (i := 1) rfl) q741 q745 q747 w4_J1_comparator w6_J1_comparator (by decide) (by decide) (by decide) kc_20 (hl_J1_comparator : _) dJ1_putAll_33 trivial) ?_
  refine jlk_cons (sm_cS (x := yJ16_equals) (r9 := kr_6) (host := "") (owner := "") isSI (i_J16_equals hI) B q750 q751 w4_J16_equals w6_J16_equals (by decide) hy_J16_equals hl_J16_equals dJ1_putAll_38 trivial) ?_
  refine jlk_cons (sm_ifeq rfl B.1 dJ1_putAll_41) ?_
  refine jlk_cons (sm_aload_n rfl B.1 dJ1_putAll_44) ?_
  refine jlk_cons (sm_dup B.1 dJ1_putAll_45) ?_
  refine jlk_cons (sm_getI B.1 fl_java_util_TreeMap_13_20_119 dJ1_putAll_46) ?_
  refine jlk_cons (sm_iconst rfl B.1 dJ1_putAll_49) ?_
  refine jlk_cons (sm_iadd B.1 dJ1_putAll_50) ?_
  refine jlk_cons (sm_putI B.1 fl_java_util_TreeMap_13_20_119 tyJ1 tyJ1_ok nmJ1 (Or.inl rfl) (tyJ1_ok 5 (by decide)) rfl (by decide) dJ1_putAll_51) ?_
  refine jlk_cons (sm_aload_n rfl B.1 dJ1_putAll_54) ?_
  refine jlk_cons (sm_iload_n rfl B.1 dJ1_putAll_55) ?_
  refine jlk_cons (sm_aload_n rfl B.1 dJ1_putAll_56) ?_
  refine jlk_cons (sm_cF (x := ⟨"java/util/Map", "entrySet", "()Ljava/util/Set;"⟩) (host := "") (owner := "") isRP (i_J1_entrySet hI) B (List.mem_of_getElem? (i := 2) rfl) q803 q806 q808 w4_J1_entrySet w6_J1_entrySet (by decide) (by decide) (by decide) kc_20 (hl_J1_entrySet : _) dJ1_putAll_57 trivial) ?_
  refine jlk_cons (sm_cF (x := ⟨"java/util/Set", "iterator", "()Ljava/util/Iterator;"⟩) (host := "") (owner := "") isRP (i_J18_iterator hI) B (List.mem_of_getElem? (i := 3) rfl) q825 q829 q831 w4_J18_iterator w6_J18_iterator (by decide) (by decide) (by decide) kc_25 (hl_J18_iterator : _) dJ1_putAll_62 trivial) ?_
  refine jlk_cons (sm_null B.1 dJ1_putAll_67) ?_
  refine jlk_cons (sm_null B.1 dJ1_putAll_68) ?_
  refine jlk_cons (sm_cV (x := yJ1_buildFromSorted) (host := "") (owner := "") isRV (i_J1_buildFromSorted hI) B q921 q923 qs6 w4_J1_buildFromSorted w6_J1_buildFromSorted (by decide) (by decide) (by decide) kc_20 hy_J1_buildFromSorted hl_J1_buildFromSorted dJ1_putAll_69 trivial) ?_
  refine jlk_cons (sm_goto rfl B.1 dJ1_putAll_72) ?_
  refine jlk_cons (sm_vret B.1 B.2.1 hret dJ1_putAll_76) ?_
  refine jlk_cons (sm_aload_n rfl B.1 dJ1_putAll_77) ?_
  refine jlk_cons (sm_aload_n rfl B.1 dJ1_putAll_78) ?_
  exact jlk_nil
theorem v_J1_putAll (hst : l.stackTraces = false) (hz : jEz (EV (d + 1))) (hI : jIH l D dA lo cs0 d) : jMe l D dA lo cs0 (EV (d + 1)) 154 yJ1_putAll (wsW_ yJ1_putAll cJ1_putAll 4 (Option.none : Option Jvm.ClassFile.FieldType) [((54 : Nat), (72 : Nat), (75 : Nat), (46 : Nat)), ((54 : Nat), (72 : Nat), (75 : Nat), (48 : Nat))]) (d + 1) := z_methW hz rfl hp_J1_putAll (r_J1_putAll hst hI)
theorem r_J1_get (hst : l.stackTraces = false) (hI : jIH l D dA lo cs0 d) : jRows l D dA lo cs0 d 3 (tb_J1_get (EV d)) yJ1_get cJ1_get (Option.some (Jvm.ClassFile.FieldType.object "java/lang/Object")) [] := by
  intro p e R s m args below meth c z0 w0 zF wF Q rF hF B hz hw hret hnm
  refine jlk_cons (sm_aload_n rfl B.1 dJ1_get_0) ?_
  refine jlk_cons (sm_aload_n rfl B.1 dJ1_get_1) ?_
  refine jlk_cons (sm_cV (x := yJ1_getEntry) (host := "") (owner := "") isRP (i_J1_getEntry hI) B q1136 q1137 q1138 w4_J1_getEntry w6_J1_getEntry (by decide) (by decide) (by decide) kc_20 hy_J1_getEntry hl_J1_getEntry dJ1_get_2 trivial) ?_
  refine jlk_cons (sm_astore_n rfl B.1 dJ1_get_5) ?_
  refine jlk_cons (sm_aload_n rfl B.1 dJ1_get_6) ?_
  refine jlk_cons (sm_ifnonnull rfl B.1 dJ1_get_7) ?_
  refine jlk_cons (sm_null B.1 dJ1_get_10) ?_
  refine jlk_cons (sm_goto rfl B.1 dJ1_get_11) ?_
  refine jlk_cons (sm_aload_n rfl B.1 dJ1_get_14) ?_
  refine jlk_cons (sm_getP B.1 fl_java_util_TreeMap_58_24_132 dJ1_get_15) ?_
  refine jlk_cons (sm_aret B.1 B.2.1 hret (Or.inl ⟨_, rfl⟩) dJ1_get_18) ?_
  exact jlk_nil
theorem v_J1_get (hst : l.stackTraces = false) (hz : jEz (EV (d + 1))) (hI : jIH l D dA lo cs0 d) : jMe l D dA lo cs0 (EV (d + 1)) 155 yJ1_get (ws_ yJ1_get cJ1_get 3 (Option.some (Jvm.ClassFile.FieldType.object "java/lang/Object"))) (d + 1) := z_meth hz rfl hp_J1_get (r_J1_get hst hI)
theorem r_J4_get (hst : l.stackTraces = false) (hI : jIH l D dA lo cs0 d) : jRows l D dA lo cs0 d 2 (tb_J4_get (EV d)) yJ4_get cJ4_get (Option.some (Jvm.ClassFile.FieldType.object "java/lang/Object")) [] := by
  intro p e R s m args below meth c z0 w0 zF wF Q rF hF B hz hw hret hnm
  refine jlk_cons (sm_iload_n rfl B.1 dJ4_get_0) ?_
  refine jlk_cons (sm_aload_n rfl B.1 dJ4_get_1) ?_
  refine jlk_cons (sm_getI B.1 fl_java_util_ArrayList_48_21_125 dJ4_get_2) ?_
  refine jlk_cons (sm_cS (x := yJ16_checkIndex) (r9 := kr_6) (host := "") (owner := "") isSI (i_J16_checkIndex hI) B q1152 q1153 w4_J16_checkIndex w6_J16_checkIndex (by decide) hy_J16_checkIndex hl_J16_checkIndex dJ4_get_5 trivial) ?_
  refine jlk_cons (sm_pop B.1 dJ4_get_8) ?_
  refine jlk_cons (sm_aload_n rfl B.1 dJ4_get_9) ?_
  refine jlk_cons (sm_iload_n rfl B.1 dJ4_get_10) ?_
  refine jlk_cons (sm_cV (x := yJ4_elementData) (host := "") (owner := "") isRP (i_J4_elementData hI) B q1158 q1159 q1160 w4_J4_elementData w6_J4_elementData (by decide) (by decide) (by decide) kc_21 hy_J4_elementData hl_J4_elementData dJ4_get_11 trivial) ?_
  refine jlk_cons (sm_aret B.1 B.2.1 hret (Or.inl ⟨_, rfl⟩) dJ4_get_14) ?_
  exact jlk_nil
theorem v_J4_get (hst : l.stackTraces = false) (hz : jEz (EV (d + 1))) (hI : jIH l D dA lo cs0 d) : jMe l D dA lo cs0 (EV (d + 1)) 156 yJ4_get (ws_ yJ4_get cJ4_get 2 (Option.some (Jvm.ClassFile.FieldType.object "java/lang/Object"))) (d + 1) := z_meth hz rfl hp_J4_get (r_J4_get hst hI)
theorem r_J4_add (hst : l.stackTraces = false) (hI : jIH l D dA lo cs0 d) : jRows l D dA lo cs0 d 2 (tb_J4_add (EV d)) yJ4_add cJ4_add (Option.some Jvm.ClassFile.FieldType.boolean) [] := by
  intro p e R s m args below meth c z0 w0 zF wF Q rF hF B hz hw hret hnm
  refine jlk_cons (sm_aload_n rfl B.1 dJ4_add_0) ?_
  refine jlk_cons (sm_dup B.1 dJ4_add_1) ?_
  refine jlk_cons (sm_getI B.1 (fl_java_util_ArrayList_63_21_123 B.1.2.2.2.1) dJ4_add_2) ?_
  refine jlk_cons (sm_iconst rfl B.1 dJ4_add_5) ?_
  refine jlk_cons (sm_iadd B.1 dJ4_add_6) ?_
  refine jlk_cons (sm_putI B.1 (fl_java_util_ArrayList_63_21_123 B.1.2.2.2.1) tyJ4 tyJ4_ok nmJ4 (Or.inl rfl) (tyJ4_ok 0 (by decide)) rfl (by decide) dJ4_add_7) ?_
  refine jlk_cons (sm_aload_n rfl B.1 dJ4_add_10) ?_
  refine jlk_cons (sm_aload_n rfl B.1 dJ4_add_11) ?_
  refine jlk_cons (sm_aload_n rfl B.1 dJ4_add_12) ?_
  refine jlk_cons (sm_getP B.1 fl_java_util_ArrayList_9_21_124 dJ4_add_13) ?_
  refine jlk_cons (sm_aload_n rfl B.1 dJ4_add_16) ?_
  refine jlk_cons (sm_getI B.1 fl_java_util_ArrayList_48_21_125 dJ4_add_17) ?_
  refine jlk_cons (sm_cV (x := yJ4_add_2) (host := "") (owner := "") isRV (i_J4_add_2 hI) B q1207 q1209 qs9 w4_J4_add_2 w6_J4_add_2 (by decide) (by decide) (by decide) kc_21 hy_J4_add_2 hl_J4_add_2 dJ4_add_20 trivial) ?_
  refine jlk_cons (sm_iconst rfl B.1 dJ4_add_23) ?_
  refine jlk_cons (sm_zret B.1 B.2.1 hret dJ4_add_24) ?_
  exact jlk_nil
theorem v_J4_add (hst : l.stackTraces = false) (hz : jEz (EV (d + 1))) (hI : jIH l D dA lo cs0 d) : jMe l D dA lo cs0 (EV (d + 1)) 158 yJ4_add (ws_ yJ4_add cJ4_add 2 (Option.some Jvm.ClassFile.FieldType.boolean)) (d + 1) := z_meth hz rfl hp_J4_add (r_J4_add hst hI)
theorem r_J28_ordinal (hst : l.stackTraces = false) (hI : jIH l D dA lo cs0 d) : jRows l D dA lo cs0 d 1 (tb_J28_ordinal (EV d)) yJ28_ordinal cJ28_ordinal (Option.some Jvm.ClassFile.FieldType.int) [] := by
  intro p e R s m args below meth c z0 w0 zF wF Q rF hF B hz hw hret hnm
  refine jlk_cons (sm_aload_n rfl B.1 dJ28_ordinal_0) ?_
  refine jlk_cons (sm_ord B.1 q3517 dJ28_ordinal_1) ?_
  refine jlk_cons (sm_iret B.1 B.2.1 hret dJ28_ordinal_4) ?_
  exact jlk_nil
theorem v_J28_ordinal (hst : l.stackTraces = false) (hz : jEz (EV (d + 1))) (hI : jIH l D dA lo cs0 d) : jMe l D dA lo cs0 (EV (d + 1)) 170 yJ28_ordinal (ws_ yJ28_ordinal cJ28_ordinal 1 (Option.some Jvm.ClassFile.FieldType.int)) (d + 1) := z_meth hz rfl hp_J28_ordinal (r_J28_ordinal hst hI)
theorem r_J40_cardinality (hst : l.stackTraces = false) (hI : jIH l D dA lo cs0 d) : jRows l D dA lo cs0 d 3 (tb_J40_cardinality (EV d)) yJ40_cardinality cJ40_cardinality (Option.some Jvm.ClassFile.FieldType.int) [] := by
  intro p e R s m args below meth c z0 w0 zF wF Q rF hF B hz hw hret hnm
  refine jlk_cons (sm_iconst rfl B.1 dJ40_cardinality_0) ?_
  refine jlk_cons (sm_istore_n rfl B.1 dJ40_cardinality_1) ?_
  refine jlk_cons (sm_iconst rfl B.1 dJ40_cardinality_2) ?_
  refine jlk_cons (sm_istore_n rfl B.1 dJ40_cardinality_3) ?_
  refine jlk_cons (sm_iload_n rfl B.1 dJ40_cardinality_4) ?_
  refine jlk_cons (sm_aload_n rfl B.1 dJ40_cardinality_5) ?_
  refine jlk_cons (sm_getI B.1 fl_java_util_BitSet_7_36_149 dJ40_cardinality_6) ?_
  refine jlk_cons (sm_icmpge rfl B.1 dJ40_cardinality_9) ?_
  refine jlk_cons (sm_iload_n rfl B.1 dJ40_cardinality_12) ?_
  refine jlk_cons (sm_aload_n rfl B.1 dJ40_cardinality_13) ?_
  refine jlk_cons (sm_getP B.1 fl_java_util_BitSet_11_36_148 dJ40_cardinality_14) ?_
  refine jlk_cons (sm_iload_n rfl B.1 dJ40_cardinality_17) ?_
  refine jlk_cons (sm_lald B.1 dJ40_cardinality_18) ?_
  refine jlk_cons (sm_cS (x := yJ12_bitCount) (r9 := kr_6) (host := "") (owner := "") isSI (i_J12_bitCount hI) B q627 q628 w4_J12_bitCount w6_J12_bitCount (by decide) hy_J12_bitCount hl_J12_bitCount dJ40_cardinality_19 trivial) ?_
  refine jlk_cons (sm_iadd B.1 dJ40_cardinality_22) ?_
  refine jlk_cons (sm_istore_n rfl B.1 dJ40_cardinality_23) ?_
  refine jlk_cons (sm_iinc rfl B.1 dJ40_cardinality_24) ?_
  refine jlk_cons (sm_goto rfl B.1 dJ40_cardinality_27) ?_
  refine jlk_cons (sm_iload_n rfl B.1 dJ40_cardinality_30) ?_
  refine jlk_cons (sm_iret B.1 B.2.1 hret dJ40_cardinality_31) ?_
  exact jlk_nil
theorem v_J40_cardinality (hst : l.stackTraces = false) (hz : jEz (EV (d + 1))) (hI : jIH l D dA lo cs0 d) : jMe l D dA lo cs0 (EV (d + 1)) 188 yJ40_cardinality (ws_ yJ40_cardinality cJ40_cardinality 3 (Option.some Jvm.ClassFile.FieldType.int)) (d + 1) := z_meth hz rfl hp_J40_cardinality (r_J40_cardinality hst hI)
theorem r_J12_numberOfTrailingZeros (hst : l.stackTraces = false) (hI : jIH l D dA lo cs0 d) : jRows l D dA lo cs0 d 3 (tb_J12_numberOfTrailingZeros (EV d)) yJ12_numberOfTrailingZeros cJ12_numberOfTrailingZeros (Option.some Jvm.ClassFile.FieldType.int) [] := by
  intro p e R s m args below meth c z0 w0 zF wF Q rF hF B hz hw hret hnm
  refine jlk_cons (sm_lload_n rfl B.1 dJ12_numberOfTrailingZeros_0) ?_
  refine jlk_cons (sm_l2i B.1 dJ12_numberOfTrailingZeros_1) ?_
  refine jlk_cons (sm_istore_n rfl B.1 dJ12_numberOfTrailingZeros_2) ?_
  refine jlk_cons (sm_iload_n rfl B.1 dJ12_numberOfTrailingZeros_3) ?_
  refine jlk_cons (sm_ifne rfl B.1 dJ12_numberOfTrailingZeros_4) ?_
  refine jlk_cons (sm_bipush rfl B.1 dJ12_numberOfTrailingZeros_7) ?_
  refine jlk_cons (sm_lload_n rfl B.1 dJ12_numberOfTrailingZeros_9) ?_
  refine jlk_cons (sm_bipush rfl B.1 dJ12_numberOfTrailingZeros_10) ?_
  refine jlk_cons (sm_lushr B.1 dJ12_numberOfTrailingZeros_12) ?_
  refine jlk_cons (sm_l2i B.1 dJ12_numberOfTrailingZeros_13) ?_
  refine jlk_cons (sm_cS (x := yJ6_numberOfTrailingZeros) (r9 := kr_6) (host := "") (owner := "") isSI (i_J6_numberOfTrailingZeros hI) B q503 q504 w4_J6_numberOfTrailingZeros w6_J6_numberOfTrailingZeros (by decide) hy_J6_numberOfTrailingZeros hl_J6_numberOfTrailingZeros dJ12_numberOfTrailingZeros_14 trivial) ?_
  refine jlk_cons (sm_iadd B.1 dJ12_numberOfTrailingZeros_17) ?_
  refine jlk_cons (sm_goto rfl B.1 dJ12_numberOfTrailingZeros_18) ?_
  refine jlk_cons (sm_iload_n rfl B.1 dJ12_numberOfTrailingZeros_21) ?_
  refine jlk_cons (sm_cS (x := yJ6_numberOfTrailingZeros) (r9 := kr_6) (host := "") (owner := "") isSI (i_J6_numberOfTrailingZeros hI) B q503 q504 w4_J6_numberOfTrailingZeros w6_J6_numberOfTrailingZeros (by decide) hy_J6_numberOfTrailingZeros hl_J6_numberOfTrailingZeros dJ12_numberOfTrailingZeros_22 trivial) ?_
  refine jlk_cons (sm_iret B.1 B.2.1 hret dJ12_numberOfTrailingZeros_25) ?_
  exact jlk_nil
theorem v_J12_numberOfTrailingZeros (hst : l.stackTraces = false) (hz : jEz (EV (d + 1))) (hI : jIH l D dA lo cs0 d) : jMe l D dA lo cs0 (EV (d + 1)) 189 yJ12_numberOfTrailingZeros (ws_ yJ12_numberOfTrailingZeros cJ12_numberOfTrailingZeros 3 (Option.some Jvm.ClassFile.FieldType.int)) (d + 1) := z_meth hz rfl hp_J12_numberOfTrailingZeros (r_J12_numberOfTrailingZeros hst hI)
theorem r_J12_bitCount (hst : l.stackTraces = false) (hI : jIH l D dA lo cs0 d) : jRows l D dA lo cs0 d 2 (tb_J12_bitCount (EV d)) yJ12_bitCount cJ12_bitCount (Option.some Jvm.ClassFile.FieldType.int) [] := by
  intro p e R s m args below meth c z0 w0 zF wF Q rF hF B hz hw hret hnm
  refine jlk_app ?_ ?_
  · refine jlk_cons (sm_lload_n rfl B.1 dJ12_bitCount_0) ?_
    refine jlk_cons (sm_lload_n rfl B.1 dJ12_bitCount_1) ?_
    refine jlk_cons (sm_iconst rfl B.1 dJ12_bitCount_2) ?_
    refine jlk_cons (sm_lushr B.1 dJ12_bitCount_3) ?_
    refine jlk_cons (sm_ldc2 q630 B.1 dJ12_bitCount_4) ?_
    refine jlk_cons (sm_land B.1 dJ12_bitCount_7) ?_
    refine jlk_cons (sm_lsub B.1 dJ12_bitCount_8) ?_
    refine jlk_cons (sm_lstore_n rfl B.1 dJ12_bitCount_9) ?_
    refine jlk_cons (sm_lload_n rfl B.1 dJ12_bitCount_10) ?_
    refine jlk_cons (sm_ldc2 q631 B.1 dJ12_bitCount_11) ?_
    refine jlk_cons (sm_land B.1 dJ12_bitCount_14) ?_
    refine jlk_cons (sm_lload_n rfl B.1 dJ12_bitCount_15) ?_
    refine jlk_cons (sm_iconst rfl B.1 dJ12_bitCount_16) ?_
    refine jlk_cons (sm_lushr B.1 dJ12_bitCount_17) ?_
    refine jlk_cons (sm_ldc2 q631 B.1 dJ12_bitCount_18) ?_
    refine jlk_cons (sm_land B.1 dJ12_bitCount_21) ?_
    refine jlk_cons (sm_ladd B.1 dJ12_bitCount_22) ?_
    refine jlk_cons (sm_lstore_n rfl B.1 dJ12_bitCount_23) ?_
    refine jlk_cons (sm_lload_n rfl B.1 dJ12_bitCount_24) ?_
    refine jlk_cons (sm_lload_n rfl B.1 dJ12_bitCount_25) ?_
    refine jlk_cons (sm_iconst rfl B.1 dJ12_bitCount_26) ?_
    refine jlk_cons (sm_lushr B.1 dJ12_bitCount_27) ?_
    refine jlk_cons (sm_ladd B.1 dJ12_bitCount_28) ?_
    refine jlk_cons (sm_ldc2 q632 B.1 dJ12_bitCount_29) ?_
    refine jlk_cons (sm_land B.1 dJ12_bitCount_32) ?_
    refine jlk_cons (sm_lstore_n rfl B.1 dJ12_bitCount_33) ?_
    refine jlk_cons (sm_lload_n rfl B.1 dJ12_bitCount_34) ?_
    refine jlk_cons (sm_lload_n rfl B.1 dJ12_bitCount_35) ?_
    refine jlk_cons (sm_bipush rfl B.1 dJ12_bitCount_36) ?_
    refine jlk_cons (sm_lushr B.1 dJ12_bitCount_38) ?_
    refine jlk_cons (sm_ladd B.1 dJ12_bitCount_39) ?_
    refine jlk_cons (sm_lstore_n rfl B.1 dJ12_bitCount_40) ?_
    refine jlk_cons (sm_lload_n rfl B.1 dJ12_bitCount_41) ?_
    refine jlk_cons (sm_lload_n rfl B.1 dJ12_bitCount_42) ?_
    refine jlk_cons (sm_bipush rfl B.1 dJ12_bitCount_43) ?_
    refine jlk_cons (sm_lushr B.1 dJ12_bitCount_45) ?_
    refine jlk_cons (sm_ladd B.1 dJ12_bitCount_46) ?_
    refine jlk_cons (sm_lstore_n rfl B.1 dJ12_bitCount_47) ?_
    refine jlk_cons (sm_lload_n rfl B.1 dJ12_bitCount_48) ?_
    refine jlk_cons (sm_lload_n rfl B.1 dJ12_bitCount_49) ?_
    exact jlk_nil
  · skip
    refine jlk_cons (sm_bipush rfl B.1 dJ12_bitCount_50) ?_
    refine jlk_cons (sm_lushr B.1 dJ12_bitCount_52) ?_
    refine jlk_cons (sm_ladd B.1 dJ12_bitCount_53) ?_
    refine jlk_cons (sm_lstore_n rfl B.1 dJ12_bitCount_54) ?_
    refine jlk_cons (sm_lload_n rfl B.1 dJ12_bitCount_55) ?_
    refine jlk_cons (sm_l2i B.1 dJ12_bitCount_56) ?_
    refine jlk_cons (sm_bipush rfl B.1 dJ12_bitCount_57) ?_
    refine jlk_cons (sm_iand B.1 dJ12_bitCount_59) ?_
    refine jlk_cons (sm_iret B.1 B.2.1 hret dJ12_bitCount_60) ?_
    exact jlk_nil
theorem v_J12_bitCount (hst : l.stackTraces = false) (hz : jEz (EV (d + 1))) (hI : jIH l D dA lo cs0 d) : jMe l D dA lo cs0 (EV (d + 1)) 209 yJ12_bitCount (ws_ yJ12_bitCount cJ12_bitCount 2 (Option.some Jvm.ClassFile.FieldType.int)) (d + 1) := z_meth hz rfl hp_J12_bitCount (r_J12_bitCount hst hI)
theorem r_J0_init (hst : l.stackTraces = false) (hI : jIH l D dA lo cs0 d) : jRows l D dA lo cs0 d 1 (tb_J0_init (EV d)) yJ0_init cJ0_init (Option.none : Option Jvm.ClassFile.FieldType) [] := by
  intro p e R s m args below meth c z0 w0 zF wF Q rF hF B hz hw hret hnm
  refine jlk_cons (sm_aload_n rfl B.1 dJ0_init_0) ?_
  refine jlk_cons (sm_obj B.1 q212 q196 q197 dJ0_init_1) ?_
  refine jlk_cons (sm_vret B.1 B.2.1 hret dJ0_init_4) ?_
  exact jlk_nil
theorem v_J0_init (hst : l.stackTraces = false) (hz : jEz (EV (d + 1))) (hI : jIH l D dA lo cs0 d) : jMe l D dA lo cs0 (EV (d + 1)) 211 yJ0_init (ws_ yJ0_init cJ0_init 1 (Option.none : Option Jvm.ClassFile.FieldType)) (d + 1) := z_meth hz rfl hp_J0_init (r_J0_init hst hI)
theorem r_J1_put_2 (hst : l.stackTraces = false) (hI : jIH l D dA lo cs0 d) : jRows l D dA lo cs0 d 10 (tb_J1_put_2 (EV d)) yJ1_put_2 cJ1_put_2 (Option.some (Jvm.ClassFile.FieldType.object "java/lang/Object")) [] := by
  intro p e R s m args below meth c z0 w0 zF wF Q rF hF B hz hw hret hnm
  refine jlk_app ?_ ?_
  · refine jlk_cons (sm_aload_n rfl B.1 dJ1_put_2_0) ?_
    refine jlk_cons (sm_getP B.1 fl_java_util_TreeMap_101_20_117 dJ1_put_2_1) ?_
    refine jlk_cons (sm_astore B.1 dJ1_put_2_4) ?_
    refine jlk_cons (sm_aload B.1 dJ1_put_2_6) ?_
    refine jlk_cons (sm_ifnonnull rfl B.1 dJ1_put_2_8) ?_
    refine jlk_cons (sm_aload_n rfl B.1 dJ1_put_2_11) ?_
    refine jlk_cons (sm_aload_n rfl B.1 dJ1_put_2_12) ?_
    refine jlk_cons (sm_aload_n rfl B.1 dJ1_put_2_13) ?_
    refine jlk_cons (sm_cV (x := yJ1_addEntryToEmptyMap) (host := "") (owner := "") isRV (i_J1_addEntryToEmptyMap hI) B q296 q298 qs1 w4_J1_addEntryToEmptyMap w6_J1_addEntryToEmptyMap (by decide) (by decide) (by decide) kc_20 hy_J1_addEntryToEmptyMap hl_J1_addEntryToEmptyMap dJ1_put_2_14 trivial) ?_
    refine jlk_cons (sm_null B.1 dJ1_put_2_17) ?_
    refine jlk_cons (sm_aret B.1 B.2.1 hret (Or.inl ⟨_, rfl⟩) dJ1_put_2_18) ?_
    refine jlk_cons (sm_aload_n rfl B.1 dJ1_put_2_19) ?_
    refine jlk_cons (sm_getP B.1 fl_java_util_TreeMap_16_20_116 dJ1_put_2_20) ?_
    refine jlk_cons (sm_astore B.1 dJ1_put_2_23) ?_
    refine jlk_cons (sm_aload B.1 dJ1_put_2_25) ?_
    refine jlk_cons (sm_ifnull rfl B.1 dJ1_put_2_27) ?_
    refine jlk_cons (sm_aload B.1 dJ1_put_2_30) ?_
    refine jlk_cons (sm_astore B.1 dJ1_put_2_32) ?_
    refine jlk_cons (sm_aload B.1 dJ1_put_2_34) ?_
    refine jlk_cons (sm_aload_n rfl B.1 dJ1_put_2_36) ?_
    refine jlk_cons (sm_aload B.1 dJ1_put_2_37) ?_
    refine jlk_cons (sm_getP B.1 fl_java_util_TreeMap_105_24_131 dJ1_put_2_39) ?_
    refine jlk_cons (sm_aload_n rfl B.1 dJ1_put_2_112) ?_
    refine jlk_cons (sm_cS (x := yJ16_requireNonNull) (r9 := kr_6) (host := "") (owner := "") isSP (i_J16_requireNonNull hI) B q664 q665 w4_J16_requireNonNull w6_J16_requireNonNull (by decide) hy_J16_requireNonNull hl_J16_requireNonNull dJ1_put_2_113 trivial) ?_
    refine jlk_cons (sm_pop B.1 dJ1_put_2_116) ?_
    refine jlk_cons (sm_aload_n rfl B.1 dJ1_put_2_117) ?_
    refine jlk_cons (sm_cast B.1 q304 (List.forall_mem_cons.mpr ⟨⟨by decide, by decide, _, kc_22, Or.inr q386⟩, (List.forall_mem_cons.mpr ⟨⟨by decide, by decide, _, kc_11, Or.inr q309⟩, (List.forall_mem_nil _)⟩)⟩) dJ1_put_2_118) ?_
    refine jlk_cons (sm_astore B.1 dJ1_put_2_121) ?_
    refine jlk_cons (sm_aload B.1 dJ1_put_2_123) ?_
    refine jlk_cons (sm_astore B.1 dJ1_put_2_125) ?_
    refine jlk_cons (sm_aload B.1 dJ1_put_2_127) ?_
    refine jlk_cons (sm_aload B.1 dJ1_put_2_129) ?_
    refine jlk_cons (sm_getP B.1 fl_java_util_TreeMap_105_24_131 dJ1_put_2_131) ?_
    refine jlk_cons (sm_cMI (fun k yi hk => by
        rcases jlk2 hk with ⟨rfl, rfl⟩ | ⟨rfl, rfl⟩
        · exact sm_cF (x := ⟨"java/lang/Comparable", "compareTo", "(Ljava/lang/Object;)I"⟩) (host := "") (owner := "") isRI (i_J6_compareTo hI) B (List.mem_of_getElem? (i := 4) rfl) q306 q387 q389 w4_J6_compareTo w6_J6_compareTo (by decide)  (by decide) (by decide) kc_22 (hl_J6_compareTo : _) dJ1_put_2_134 trivial
        · exact sm_cF (x := ⟨"java/lang/Comparable", "compareTo", "(Ljava/lang/Object;)I"⟩) (host := "") (owner := "") isRI (i_X11_compareTo hI) B (List.mem_of_getElem? (i := 5) rfl) q306 q310 q312 w4_X11_compareTo w6_X11_compareTo (by decide)  (by decide) (by decide) kc_11 (hl_X11_compareTo : _) dJ1_put_2_134 trivial)) ?_
    refine jlk_cons (sm_istore B.1 dJ1_put_2_139) ?_
    refine jlk_cons (sm_iload B.1 dJ1_put_2_141) ?_
    refine jlk_cons (sm_ifge rfl B.1 dJ1_put_2_143) ?_
    refine jlk_cons (sm_aload B.1 dJ1_put_2_146) ?_
    refine jlk_cons (sm_getP B.1 fl_java_util_TreeMap_111_24_133 dJ1_put_2_148) ?_
    refine jlk_cons (sm_astore B.1 dJ1_put_2_151) ?_
    exact jlk_nil
  · skip
    refine jlk_cons (sm_goto rfl B.1 dJ1_put_2_153) ?_
    refine jlk_cons (sm_iload B.1 dJ1_put_2_156) ?_
    refine jlk_cons (sm_ifle rfl B.1 dJ1_put_2_158) ?_
    refine jlk_cons (sm_aload B.1 dJ1_put_2_161) ?_
    refine jlk_cons (sm_getP B.1 fl_java_util_TreeMap_114_24_134 dJ1_put_2_163) ?_
    refine jlk_cons (sm_astore B.1 dJ1_put_2_166) ?_
    refine jlk_cons (sm_goto rfl B.1 dJ1_put_2_168) ?_
    refine jlk_cons (sm_aload B.1 dJ1_put_2_171) ?_
    refine jlk_cons (sm_getP B.1 fl_java_util_TreeMap_58_24_132 dJ1_put_2_173) ?_
    refine jlk_cons (sm_astore B.1 dJ1_put_2_176) ?_
    refine jlk_cons (sm_iload_n rfl B.1 dJ1_put_2_178) ?_
    refine jlk_cons (sm_ifne rfl B.1 dJ1_put_2_179) ?_
    refine jlk_cons (sm_aload B.1 dJ1_put_2_182) ?_
    refine jlk_cons (sm_ifnonnull rfl B.1 dJ1_put_2_184) ?_
    refine jlk_cons (sm_aload B.1 dJ1_put_2_187) ?_
    refine jlk_cons (sm_aload_n rfl B.1 dJ1_put_2_189) ?_
    refine jlk_cons (sm_putP B.1 fl_java_util_TreeMap_58_24_132 tyJ15 tyJ15_ok nmJ15 (Or.inl rfl) rfl (tyJ15_ok 1 (by decide)) rfl (by decide) dJ1_put_2_190) ?_
    refine jlk_cons (sm_aload B.1 dJ1_put_2_193) ?_
    refine jlk_cons (sm_aret B.1 B.2.1 hret (Or.inl ⟨_, rfl⟩) dJ1_put_2_195) ?_
    refine jlk_cons (sm_aload B.1 dJ1_put_2_196) ?_
    refine jlk_cons (sm_ifnonnull rfl B.1 dJ1_put_2_198) ?_
    refine jlk_cons (sm_aload_n rfl B.1 dJ1_put_2_201) ?_
    refine jlk_cons (sm_aload_n rfl B.1 dJ1_put_2_202) ?_
    refine jlk_cons (sm_aload_n rfl B.1 dJ1_put_2_203) ?_
    refine jlk_cons (sm_aload B.1 dJ1_put_2_204) ?_
    refine jlk_cons (sm_iload B.1 dJ1_put_2_206) ?_
    refine jlk_cons (sm_ifge rfl B.1 dJ1_put_2_208) ?_
    refine jlk_cons (sm_iconst rfl B.1 dJ1_put_2_211) ?_
    refine jlk_cons (sm_goto rfl B.1 dJ1_put_2_212) ?_
    refine jlk_cons (sm_iconst rfl B.1 dJ1_put_2_215) ?_
    refine jlk_cons (sm_cV (x := yJ1_addEntry) (host := "") (owner := "") isRV (i_J1_addEntry hI) B q667 q669 qs2 w4_J1_addEntry w6_J1_addEntry (by decide) (by decide) (by decide) kc_20 hy_J1_addEntry hl_J1_addEntry dJ1_put_2_216 trivial) ?_
    refine jlk_cons (sm_null B.1 dJ1_put_2_219) ?_
    refine jlk_cons (sm_aret B.1 B.2.1 hret (Or.inl ⟨_, rfl⟩) dJ1_put_2_220) ?_
    exact jlk_nil
theorem v_J1_put_2 (hst : l.stackTraces = false) (hz : jEz (EV (d + 1))) (hI : jIH l D dA lo cs0 d) : jMe l D dA lo cs0 (EV (d + 1)) 212 yJ1_put_2 (ws_ yJ1_put_2 cJ1_put_2 10 (Option.some (Jvm.ClassFile.FieldType.object "java/lang/Object"))) (d + 1) := z_meth hz rfl hp_J1_put_2 (r_J1_put_2 hst hI)
theorem r_J2_init (hst : l.stackTraces = false) (hI : jIH l D dA lo cs0 d) : jRows l D dA lo cs0 d 1 (tb_J2_init (EV d)) yJ2_init cJ2_init (Option.none : Option Jvm.ClassFile.FieldType) [] := by
  intro p e R s m args below meth c z0 w0 zF wF Q rF hF B hz hw hret hnm
  refine jlk_cons (sm_aload_n rfl B.1 dJ2_init_0) ?_
  refine jlk_cons (sm_obj B.1 q250 q196 q197 dJ2_init_1) ?_
  refine jlk_cons (sm_vret B.1 B.2.1 hret dJ2_init_4) ?_
  exact jlk_nil
theorem v_J2_init (hst : l.stackTraces = false) (hz : jEz (EV (d + 1))) (hI : jIH l D dA lo cs0 d) : jMe l D dA lo cs0 (EV (d + 1)) 213 yJ2_init (ws_ yJ2_init cJ2_init 1 (Option.none : Option Jvm.ClassFile.FieldType)) (d + 1) := z_meth hz rfl hp_J2_init (r_J2_init hst hI)
theorem r_J1_size (hst : l.stackTraces = false) (hI : jIH l D dA lo cs0 d) : jRows l D dA lo cs0 d 1 (tb_J1_size (EV d)) yJ1_size cJ1_size (Option.some Jvm.ClassFile.FieldType.int) [] := by
  intro p e R s m args below meth c z0 w0 zF wF Q rF hF B hz hw hret hnm
  refine jlk_cons (sm_aload_n rfl B.1 dJ1_size_0) ?_
  refine jlk_cons (sm_getI B.1 fl_java_util_TreeMap_7_20_118 dJ1_size_1) ?_
  refine jlk_cons (sm_iret B.1 B.2.1 hret dJ1_size_4) ?_
  exact jlk_nil
theorem v_J1_size (hst : l.stackTraces = false) (hz : jEz (EV (d + 1))) (hI : jIH l D dA lo cs0 d) : jMe l D dA lo cs0 (EV (d + 1)) 214 yJ1_size (ws_ yJ1_size cJ1_size 1 (Option.some Jvm.ClassFile.FieldType.int)) (d + 1) := z_meth hz rfl hp_J1_size (r_J1_size hst hI)
theorem r_J1_comparator (hst : l.stackTraces = false) (hI : jIH l D dA lo cs0 d) : jRows l D dA lo cs0 d 1 (tb_J1_comparator (EV d)) yJ1_comparator cJ1_comparator (Option.some (Jvm.ClassFile.FieldType.object "java/util/Comparator")) [] := by
  intro p e R s m args below meth c z0 w0 zF wF Q rF hF B hz hw hret hnm
  refine jlk_cons (sm_aload_n rfl B.1 dJ1_comparator_0) ?_
  refine jlk_cons (sm_getP B.1 fl_java_util_TreeMap_16_20_116 dJ1_comparator_1) ?_
  refine jlk_cons (sm_aret B.1 B.2.1 hret (Or.inl ⟨_, rfl⟩) dJ1_comparator_4) ?_
  exact jlk_nil
theorem v_J1_comparator (hst : l.stackTraces = false) (hz : jEz (EV (d + 1))) (hI : jIH l D dA lo cs0 d) : jMe l D dA lo cs0 (EV (d + 1)) 215 yJ1_comparator (ws_ yJ1_comparator cJ1_comparator 1 (Option.some (Jvm.ClassFile.FieldType.object "java/util/Comparator"))) (d + 1) := z_meth hz rfl hp_J1_comparator (r_J1_comparator hst hI)
theorem r_J16_equals (hst : l.stackTraces = false) (hI : jIH l D dA lo cs0 d) : jRows l D dA lo cs0 d 2 (tb_J16_equals (EV d)) yJ16_equals cJ16_equals (Option.some Jvm.ClassFile.FieldType.boolean) [] := by
  intro p e R s m args below meth c z0 w0 zF wF Q rF hF B hz hw hret hnm
  refine jlk_cons (sm_aload_n rfl B.1 dJ16_equals_0) ?_
  refine jlk_cons (sm_aload_n rfl B.1 dJ16_equals_1) ?_
  refine jlk_cons (sm_acmpeq rfl B.1 dJ16_equals_2) ?_
  refine jlk_cons (sm_aload_n rfl B.1 dJ16_equals_5) ?_
  refine jlk_cons (sm_ifnull rfl B.1 dJ16_equals_6) ?_
  refine jlk_cons (sm_aload_n rfl B.1 dJ16_equals_9) ?_
  refine jlk_cons (sm_aload_n rfl B.1 dJ16_equals_10) ?_
  refine jlk_cons (sm_iconst rfl B.1 dJ16_equals_17) ?_
  refine jlk_cons (sm_goto rfl B.1 dJ16_equals_18) ?_
  refine jlk_cons (sm_iconst rfl B.1 dJ16_equals_21) ?_
  refine jlk_cons (sm_zret B.1 B.2.1 hret dJ16_equals_22) ?_
  exact jlk_nil
theorem v_J16_equals (hst : l.stackTraces = false) (hz : jEz (EV (d + 1))) (hI : jIH l D dA lo cs0 d) : jMe l D dA lo cs0 (EV (d + 1)) 216 yJ16_equals (ws_ yJ16_equals cJ16_equals 2 (Option.some Jvm.ClassFile.FieldType.boolean)) (d + 1) := z_meth hz rfl hp_J16_equals (r_J16_equals hst hI)
theorem r_J1_entrySet (hst : l.stackTraces = false) (hI : jIH l D dA lo cs0 d) : jRows l D dA lo cs0 d 2 (tb_J1_entrySet (EV d)) yJ1_entrySet cJ1_entrySet (Option.some (Jvm.ClassFile.FieldType.object "java/util/Set")) [] := by
  intro p e R s m args below meth c z0 w0 zF wF Q rF hF B hz hw hret hnm
  refine jlk_cons (sm_aload_n rfl B.1 dJ1_entrySet_0) ?_
  refine jlk_cons (sm_getP B.1 fl_java_util_TreeMap_188_20_120 dJ1_entrySet_1) ?_
  refine jlk_cons (sm_astore_n rfl B.1 dJ1_entrySet_4) ?_
  refine jlk_cons (sm_aload_n rfl B.1 dJ1_entrySet_5) ?_
  refine jlk_cons (sm_ifnull rfl B.1 dJ1_entrySet_6) ?_
  refine jlk_cons (sm_aload_n rfl B.1 dJ1_entrySet_9) ?_
  refine jlk_cons (sm_goto rfl B.1 dJ1_entrySet_10) ?_
  refine jlk_cons (sm_aload_n rfl B.1 dJ1_entrySet_13) ?_
  refine jlk_cons (sm_new B.1 kc_25 (by decide) (by decide) in_J18 tyJ18 tyJ18_ok kd_25 q811 q812 q145 B.2.2.2 hz hw dJ1_entrySet_14) ?_
  refine jlk_cons (sm_dup B.1 dJ1_entrySet_17) ?_
  refine jlk_cons (sm_aload_n rfl B.1 dJ1_entrySet_18) ?_
  refine jlk_cons (sm_cI (x := yJ18_init) (r9 := kr_6) (host := "") (owner := "") isNV (i_J18_init hI) B q813 q814 w4_J18_init w6_J18_init (by decide) rfl hy_J18_init hl_J18_init dJ1_entrySet_19 trivial) ?_
  refine jlk_cons (sm_dup_x1 B.1 dJ1_entrySet_22) ?_
  refine jlk_cons (sm_putP B.1 fl_java_util_TreeMap_188_20_120 tyJ1 tyJ1_ok nmJ1 (Or.inl rfl) rfl (tyJ1_ok 6 (by decide)) rfl (by decide) dJ1_entrySet_23) ?_
  refine jlk_cons (sm_aret B.1 B.2.1 hret (Or.inl ⟨_, rfl⟩) dJ1_entrySet_26) ?_
  exact jlk_nil
theorem v_J1_entrySet (hst : l.stackTraces = false) (hz : jEz (EV (d + 1))) (hI : jIH l D dA lo cs0 d) : jMe l D dA lo cs0 (EV (d + 1)) 217 yJ1_entrySet (ws_ yJ1_entrySet cJ1_entrySet 2 (Option.some (Jvm.ClassFile.FieldType.object "java/util/Set"))) (d + 1) := z_meth hz rfl hp_J1_entrySet (r_J1_entrySet hst hI)
theorem r_J18_iterator (hst : l.stackTraces = false) (hI : jIH l D dA lo cs0 d) : jRows l D dA lo cs0 d 1 (tb_J18_iterator (EV d)) yJ18_iterator cJ18_iterator (Option.some (Jvm.ClassFile.FieldType.object "java/util/Iterator")) [] := by
  intro p e R s m args below meth c z0 w0 zF wF Q rF hF B hz hw hret hnm
  refine jlk_cons (sm_new B.1 kc_26 (by decide) (by decide) in_J20 tyJ20 tyJ20_ok kd_26 q834 q835 q147 B.2.2.2 hz hw dJ18_iterator_0) ?_
  refine jlk_cons (sm_dup B.1 dJ18_iterator_3) ?_
  refine jlk_cons (sm_aload_n rfl B.1 dJ18_iterator_4) ?_
  refine jlk_cons (sm_getP B.1 fl_java_util_TreeMap_EntrySet_1_25_137 dJ18_iterator_5) ?_
  refine jlk_cons (sm_aload_n rfl B.1 dJ18_iterator_8) ?_
  refine jlk_cons (sm_getP B.1 fl_java_util_TreeMap_EntrySet_1_25_137 dJ18_iterator_9) ?_
  refine jlk_cons (sm_cV (x := yJ1_getFirstEntry) (host := "") (owner := "") isRP (i_J1_getFirstEntry hI) B q836 q837 q838 w4_J1_getFirstEntry w6_J1_getFirstEntry (by decide) (by decide) (by decide) kc_20 hy_J1_getFirstEntry hl_J1_getFirstEntry dJ18_iterator_12 trivial) ?_
  refine jlk_cons (sm_cI (x := yJ20_init) (r9 := kr_6) (host := "") (owner := "") isNV (i_J20_init hI) B q840 q841 w4_J20_init w6_J20_init (by decide) rfl hy_J20_init hl_J20_init dJ18_iterator_15 trivial) ?_
  refine jlk_cons (sm_aret B.1 B.2.1 hret (Or.inl ⟨_, rfl⟩) dJ18_iterator_18) ?_
  exact jlk_nil
theorem v_J18_iterator (hst : l.stackTraces = false) (hz : jEz (EV (d + 1))) (hI : jIH l D dA lo cs0 d) : jMe l D dA lo cs0 (EV (d + 1)) 218 yJ18_iterator (ws_ yJ18_iterator cJ18_iterator 1 (Option.some (Jvm.ClassFile.FieldType.object "java/util/Iterator"))) (d + 1) := z_meth hz rfl hp_J18_iterator (r_J18_iterator hst hI)
theorem r_J22_iterator (hst : l.stackTraces = false) (hI : jIH l D dA lo cs0 d) : jRows l D dA lo cs0 d 1 (tb_J22_iterator (EV d)) yJ22_iterator cJ22_iterator (Option.some (Jvm.ClassFile.FieldType.object "java/util/Iterator")) [] := by
  intro p e R s m args below meth c z0 w0 zF wF Q rF hF B hz hw hret hnm
  refine jlk_cons (sm_aload_n rfl B.1 dJ22_iterator_0) ?_
  refine jlk_cons (sm_getP B.1 fl_java_util_TreeMap_KeySet_7_28_142 dJ22_iterator_1) ?_
  refine jlk_cons (sm_inst B.1 q866 (List.forall_mem_cons.mpr ⟨⟨by decide, by decide, _, kc_20, Or.inl rfl⟩, (List.forall_mem_nil _)⟩) dJ22_iterator_4) ?_
  refine jlk_cons (sm_ifeq rfl B.1 dJ22_iterator_7) ?_
  refine jlk_cons (sm_aload_n rfl B.1 dJ22_iterator_10) ?_
  refine jlk_cons (sm_getP B.1 fl_java_util_TreeMap_KeySet_7_28_142 dJ22_iterator_11) ?_
  refine jlk_cons (sm_cast B.1 q866 (List.forall_mem_cons.mpr ⟨⟨by decide, by decide, _, kc_20, Or.inl rfl⟩, (List.forall_mem_nil _)⟩) dJ22_iterator_14) ?_
  refine jlk_cons (sm_cV (x := yJ1_keyIterator) (host := "") (owner := "") isRP (i_J1_keyIterator hI) B q867 q868 q869 w4_J1_keyIterator w6_J1_keyIterator (by decide) (by decide) (by decide) kc_20 hy_J1_keyIterator hl_J1_keyIterator dJ22_iterator_17 trivial) ?_
  refine jlk_cons (sm_aret B.1 B.2.1 hret (Or.inl ⟨_, rfl⟩) dJ22_iterator_20) ?_
  refine jlk_cons (sm_aload_n rfl B.1 dJ22_iterator_21) ?_
  refine jlk_cons (sm_getP B.1 fl_java_util_TreeMap_KeySet_7_28_142 dJ22_iterator_22) ?_
  exact jlk_nil
theorem v_J22_iterator (hst : l.stackTraces = false) (hz : jEz (EV (d + 1))) (hI : jIH l D dA lo cs0 d) : jMe l D dA lo cs0 (EV (d + 1)) 219 yJ22_iterator (ws_ yJ22_iterator cJ22_iterator 1 (Option.some (Jvm.ClassFile.FieldType.object "java/util/Iterator"))) (d + 1) := z_meth hz rfl hp_J22_iterator (r_J22_iterator hst hI)
theorem r_J37_iterator (hst : l.stackTraces = false) (hI : jIH l D dA lo cs0 d) : jRows l D dA lo cs0 d 1 (tb_J37_iterator (EV d)) yJ37_iterator cJ37_iterator (Option.some (Jvm.ClassFile.FieldType.object "java/util/Iterator")) [] := by
  intro p e R s m args below meth c z0 w0 zF wF Q rF hF B hz hw hret hnm
  refine jlk_cons (sm_aload_n rfl B.1 dJ37_iterator_0) ?_
  refine jlk_cons (sm_getP B.1 fl_java_util_TreeSet_7_35_147 dJ37_iterator_1) ?_
  refine jlk_cons (sm_cF (x := ⟨"java/util/NavigableMap", "navigableKeySet", "()Ljava/util/NavigableSet;"⟩) (host := "") (owner := "") isRP (i_J1_navigableKeySet hI) B (List.mem_of_getElem? (i := 6) rfl) q894 q898 q900 w4_J1_navigableKeySet w6_J1_navigableKeySet (by decide) (by decide) (by decide) kc_20 (hl_J1_navigableKeySet : _) dJ37_iterator_4 trivial) ?_
  refine jlk_cons (sm_cF (x := ⟨"java/util/NavigableSet", "iterator", "()Ljava/util/Iterator;"⟩) (host := "") (owner := "") isRP (i_J22_iterator hI) B (List.mem_of_getElem? (i := 7) rfl) q914 q918 q863 w4_J22_iterator w6_J22_iterator (by decide) (by decide) (by decide) kc_28 (hl_J22_iterator : _) dJ37_iterator_9 trivial) ?_
  refine jlk_cons (sm_aret B.1 B.2.1 hret (Or.inl ⟨_, rfl⟩) dJ37_iterator_14) ?_
  exact jlk_nil
theorem v_J37_iterator (hst : l.stackTraces = false) (hz : jEz (EV (d + 1))) (hI : jIH l D dA lo cs0 d) : jMe l D dA lo cs0 (EV (d + 1)) 220 yJ37_iterator (ws_ yJ37_iterator cJ37_iterator 1 (Option.some (Jvm.ClassFile.FieldType.object "java/util/Iterator"))) (d + 1) := z_meth hz rfl hp_J37_iterator (r_J37_iterator hst hI)
theorem r_J1_buildFromSorted (hst : l.stackTraces = false) (hI : jIH l D dA lo cs0 d) : jRows l D dA lo cs0 d 5 (tb_J1_buildFromSorted (EV d)) yJ1_buildFromSorted cJ1_buildFromSorted (Option.none : Option Jvm.ClassFile.FieldType) [] := by
  intro p e R s m args below meth c z0 w0 zF wF Q rF hF B hz hw hret hnm
  refine jlk_cons (sm_aload_n rfl B.1 dJ1_buildFromSorted_0) ?_
  refine jlk_cons (sm_iload_n rfl B.1 dJ1_buildFromSorted_1) ?_
  refine jlk_cons (sm_putI B.1 fl_java_util_TreeMap_7_20_118 tyJ1 tyJ1_ok nmJ1 (Or.inl rfl) (tyJ1_ok 4 (by decide)) rfl (by decide) dJ1_buildFromSorted_2) ?_
  refine jlk_cons (sm_aload_n rfl B.1 dJ1_buildFromSorted_5) ?_
  refine jlk_cons (sm_aload_n rfl B.1 dJ1_buildFromSorted_6) ?_
  refine jlk_cons (sm_iconst rfl B.1 dJ1_buildFromSorted_7) ?_
  refine jlk_cons (sm_iconst rfl B.1 dJ1_buildFromSorted_8) ?_
  refine jlk_cons (sm_iload_n rfl B.1 dJ1_buildFromSorted_9) ?_
  refine jlk_cons (sm_iconst rfl B.1 dJ1_buildFromSorted_10) ?_
  refine jlk_cons (sm_isub B.1 dJ1_buildFromSorted_11) ?_
  refine jlk_cons (sm_iload_n rfl B.1 dJ1_buildFromSorted_12) ?_
  refine jlk_cons (sm_cS (x := yJ1_computeRedLevel) (r9 := kr_6) (host := "") (owner := "") isSI (i_J1_computeRedLevel hI) B q925 q926 w4_J1_computeRedLevel w6_J1_computeRedLevel (by decide) hy_J1_computeRedLevel hl_J1_computeRedLevel dJ1_buildFromSorted_13 trivial) ?_
  refine jlk_cons (sm_aload_n rfl B.1 dJ1_buildFromSorted_16) ?_
  refine jlk_cons (sm_aload_n rfl B.1 dJ1_buildFromSorted_17) ?_
  refine jlk_cons (sm_aload B.1 dJ1_buildFromSorted_18) ?_
  refine jlk_cons (sm_cV (x := yJ1_buildFromSorted_2) (host := "") (owner := "") isRP (i_J1_buildFromSorted_2 hI) B q929 q931 qs7 w4_J1_buildFromSorted_2 w6_J1_buildFromSorted_2 (by decide) (by decide) (by decide) kc_20 hy_J1_buildFromSorted_2 hl_J1_buildFromSorted_2 dJ1_buildFromSorted_20 trivial) ?_
  refine jlk_cons (sm_putP B.1 fl_java_util_TreeMap_101_20_117 tyJ1 tyJ1_ok nmJ1 (Or.inl rfl) rfl (tyJ1_ok 3 (by decide)) rfl (by decide) dJ1_buildFromSorted_23) ?_
  refine jlk_cons (sm_vret B.1 B.2.1 hret dJ1_buildFromSorted_26) ?_
  exact jlk_nil
theorem v_J1_buildFromSorted (hst : l.stackTraces = false) (hz : jEz (EV (d + 1))) (hI : jIH l D dA lo cs0 d) : jMe l D dA lo cs0 (EV (d + 1)) 221 yJ1_buildFromSorted (ws_ yJ1_buildFromSorted cJ1_buildFromSorted 5 (Option.none : Option Jvm.ClassFile.FieldType)) (d + 1) := z_meth hz rfl hp_J1_buildFromSorted (r_J1_buildFromSorted hst hI)
theorem r_J1_getEntry (hst : l.stackTraces = false) (hI : jIH l D dA lo cs0 d) : jRows l D dA lo cs0 d 5 (tb_J1_getEntry (EV d)) yJ1_getEntry cJ1_getEntry (Option.some (Jvm.ClassFile.FieldType.object "java/util/TreeMap$Entry")) [] := by
  intro p e R s m args below meth c z0 w0 zF wF Q rF hF B hz hw hret hnm
  refine jlk_cons (sm_aload_n rfl B.1 dJ1_getEntry_0) ?_
  refine jlk_cons (sm_getP B.1 fl_java_util_TreeMap_16_20_116 dJ1_getEntry_1) ?_
  refine jlk_cons (sm_ifnull rfl B.1 dJ1_getEntry_4) ?_
  refine jlk_cons (sm_aload_n rfl B.1 dJ1_getEntry_7) ?_
  refine jlk_cons (sm_aload_n rfl B.1 dJ1_getEntry_8) ?_
  refine jlk_cons (sm_aload_n rfl B.1 dJ1_getEntry_13) ?_
  refine jlk_cons (sm_cS (x := yJ16_requireNonNull) (r9 := kr_6) (host := "") (owner := "") isSP (i_J16_requireNonNull hI) B q664 q665 w4_J16_requireNonNull w6_J16_requireNonNull (by decide) hy_J16_requireNonNull hl_J16_requireNonNull dJ1_getEntry_14 trivial) ?_
  refine jlk_cons (sm_pop B.1 dJ1_getEntry_17) ?_
  refine jlk_cons (sm_aload_n rfl B.1 dJ1_getEntry_18) ?_
  refine jlk_cons (sm_cast B.1 q304 (List.forall_mem_cons.mpr ⟨⟨by decide, by decide, _, kc_22, Or.inr q386⟩, (List.forall_mem_cons.mpr ⟨⟨by decide, by decide, _, kc_11, Or.inr q309⟩, (List.forall_mem_nil _)⟩)⟩) dJ1_getEntry_19) ?_
  refine jlk_cons (sm_astore_n rfl B.1 dJ1_getEntry_22) ?_
  refine jlk_cons (sm_aload_n rfl B.1 dJ1_getEntry_23) ?_
  refine jlk_cons (sm_getP B.1 fl_java_util_TreeMap_101_20_117 dJ1_getEntry_24) ?_
  refine jlk_cons (sm_astore_n rfl B.1 dJ1_getEntry_27) ?_
  refine jlk_cons (sm_aload_n rfl B.1 dJ1_getEntry_28) ?_
  refine jlk_cons (sm_ifnull rfl B.1 dJ1_getEntry_29) ?_
  refine jlk_cons (sm_aload_n rfl B.1 dJ1_getEntry_32) ?_
  refine jlk_cons (sm_aload_n rfl B.1 dJ1_getEntry_33) ?_
  refine jlk_cons (sm_getP B.1 fl_java_util_TreeMap_105_24_131 dJ1_getEntry_34) ?_
  refine jlk_cons (sm_cMI (fun k yi hk => by
      rcases jlk2 hk with ⟨rfl, rfl⟩ | ⟨rfl, rfl⟩
      · exact sm_cF (x := ⟨"java/lang/Comparable", "compareTo", "(Ljava/lang/Object;)I"⟩) (host := "") (owner := "") isRI (i_J6_compareTo hI) B (List.mem_of_getElem? (i := 4) rfl) q306 q387 q389 w4_J6_compareTo w6_J6_compareTo (by decide)  (by decide) (by decide) kc_22 (hl_J6_compareTo : _) dJ1_getEntry_37 trivial
      · exact sm_cF (x := ⟨"java/lang/Comparable", "compareTo", "(Ljava/lang/Object;)I"⟩) (host := "") (owner := "") isRI (i_X11_compareTo hI) B (List.mem_of_getElem? (i := 5) rfl) q306 q310 q312 w4_X11_compareTo w6_X11_compareTo (by decide)  (by decide) (by decide) kc_11 (hl_X11_compareTo : _) dJ1_getEntry_37 trivial)) ?_
  refine jlk_cons (sm_istore B.1 dJ1_getEntry_42) ?_
  refine jlk_cons (sm_iload B.1 dJ1_getEntry_44) ?_
  refine jlk_cons (sm_ifge rfl B.1 dJ1_getEntry_46) ?_
  refine jlk_cons (sm_aload_n rfl B.1 dJ1_getEntry_49) ?_
  refine jlk_cons (sm_getP B.1 fl_java_util_TreeMap_111_24_133 dJ1_getEntry_50) ?_
  refine jlk_cons (sm_astore_n rfl B.1 dJ1_getEntry_53) ?_
  refine jlk_cons (sm_goto rfl B.1 dJ1_getEntry_54) ?_
  refine jlk_cons (sm_iload B.1 dJ1_getEntry_57) ?_
  refine jlk_cons (sm_ifle rfl B.1 dJ1_getEntry_59) ?_
  refine jlk_cons (sm_aload_n rfl B.1 dJ1_getEntry_62) ?_
  refine jlk_cons (sm_getP B.1 fl_java_util_TreeMap_114_24_134 dJ1_getEntry_63) ?_
  refine jlk_cons (sm_astore_n rfl B.1 dJ1_getEntry_66) ?_
  refine jlk_cons (sm_goto rfl B.1 dJ1_getEntry_67) ?_
  refine jlk_cons (sm_aload_n rfl B.1 dJ1_getEntry_70) ?_
  refine jlk_cons (sm_aret B.1 B.2.1 hret (Or.inl ⟨_, rfl⟩) dJ1_getEntry_71) ?_
  refine jlk_cons (sm_goto rfl B.1 dJ1_getEntry_72) ?_
  refine jlk_cons (sm_null B.1 dJ1_getEntry_75) ?_
  refine jlk_cons (sm_aret B.1 B.2.1 hret (Or.inl ⟨_, rfl⟩) dJ1_getEntry_76) ?_
  exact jlk_nil
theorem v_J1_getEntry (hst : l.stackTraces = false) (hz : jEz (EV (d + 1))) (hI : jIH l D dA lo cs0 d) : jMe l D dA lo cs0 (EV (d + 1)) 222 yJ1_getEntry (ws_ yJ1_getEntry cJ1_getEntry 5 (Option.some (Jvm.ClassFile.FieldType.object "java/util/TreeMap$Entry"))) (d + 1) := z_meth hz rfl hp_J1_getEntry (r_J1_getEntry hst hI)
theorem r_J16_checkIndex (hst : l.stackTraces = false) (hI : jIH l D dA lo cs0 d) : jRows l D dA lo cs0 d 2 (tb_J16_checkIndex (EV d)) yJ16_checkIndex cJ16_checkIndex (Option.some Jvm.ClassFile.FieldType.int) [] := by
  intro p e R s m args below meth c z0 w0 zF wF Q rF hF B hz hw hret hnm
  refine jlk_cons (sm_iload_n rfl B.1 dJ16_checkIndex_0) ?_
  refine jlk_cons (sm_iload_n rfl B.1 dJ16_checkIndex_1) ?_
  refine jlk_cons (sm_null B.1 dJ16_checkIndex_2) ?_
  refine jlk_cons (sm_cS (x := yJ14_checkIndex) (r9 := kr_6) (host := "") (owner := "") isSI (i_J14_checkIndex hI) B q1155 q1156 w4_J14_checkIndex w6_J14_checkIndex (by decide) hy_J14_checkIndex hl_J14_checkIndex dJ16_checkIndex_3 trivial) ?_
  refine jlk_cons (sm_iret B.1 B.2.1 hret dJ16_checkIndex_6) ?_
  exact jlk_nil
theorem v_J16_checkIndex (hst : l.stackTraces = false) (hz : jEz (EV (d + 1))) (hI : jIH l D dA lo cs0 d) : jMe l D dA lo cs0 (EV (d + 1)) 223 yJ16_checkIndex (ws_ yJ16_checkIndex cJ16_checkIndex 2 (Option.some Jvm.ClassFile.FieldType.int)) (d + 1) := z_meth hz rfl hp_J16_checkIndex (r_J16_checkIndex hst hI)
theorem r_J4_elementData (hst : l.stackTraces = false) (hI : jIH l D dA lo cs0 d) : jRows l D dA lo cs0 d 2 (tb_J4_elementData (EV d)) yJ4_elementData cJ4_elementData (Option.some (Jvm.ClassFile.FieldType.object "java/lang/Object")) [] := by
  intro p e R s m args below meth c z0 w0 zF wF Q rF hF B hz hw hret hnm
  refine jlk_cons (sm_aload_n rfl B.1 dJ4_elementData_0) ?_
  refine jlk_cons (sm_getP B.1 fl_java_util_ArrayList_9_21_124 dJ4_elementData_1) ?_
  refine jlk_cons (sm_iload_n rfl B.1 dJ4_elementData_4) ?_
  refine jlk_cons (sm_aald B.1 (t := 107) (by decide) rfl dJ4_elementData_5) ?_
  refine jlk_cons (sm_aret B.1 B.2.1 hret (Or.inl ⟨_, rfl⟩) dJ4_elementData_6) ?_
  exact jlk_nil
theorem v_J4_elementData (hst : l.stackTraces = false) (hz : jEz (EV (d + 1))) (hI : jIH l D dA lo cs0 d) : jMe l D dA lo cs0 (EV (d + 1)) 224 yJ4_elementData (ws_ yJ4_elementData cJ4_elementData 2 (Option.some (Jvm.ClassFile.FieldType.object "java/lang/Object"))) (d + 1) := z_meth hz rfl hp_J4_elementData (r_J4_elementData hst hI)
theorem r_J4_add_2 (hst : l.stackTraces = false) (hI : jIH l D dA lo cs0 d) : jRows l D dA lo cs0 d 4 (tb_J4_add_2 (EV d)) yJ4_add_2 cJ4_add_2 (Option.none : Option Jvm.ClassFile.FieldType) [] := by
  intro p e R s m args below meth c z0 w0 zF wF Q rF hF B hz hw hret hnm
  refine jlk_cons (sm_iload_n rfl B.1 dJ4_add_2_0) ?_
  refine jlk_cons (sm_aload_n rfl B.1 dJ4_add_2_1) ?_
  refine jlk_cons (sm_alen B.1 (t := 107) (by decide) rfl dJ4_add_2_2) ?_
  refine jlk_cons (sm_icmpne rfl B.1 dJ4_add_2_3) ?_
  refine jlk_cons (sm_aload_n rfl B.1 dJ4_add_2_6) ?_
  refine jlk_cons (sm_cV (x := yJ4_grow) (host := "") (owner := "") isRP (i_J4_grow hI) B q1211 q1213 qs10 w4_J4_grow w6_J4_grow (by decide) (by decide) (by decide) kc_21 hy_J4_grow hl_J4_grow dJ4_add_2_7 trivial) ?_
  refine jlk_cons (sm_astore_n rfl B.1 dJ4_add_2_10) ?_
  refine jlk_cons (sm_aload_n rfl B.1 dJ4_add_2_11) ?_
  refine jlk_cons (sm_iload_n rfl B.1 dJ4_add_2_12) ?_
  refine jlk_cons (sm_aload_n rfl B.1 dJ4_add_2_13) ?_
  refine jlk_cons (sm_aast B.1 (t := 107) (by decide) (by decide) rfl (List.forall_mem_cons.mpr ⟨⟨by decide, by decide, _, kc_3, Or.inr q3472⟩, (List.forall_mem_cons.mpr ⟨⟨by decide, by decide, _, kc_7, Or.inr q3481⟩, (List.forall_mem_cons.mpr ⟨⟨by decide, by decide, _, kc_11, Or.inr q3488⟩, (List.forall_mem_cons.mpr ⟨⟨by decide, by decide, _, kc_12, Or.inr q3493⟩, (List.forall_mem_cons.mpr ⟨⟨by decide, by decide, _, kc_13, Or.inr q3496⟩, (List.forall_mem_cons.mpr ⟨⟨by decide, by decide, _, kc_21, Or.inr q3466⟩, (List.forall_mem_cons.mpr ⟨⟨by decide, by decide, _, kc_24, Or.inr q3468⟩, (List.forall_mem_cons.mpr ⟨⟨by decide, by decide, _, kc_35, Or.inr q3487⟩, (List.forall_mem_nil _)⟩)⟩)⟩)⟩)⟩)⟩)⟩)⟩) dJ4_add_2_14) ?_
  refine jlk_cons (sm_aload_n rfl B.1 dJ4_add_2_15) ?_
  refine jlk_cons (sm_iload_n rfl B.1 dJ4_add_2_16) ?_
  refine jlk_cons (sm_iconst rfl B.1 dJ4_add_2_17) ?_
  refine jlk_cons (sm_iadd B.1 dJ4_add_2_18) ?_
  refine jlk_cons (sm_putI B.1 fl_java_util_ArrayList_48_21_125 tyJ4 tyJ4_ok nmJ4 (Or.inl rfl) (tyJ4_ok 2 (by decide)) rfl (by decide) dJ4_add_2_19) ?_
  refine jlk_cons (sm_vret B.1 B.2.1 hret dJ4_add_2_22) ?_
  exact jlk_nil
theorem v_J4_add_2 (hst : l.stackTraces = false) (hz : jEz (EV (d + 1))) (hI : jIH l D dA lo cs0 d) : jMe l D dA lo cs0 (EV (d + 1)) 225 yJ4_add_2 (ws_ yJ4_add_2 cJ4_add_2 4 (Option.none : Option Jvm.ClassFile.FieldType)) (d + 1) := z_meth hz rfl hp_J4_add_2 (r_J4_add_2 hst hI)
theorem r_J40_nextSetBit (hst : l.stackTraces = false) (hI : jIH l D dA lo cs0 d) : jRows l D dA lo cs0 d 5 (tb_J40_nextSetBit (EV d)) yJ40_nextSetBit cJ40_nextSetBit (Option.some Jvm.ClassFile.FieldType.int) [] := by
  intro p e R s m args below meth c z0 w0 zF wF Q rF hF B hz hw hret hnm
  refine jlk_app ?_ ?_
  · refine jlk_cons (sm_iload_n rfl B.1 dJ40_nextSetBit_0) ?_
    refine jlk_cons (sm_ifge rfl B.1 dJ40_nextSetBit_1) ?_
    refine jlk_cons (sm_aload_n rfl B.1 dJ40_nextSetBit_31) ?_
    refine jlk_cons (sm_cV (x := yJ40_checkInvariants) (host := "") (owner := "") isRV (i_J40_checkInvariants hI) B q1910 q1912 qs20 w4_J40_checkInvariants w6_J40_checkInvariants (by decide) (by decide) (by decide) kc_36 hy_J40_checkInvariants hl_J40_checkInvariants dJ40_nextSetBit_32 trivial) ?_
    refine jlk_cons (sm_iload_n rfl B.1 dJ40_nextSetBit_35) ?_
    refine jlk_cons (sm_cS (x := yJ40_wordIndex) (r9 := kr_6) (host := "") (owner := "") isSI (i_J40_wordIndex hI) B q1581 q1582 w4_J40_wordIndex w6_J40_wordIndex (by decide) hy_J40_wordIndex hl_J40_wordIndex dJ40_nextSetBit_36 trivial) ?_
    refine jlk_cons (sm_istore_n rfl B.1 dJ40_nextSetBit_39) ?_
    refine jlk_cons (sm_iload_n rfl B.1 dJ40_nextSetBit_40) ?_
    refine jlk_cons (sm_aload_n rfl B.1 dJ40_nextSetBit_41) ?_
    refine jlk_cons (sm_getI B.1 fl_java_util_BitSet_7_36_149 dJ40_nextSetBit_42) ?_
    refine jlk_cons (sm_icmplt rfl B.1 dJ40_nextSetBit_45) ?_
    refine jlk_cons (sm_iconst rfl B.1 dJ40_nextSetBit_48) ?_
    refine jlk_cons (sm_iret B.1 B.2.1 hret dJ40_nextSetBit_49) ?_
    refine jlk_cons (sm_aload_n rfl B.1 dJ40_nextSetBit_50) ?_
    refine jlk_cons (sm_getP B.1 fl_java_util_BitSet_11_36_148 dJ40_nextSetBit_51) ?_
    refine jlk_cons (sm_iload_n rfl B.1 dJ40_nextSetBit_54) ?_
    refine jlk_cons (sm_lald B.1 dJ40_nextSetBit_55) ?_
    refine jlk_cons (sm_ldc2 q1970 B.1 dJ40_nextSetBit_56) ?_
    refine jlk_cons (sm_iload_n rfl B.1 dJ40_nextSetBit_59) ?_
    refine jlk_cons (sm_lshl B.1 dJ40_nextSetBit_60) ?_
    refine jlk_cons (sm_land B.1 dJ40_nextSetBit_61) ?_
    refine jlk_cons (sm_lstore_n rfl B.1 dJ40_nextSetBit_62) ?_
    refine jlk_cons (sm_lload_n rfl B.1 dJ40_nextSetBit_63) ?_
    refine jlk_cons (sm_lconst rfl B.1 dJ40_nextSetBit_64) ?_
    refine jlk_cons (sm_lcmp B.1 dJ40_nextSetBit_65) ?_
    refine jlk_cons (sm_ifeq rfl B.1 dJ40_nextSetBit_66) ?_
    refine jlk_cons (sm_iload_n rfl B.1 dJ40_nextSetBit_69) ?_
    refine jlk_cons (sm_bipush rfl B.1 dJ40_nextSetBit_70) ?_
    refine jlk_cons (sm_imul B.1 dJ40_nextSetBit_72) ?_
    refine jlk_cons (sm_lload_n rfl B.1 dJ40_nextSetBit_73) ?_
    refine jlk_cons (sm_cS (x := yJ12_numberOfTrailingZeros) (r9 := kr_6) (host := "") (owner := "") isSI (i_J12_numberOfTrailingZeros hI) B q1971 q501 w4_J12_numberOfTrailingZeros w6_J12_numberOfTrailingZeros (by decide) hy_J12_numberOfTrailingZeros hl_J12_numberOfTrailingZeros dJ40_nextSetBit_74 trivial) ?_
    refine jlk_cons (sm_iadd B.1 dJ40_nextSetBit_77) ?_
    refine jlk_cons (sm_iret B.1 B.2.1 hret dJ40_nextSetBit_78) ?_
    refine jlk_cons (sm_iinc rfl B.1 dJ40_nextSetBit_79) ?_
    refine jlk_cons (sm_iload_n rfl B.1 dJ40_nextSetBit_82) ?_
    refine jlk_cons (sm_aload_n rfl B.1 dJ40_nextSetBit_83) ?_
    refine jlk_cons (sm_getI B.1 fl_java_util_BitSet_7_36_149 dJ40_nextSetBit_84) ?_
    refine jlk_cons (sm_icmpne rfl B.1 dJ40_nextSetBit_87) ?_
    refine jlk_cons (sm_iconst rfl B.1 dJ40_nextSetBit_90) ?_
    refine jlk_cons (sm_iret B.1 B.2.1 hret dJ40_nextSetBit_91) ?_
    exact jlk_nil
  · skip
    refine jlk_cons (sm_aload_n rfl B.1 dJ40_nextSetBit_92) ?_
    refine jlk_cons (sm_getP B.1 fl_java_util_BitSet_11_36_148 dJ40_nextSetBit_93) ?_
    refine jlk_cons (sm_iload_n rfl B.1 dJ40_nextSetBit_96) ?_
    refine jlk_cons (sm_lald B.1 dJ40_nextSetBit_97) ?_
    refine jlk_cons (sm_lstore_n rfl B.1 dJ40_nextSetBit_98) ?_
    refine jlk_cons (sm_goto rfl B.1 dJ40_nextSetBit_99) ?_
    exact jlk_nil
theorem v_J40_nextSetBit (hst : l.stackTraces = false) (hz : jEz (EV (d + 1))) (hI : jIH l D dA lo cs0 d) : jMe l D dA lo cs0 (EV (d + 1)) 244 yJ40_nextSetBit (ws_ yJ40_nextSetBit cJ40_nextSetBit 5 (Option.some Jvm.ClassFile.FieldType.int)) (d + 1) := z_meth hz rfl hp_J40_nextSetBit (r_J40_nextSetBit hst hI)
theorem r_J36_init (hst : l.stackTraces = false) (hI : jIH l D dA lo cs0 d) : jRows l D dA lo cs0 d 3 (tb_J36_init (EV d)) yJ36_init cJ36_init (Option.none : Option Jvm.ClassFile.FieldType) [] := by
  intro p e R s m args below meth c z0 w0 zF wF Q rF hF B hz hw hret hnm
  refine jlk_cons (sm_aload_n rfl B.1 dJ36_init_0) ?_
  refine jlk_cons (sm_cI (x := yJ35_init) (r9 := kr_6) (host := "") (owner := "") isNV (i_J35_init hI) B q1318 q1319 w4_J35_init w6_J35_init (by decide) rfl hy_J35_init hl_J35_init dJ36_init_1 trivial) ?_
  refine jlk_cons (sm_iload_n rfl B.1 dJ36_init_4) ?_
  refine jlk_cons (sm_iconst rfl B.1 dJ36_init_5) ?_
  refine jlk_cons (sm_icmpge rfl B.1 dJ36_init_6) ?_
  refine jlk_cons (sm_aload_n rfl B.1 dJ36_init_17) ?_
  refine jlk_cons (sm_iload_n rfl B.1 dJ36_init_18) ?_
  refine jlk_cons (sm_anew B.1 (by decide) rfl q1337 q1237 B.2.2.2 hz hw dJ36_init_19) ?_
  refine jlk_cons (sm_putP B.1 fl_java_util_PriorityQueue_17_34_143 tyJ36 tyJ36_ok nmJ36 (Or.inl rfl) rfl (tyJ36_ok 0 (by decide)) rfl (by decide) dJ36_init_22) ?_
  refine jlk_cons (sm_aload_n rfl B.1 dJ36_init_25) ?_
  refine jlk_cons (sm_aload_n rfl B.1 dJ36_init_26) ?_
  refine jlk_cons (sm_putP B.1 fl_java_util_PriorityQueue_21_34_145 tyJ36 tyJ36_ok nmJ36 (Or.inr ⟨rfl, hnm, rfl⟩) rfl (tyJ36_ok 2 (by decide)) rfl (by decide) dJ36_init_27) ?_
  refine jlk_cons (sm_vret B.1 B.2.1 hret dJ36_init_30) ?_
  exact jlk_nil
theorem v_J36_init (hst : l.stackTraces = false) (hz : jEz (EV (d + 1))) (hI : jIH l D dA lo cs0 d) : jMe l D dA lo cs0 (EV (d + 1)) 246 yJ36_init (ws_ yJ36_init cJ36_init 3 (Option.none : Option Jvm.ClassFile.FieldType)) (d + 1) := z_meth hz rfl hp_J36_init (r_J36_init hst hI)
theorem r_J40_isEmpty (hst : l.stackTraces = false) (hI : jIH l D dA lo cs0 d) : jRows l D dA lo cs0 d 1 (tb_J40_isEmpty (EV d)) yJ40_isEmpty cJ40_isEmpty (Option.some Jvm.ClassFile.FieldType.boolean) [] := by
  intro p e R s m args below meth c z0 w0 zF wF Q rF hF B hz hw hret hnm
  refine jlk_cons (sm_aload_n rfl B.1 dJ40_isEmpty_0) ?_
  refine jlk_cons (sm_getI B.1 fl_java_util_BitSet_7_36_149 dJ40_isEmpty_1) ?_
  refine jlk_cons (sm_ifne rfl B.1 dJ40_isEmpty_4) ?_
  refine jlk_cons (sm_iconst rfl B.1 dJ40_isEmpty_7) ?_
  refine jlk_cons (sm_goto rfl B.1 dJ40_isEmpty_8) ?_
  refine jlk_cons (sm_iconst rfl B.1 dJ40_isEmpty_11) ?_
  refine jlk_cons (sm_zret B.1 B.2.1 hret dJ40_isEmpty_12) ?_
  exact jlk_nil
theorem v_J40_isEmpty (hst : l.stackTraces = false) (hz : jEz (EV (d + 1))) (hI : jIH l D dA lo cs0 d) : jMe l D dA lo cs0 (EV (d + 1)) 251 yJ40_isEmpty (ws_ yJ40_isEmpty cJ40_isEmpty 1 (Option.some Jvm.ClassFile.FieldType.boolean)) (d + 1) := z_meth hz rfl hp_J40_isEmpty (r_J40_isEmpty hst hI)
theorem r_J2_isEmpty (hst : l.stackTraces = false) (hI : jIH l D dA lo cs0 d) : jRows l D dA lo cs0 d 1 (tb_J2_isEmpty (EV d)) yJ2_isEmpty cJ2_isEmpty (Option.some Jvm.ClassFile.FieldType.boolean) [] := by
  intro p e R s m args below meth c z0 w0 zF wF Q rF hF B hz hw hret hnm
  refine jlk_cons (sm_aload_n rfl B.1 dJ2_isEmpty_0) ?_
  refine jlk_cons (sm_cVU (x := ⟨"java/util/AbstractCollection", "size", "()I"⟩) (host := "") (owner := "java/util/AbstractCollection") isRI (i_J36_size hI) B q1437 q1439 q1438 ⟨by decide, by decide⟩ q1441 q1442 w4_J36_size w6_J36_size (by decide) (by decide) (by decide) kc_34 (hl_J36_size : _) dJ2_isEmpty_1 trivial) ?_
  refine jlk_cons (sm_ifne rfl B.1 dJ2_isEmpty_4) ?_
  refine jlk_cons (sm_iconst rfl B.1 dJ2_isEmpty_7) ?_
  refine jlk_cons (sm_goto rfl B.1 dJ2_isEmpty_8) ?_
  refine jlk_cons (sm_iconst rfl B.1 dJ2_isEmpty_11) ?_
  refine jlk_cons (sm_zret B.1 B.2.1 hret dJ2_isEmpty_12) ?_
  exact jlk_nil
theorem v_J2_isEmpty (hst : l.stackTraces = false) (hz : jEz (EV (d + 1))) (hI : jIH l D dA lo cs0 d) : jMe l D dA lo cs0 (EV (d + 1)) 253 yJ2_isEmpty (ws_ yJ2_isEmpty cJ2_isEmpty 1 (Option.some Jvm.ClassFile.FieldType.boolean)) (d + 1) := z_meth hz rfl hp_J2_isEmpty (r_J2_isEmpty hst hI)
theorem r_J36_poll (hst : l.stackTraces = false) (hI : jIH l D dA lo cs0 d) : jRows l D dA lo cs0 d 6 (tb_J36_poll (EV d)) yJ36_poll cJ36_poll (Option.some (Jvm.ClassFile.FieldType.object "java/lang/Object")) [] := by
  intro p e R s m args below meth c z0 w0 zF wF Q rF hF B hz hw hret hnm
  refine jlk_app ?_ ?_
  · refine jlk_cons (sm_aload_n rfl B.1 dJ36_poll_0) ?_
    refine jlk_cons (sm_getP B.1 fl_java_util_PriorityQueue_17_34_143 dJ36_poll_1) ?_
    refine jlk_cons (sm_dup B.1 dJ36_poll_4) ?_
    refine jlk_cons (sm_astore_n rfl B.1 dJ36_poll_5) ?_
    refine jlk_cons (sm_iconst rfl B.1 dJ36_poll_6) ?_
    refine jlk_cons (sm_aald B.1 (t := 107) (by decide) rfl dJ36_poll_7) ?_
    refine jlk_cons (sm_dup B.1 dJ36_poll_8) ?_
    refine jlk_cons (sm_astore_n rfl B.1 dJ36_poll_9) ?_
    refine jlk_cons (sm_ifnull rfl B.1 dJ36_poll_10) ?_
    refine jlk_cons (sm_aload_n rfl B.1 dJ36_poll_13) ?_
    refine jlk_cons (sm_dup B.1 dJ36_poll_14) ?_
    refine jlk_cons (sm_getI B.1 fl_java_util_PriorityQueue_93_34_146 dJ36_poll_15) ?_
    refine jlk_cons (sm_iconst rfl B.1 dJ36_poll_18) ?_
    refine jlk_cons (sm_iadd B.1 dJ36_poll_19) ?_
    refine jlk_cons (sm_putI B.1 fl_java_util_PriorityQueue_93_34_146 tyJ36 tyJ36_ok nmJ36 (Or.inl rfl) (tyJ36_ok 3 (by decide)) rfl (by decide) dJ36_poll_20) ?_
    refine jlk_cons (sm_aload_n rfl B.1 dJ36_poll_23) ?_
    refine jlk_cons (sm_aload_n rfl B.1 dJ36_poll_24) ?_
    refine jlk_cons (sm_dup B.1 dJ36_poll_25) ?_
    refine jlk_cons (sm_getI B.1 fl_java_util_PriorityQueue_58_34_144 dJ36_poll_26) ?_
    refine jlk_cons (sm_iconst rfl B.1 dJ36_poll_29) ?_
    refine jlk_cons (sm_isub B.1 dJ36_poll_30) ?_
    refine jlk_cons (sm_dup_x1 B.1 dJ36_poll_31) ?_
    refine jlk_cons (sm_putI B.1 fl_java_util_PriorityQueue_58_34_144 tyJ36 tyJ36_ok nmJ36 (Or.inl rfl) (tyJ36_ok 1 (by decide)) rfl (by decide) dJ36_poll_32) ?_
    refine jlk_cons (sm_dup B.1 dJ36_poll_35) ?_
    refine jlk_cons (sm_istore_n rfl B.1 dJ36_poll_36) ?_
    refine jlk_cons (sm_aald B.1 (t := 107) (by decide) rfl dJ36_poll_37) ?_
    refine jlk_cons (sm_astore B.1 dJ36_poll_38) ?_
    refine jlk_cons (sm_aload_n rfl B.1 dJ36_poll_40) ?_
    refine jlk_cons (sm_iload_n rfl B.1 dJ36_poll_41) ?_
    refine jlk_cons (sm_null B.1 dJ36_poll_42) ?_
    refine jlk_cons (sm_aast B.1 (t := 107) (by decide) (by decide) rfl (List.forall_mem_cons.mpr ⟨⟨by decide, by decide, _, kc_3, Or.inr q3472⟩, (List.forall_mem_cons.mpr ⟨⟨by decide, by decide, _, kc_7, Or.inr q3481⟩, (List.forall_mem_cons.mpr ⟨⟨by decide, by decide, _, kc_11, Or.inr q3488⟩, (List.forall_mem_cons.mpr ⟨⟨by decide, by decide, _, kc_12, Or.inr q3493⟩, (List.forall_mem_cons.mpr ⟨⟨by decide, by decide, _, kc_13, Or.inr q3496⟩, (List.forall_mem_cons.mpr ⟨⟨by decide, by decide, _, kc_21, Or.inr q3466⟩, (List.forall_mem_cons.mpr ⟨⟨by decide, by decide, _, kc_24, Or.inr q3468⟩, (List.forall_mem_cons.mpr ⟨⟨by decide, by decide, _, kc_35, Or.inr q3487⟩, (List.forall_mem_nil _)⟩)⟩)⟩)⟩)⟩)⟩)⟩)⟩) dJ36_poll_43) ?_
    refine jlk_cons (sm_iload_n rfl B.1 dJ36_poll_44) ?_
    refine jlk_cons (sm_ifle rfl B.1 dJ36_poll_45) ?_
    refine jlk_cons (sm_aload_n rfl B.1 dJ36_poll_48) ?_
    refine jlk_cons (sm_getP B.1 fl_java_util_PriorityQueue_21_34_145 dJ36_poll_49) ?_
    refine jlk_cons (sm_dup B.1 dJ36_poll_52) ?_
    refine jlk_cons (sm_astore B.1 dJ36_poll_53) ?_
    refine jlk_cons (sm_ifnonnull rfl B.1 dJ36_poll_55) ?_
    refine jlk_cons (sm_iconst rfl B.1 dJ36_poll_58) ?_
    refine jlk_cons (sm_aload B.1 dJ36_poll_59) ?_
    exact jlk_nil
  · skip
    refine jlk_cons (sm_aload_n rfl B.1 dJ36_poll_61) ?_
    refine jlk_cons (sm_iload_n rfl B.1 dJ36_poll_62) ?_
    refine jlk_cons (sm_iconst rfl B.1 dJ36_poll_69) ?_
    refine jlk_cons (sm_aload B.1 dJ36_poll_70) ?_
    refine jlk_cons (sm_aload_n rfl B.1 dJ36_poll_72) ?_
    refine jlk_cons (sm_iload_n rfl B.1 dJ36_poll_73) ?_
    refine jlk_cons (sm_aload B.1 dJ36_poll_74) ?_
    refine jlk_cons (sm_cS (x := yJ36_siftDownUsingComparator) (r9 := kr_6) (host := "") (owner := "") isSV (i_J36_siftDownUsingComparator hI) B q2051 q2052 w4_J36_siftDownUsingComparator w6_J36_siftDownUsingComparator (by decide) hy_J36_siftDownUsingComparator hl_J36_siftDownUsingComparator dJ36_poll_76 trivial) ?_
    refine jlk_cons (sm_aload_n rfl B.1 dJ36_poll_79) ?_
    refine jlk_cons (sm_aret B.1 B.2.1 hret (Or.inl ⟨_, rfl⟩) dJ36_poll_80) ?_
    exact jlk_nil
theorem v_J36_poll (hst : l.stackTraces = false) (hz : jEz (EV (d + 1))) (hI : jIH l D dA lo cs0 d) : jMe l D dA lo cs0 (EV (d + 1)) 254 yJ36_poll (ws_ yJ36_poll cJ36_poll 6 (Option.some (Jvm.ClassFile.FieldType.object "java/lang/Object"))) (d + 1) := z_meth hz rfl hp_J36_poll (r_J36_poll hst hI)
theorem r_J6_numberOfTrailingZeros (hst : l.stackTraces = false) (hI : jIH l D dA lo cs0 d) : jRows l D dA lo cs0 d 2 (tb_J6_numberOfTrailingZeros (EV d)) yJ6_numberOfTrailingZeros cJ6_numberOfTrailingZeros (Option.some Jvm.ClassFile.FieldType.int) [] := by
  intro p e R s m args below meth c z0 w0 zF wF Q rF hF B hz hw hret hnm
  refine jlk_app ?_ ?_
  · refine jlk_cons (sm_iload_n rfl B.1 dJ6_numberOfTrailingZeros_0) ?_
    refine jlk_cons (sm_iconst rfl B.1 dJ6_numberOfTrailingZeros_1) ?_
    refine jlk_cons (sm_ixor B.1 dJ6_numberOfTrailingZeros_2) ?_
    refine jlk_cons (sm_iload_n rfl B.1 dJ6_numberOfTrailingZeros_3) ?_
    refine jlk_cons (sm_iconst rfl B.1 dJ6_numberOfTrailingZeros_4) ?_
    refine jlk_cons (sm_isub B.1 dJ6_numberOfTrailingZeros_5) ?_
    refine jlk_cons (sm_iand B.1 dJ6_numberOfTrailingZeros_6) ?_
    refine jlk_cons (sm_istore_n rfl B.1 dJ6_numberOfTrailingZeros_7) ?_
    refine jlk_cons (sm_iload_n rfl B.1 dJ6_numberOfTrailingZeros_8) ?_
    refine jlk_cons (sm_ifgt rfl B.1 dJ6_numberOfTrailingZeros_9) ?_
    refine jlk_cons (sm_iload_n rfl B.1 dJ6_numberOfTrailingZeros_12) ?_
    refine jlk_cons (sm_bipush rfl B.1 dJ6_numberOfTrailingZeros_13) ?_
    refine jlk_cons (sm_iand B.1 dJ6_numberOfTrailingZeros_15) ?_
    refine jlk_cons (sm_iret B.1 B.2.1 hret dJ6_numberOfTrailingZeros_16) ?_
    refine jlk_cons (sm_iconst rfl B.1 dJ6_numberOfTrailingZeros_17) ?_
    refine jlk_cons (sm_istore_n rfl B.1 dJ6_numberOfTrailingZeros_18) ?_
    refine jlk_cons (sm_iload_n rfl B.1 dJ6_numberOfTrailingZeros_19) ?_
    refine jlk_cons (sm_ldcw q497 B.1 dJ6_numberOfTrailingZeros_20) ?_
    refine jlk_cons (sm_icmple rfl B.1 dJ6_numberOfTrailingZeros_23) ?_
    refine jlk_cons (sm_iinc rfl B.1 dJ6_numberOfTrailingZeros_26) ?_
    refine jlk_cons (sm_iload_n rfl B.1 dJ6_numberOfTrailingZeros_29) ?_
    refine jlk_cons (sm_bipush rfl B.1 dJ6_numberOfTrailingZeros_30) ?_
    refine jlk_cons (sm_iushr B.1 dJ6_numberOfTrailingZeros_32) ?_
    refine jlk_cons (sm_istore_n rfl B.1 dJ6_numberOfTrailingZeros_33) ?_
    refine jlk_cons (sm_iload_n rfl B.1 dJ6_numberOfTrailingZeros_34) ?_
    refine jlk_cons (sm_sipush rfl B.1 dJ6_numberOfTrailingZeros_35) ?_
    refine jlk_cons (sm_icmple rfl B.1 dJ6_numberOfTrailingZeros_38) ?_
    refine jlk_cons (sm_iinc rfl B.1 dJ6_numberOfTrailingZeros_41) ?_
    refine jlk_cons (sm_iload_n rfl B.1 dJ6_numberOfTrailingZeros_44) ?_
    refine jlk_cons (sm_bipush rfl B.1 dJ6_numberOfTrailingZeros_45) ?_
    refine jlk_cons (sm_iushr B.1 dJ6_numberOfTrailingZeros_47) ?_
    refine jlk_cons (sm_istore_n rfl B.1 dJ6_numberOfTrailingZeros_48) ?_
    refine jlk_cons (sm_iload_n rfl B.1 dJ6_numberOfTrailingZeros_49) ?_
    refine jlk_cons (sm_bipush rfl B.1 dJ6_numberOfTrailingZeros_50) ?_
    refine jlk_cons (sm_icmple rfl B.1 dJ6_numberOfTrailingZeros_52) ?_
    refine jlk_cons (sm_iinc rfl B.1 dJ6_numberOfTrailingZeros_55) ?_
    refine jlk_cons (sm_iload_n rfl B.1 dJ6_numberOfTrailingZeros_58) ?_
    refine jlk_cons (sm_iconst rfl B.1 dJ6_numberOfTrailingZeros_59) ?_
    refine jlk_cons (sm_iushr B.1 dJ6_numberOfTrailingZeros_60) ?_
    refine jlk_cons (sm_istore_n rfl B.1 dJ6_numberOfTrailingZeros_61) ?_
    exact jlk_nil
  · skip
    refine jlk_cons (sm_iload_n rfl B.1 dJ6_numberOfTrailingZeros_62) ?_
    refine jlk_cons (sm_iconst rfl B.1 dJ6_numberOfTrailingZeros_63) ?_
    refine jlk_cons (sm_icmple rfl B.1 dJ6_numberOfTrailingZeros_64) ?_
    refine jlk_cons (sm_iinc rfl B.1 dJ6_numberOfTrailingZeros_67) ?_
    refine jlk_cons (sm_iload_n rfl B.1 dJ6_numberOfTrailingZeros_70) ?_
    refine jlk_cons (sm_iconst rfl B.1 dJ6_numberOfTrailingZeros_71) ?_
    refine jlk_cons (sm_iushr B.1 dJ6_numberOfTrailingZeros_72) ?_
    refine jlk_cons (sm_istore_n rfl B.1 dJ6_numberOfTrailingZeros_73) ?_
    refine jlk_cons (sm_iload_n rfl B.1 dJ6_numberOfTrailingZeros_74) ?_
    refine jlk_cons (sm_iload_n rfl B.1 dJ6_numberOfTrailingZeros_75) ?_
    refine jlk_cons (sm_iconst rfl B.1 dJ6_numberOfTrailingZeros_76) ?_
    refine jlk_cons (sm_iushr B.1 dJ6_numberOfTrailingZeros_77) ?_
    refine jlk_cons (sm_iadd B.1 dJ6_numberOfTrailingZeros_78) ?_
    refine jlk_cons (sm_iret B.1 B.2.1 hret dJ6_numberOfTrailingZeros_79) ?_
    exact jlk_nil
theorem v_J6_numberOfTrailingZeros (hst : l.stackTraces = false) (hz : jEz (EV (d + 1))) (hI : jIH l D dA lo cs0 d) : jMe l D dA lo cs0 (EV (d + 1)) 256 yJ6_numberOfTrailingZeros (ws_ yJ6_numberOfTrailingZeros cJ6_numberOfTrailingZeros 2 (Option.some Jvm.ClassFile.FieldType.int)) (d + 1) := z_meth hz rfl hp_J6_numberOfTrailingZeros (r_J6_numberOfTrailingZeros hst hI)
theorem r_J40_clone (hst : l.stackTraces = false) (hI : jIH l D dA lo cs0 d) : jRows l D dA lo cs0 d 2 (tb_J40_clone (EV d)) yJ40_clone cJ40_clone (Option.some (Jvm.ClassFile.FieldType.object "java/lang/Object")) [((11 : Nat), (38 : Nat), (39 : Nat), (216 : Nat))] := by
  intro p e R s m args below meth c z0 w0 zF wF Q rF hF B hz hw hret hnm
  refine jlk_cons (sm_aload_n rfl B.1 dJ40_clone_0) ?_
  refine jlk_cons (sm_getI B.1 fl_java_util_BitSet_24_36_150 dJ40_clone_1) ?_
  refine jlk_cons (sm_ifne rfl B.1 dJ40_clone_4) ?_
  refine jlk_cons (sm_aload_n rfl B.1 dJ40_clone_7) ?_
  refine jlk_cons (sm_cV (x := yJ40_trimToSize) (host := "") (owner := "") isRV (i_J40_trimToSize hI) B q1953 q1955 qs23 w4_J40_trimToSize w6_J40_trimToSize (by decide) (by decide) (by decide) kc_36 hy_J40_trimToSize hl_J40_trimToSize dJ40_clone_8 trivial) ?_
  refine jlk_cons (sm_aload_n rfl B.1 dJ40_clone_11) ?_
  refine jlk_cons (sm_clo B.1 q1957 q3455 q1593 q1731 q1732 q3459 q3503 rfl in_J40 B.2.2.2 hz hw dJ40_clone_12) ?_
  refine jlk_cons (sm_cast B.1 q1958 (List.forall_mem_cons.mpr ⟨⟨by decide, by decide, _, kc_36, Or.inl rfl⟩, (List.forall_mem_nil _)⟩) dJ40_clone_15) ?_
  refine jlk_cons (sm_astore_n rfl B.1 dJ40_clone_18) ?_
  refine jlk_cons (sm_aload_n rfl B.1 dJ40_clone_19) ?_
  refine jlk_cons (sm_aload_n rfl B.1 dJ40_clone_20) ?_
  refine jlk_cons (sm_getP B.1 fl_java_util_BitSet_11_36_148 dJ40_clone_21) ?_
  refine jlk_cons (sm_cloL B.1 q1959 q1906 q1731 q1732 q1907 q1908 nmA_105 B.2.2.2 hz hw dJ40_clone_24) ?_
  refine jlk_cons (sm_castA B.1 (t := 105) (by decide) rfl nmA_105 q1960 dJ40_clone_27) ?_
  refine jlk_cons (sm_putP B.1 fl_java_util_BitSet_11_36_148 tyJ40 tyJ40_ok nmJ40 (Or.inl rfl) rfl (tyJ40_ok 0 (by decide)) rfl (by decide) dJ40_clone_30) ?_
  refine jlk_cons (sm_aload_n rfl B.1 dJ40_clone_33) ?_
  refine jlk_cons (sm_cV (x := yJ40_checkInvariants) (host := "") (owner := "") isRV (i_J40_checkInvariants hI) B q1910 q1912 qs20 w4_J40_checkInvariants w6_J40_checkInvariants (by decide) (by decide) (by decide) kc_36 hy_J40_checkInvariants hl_J40_checkInvariants dJ40_clone_34 trivial) ?_
  refine jlk_cons (sm_aload_n rfl B.1 dJ40_clone_37) ?_
  refine jlk_cons (sm_aret B.1 B.2.1 hret (Or.inl ⟨_, rfl⟩) dJ40_clone_38) ?_
  exact jlk_nil
theorem v_J40_clone (hst : l.stackTraces = false) (hz : jEz (EV (d + 1))) (hI : jIH l D dA lo cs0 d) : jMe l D dA lo cs0 (EV (d + 1)) 257 yJ40_clone (wsW_ yJ40_clone cJ40_clone 2 (Option.some (Jvm.ClassFile.FieldType.object "java/lang/Object")) [((11 : Nat), (38 : Nat), (39 : Nat), (216 : Nat))]) (d + 1) := z_methW hz rfl hp_J40_clone (r_J40_clone hst hI)
theorem r_J1_addEntryToEmptyMap (hst : l.stackTraces = false) (hI : jIH l D dA lo cs0 d) : jRows l D dA lo cs0 d 3 (tb_J1_addEntryToEmptyMap (EV d)) yJ1_addEntryToEmptyMap cJ1_addEntryToEmptyMap (Option.none : Option Jvm.ClassFile.FieldType) [] := by
  intro p e R s m args below meth c z0 w0 zF wF Q rF hF B hz hw hret hnm
  refine jlk_cons (sm_aload_n rfl B.1 dJ1_addEntryToEmptyMap_0) ?_
  refine jlk_cons (sm_aload_n rfl B.1 dJ1_addEntryToEmptyMap_1) ?_
  refine jlk_cons (sm_aload_n rfl B.1 dJ1_addEntryToEmptyMap_2) ?_
  refine jlk_cons (sm_cV (x := yJ1_compare) (host := "") (owner := "") isRI (i_J1_compare hI) B q300 q301 q302 w4_J1_compare w6_J1_compare (by decide) (by decide) (by decide) kc_20 hy_J1_compare hl_J1_compare dJ1_addEntryToEmptyMap_3 trivial) ?_
  refine jlk_cons (sm_pop B.1 dJ1_addEntryToEmptyMap_6) ?_
  refine jlk_cons (sm_aload_n rfl B.1 dJ1_addEntryToEmptyMap_7) ?_
  refine jlk_cons (sm_new B.1 kc_24 (by decide) (by decide) in_J15 tyJ15 tyJ15_ok kd_24 q634 q635 q142 B.2.2.2 hz hw dJ1_addEntryToEmptyMap_8) ?_
  refine jlk_cons (sm_dup B.1 dJ1_addEntryToEmptyMap_11) ?_
  refine jlk_cons (sm_aload_n rfl B.1 dJ1_addEntryToEmptyMap_12) ?_
  refine jlk_cons (sm_aload_n rfl B.1 dJ1_addEntryToEmptyMap_13) ?_
  refine jlk_cons (sm_null B.1 dJ1_addEntryToEmptyMap_14) ?_
  refine jlk_cons (sm_cI (x := yJ15_init) (r9 := kr_6) (host := "") (owner := "") isNV (i_J15_init hI) B q636 q637 w4_J15_init w6_J15_init (by decide) rfl hy_J15_init hl_J15_init dJ1_addEntryToEmptyMap_15 trivial) ?_
  refine jlk_cons (sm_putP B.1 fl_java_util_TreeMap_101_20_117 tyJ1 tyJ1_ok nmJ1 (Or.inl rfl) rfl (tyJ1_ok 3 (by decide)) rfl (by decide) dJ1_addEntryToEmptyMap_18) ?_
  refine jlk_cons (sm_aload_n rfl B.1 dJ1_addEntryToEmptyMap_21) ?_
  refine jlk_cons (sm_iconst rfl B.1 dJ1_addEntryToEmptyMap_22) ?_
  refine jlk_cons (sm_putI B.1 fl_java_util_TreeMap_7_20_118 tyJ1 tyJ1_ok nmJ1 (Or.inl rfl) (tyJ1_ok 4 (by decide)) rfl (by decide) dJ1_addEntryToEmptyMap_23) ?_
  refine jlk_cons (sm_aload_n rfl B.1 dJ1_addEntryToEmptyMap_26) ?_
  refine jlk_cons (sm_dup B.1 dJ1_addEntryToEmptyMap_27) ?_
  refine jlk_cons (sm_getI B.1 fl_java_util_TreeMap_13_20_119 dJ1_addEntryToEmptyMap_28) ?_
  refine jlk_cons (sm_iconst rfl B.1 dJ1_addEntryToEmptyMap_31) ?_
  refine jlk_cons (sm_iadd B.1 dJ1_addEntryToEmptyMap_32) ?_
  refine jlk_cons (sm_putI B.1 fl_java_util_TreeMap_13_20_119 tyJ1 tyJ1_ok nmJ1 (Or.inl rfl) (tyJ1_ok 5 (by decide)) rfl (by decide) dJ1_addEntryToEmptyMap_33) ?_
  refine jlk_cons (sm_vret B.1 B.2.1 hret dJ1_addEntryToEmptyMap_36) ?_
  exact jlk_nil
theorem v_J1_addEntryToEmptyMap (hst : l.stackTraces = false) (hz : jEz (EV (d + 1))) (hI : jIH l D dA lo cs0 d) : jMe l D dA lo cs0 (EV (d + 1)) 264 yJ1_addEntryToEmptyMap (ws_ yJ1_addEntryToEmptyMap cJ1_addEntryToEmptyMap 3 (Option.none : Option Jvm.ClassFile.FieldType)) (d + 1) := z_meth hz rfl hp_J1_addEntryToEmptyMap (r_J1_addEntryToEmptyMap hst hI)
theorem r_J16_requireNonNull (hst : l.stackTraces = false) (hI : jIH l D dA lo cs0 d) : jRows l D dA lo cs0 d 1 (tb_J16_requireNonNull (EV d)) yJ16_requireNonNull cJ16_requireNonNull (Option.some (Jvm.ClassFile.FieldType.object "java/lang/Object")) [] := by
  intro p e R s m args below meth c z0 w0 zF wF Q rF hF B hz hw hret hnm
  refine jlk_cons (sm_aload_n rfl B.1 dJ16_requireNonNull_0) ?_
  refine jlk_cons (sm_ifnonnull rfl B.1 dJ16_requireNonNull_1) ?_
  refine jlk_cons (sm_aload_n rfl B.1 dJ16_requireNonNull_12) ?_
  refine jlk_cons (sm_aret B.1 B.2.1 hret (Or.inl ⟨_, rfl⟩) dJ16_requireNonNull_13) ?_
  exact jlk_nil
theorem v_J16_requireNonNull (hst : l.stackTraces = false) (hz : jEz (EV (d + 1))) (hI : jIH l D dA lo cs0 d) : jMe l D dA lo cs0 (EV (d + 1)) 266 yJ16_requireNonNull (ws_ yJ16_requireNonNull cJ16_requireNonNull 1 (Option.some (Jvm.ClassFile.FieldType.object "java/lang/Object"))) (d + 1) := z_meth hz rfl hp_J16_requireNonNull (r_J16_requireNonNull hst hI)
theorem r_J6_compareTo (hst : l.stackTraces = false) (hI : jIH l D dA lo cs0 d) : jRows l D dA lo cs0 d 2 (tb_J6_compareTo (EV d)) yJ6_compareTo cJ6_compareTo (Option.some Jvm.ClassFile.FieldType.int) [] := by
  intro p e R s m args below meth c z0 w0 zF wF Q rF hF B hz hw hret hnm
  refine jlk_cons (sm_aload_n rfl B.1 dJ6_compareTo_0) ?_
  refine jlk_cons (sm_aload_n rfl B.1 dJ6_compareTo_1) ?_
  refine jlk_cons (sm_cast B.1 q275 (List.forall_mem_cons.mpr ⟨⟨by decide, by decide, _, kc_22, Or.inl rfl⟩, (List.forall_mem_nil _)⟩) dJ6_compareTo_2) ?_
  refine jlk_cons (sm_cV (x := yJ6_compareTo_2) (host := "") (owner := "") isRI (i_J6_compareTo_2 hI) B q392 q393 q394 w4_J6_compareTo_2 w6_J6_compareTo_2 (by decide) (by decide) (by decide) kc_22 hy_J6_compareTo_2 hl_J6_compareTo_2 dJ6_compareTo_5 trivial) ?_
  refine jlk_cons (sm_iret B.1 B.2.1 hret dJ6_compareTo_8) ?_
  exact jlk_nil
theorem v_J6_compareTo (hst : l.stackTraces = false) (hz : jEz (EV (d + 1))) (hI : jIH l D dA lo cs0 d) : jMe l D dA lo cs0 (EV (d + 1)) 267 yJ6_compareTo (ws_ yJ6_compareTo cJ6_compareTo 2 (Option.some Jvm.ClassFile.FieldType.int)) (d + 1) := z_meth hz rfl hp_J6_compareTo (r_J6_compareTo hst hI)
theorem r_J1_addEntry (hst : l.stackTraces = false) (hI : jIH l D dA lo cs0 d) : jRows l D dA lo cs0 d 6 (tb_J1_addEntry (EV d)) yJ1_addEntry cJ1_addEntry (Option.none : Option Jvm.ClassFile.FieldType) [] := by
  intro p e R s m args below meth c z0 w0 zF wF Q rF hF B hz hw hret hnm
  refine jlk_cons (sm_new B.1 kc_24 (by decide) (by decide) in_J15 tyJ15 tyJ15_ok kd_24 q634 q635 q142 B.2.2.2 hz hw dJ1_addEntry_0) ?_
  refine jlk_cons (sm_dup B.1 dJ1_addEntry_3) ?_
  refine jlk_cons (sm_aload_n rfl B.1 dJ1_addEntry_4) ?_
  refine jlk_cons (sm_aload_n rfl B.1 dJ1_addEntry_5) ?_
  refine jlk_cons (sm_aload_n rfl B.1 dJ1_addEntry_6) ?_
  refine jlk_cons (sm_cI (x := yJ15_init) (r9 := kr_6) (host := "") (owner := "") isNV (i_J15_init hI) B q636 q637 w4_J15_init w6_J15_init (by decide) rfl hy_J15_init hl_J15_init dJ1_addEntry_7 trivial) ?_
  refine jlk_cons (sm_astore B.1 dJ1_addEntry_10) ?_
  refine jlk_cons (sm_iload B.1 dJ1_addEntry_12) ?_
  refine jlk_cons (sm_ifeq rfl B.1 dJ1_addEntry_14) ?_
  refine jlk_cons (sm_aload_n rfl B.1 dJ1_addEntry_17) ?_
  refine jlk_cons (sm_aload B.1 dJ1_addEntry_18) ?_
  refine jlk_cons (sm_putP B.1 fl_java_util_TreeMap_111_24_133 tyJ15 tyJ15_ok nmJ15 (Or.inl rfl) rfl (tyJ15_ok 2 (by decide)) rfl (by decide) dJ1_addEntry_20) ?_
  refine jlk_cons (sm_goto rfl B.1 dJ1_addEntry_23) ?_
  refine jlk_cons (sm_aload_n rfl B.1 dJ1_addEntry_26) ?_
  refine jlk_cons (sm_aload B.1 dJ1_addEntry_27) ?_
  refine jlk_cons (sm_putP B.1 fl_java_util_TreeMap_114_24_134 tyJ15 tyJ15_ok nmJ15 (Or.inl rfl) rfl (tyJ15_ok 3 (by decide)) rfl (by decide) dJ1_addEntry_29) ?_
  refine jlk_cons (sm_aload_n rfl B.1 dJ1_addEntry_32) ?_
  refine jlk_cons (sm_aload B.1 dJ1_addEntry_33) ?_
  refine jlk_cons (sm_cV (x := yJ1_fixAfterInsertion) (host := "") (owner := "") isRV (i_J1_fixAfterInsertion hI) B q671 q673 qs3 w4_J1_fixAfterInsertion w6_J1_fixAfterInsertion (by decide) (by decide) (by decide) kc_20 hy_J1_fixAfterInsertion hl_J1_fixAfterInsertion dJ1_addEntry_35 trivial) ?_
  refine jlk_cons (sm_aload_n rfl B.1 dJ1_addEntry_38) ?_
  refine jlk_cons (sm_dup B.1 dJ1_addEntry_39) ?_
  refine jlk_cons (sm_getI B.1 fl_java_util_TreeMap_7_20_118 dJ1_addEntry_40) ?_
  refine jlk_cons (sm_iconst rfl B.1 dJ1_addEntry_43) ?_
  refine jlk_cons (sm_iadd B.1 dJ1_addEntry_44) ?_
  refine jlk_cons (sm_putI B.1 fl_java_util_TreeMap_7_20_118 tyJ1 tyJ1_ok nmJ1 (Or.inl rfl) (tyJ1_ok 4 (by decide)) rfl (by decide) dJ1_addEntry_45) ?_
  refine jlk_cons (sm_aload_n rfl B.1 dJ1_addEntry_48) ?_
  refine jlk_cons (sm_dup B.1 dJ1_addEntry_49) ?_
  refine jlk_cons (sm_getI B.1 fl_java_util_TreeMap_13_20_119 dJ1_addEntry_50) ?_
  refine jlk_cons (sm_iconst rfl B.1 dJ1_addEntry_53) ?_
  refine jlk_cons (sm_iadd B.1 dJ1_addEntry_54) ?_
  refine jlk_cons (sm_putI B.1 fl_java_util_TreeMap_13_20_119 tyJ1 tyJ1_ok nmJ1 (Or.inl rfl) (tyJ1_ok 5 (by decide)) rfl (by decide) dJ1_addEntry_55) ?_
  refine jlk_cons (sm_vret B.1 B.2.1 hret dJ1_addEntry_58) ?_
  exact jlk_nil
theorem v_J1_addEntry (hst : l.stackTraces = false) (hz : jEz (EV (d + 1))) (hI : jIH l D dA lo cs0 d) : jMe l D dA lo cs0 (EV (d + 1)) 269 yJ1_addEntry (ws_ yJ1_addEntry cJ1_addEntry 6 (Option.none : Option Jvm.ClassFile.FieldType)) (d + 1) := z_meth hz rfl hp_J1_addEntry (r_J1_addEntry hst hI)
theorem r_J44_equals (hst : l.stackTraces = false) (hI : jIH l D dA lo cs0 d) : jRows l D dA lo cs0 d 2 (tb_J44_equals (EV d)) yJ44_equals cJ44_equals (Option.some Jvm.ClassFile.FieldType.boolean) [] := by
  intro p e R s m args below meth c z0 w0 zF wF Q rF hF B hz hw hret hnm
  refine jlk_cons (sm_aload_n rfl B.1 dJ44_equals_0) ?_
  refine jlk_cons (sm_aload_n rfl B.1 dJ44_equals_1) ?_
  refine jlk_cons (sm_acmpne rfl B.1 dJ44_equals_2) ?_
  refine jlk_cons (sm_iconst rfl B.1 dJ44_equals_5) ?_
  refine jlk_cons (sm_goto rfl B.1 dJ44_equals_6) ?_
  refine jlk_cons (sm_iconst rfl B.1 dJ44_equals_9) ?_
  refine jlk_cons (sm_zret B.1 B.2.1 hret dJ44_equals_10) ?_
  exact jlk_nil
theorem v_J44_equals (hst : l.stackTraces = false) (hz : jEz (EV (d + 1))) (hI : jIH l D dA lo cs0 d) : jMe l D dA lo cs0 (EV (d + 1)) 270 yJ44_equals (ws_ yJ44_equals cJ44_equals 2 (Option.some Jvm.ClassFile.FieldType.boolean)) (d + 1) := z_meth hz rfl hp_J44_equals (r_J44_equals hst hI)
theorem r_J18_init (hst : l.stackTraces = false) (hI : jIH l D dA lo cs0 d) : jRows l D dA lo cs0 d 2 (tb_J18_init (EV d)) yJ18_init cJ18_init (Option.none : Option Jvm.ClassFile.FieldType) [] := by
  intro p e R s m args below meth c z0 w0 zF wF Q rF hF B hz hw hret hnm
  refine jlk_cons (sm_aload_n rfl B.1 dJ18_init_0) ?_
  refine jlk_cons (sm_aload_n rfl B.1 dJ18_init_1) ?_
  refine jlk_cons (sm_putP B.1 fl_java_util_TreeMap_EntrySet_1_25_137 tyJ18 tyJ18_ok nmJ18 (Or.inr ⟨rfl, hnm, rfl⟩) rfl (tyJ18_ok 0 (by decide)) rfl (by decide) dJ18_init_2) ?_
  refine jlk_cons (sm_aload_n rfl B.1 dJ18_init_5) ?_
  refine jlk_cons (sm_cI (x := yJ17_init) (r9 := kr_6) (host := "") (owner := "") isNV (i_J17_init hI) B q816 q817 w4_J17_init w6_J17_init (by decide) rfl hy_J17_init hl_J17_init dJ18_init_6 trivial) ?_
  refine jlk_cons (sm_vret B.1 B.2.1 hret dJ18_init_9) ?_
  exact jlk_nil
theorem v_J18_init (hst : l.stackTraces = false) (hz : jEz (EV (d + 1))) (hI : jIH l D dA lo cs0 d) : jMe l D dA lo cs0 (EV (d + 1)) 271 yJ18_init (ws_ yJ18_init cJ18_init 2 (Option.none : Option Jvm.ClassFile.FieldType)) (d + 1) := z_meth hz rfl hp_J18_init (r_J18_init hst hI)
theorem r_J1_getFirstEntry (hst : l.stackTraces = false) (hI : jIH l D dA lo cs0 d) : jRows l D dA lo cs0 d 2 (tb_J1_getFirstEntry (EV d)) yJ1_getFirstEntry cJ1_getFirstEntry (Option.some (Jvm.ClassFile.FieldType.object "java/util/TreeMap$Entry")) [] := by
  intro p e R s m args below meth c z0 w0 zF wF Q rF hF B hz hw hret hnm
  refine jlk_cons (sm_aload_n rfl B.1 dJ1_getFirstEntry_0) ?_
  refine jlk_cons (sm_getP B.1 fl_java_util_TreeMap_101_20_117 dJ1_getFirstEntry_1) ?_
  refine jlk_cons (sm_astore_n rfl B.1 dJ1_getFirstEntry_4) ?_
  refine jlk_cons (sm_aload_n rfl B.1 dJ1_getFirstEntry_5) ?_
  refine jlk_cons (sm_ifnull rfl B.1 dJ1_getFirstEntry_6) ?_
  refine jlk_cons (sm_aload_n rfl B.1 dJ1_getFirstEntry_9) ?_
  refine jlk_cons (sm_getP B.1 fl_java_util_TreeMap_111_24_133 dJ1_getFirstEntry_10) ?_
  refine jlk_cons (sm_ifnull rfl B.1 dJ1_getFirstEntry_13) ?_
  refine jlk_cons (sm_aload_n rfl B.1 dJ1_getFirstEntry_16) ?_
  refine jlk_cons (sm_getP B.1 fl_java_util_TreeMap_111_24_133 dJ1_getFirstEntry_17) ?_
  refine jlk_cons (sm_astore_n rfl B.1 dJ1_getFirstEntry_20) ?_
  refine jlk_cons (sm_goto rfl B.1 dJ1_getFirstEntry_21) ?_
  refine jlk_cons (sm_aload_n rfl B.1 dJ1_getFirstEntry_24) ?_
  refine jlk_cons (sm_aret B.1 B.2.1 hret (Or.inl ⟨_, rfl⟩) dJ1_getFirstEntry_25) ?_
  exact jlk_nil
theorem v_J1_getFirstEntry (hst : l.stackTraces = false) (hz : jEz (EV (d + 1))) (hI : jIH l D dA lo cs0 d) : jMe l D dA lo cs0 (EV (d + 1)) 272 yJ1_getFirstEntry (ws_ yJ1_getFirstEntry cJ1_getFirstEntry 2 (Option.some (Jvm.ClassFile.FieldType.object "java/util/TreeMap$Entry"))) (d + 1) := z_meth hz rfl hp_J1_getFirstEntry (r_J1_getFirstEntry hst hI)
theorem r_J20_init (hst : l.stackTraces = false) (hI : jIH l D dA lo cs0 d) : jRows l D dA lo cs0 d 3 (tb_J20_init (EV d)) yJ20_init cJ20_init (Option.none : Option Jvm.ClassFile.FieldType) [] := by
  intro p e R s m args below meth c z0 w0 zF wF Q rF hF B hz hw hret hnm
  refine jlk_cons (sm_aload_n rfl B.1 dJ20_init_0) ?_
  refine jlk_cons (sm_aload_n rfl B.1 dJ20_init_1) ?_
  refine jlk_cons (sm_aload_n rfl B.1 dJ20_init_2) ?_
  refine jlk_cons (sm_cI (x := yJ19_init) (r9 := kr_6) (host := "") (owner := "") isNV (i_J19_init hI) B q843 q844 w4_J19_init w6_J19_init (by decide) rfl hy_J19_init hl_J19_init dJ20_init_3 trivial) ?_
  refine jlk_cons (sm_vret B.1 B.2.1 hret dJ20_init_6) ?_
  exact jlk_nil
theorem v_J20_init (hst : l.stackTraces = false) (hz : jEz (EV (d + 1))) (hI : jIH l D dA lo cs0 d) : jMe l D dA lo cs0 (EV (d + 1)) 273 yJ20_init (ws_ yJ20_init cJ20_init 3 (Option.none : Option Jvm.ClassFile.FieldType)) (d + 1) := z_meth hz rfl hp_J20_init (r_J20_init hst hI)
theorem r_J1_keyIterator (hst : l.stackTraces = false) (hI : jIH l D dA lo cs0 d) : jRows l D dA lo cs0 d 1 (tb_J1_keyIterator (EV d)) yJ1_keyIterator cJ1_keyIterator (Option.some (Jvm.ClassFile.FieldType.object "java/util/Iterator")) [] := by
  intro p e R s m args below meth c z0 w0 zF wF Q rF hF B hz hw hret hnm
  refine jlk_cons (sm_new B.1 kc_27 (by decide) (by decide) in_J21 tyJ21 tyJ21_ok kd_27 q871 q872 q148 B.2.2.2 hz hw dJ1_keyIterator_0) ?_
  refine jlk_cons (sm_dup B.1 dJ1_keyIterator_3) ?_
  refine jlk_cons (sm_aload_n rfl B.1 dJ1_keyIterator_4) ?_
  refine jlk_cons (sm_aload_n rfl B.1 dJ1_keyIterator_5) ?_
  refine jlk_cons (sm_cV (x := yJ1_getFirstEntry) (host := "") (owner := "") isRP (i_J1_getFirstEntry hI) B q873 q837 q838 w4_J1_getFirstEntry w6_J1_getFirstEntry (by decide) (by decide) (by decide) kc_20 hy_J1_getFirstEntry hl_J1_getFirstEntry dJ1_keyIterator_6 trivial) ?_
  refine jlk_cons (sm_cI (x := yJ21_init) (r9 := kr_6) (host := "") (owner := "") isNV (i_J21_init hI) B q874 q875 w4_J21_init w6_J21_init (by decide) rfl hy_J21_init hl_J21_init dJ1_keyIterator_9 trivial) ?_
  refine jlk_cons (sm_aret B.1 B.2.1 hret (Or.inl ⟨_, rfl⟩) dJ1_keyIterator_12) ?_
  exact jlk_nil
theorem v_J1_keyIterator (hst : l.stackTraces = false) (hz : jEz (EV (d + 1))) (hI : jIH l D dA lo cs0 d) : jMe l D dA lo cs0 (EV (d + 1)) 274 yJ1_keyIterator (ws_ yJ1_keyIterator cJ1_keyIterator 1 (Option.some (Jvm.ClassFile.FieldType.object "java/util/Iterator"))) (d + 1) := z_meth hz rfl hp_J1_keyIterator (r_J1_keyIterator hst hI)
theorem r_J1_navigableKeySet (hst : l.stackTraces = false) (hI : jIH l D dA lo cs0 d) : jRows l D dA lo cs0 d 2 (tb_J1_navigableKeySet (EV d)) yJ1_navigableKeySet cJ1_navigableKeySet (Option.some (Jvm.ClassFile.FieldType.object "java/util/NavigableSet")) [] := by
  intro p e R s m args below meth c z0 w0 zF wF Q rF hF B hz hw hret hnm
  refine jlk_cons (sm_aload_n rfl B.1 dJ1_navigableKeySet_0) ?_
  refine jlk_cons (sm_getP B.1 fl_java_util_TreeMap_191_20_121 dJ1_navigableKeySet_1) ?_
  refine jlk_cons (sm_astore_n rfl B.1 dJ1_navigableKeySet_4) ?_
  refine jlk_cons (sm_aload_n rfl B.1 dJ1_navigableKeySet_5) ?_
  refine jlk_cons (sm_ifnull rfl B.1 dJ1_navigableKeySet_6) ?_
  refine jlk_cons (sm_aload_n rfl B.1 dJ1_navigableKeySet_9) ?_
  refine jlk_cons (sm_goto rfl B.1 dJ1_navigableKeySet_10) ?_
  refine jlk_cons (sm_aload_n rfl B.1 dJ1_navigableKeySet_13) ?_
  refine jlk_cons (sm_new B.1 kc_28 (by decide) (by decide) in_J22 tyJ22 tyJ22_ok kd_28 q903 q904 q149 B.2.2.2 hz hw dJ1_navigableKeySet_14) ?_
  refine jlk_cons (sm_dup B.1 dJ1_navigableKeySet_17) ?_
  refine jlk_cons (sm_aload_n rfl B.1 dJ1_navigableKeySet_18) ?_
  refine jlk_cons (sm_cI (x := yJ22_init) (r9 := kr_6) (host := "") (owner := "") isNV (i_J22_init hI) B q905 q906 w4_J22_init w6_J22_init (by decide) rfl hy_J22_init hl_J22_init dJ1_navigableKeySet_19 trivial) ?_
  refine jlk_cons (sm_dup_x1 B.1 dJ1_navigableKeySet_22) ?_
  refine jlk_cons (sm_putP B.1 fl_java_util_TreeMap_191_20_121 tyJ1 tyJ1_ok nmJ1 (Or.inl rfl) rfl (tyJ1_ok 7 (by decide)) rfl (by decide) dJ1_navigableKeySet_23) ?_
  refine jlk_cons (sm_aret B.1 B.2.1 hret (Or.inl ⟨_, rfl⟩) dJ1_navigableKeySet_26) ?_
  exact jlk_nil
theorem v_J1_navigableKeySet (hst : l.stackTraces = false) (hz : jEz (EV (d + 1))) (hI : jIH l D dA lo cs0 d) : jMe l D dA lo cs0 (EV (d + 1)) 275 yJ1_navigableKeySet (ws_ yJ1_navigableKeySet cJ1_navigableKeySet 2 (Option.some (Jvm.ClassFile.FieldType.object "java/util/NavigableSet"))) (d + 1) := z_meth hz rfl hp_J1_navigableKeySet (r_J1_navigableKeySet hst hI)
theorem r_J1_computeRedLevel (hst : l.stackTraces = false) (hI : jIH l D dA lo cs0 d) : jRows l D dA lo cs0 d 1 (tb_J1_computeRedLevel (EV d)) yJ1_computeRedLevel cJ1_computeRedLevel (Option.some Jvm.ClassFile.FieldType.int) [] := by
  intro p e R s m args below meth c z0 w0 zF wF Q rF hF B hz hw hret hnm
  refine jlk_cons (sm_bipush rfl B.1 dJ1_computeRedLevel_0) ?_
  refine jlk_cons (sm_iload_n rfl B.1 dJ1_computeRedLevel_2) ?_
  refine jlk_cons (sm_iconst rfl B.1 dJ1_computeRedLevel_3) ?_
  refine jlk_cons (sm_iadd B.1 dJ1_computeRedLevel_4) ?_
  refine jlk_cons (sm_cS (x := yJ6_numberOfLeadingZeros) (r9 := kr_6) (host := "") (owner := "") isSI (i_J6_numberOfLeadingZeros hI) B q928 q495 w4_J6_numberOfLeadingZeros w6_J6_numberOfLeadingZeros (by decide) hy_J6_numberOfLeadingZeros hl_J6_numberOfLeadingZeros dJ1_computeRedLevel_5 trivial) ?_
  refine jlk_cons (sm_isub B.1 dJ1_computeRedLevel_8) ?_
  refine jlk_cons (sm_iret B.1 B.2.1 hret dJ1_computeRedLevel_9) ?_
  exact jlk_nil
theorem v_J1_computeRedLevel (hst : l.stackTraces = false) (hz : jEz (EV (d + 1))) (hI : jIH l D dA lo cs0 d) : jMe l D dA lo cs0 (EV (d + 1)) 276 yJ1_computeRedLevel (ws_ yJ1_computeRedLevel cJ1_computeRedLevel 1 (Option.some Jvm.ClassFile.FieldType.int)) (d + 1) := z_meth hz rfl hp_J1_computeRedLevel (r_J1_computeRedLevel hst hI)
theorem r_J1_buildFromSorted_2 (hst : l.stackTraces = false) (hI : jIH l D dA lo cs0 d) : jRows l D dA lo cs0 d 14 (tb_J1_buildFromSorted_2 (EV d)) yJ1_buildFromSorted_2 cJ1_buildFromSorted_2 (Option.some (Jvm.ClassFile.FieldType.object "java/util/TreeMap$Entry")) [] := by
  intro p e R s m args below meth c z0 w0 zF wF Q rF hF B hz hw hret hnm
  refine jlk_app ?_ ?_
  · refine jlk_cons (sm_iload_n rfl B.1 dJ1_buildFromSorted_2_0) ?_
    refine jlk_cons (sm_iload_n rfl B.1 dJ1_buildFromSorted_2_1) ?_
    refine jlk_cons (sm_icmpge rfl B.1 dJ1_buildFromSorted_2_2) ?_
    refine jlk_cons (sm_null B.1 dJ1_buildFromSorted_2_5) ?_
    refine jlk_cons (sm_aret B.1 B.2.1 hret (Or.inl ⟨_, rfl⟩) dJ1_buildFromSorted_2_6) ?_
    refine jlk_cons (sm_iload_n rfl B.1 dJ1_buildFromSorted_2_7) ?_
    refine jlk_cons (sm_iload_n rfl B.1 dJ1_buildFromSorted_2_8) ?_
    refine jlk_cons (sm_iadd B.1 dJ1_buildFromSorted_2_9) ?_
    refine jlk_cons (sm_iconst rfl B.1 dJ1_buildFromSorted_2_10) ?_
    refine jlk_cons (sm_iushr B.1 dJ1_buildFromSorted_2_11) ?_
    refine jlk_cons (sm_istore B.1 dJ1_buildFromSorted_2_12) ?_
    refine jlk_cons (sm_null B.1 dJ1_buildFromSorted_2_14) ?_
    refine jlk_cons (sm_astore B.1 dJ1_buildFromSorted_2_15) ?_
    refine jlk_cons (sm_iload_n rfl B.1 dJ1_buildFromSorted_2_17) ?_
    refine jlk_cons (sm_iload B.1 dJ1_buildFromSorted_2_18) ?_
    refine jlk_cons (sm_icmpge rfl B.1 dJ1_buildFromSorted_2_20) ?_
    refine jlk_cons (sm_aload_n rfl B.1 dJ1_buildFromSorted_2_23) ?_
    refine jlk_cons (sm_iload_n rfl B.1 dJ1_buildFromSorted_2_24) ?_
    refine jlk_cons (sm_iconst rfl B.1 dJ1_buildFromSorted_2_25) ?_
    refine jlk_cons (sm_iadd B.1 dJ1_buildFromSorted_2_26) ?_
    refine jlk_cons (sm_iload_n rfl B.1 dJ1_buildFromSorted_2_27) ?_
    refine jlk_cons (sm_iload B.1 dJ1_buildFromSorted_2_28) ?_
    refine jlk_cons (sm_iconst rfl B.1 dJ1_buildFromSorted_2_30) ?_
    refine jlk_cons (sm_isub B.1 dJ1_buildFromSorted_2_31) ?_
    refine jlk_cons (sm_iload B.1 dJ1_buildFromSorted_2_32) ?_
    refine jlk_cons (sm_aload B.1 dJ1_buildFromSorted_2_34) ?_
    refine jlk_cons (sm_aload B.1 dJ1_buildFromSorted_2_36) ?_
    refine jlk_cons (sm_aload B.1 dJ1_buildFromSorted_2_38) ?_
    refine jlk_cons (sm_cV (x := yJ1_buildFromSorted_2) (host := "") (owner := "") isRP (i_J1_buildFromSorted_2 hI) B q929 q931 qs7 w4_J1_buildFromSorted_2 w6_J1_buildFromSorted_2 (by decide) (by decide) (by decide) kc_20 hy_J1_buildFromSorted_2 hl_J1_buildFromSorted_2 dJ1_buildFromSorted_2_40 trivial) ?_
    refine jlk_cons (sm_astore B.1 dJ1_buildFromSorted_2_43) ?_
    refine jlk_cons (sm_aload B.1 dJ1_buildFromSorted_2_45) ?_
    refine jlk_cons (sm_ifnull rfl B.1 dJ1_buildFromSorted_2_47) ?_
    refine jlk_cons (sm_aload B.1 dJ1_buildFromSorted_2_50) ?_
    refine jlk_cons (sm_ifnonnull rfl B.1 dJ1_buildFromSorted_2_52) ?_
    refine jlk_cons (sm_aload B.1 dJ1_buildFromSorted_2_55) ?_
    refine jlk_cons (sm_cF (x := ⟨"java/util/Iterator", "next", "()Ljava/lang/Object;"⟩) (host := "") (owner := "") isRP (i_J20_next hI) B (List.mem_of_getElem? (i := 8) rfl) q934 q1039 q1041 w4_J20_next w6_J20_next (by decide) (by decide) (by decide) kc_26 (hl_J20_next : _) dJ1_buildFromSorted_2_57 trivial) ?_
    refine jlk_cons (sm_cast B.1 q1068 (List.forall_mem_cons.mpr ⟨⟨by decide, by decide, _, kc_24, Or.inr q1073⟩, (List.forall_mem_nil _)⟩) dJ1_buildFromSorted_2_62) ?_
    refine jlk_cons (sm_astore B.1 dJ1_buildFromSorted_2_65) ?_
    refine jlk_cons (sm_aload B.1 dJ1_buildFromSorted_2_67) ?_
    refine jlk_cons (sm_cF (x := ⟨"java/util/Map$Entry", "getKey", "()Ljava/lang/Object;"⟩) (host := "") (owner := "") isRP (i_J15_getKey hI) B (List.mem_of_getElem? (i := 9) rfl) q1070 q1074 q1076 w4_J15_getKey w6_J15_getKey (by decide) (by decide) (by decide) kc_24 (hl_J15_getKey : _) dJ1_buildFromSorted_2_69 trivial) ?_
    exact jlk_nil
  · skip
    refine jlk_app ?_ ?_
    · refine jlk_cons (sm_astore B.1 dJ1_buildFromSorted_2_74) ?_
      refine jlk_cons (sm_aload B.1 dJ1_buildFromSorted_2_76) ?_
      refine jlk_cons (sm_cF (x := ⟨"java/util/Map$Entry", "getValue", "()Ljava/lang/Object;"⟩) (host := "") (owner := "") isRP (i_J15_getValue hI) B (List.mem_of_getElem? (i := 10) rfl) q1080 q1083 q1085 w4_J15_getValue w6_J15_getValue (by decide) (by decide) (by decide) kc_24 (hl_J15_getValue : _) dJ1_buildFromSorted_2_78 trivial) ?_
      refine jlk_cons (sm_astore B.1 dJ1_buildFromSorted_2_83) ?_
      refine jlk_cons (sm_goto rfl B.1 dJ1_buildFromSorted_2_85) ?_
      refine jlk_cons (sm_aload B.1 dJ1_buildFromSorted_2_88) ?_
      refine jlk_cons (sm_cF (x := ⟨"java/util/Iterator", "next", "()Ljava/lang/Object;"⟩) (host := "") (owner := "") isRP (i_J20_next hI) B (List.mem_of_getElem? (i := 8) rfl) q934 q1039 q1041 w4_J20_next w6_J20_next (by decide) (by decide) (by decide) kc_26 (hl_J20_next : _) dJ1_buildFromSorted_2_90 trivial) ?_
      refine jlk_cons (sm_astore B.1 dJ1_buildFromSorted_2_95) ?_
      refine jlk_cons (sm_aload B.1 dJ1_buildFromSorted_2_97) ?_
      refine jlk_cons (sm_astore B.1 dJ1_buildFromSorted_2_99) ?_
      refine jlk_cons (sm_goto rfl B.1 dJ1_buildFromSorted_2_101) ?_
      refine jlk_cons (sm_aload B.1 dJ1_buildFromSorted_2_104) ?_
      refine jlk_cons (sm_new B.1 kc_24 (by decide) (by decide) in_J15 tyJ15 tyJ15_ok kd_24 q634 q635 q142 B.2.2.2 hz hw dJ1_buildFromSorted_2_128) ?_
      refine jlk_cons (sm_dup B.1 dJ1_buildFromSorted_2_131) ?_
      refine jlk_cons (sm_aload B.1 dJ1_buildFromSorted_2_132) ?_
      refine jlk_cons (sm_aload B.1 dJ1_buildFromSorted_2_134) ?_
      refine jlk_cons (sm_null B.1 dJ1_buildFromSorted_2_136) ?_
      refine jlk_cons (sm_cI (x := yJ15_init) (r9 := kr_6) (host := "") (owner := "") isNV (i_J15_init hI) B q636 q637 w4_J15_init w6_J15_init (by decide) rfl hy_J15_init hl_J15_init dJ1_buildFromSorted_2_137 trivial) ?_
      refine jlk_cons (sm_astore B.1 dJ1_buildFromSorted_2_140) ?_
      refine jlk_cons (sm_iload_n rfl B.1 dJ1_buildFromSorted_2_142) ?_
      refine jlk_cons (sm_iload B.1 dJ1_buildFromSorted_2_143) ?_
      refine jlk_cons (sm_icmpne rfl B.1 dJ1_buildFromSorted_2_145) ?_
      refine jlk_cons (sm_aload B.1 dJ1_buildFromSorted_2_148) ?_
      refine jlk_cons (sm_iconst rfl B.1 dJ1_buildFromSorted_2_150) ?_
      refine jlk_cons (sm_putZ B.1 fl_java_util_TreeMap_290_24_136 tyJ15 tyJ15_ok nmJ15 (Or.inl rfl) (tyJ15_ok 5 (by decide)) rfl (by decide) dJ1_buildFromSorted_2_151) ?_
      refine jlk_cons (sm_aload B.1 dJ1_buildFromSorted_2_154) ?_
      refine jlk_cons (sm_ifnull rfl B.1 dJ1_buildFromSorted_2_156) ?_
      refine jlk_cons (sm_aload B.1 dJ1_buildFromSorted_2_159) ?_
      refine jlk_cons (sm_aload B.1 dJ1_buildFromSorted_2_161) ?_
      refine jlk_cons (sm_putP B.1 fl_java_util_TreeMap_111_24_133 tyJ15 tyJ15_ok nmJ15 (Or.inl rfl) rfl (tyJ15_ok 2 (by decide)) rfl (by decide) dJ1_buildFromSorted_2_163) ?_
      refine jlk_cons (sm_aload B.1 dJ1_buildFromSorted_2_166) ?_
      refine jlk_cons (sm_aload B.1 dJ1_buildFromSorted_2_168) ?_
      refine jlk_cons (sm_putP B.1 fl_java_util_TreeMap_124_24_135 tyJ15 tyJ15_ok nmJ15 (Or.inl rfl) rfl (tyJ15_ok 4 (by decide)) rfl (by decide) dJ1_buildFromSorted_2_170) ?_
      refine jlk_cons (sm_iload B.1 dJ1_buildFromSorted_2_173) ?_
      refine jlk_cons (sm_iload_n rfl B.1 dJ1_buildFromSorted_2_175) ?_
      refine jlk_cons (sm_icmpge rfl B.1 dJ1_buildFromSorted_2_176) ?_
      refine jlk_cons (sm_aload_n rfl B.1 dJ1_buildFromSorted_2_179) ?_
      refine jlk_cons (sm_iload_n rfl B.1 dJ1_buildFromSorted_2_180) ?_
      refine jlk_cons (sm_iconst rfl B.1 dJ1_buildFromSorted_2_181) ?_
      refine jlk_cons (sm_iadd B.1 dJ1_buildFromSorted_2_182) ?_
      exact jlk_nil
    · skip
      refine jlk_cons (sm_iload B.1 dJ1_buildFromSorted_2_183) ?_
      refine jlk_cons (sm_iconst rfl B.1 dJ1_buildFromSorted_2_185) ?_
      refine jlk_cons (sm_iadd B.1 dJ1_buildFromSorted_2_186) ?_
      refine jlk_cons (sm_iload_n rfl B.1 dJ1_buildFromSorted_2_187) ?_
      refine jlk_cons (sm_iload B.1 dJ1_buildFromSorted_2_188) ?_
      refine jlk_cons (sm_aload B.1 dJ1_buildFromSorted_2_190) ?_
      refine jlk_cons (sm_aload B.1 dJ1_buildFromSorted_2_192) ?_
      refine jlk_cons (sm_aload B.1 dJ1_buildFromSorted_2_194) ?_
      refine jlk_cons (sm_cV (x := yJ1_buildFromSorted_2) (host := "") (owner := "") isRP (i_J1_buildFromSorted_2 hI) B q929 q931 qs7 w4_J1_buildFromSorted_2 w6_J1_buildFromSorted_2 (by decide) (by decide) (by decide) kc_20 hy_J1_buildFromSorted_2 hl_J1_buildFromSorted_2 dJ1_buildFromSorted_2_196 trivial) ?_
      refine jlk_cons (sm_astore B.1 dJ1_buildFromSorted_2_199) ?_
      refine jlk_cons (sm_aload B.1 dJ1_buildFromSorted_2_201) ?_
      refine jlk_cons (sm_aload B.1 dJ1_buildFromSorted_2_203) ?_
      refine jlk_cons (sm_putP B.1 fl_java_util_TreeMap_114_24_134 tyJ15 tyJ15_ok nmJ15 (Or.inl rfl) rfl (tyJ15_ok 3 (by decide)) rfl (by decide) dJ1_buildFromSorted_2_205) ?_
      refine jlk_cons (sm_aload B.1 dJ1_buildFromSorted_2_208) ?_
      refine jlk_cons (sm_aload B.1 dJ1_buildFromSorted_2_210) ?_
      refine jlk_cons (sm_putP B.1 fl_java_util_TreeMap_124_24_135 tyJ15 tyJ15_ok nmJ15 (Or.inl rfl) rfl (tyJ15_ok 4 (by decide)) rfl (by decide) dJ1_buildFromSorted_2_212) ?_
      refine jlk_cons (sm_aload B.1 dJ1_buildFromSorted_2_215) ?_
      refine jlk_cons (sm_aret B.1 B.2.1 hret (Or.inl ⟨_, rfl⟩) dJ1_buildFromSorted_2_217) ?_
      exact jlk_nil
theorem v_J1_buildFromSorted_2 (hst : l.stackTraces = false) (hz : jEz (EV (d + 1))) (hI : jIH l D dA lo cs0 d) : jMe l D dA lo cs0 (EV (d + 1)) 277 yJ1_buildFromSorted_2 (ws_ yJ1_buildFromSorted_2 cJ1_buildFromSorted_2 14 (Option.some (Jvm.ClassFile.FieldType.object "java/util/TreeMap$Entry"))) (d + 1) := z_meth hz rfl hp_J1_buildFromSorted_2 (r_J1_buildFromSorted_2 hst hI)
theorem r_J19_hasNext (hst : l.stackTraces = false) (hI : jIH l D dA lo cs0 d) : jRows l D dA lo cs0 d 1 (tb_J19_hasNext (EV d)) yJ19_hasNext cJ19_hasNext (Option.some Jvm.ClassFile.FieldType.boolean) [] := by
  intro p e R s m args below meth c z0 w0 zF wF Q rF hF B hz hw hret hnm
  refine jlk_cons (sm_aload_n rfl B.1 dJ19_hasNext_0) ?_
  refine jlk_cons (sm_getPM B.1 (List.forall_mem_cons.mpr ⟨⟨_, _, _, _, _, fl_java_util_TreeMap_PrivateEntryIterator_26_26_138⟩, (List.forall_mem_cons.mpr ⟨⟨_, _, _, _, _, fl_java_util_TreeMap_PrivateEntryIterator_26_27_138⟩, (List.forall_mem_nil _)⟩)⟩) dJ19_hasNext_1) ?_
  refine jlk_cons (sm_ifnull rfl B.1 dJ19_hasNext_4) ?_
  refine jlk_cons (sm_iconst rfl B.1 dJ19_hasNext_7) ?_
  refine jlk_cons (sm_goto rfl B.1 dJ19_hasNext_8) ?_
  refine jlk_cons (sm_iconst rfl B.1 dJ19_hasNext_11) ?_
  refine jlk_cons (sm_zret B.1 B.2.1 hret dJ19_hasNext_12) ?_
  exact jlk_nil
theorem v_J19_hasNext (hst : l.stackTraces = false) (hz : jEz (EV (d + 1))) (hI : jIH l D dA lo cs0 d) : jMe l D dA lo cs0 (EV (d + 1)) 278 yJ19_hasNext (ws_ yJ19_hasNext cJ19_hasNext 1 (Option.some Jvm.ClassFile.FieldType.boolean)) (d + 1) := z_meth hz rfl hp_J19_hasNext (r_J19_hasNext hst hI)
theorem r_J20_next (hst : l.stackTraces = false) (hI : jIH l D dA lo cs0 d) : jRows l D dA lo cs0 d 1 (tb_J20_next (EV d)) yJ20_next cJ20_next (Option.some (Jvm.ClassFile.FieldType.object "java/lang/Object")) [] := by
  intro p e R s m args below meth c z0 w0 zF wF Q rF hF B hz hw hret hnm
  refine jlk_cons (sm_aload_n rfl B.1 dJ20_next_0) ?_
  refine jlk_cons (sm_cV (x := yJ20_next_2) (host := "") (owner := "") isRP (i_J20_next_2 hI) B q1044 q1045 q1046 w4_J20_next_2 w6_J20_next_2 (by decide) (by decide) (by decide) kc_26 hy_J20_next_2 hl_J20_next_2 dJ20_next_1 trivial) ?_
  refine jlk_cons (sm_aret B.1 B.2.1 hret (Or.inl ⟨_, rfl⟩) dJ20_next_4) ?_
  exact jlk_nil
theorem v_J20_next (hst : l.stackTraces = false) (hz : jEz (EV (d + 1))) (hI : jIH l D dA lo cs0 d) : jMe l D dA lo cs0 (EV (d + 1)) 279 yJ20_next (ws_ yJ20_next cJ20_next 1 (Option.some (Jvm.ClassFile.FieldType.object "java/lang/Object"))) (d + 1) := z_meth hz rfl hp_J20_next (r_J20_next hst hI)
theorem r_J21_next (hst : l.stackTraces = false) (hI : jIH l D dA lo cs0 d) : jRows l D dA lo cs0 d 1 (tb_J21_next (EV d)) yJ21_next cJ21_next (Option.some (Jvm.ClassFile.FieldType.object "java/lang/Object")) [] := by
  intro p e R s m args below meth c z0 w0 zF wF Q rF hF B hz hw hret hnm
  refine jlk_cons (sm_aload_n rfl B.1 dJ21_next_0) ?_
  refine jlk_cons (sm_cVU (x := ⟨"java/util/TreeMap$KeyIterator", "nextEntry", "()Ljava/util/TreeMap$Entry;"⟩) (host := "") (owner := "java/util/TreeMap$PrivateEntryIterator") isRP (i_J19_nextEntry hI) B q1065 q1066 q1050 ⟨by decide, by decide⟩ q1067 q1052 w4_J19_nextEntry w6_J19_nextEntry (by decide) (by decide) (by decide) kc_27 (hl_J19_nextEntry : _) dJ21_next_1 trivial) ?_
  refine jlk_cons (sm_getP B.1 fl_java_util_TreeMap_KeyIterator_13_24_131 dJ21_next_4) ?_
  refine jlk_cons (sm_aret B.1 B.2.1 hret (Or.inl ⟨_, rfl⟩) dJ21_next_7) ?_
  exact jlk_nil
theorem v_J21_next (hst : l.stackTraces = false) (hz : jEz (EV (d + 1))) (hI : jIH l D dA lo cs0 d) : jMe l D dA lo cs0 (EV (d + 1)) 280 yJ21_next (ws_ yJ21_next cJ21_next 1 (Option.some (Jvm.ClassFile.FieldType.object "java/lang/Object"))) (d + 1) := z_meth hz rfl hp_J21_next (r_J21_next hst hI)
theorem r_J15_getKey (hst : l.stackTraces = false) (hI : jIH l D dA lo cs0 d) : jRows l D dA lo cs0 d 1 (tb_J15_getKey (EV d)) yJ15_getKey cJ15_getKey (Option.some (Jvm.ClassFile.FieldType.object "java/lang/Object")) [] := by
  intro p e R s m args below meth c z0 w0 zF wF Q rF hF B hz hw hret hnm
  refine jlk_cons (sm_aload_n rfl B.1 dJ15_getKey_0) ?_
  refine jlk_cons (sm_getP B.1 fl_java_util_TreeMap_Entry_15_24_131 dJ15_getKey_1) ?_
  refine jlk_cons (sm_aret B.1 B.2.1 hret (Or.inl ⟨_, rfl⟩) dJ15_getKey_4) ?_
  exact jlk_nil
theorem v_J15_getKey (hst : l.stackTraces = false) (hz : jEz (EV (d + 1))) (hI : jIH l D dA lo cs0 d) : jMe l D dA lo cs0 (EV (d + 1)) 281 yJ15_getKey (ws_ yJ15_getKey cJ15_getKey 1 (Option.some (Jvm.ClassFile.FieldType.object "java/lang/Object"))) (d + 1) := z_meth hz rfl hp_J15_getKey (r_J15_getKey hst hI)
theorem r_J15_getValue (hst : l.stackTraces = false) (hI : jIH l D dA lo cs0 d) : jRows l D dA lo cs0 d 1 (tb_J15_getValue (EV d)) yJ15_getValue cJ15_getValue (Option.some (Jvm.ClassFile.FieldType.object "java/lang/Object")) [] := by
  intro p e R s m args below meth c z0 w0 zF wF Q rF hF B hz hw hret hnm
  refine jlk_cons (sm_aload_n rfl B.1 dJ15_getValue_0) ?_
  refine jlk_cons (sm_getP B.1 fl_java_util_TreeMap_Entry_19_24_132 dJ15_getValue_1) ?_
  refine jlk_cons (sm_aret B.1 B.2.1 hret (Or.inl ⟨_, rfl⟩) dJ15_getValue_4) ?_
  exact jlk_nil
theorem v_J15_getValue (hst : l.stackTraces = false) (hz : jEz (EV (d + 1))) (hI : jIH l D dA lo cs0 d) : jMe l D dA lo cs0 (EV (d + 1)) 282 yJ15_getValue (ws_ yJ15_getValue cJ15_getValue 1 (Option.some (Jvm.ClassFile.FieldType.object "java/lang/Object"))) (d + 1) := z_meth hz rfl hp_J15_getValue (r_J15_getValue hst hI)
theorem r_J14_checkIndex (hst : l.stackTraces = false) (hI : jIH l D dA lo cs0 d) : jRows l D dA lo cs0 d 3 (tb_J14_checkIndex (EV d)) yJ14_checkIndex cJ14_checkIndex (Option.some Jvm.ClassFile.FieldType.int) [] := by
  intro p e R s m args below meth c z0 w0 zF wF Q rF hF B hz hw hret hnm
  refine jlk_cons (sm_iload_n rfl B.1 dJ14_checkIndex_0) ?_
  refine jlk_cons (sm_iflt rfl B.1 dJ14_checkIndex_1) ?_
  refine jlk_cons (sm_iload_n rfl B.1 dJ14_checkIndex_4) ?_
  refine jlk_cons (sm_iload_n rfl B.1 dJ14_checkIndex_5) ?_
  refine jlk_cons (sm_icmplt rfl B.1 dJ14_checkIndex_6) ?_
  refine jlk_cons (sm_aload_n rfl B.1 dJ14_checkIndex_9) ?_
  refine jlk_cons (sm_iload_n rfl B.1 dJ14_checkIndex_10) ?_
  refine jlk_cons (sm_iload_n rfl B.1 dJ14_checkIndex_11) ?_
  refine jlk_cons (sm_iload_n rfl B.1 dJ14_checkIndex_16) ?_
  refine jlk_cons (sm_iret B.1 B.2.1 hret dJ14_checkIndex_17) ?_
  exact jlk_nil
theorem v_J14_checkIndex (hst : l.stackTraces = false) (hz : jEz (EV (d + 1))) (hI : jIH l D dA lo cs0 d) : jMe l D dA lo cs0 (EV (d + 1)) 283 yJ14_checkIndex (ws_ yJ14_checkIndex cJ14_checkIndex 3 (Option.some Jvm.ClassFile.FieldType.int)) (d + 1) := z_meth hz rfl hp_J14_checkIndex (r_J14_checkIndex hst hI)
theorem r_J4_grow (hst : l.stackTraces = false) (hI : jIH l D dA lo cs0 d) : jRows l D dA lo cs0 d 1 (tb_J4_grow (EV d)) yJ4_grow cJ4_grow (Option.some (Jvm.ClassFile.FieldType.array (Jvm.ClassFile.FieldType.object "java/lang/Object"))) [] := by
  intro p e R s m args below meth c z0 w0 zF wF Q rF hF B hz hw hret hnm
  refine jlk_cons (sm_aload_n rfl B.1 dJ4_grow_0) ?_
  refine jlk_cons (sm_aload_n rfl B.1 dJ4_grow_1) ?_
  refine jlk_cons (sm_getI B.1 fl_java_util_ArrayList_48_21_125 dJ4_grow_2) ?_
  refine jlk_cons (sm_iconst rfl B.1 dJ4_grow_5) ?_
  refine jlk_cons (sm_iadd B.1 dJ4_grow_6) ?_
  refine jlk_cons (sm_cV (x := yJ4_grow_2) (host := "") (owner := "") isRP (i_J4_grow_2 hI) B q1215 q1217 qs11 w4_J4_grow_2 w6_J4_grow_2 (by decide) (by decide) (by decide) kc_21 hy_J4_grow_2 hl_J4_grow_2 dJ4_grow_7 trivial) ?_
  refine jlk_cons (sm_aret B.1 B.2.1 hret (Or.inr ⟨_, rfl⟩) dJ4_grow_10) ?_
  exact jlk_nil
theorem v_J4_grow (hst : l.stackTraces = false) (hz : jEz (EV (d + 1))) (hI : jIH l D dA lo cs0 d) : jMe l D dA lo cs0 (EV (d + 1)) 284 yJ4_grow (ws_ yJ4_grow cJ4_grow 1 (Option.some (Jvm.ClassFile.FieldType.array (Jvm.ClassFile.FieldType.object "java/lang/Object")))) (d + 1) := z_meth hz rfl hp_J4_grow (r_J4_grow hst hI)
theorem r_J40_checkInvariants (hst : l.stackTraces = false) (hI : jIH l D dA lo cs0 d) : jRows l D dA lo cs0 d 1 (tb_J40_checkInvariants (EV d)) yJ40_checkInvariants cJ40_checkInvariants (Option.none : Option Jvm.ClassFile.FieldType) [] := by
  intro p e R s m args below meth c z0 w0 zF wF Q rF hF B hz hw hret hnm
  refine jlk_app ?_ ?_
  · refine jlk_cons (sm_getsI B.1 (List.mem_of_getElem? (i := 2) rfl) q1914 dJ40_checkInvariants_0) ?_
    refine jlk_cons (sm_ifne rfl B.1 dJ40_checkInvariants_3) ?_
    refine jlk_cons (sm_aload_n rfl B.1 dJ40_checkInvariants_6) ?_
    refine jlk_cons (sm_getI B.1 fl_java_util_BitSet_7_36_149 dJ40_checkInvariants_7) ?_
    refine jlk_cons (sm_ifeq rfl B.1 dJ40_checkInvariants_10) ?_
    refine jlk_cons (sm_aload_n rfl B.1 dJ40_checkInvariants_13) ?_
    refine jlk_cons (sm_getP B.1 fl_java_util_BitSet_11_36_148 dJ40_checkInvariants_14) ?_
    refine jlk_cons (sm_aload_n rfl B.1 dJ40_checkInvariants_17) ?_
    refine jlk_cons (sm_getI B.1 fl_java_util_BitSet_7_36_149 dJ40_checkInvariants_18) ?_
    refine jlk_cons (sm_iconst rfl B.1 dJ40_checkInvariants_21) ?_
    refine jlk_cons (sm_isub B.1 dJ40_checkInvariants_22) ?_
    refine jlk_cons (sm_lald B.1 dJ40_checkInvariants_23) ?_
    refine jlk_cons (sm_lconst rfl B.1 dJ40_checkInvariants_24) ?_
    refine jlk_cons (sm_lcmp B.1 dJ40_checkInvariants_25) ?_
    refine jlk_cons (sm_ifne rfl B.1 dJ40_checkInvariants_26) ?_
    refine jlk_cons (sm_getsI B.1 (List.mem_of_getElem? (i := 2) rfl) q1914 dJ40_checkInvariants_37) ?_
    refine jlk_cons (sm_ifne rfl B.1 dJ40_checkInvariants_40) ?_
    refine jlk_cons (sm_aload_n rfl B.1 dJ40_checkInvariants_43) ?_
    refine jlk_cons (sm_getI B.1 fl_java_util_BitSet_7_36_149 dJ40_checkInvariants_44) ?_
    refine jlk_cons (sm_iflt rfl B.1 dJ40_checkInvariants_47) ?_
    refine jlk_cons (sm_aload_n rfl B.1 dJ40_checkInvariants_50) ?_
    refine jlk_cons (sm_getI B.1 fl_java_util_BitSet_7_36_149 dJ40_checkInvariants_51) ?_
    refine jlk_cons (sm_aload_n rfl B.1 dJ40_checkInvariants_54) ?_
    refine jlk_cons (sm_getP B.1 fl_java_util_BitSet_11_36_148 dJ40_checkInvariants_55) ?_
    refine jlk_cons (sm_alen B.1 (t := 105) (by decide) rfl dJ40_checkInvariants_58) ?_
    refine jlk_cons (sm_icmple rfl B.1 dJ40_checkInvariants_59) ?_
    refine jlk_cons (sm_getsI B.1 (List.mem_of_getElem? (i := 2) rfl) q1914 dJ40_checkInvariants_70) ?_
    refine jlk_cons (sm_ifne rfl B.1 dJ40_checkInvariants_73) ?_
    refine jlk_cons (sm_aload_n rfl B.1 dJ40_checkInvariants_76) ?_
    refine jlk_cons (sm_getI B.1 fl_java_util_BitSet_7_36_149 dJ40_checkInvariants_77) ?_
    refine jlk_cons (sm_aload_n rfl B.1 dJ40_checkInvariants_80) ?_
    refine jlk_cons (sm_getP B.1 fl_java_util_BitSet_11_36_148 dJ40_checkInvariants_81) ?_
    refine jlk_cons (sm_alen B.1 (t := 105) (by decide) rfl dJ40_checkInvariants_84) ?_
    refine jlk_cons (sm_icmpeq rfl B.1 dJ40_checkInvariants_85) ?_
    refine jlk_cons (sm_aload_n rfl B.1 dJ40_checkInvariants_88) ?_
    refine jlk_cons (sm_getP B.1 fl_java_util_BitSet_11_36_148 dJ40_checkInvariants_89) ?_
    refine jlk_cons (sm_aload_n rfl B.1 dJ40_checkInvariants_92) ?_
    refine jlk_cons (sm_getI B.1 fl_java_util_BitSet_7_36_149 dJ40_checkInvariants_93) ?_
    refine jlk_cons (sm_lald B.1 dJ40_checkInvariants_96) ?_
    refine jlk_cons (sm_lconst rfl B.1 dJ40_checkInvariants_97) ?_
    exact jlk_nil
  · skip
    refine jlk_cons (sm_lcmp B.1 dJ40_checkInvariants_98) ?_
    refine jlk_cons (sm_ifeq rfl B.1 dJ40_checkInvariants_99) ?_
    refine jlk_cons (sm_vret B.1 B.2.1 hret dJ40_checkInvariants_110) ?_
    exact jlk_nil
theorem v_J40_checkInvariants (hst : l.stackTraces = false) (hz : jEz (EV (d + 1))) (hI : jIH l D dA lo cs0 d) : jMe l D dA lo cs0 (EV (d + 1)) 289 yJ40_checkInvariants (ws_ yJ40_checkInvariants cJ40_checkInvariants 1 (Option.none : Option Jvm.ClassFile.FieldType)) (d + 1) := z_meth hz rfl hp_J40_checkInvariants (r_J40_checkInvariants hst hI)
theorem r_J40_wordIndex (hst : l.stackTraces = false) (hI : jIH l D dA lo cs0 d) : jRows l D dA lo cs0 d 1 (tb_J40_wordIndex (EV d)) yJ40_wordIndex cJ40_wordIndex (Option.some Jvm.ClassFile.FieldType.int) [] := by
  intro p e R s m args below meth c z0 w0 zF wF Q rF hF B hz hw hret hnm
  refine jlk_cons (sm_iload_n rfl B.1 dJ40_wordIndex_0) ?_
  refine jlk_cons (sm_bipush rfl B.1 dJ40_wordIndex_1) ?_
  refine jlk_cons (sm_ishr B.1 dJ40_wordIndex_3) ?_
  refine jlk_cons (sm_iret B.1 B.2.1 hret dJ40_wordIndex_4) ?_
  exact jlk_nil
theorem v_J40_wordIndex (hst : l.stackTraces = false) (hz : jEz (EV (d + 1))) (hI : jIH l D dA lo cs0 d) : jMe l D dA lo cs0 (EV (d + 1)) 290 yJ40_wordIndex (ws_ yJ40_wordIndex cJ40_wordIndex 1 (Option.some Jvm.ClassFile.FieldType.int)) (d + 1) := z_meth hz rfl hp_J40_wordIndex (r_J40_wordIndex hst hI)
theorem r_J35_init (hst : l.stackTraces = false) (hI : jIH l D dA lo cs0 d) : jRows l D dA lo cs0 d 1 (tb_J35_init (EV d)) yJ35_init cJ35_init (Option.none : Option Jvm.ClassFile.FieldType) [] := by
  intro p e R s m args below meth c z0 w0 zF wF Q rF hF B hz hw hret hnm
  refine jlk_cons (sm_aload_n rfl B.1 dJ35_init_0) ?_
  refine jlk_cons (sm_cI (x := yJ2_init) (r9 := kr_6) (host := "") (owner := "") isNV (i_J2_init hI) B q1321 q248 w4_J2_init w6_J2_init (by decide) rfl hy_J2_init hl_J2_init dJ35_init_1 trivial) ?_
  refine jlk_cons (sm_vret B.1 B.2.1 hret dJ35_init_4) ?_
  exact jlk_nil
theorem v_J35_init (hst : l.stackTraces = false) (hz : jEz (EV (d + 1))) (hI : jIH l D dA lo cs0 d) : jMe l D dA lo cs0 (EV (d + 1)) 291 yJ35_init (ws_ yJ35_init cJ35_init 1 (Option.none : Option Jvm.ClassFile.FieldType)) (d + 1) := z_meth hz rfl hp_J35_init (r_J35_init hst hI)
theorem r_J37_init (hst : l.stackTraces = false) (hI : jIH l D dA lo cs0 d) : jRows l D dA lo cs0 d 1 (tb_J37_init (EV d)) yJ37_init cJ37_init (Option.none : Option Jvm.ClassFile.FieldType) [] := by
  intro p e R s m args below meth c z0 w0 zF wF Q rF hF B hz hw hret hnm
  refine jlk_cons (sm_aload_n rfl B.1 dJ37_init_0) ?_
  refine jlk_cons (sm_new B.1 kc_20 (by decide) (by decide) in_J1 tyJ1 tyJ1_ok kd_20 q1367 q205 q126 B.2.2.2 hz hw dJ37_init_1) ?_
  refine jlk_cons (sm_dup B.1 dJ37_init_4) ?_
  refine jlk_cons (sm_cI (x := yJ1_init) (r9 := kr_6) (host := "") (owner := "") isNV (i_J1_init hI) B q1368 q207 w4_J1_init w6_J1_init (by decide) rfl hy_J1_init hl_J1_init dJ37_init_5 trivial) ?_
  refine jlk_cons (sm_cI (x := yJ37_init_2) (r9 := kr_6) (host := "") (owner := "") isNV (i_J37_init_2 hI) B q1369 q1370 w4_J37_init_2 w6_J37_init_2 (by decide) rfl hy_J37_init_2 hl_J37_init_2 dJ37_init_8 trivial) ?_
  refine jlk_cons (sm_vret B.1 B.2.1 hret dJ37_init_11) ?_
  exact jlk_nil
theorem v_J37_init (hst : l.stackTraces = false) (hz : jEz (EV (d + 1))) (hI : jIH l D dA lo cs0 d) : jMe l D dA lo cs0 (EV (d + 1)) 292 yJ37_init (ws_ yJ37_init cJ37_init 1 (Option.none : Option Jvm.ClassFile.FieldType)) (d + 1) := z_meth hz rfl hp_J37_init (r_J37_init hst hI)
theorem r_J37_add (hst : l.stackTraces = false) (hI : jIH l D dA lo cs0 d) : jRows l D dA lo cs0 d 2 (tb_J37_add (EV d)) yJ37_add cJ37_add (Option.some Jvm.ClassFile.FieldType.boolean) [] := by
  intro p e R s m args below meth c z0 w0 zF wF Q rF hF B hz hw hret hnm
  refine jlk_cons (sm_aload_n rfl B.1 dJ37_add_0) ?_
  refine jlk_cons (sm_getP B.1 fl_java_util_TreeSet_7_35_147 dJ37_add_1) ?_
  refine jlk_cons (sm_aload_n rfl B.1 dJ37_add_4) ?_
  refine jlk_cons (sm_cstS B.1 (List.mem_of_getElem? (i := 2) rfl) q1394 dJ37_add_5) ?_
  refine jlk_cons (sm_cFN (x := ⟨"java/util/NavigableMap", "put", "(Ljava/lang/Object;Ljava/lang/Object;)Ljava/lang/Object;"⟩) (host := "") (owner := "java/util/Map") isRP (i_J1_put hI) B q1398 (List.mem_of_getElem? (i := 0) rfl) (List.mem_of_getElem? (i := 2) rfl) q1399 q1401 q1400 q897 ⟨by decide, by decide⟩ ⟨by decide, by decide⟩ (by decide) q289 w4_J1_put w6_J1_put (by decide) (by decide) (by decide) kc_20 (hl_J1_put : _) dJ37_add_8 trivial) ?_
  refine jlk_cons (sm_ifnonnull rfl B.1 dJ37_add_13) ?_
  refine jlk_cons (sm_iconst rfl B.1 dJ37_add_16) ?_
  refine jlk_cons (sm_goto rfl B.1 dJ37_add_17) ?_
  refine jlk_cons (sm_iconst rfl B.1 dJ37_add_20) ?_
  refine jlk_cons (sm_zret B.1 B.2.1 hret dJ37_add_21) ?_
  exact jlk_nil
theorem v_J37_add (hst : l.stackTraces = false) (hz : jEz (EV (d + 1))) (hI : jIH l D dA lo cs0 d) : jMe l D dA lo cs0 (EV (d + 1)) 294 yJ37_add (ws_ yJ37_add cJ37_add 2 (Option.some Jvm.ClassFile.FieldType.boolean)) (d + 1) := z_meth hz rfl hp_J37_add (r_J37_add hst hI)
theorem r_J4_init_2 (hst : l.stackTraces = false) (hI : jIH l D dA lo cs0 d) : jRows l D dA lo cs0 d 3 (tb_J4_init_2 (EV d)) yJ4_init_2 cJ4_init_2 (Option.none : Option Jvm.ClassFile.FieldType) [] := by
  intro p e R s m args below meth c z0 w0 zF wF Q rF hF B hz hw hret hnm
  refine jlk_cons (sm_aload_n rfl B.1 dJ4_init_2_0) ?_
  refine jlk_cons (sm_cI (x := yJ3_init) (r9 := kr_6) (host := "") (owner := "") isNV (i_J3_init hI) B q244 q245 w4_J3_init w6_J3_init (by decide) rfl hy_J3_init hl_J3_init dJ4_init_2_1 trivial) ?_
  refine jlk_cons (sm_aload_n rfl B.1 dJ4_init_2_4) ?_
  refine jlk_cons (sm_cF (x := ⟨"java/util/Collection", "toArray", "()[Ljava/lang/Object;"⟩) (host := "") (owner := "") isRP (i_J2_toArray hI) B (List.mem_of_getElem? (i := 11) rfl) q1415 q1527 q1434 w4_J2_toArray w6_J2_toArray (by decide) (by decide) (by decide) kc_35 (hl_J2_toArray : _) dJ4_init_2_5 trivial) ?_
  refine jlk_cons (sm_astore_n rfl B.1 dJ4_init_2_10) ?_
  refine jlk_cons (sm_aload_n rfl B.1 dJ4_init_2_11) ?_
  refine jlk_cons (sm_aload_n rfl B.1 dJ4_init_2_12) ?_
  refine jlk_cons (sm_alen B.1 (t := 107) (by decide) rfl dJ4_init_2_13) ?_
  refine jlk_cons (sm_dup_x1 B.1 dJ4_init_2_14) ?_
  refine jlk_cons (sm_putI B.1 fl_java_util_ArrayList_48_21_125 tyJ4 tyJ4_ok nmJ4 (Or.inl rfl) (tyJ4_ok 2 (by decide)) rfl (by decide) dJ4_init_2_15) ?_
  refine jlk_cons (sm_ifeq rfl B.1 dJ4_init_2_18) ?_
  refine jlk_cons (sm_aload_n rfl B.1 dJ4_init_2_21) ?_
  refine jlk_cons (sm_gclI B.1 (xc := "java/util/Collection") (by decide) (by decide) kc_35 (List.mem_of_getElem? (i := 1) rfl) ⟨by decide, by decide⟩ (by decide) q1530 q1532 q378 q336 q380 q1531 q1534 q1538 q1526 dJ4_init_2_22) ?_
  refine jlk_cons (sm_cstM B.1 (List.mem_of_getElem? (i := 0) rfl) q1539 dJ4_init_2_27) ?_
  refine jlk_cons (sm_acmpne rfl B.1 dJ4_init_2_29) ?_
  refine jlk_cons (sm_aload_n rfl B.1 dJ4_init_2_32) ?_
  refine jlk_cons (sm_aload_n rfl B.1 dJ4_init_2_33) ?_
  refine jlk_cons (sm_putP B.1 fl_java_util_ArrayList_9_21_124 tyJ4 tyJ4_ok nmJ4 (Or.inl rfl) rfl (tyJ4_ok 1 (by decide)) rfl (by decide) dJ4_init_2_34) ?_
  refine jlk_cons (sm_goto rfl B.1 dJ4_init_2_37) ?_
  refine jlk_cons (sm_aload_n rfl B.1 dJ4_init_2_40) ?_
  refine jlk_cons (sm_aload_n rfl B.1 dJ4_init_2_41) ?_
  refine jlk_cons (sm_aload_n rfl B.1 dJ4_init_2_42) ?_
  refine jlk_cons (sm_getI B.1 fl_java_util_ArrayList_48_21_125 dJ4_init_2_43) ?_
  refine jlk_cons (sm_cstM B.1 (List.mem_of_getElem? (i := 2) rfl) q1540 dJ4_init_2_46) ?_
  refine jlk_cons (sm_cS (x := yJ29_copyOf_2) (r9 := kr_6) (host := "") (owner := "") isSP (i_J29_copyOf_2 hI) B q1541 q1234 w4_J29_copyOf_2 w6_J29_copyOf_2 (by decide) hy_J29_copyOf_2 hl_J29_copyOf_2 dJ4_init_2_48 trivial) ?_
  refine jlk_cons (sm_putP B.1 fl_java_util_ArrayList_9_21_124 tyJ4 tyJ4_ok nmJ4 (Or.inl rfl) rfl (tyJ4_ok 1 (by decide)) rfl (by decide) dJ4_init_2_51) ?_
  refine jlk_cons (sm_goto rfl B.1 dJ4_init_2_54) ?_
  refine jlk_cons (sm_aload_n rfl B.1 dJ4_init_2_57) ?_
  refine jlk_cons (sm_cstS B.1 (List.mem_of_getElem? (i := 1) rfl) q1542 dJ4_init_2_58) ?_
  refine jlk_cons (sm_putP B.1 fl_java_util_ArrayList_9_21_124 tyJ4 tyJ4_ok nmJ4 (Or.inl rfl) rfl (tyJ4_ok 1 (by decide)) rfl (by decide) dJ4_init_2_61) ?_
  refine jlk_cons (sm_vret B.1 B.2.1 hret dJ4_init_2_64) ?_
  exact jlk_nil
theorem v_J4_init_2 (hst : l.stackTraces = false) (hz : jEz (EV (d + 1))) (hI : jIH l D dA lo cs0 d) : jMe l D dA lo cs0 (EV (d + 1)) 295 yJ4_init_2 (ws_ yJ4_init_2 cJ4_init_2 3 (Option.none : Option Jvm.ClassFile.FieldType)) (d + 1) := z_meth hz rfl hp_J4_init_2 (r_J4_init_2 hst hI)
theorem r_J40_set (hst : l.stackTraces = false) (hI : jIH l D dA lo cs0 d) : jRows l D dA lo cs0 d 3 (tb_J40_set (EV d)) yJ40_set cJ40_set (Option.none : Option Jvm.ClassFile.FieldType) [] := by
  intro p e R s m args below meth c z0 w0 zF wF Q rF hF B hz hw hret hnm
  refine jlk_cons (sm_iload_n rfl B.1 dJ40_set_0) ?_
  refine jlk_cons (sm_ifge rfl B.1 dJ40_set_1) ?_
  refine jlk_cons (sm_iload_n rfl B.1 dJ40_set_31) ?_
  refine jlk_cons (sm_cS (x := yJ40_wordIndex) (r9 := kr_6) (host := "") (owner := "") isSI (i_J40_wordIndex hI) B q1581 q1582 w4_J40_wordIndex w6_J40_wordIndex (by decide) hy_J40_wordIndex hl_J40_wordIndex dJ40_set_32 trivial) ?_
  refine jlk_cons (sm_istore_n rfl B.1 dJ40_set_35) ?_
  refine jlk_cons (sm_aload_n rfl B.1 dJ40_set_36) ?_
  refine jlk_cons (sm_iload_n rfl B.1 dJ40_set_37) ?_
  refine jlk_cons (sm_cV (x := yJ40_expandTo) (host := "") (owner := "") isRV (i_J40_expandTo hI) B q1893 q1895 qs18 w4_J40_expandTo w6_J40_expandTo (by decide) (by decide) (by decide) kc_36 hy_J40_expandTo hl_J40_expandTo dJ40_set_38 trivial) ?_
  refine jlk_cons (sm_aload_n rfl B.1 dJ40_set_41) ?_
  refine jlk_cons (sm_getP B.1 fl_java_util_BitSet_11_36_148 dJ40_set_42) ?_
  refine jlk_cons (sm_iload_n rfl B.1 dJ40_set_45) ?_
  refine jlk_cons (sm_dup2 B.1 dJ40_set_46) ?_
  refine jlk_cons (sm_lald B.1 dJ40_set_47) ?_
  refine jlk_cons (sm_lconst rfl B.1 dJ40_set_48) ?_
  refine jlk_cons (sm_iload_n rfl B.1 dJ40_set_49) ?_
  refine jlk_cons (sm_lshl B.1 dJ40_set_50) ?_
  refine jlk_cons (sm_lor B.1 dJ40_set_51) ?_
  refine jlk_cons (sm_last B.1 dJ40_set_52) ?_
  refine jlk_cons (sm_aload_n rfl B.1 dJ40_set_53) ?_
  refine jlk_cons (sm_cV (x := yJ40_checkInvariants) (host := "") (owner := "") isRV (i_J40_checkInvariants hI) B q1910 q1912 qs20 w4_J40_checkInvariants w6_J40_checkInvariants (by decide) (by decide) (by decide) kc_36 hy_J40_checkInvariants hl_J40_checkInvariants dJ40_set_54 trivial) ?_
  refine jlk_cons (sm_vret B.1 B.2.1 hret dJ40_set_57) ?_
  exact jlk_nil
theorem v_J40_set (hst : l.stackTraces = false) (hz : jEz (EV (d + 1))) (hI : jIH l D dA lo cs0 d) : jMe l D dA lo cs0 (EV (d + 1)) 298 yJ40_set (ws_ yJ40_set cJ40_set 3 (Option.none : Option Jvm.ClassFile.FieldType)) (d + 1) := z_meth hz rfl hp_J40_set (r_J40_set hst hI)
theorem r_J40_get (hst : l.stackTraces = false) (hI : jIH l D dA lo cs0 d) : jRows l D dA lo cs0 d 3 (tb_J40_get (EV d)) yJ40_get cJ40_get (Option.some Jvm.ClassFile.FieldType.boolean) [] := by
  intro p e R s m args below meth c z0 w0 zF wF Q rF hF B hz hw hret hnm
  refine jlk_cons (sm_iload_n rfl B.1 dJ40_get_0) ?_
  refine jlk_cons (sm_ifge rfl B.1 dJ40_get_1) ?_
  refine jlk_cons (sm_aload_n rfl B.1 dJ40_get_31) ?_
  refine jlk_cons (sm_cV (x := yJ40_checkInvariants) (host := "") (owner := "") isRV (i_J40_checkInvariants hI) B q1910 q1912 qs20 w4_J40_checkInvariants w6_J40_checkInvariants (by decide) (by decide) (by decide) kc_36 hy_J40_checkInvariants hl_J40_checkInvariants dJ40_get_32 trivial) ?_
  refine jlk_cons (sm_iload_n rfl B.1 dJ40_get_35) ?_
  refine jlk_cons (sm_cS (x := yJ40_wordIndex) (r9 := kr_6) (host := "") (owner := "") isSI (i_J40_wordIndex hI) B q1581 q1582 w4_J40_wordIndex w6_J40_wordIndex (by decide) hy_J40_wordIndex hl_J40_wordIndex dJ40_get_36 trivial) ?_
  refine jlk_cons (sm_istore_n rfl B.1 dJ40_get_39) ?_
  refine jlk_cons (sm_iload_n rfl B.1 dJ40_get_40) ?_
  refine jlk_cons (sm_aload_n rfl B.1 dJ40_get_41) ?_
  refine jlk_cons (sm_getI B.1 fl_java_util_BitSet_7_36_149 dJ40_get_42) ?_
  refine jlk_cons (sm_icmpge rfl B.1 dJ40_get_45) ?_
  refine jlk_cons (sm_aload_n rfl B.1 dJ40_get_48) ?_
  refine jlk_cons (sm_getP B.1 fl_java_util_BitSet_11_36_148 dJ40_get_49) ?_
  refine jlk_cons (sm_iload_n rfl B.1 dJ40_get_52) ?_
  refine jlk_cons (sm_lald B.1 dJ40_get_53) ?_
  refine jlk_cons (sm_lconst rfl B.1 dJ40_get_54) ?_
  refine jlk_cons (sm_iload_n rfl B.1 dJ40_get_55) ?_
  refine jlk_cons (sm_lshl B.1 dJ40_get_56) ?_
  refine jlk_cons (sm_land B.1 dJ40_get_57) ?_
  refine jlk_cons (sm_lconst rfl B.1 dJ40_get_58) ?_
  refine jlk_cons (sm_lcmp B.1 dJ40_get_59) ?_
  refine jlk_cons (sm_ifeq rfl B.1 dJ40_get_60) ?_
  refine jlk_cons (sm_iconst rfl B.1 dJ40_get_63) ?_
  refine jlk_cons (sm_goto rfl B.1 dJ40_get_64) ?_
  refine jlk_cons (sm_iconst rfl B.1 dJ40_get_67) ?_
  refine jlk_cons (sm_zret B.1 B.2.1 hret dJ40_get_68) ?_
  exact jlk_nil
theorem v_J40_get (hst : l.stackTraces = false) (hz : jEz (EV (d + 1))) (hI : jIH l D dA lo cs0 d) : jMe l D dA lo cs0 (EV (d + 1)) 302 yJ40_get (ws_ yJ40_get cJ40_get 3 (Option.some Jvm.ClassFile.FieldType.boolean)) (d + 1) := z_meth hz rfl hp_J40_get (r_J40_get hst hI)
theorem r_J36_add (hst : l.stackTraces = false) (hI : jIH l D dA lo cs0 d) : jRows l D dA lo cs0 d 2 (tb_J36_add (EV d)) yJ36_add cJ36_add (Option.some Jvm.ClassFile.FieldType.boolean) [] := by
  intro p e R s m args below meth c z0 w0 zF wF Q rF hF B hz hw hret hnm
  refine jlk_cons (sm_aload_n rfl B.1 dJ36_add_0) ?_
  refine jlk_cons (sm_aload_n rfl B.1 dJ36_add_1) ?_
  refine jlk_cons (sm_cV (x := yJ36_offer) (host := "") (owner := "") isRI (i_J36_offer hI) B q2014 q2015 q2016 w4_J36_offer w6_J36_offer (by decide) (by decide) (by decide) kc_34 hy_J36_offer hl_J36_offer dJ36_add_2 trivial) ?_
  refine jlk_cons (sm_zret B.1 B.2.1 hret dJ36_add_5) ?_
  exact jlk_nil
theorem v_J36_add (hst : l.stackTraces = false) (hz : jEz (EV (d + 1))) (hI : jIH l D dA lo cs0 d) : jMe l D dA lo cs0 (EV (d + 1)) 304 yJ36_add (ws_ yJ36_add cJ36_add 2 (Option.some Jvm.ClassFile.FieldType.boolean)) (d + 1) := z_meth hz rfl hp_J36_add (r_J36_add hst hI)
theorem r_J36_size (hst : l.stackTraces = false) (hI : jIH l D dA lo cs0 d) : jRows l D dA lo cs0 d 1 (tb_J36_size (EV d)) yJ36_size cJ36_size (Option.some Jvm.ClassFile.FieldType.int) [] := by
  intro p e R s m args below meth c z0 w0 zF wF Q rF hF B hz hw hret hnm
  refine jlk_cons (sm_aload_n rfl B.1 dJ36_size_0) ?_
  refine jlk_cons (sm_getI B.1 fl_java_util_PriorityQueue_58_34_144 dJ36_size_1) ?_
  refine jlk_cons (sm_iret B.1 B.2.1 hret dJ36_size_4) ?_
  exact jlk_nil
theorem v_J36_size (hst : l.stackTraces = false) (hz : jEz (EV (d + 1))) (hI : jIH l D dA lo cs0 d) : jMe l D dA lo cs0 (EV (d + 1)) 305 yJ36_size (ws_ yJ36_size cJ36_size 1 (Option.some Jvm.ClassFile.FieldType.int)) (d + 1) := z_meth hz rfl hp_J36_size (r_J36_size hst hI)
theorem r_J37_size (hst : l.stackTraces = false) (hI : jIH l D dA lo cs0 d) : jRows l D dA lo cs0 d 1 (tb_J37_size (EV d)) yJ37_size cJ37_size (Option.some Jvm.ClassFile.FieldType.int) [] := by
  intro p e R s m args below meth c z0 w0 zF wF Q rF hF B hz hw hret hnm
  refine jlk_cons (sm_aload_n rfl B.1 dJ37_size_0) ?_
  refine jlk_cons (sm_getP B.1 fl_java_util_TreeSet_7_35_147 dJ37_size_1) ?_
  refine jlk_cons (sm_cFN (x := ⟨"java/util/NavigableMap", "size", "()I"⟩) (host := "") (owner := "java/util/Map") isRI (i_J1_size hI) B q732 (List.mem_of_getElem? (i := 1) rfl) (List.mem_of_getElem? (i := 3) rfl) q734 q737 q735 q897 ⟨by decide, by decide⟩ ⟨by decide, by decide⟩ (by decide) q736 w4_J1_size w6_J1_size (by decide) (by decide) (by decide) kc_20 (hl_J1_size : _) dJ37_size_4 trivial) ?_
  refine jlk_cons (sm_iret B.1 B.2.1 hret dJ37_size_9) ?_
  exact jlk_nil
theorem v_J37_size (hst : l.stackTraces = false) (hz : jEz (EV (d + 1))) (hI : jIH l D dA lo cs0 d) : jMe l D dA lo cs0 (EV (d + 1)) 306 yJ37_size (ws_ yJ37_size cJ37_size 1 (Option.some Jvm.ClassFile.FieldType.int)) (d + 1) := z_meth hz rfl hp_J37_size (r_J37_size hst hI)
theorem r_J36_siftDownUsingComparator (hst : l.stackTraces = false) (hI : jIH l D dA lo cs0 d) : jRows l D dA lo cs0 d 9 (tb_J36_siftDownUsingComparator (EV d)) yJ36_siftDownUsingComparator cJ36_siftDownUsingComparator (Option.none : Option Jvm.ClassFile.FieldType) [] := by
  intro p e R s m args below meth c z0 w0 zF wF Q rF hF B hz hw hret hnm
  refine jlk_app ?_ ?_
  · refine jlk_cons (sm_iload_n rfl B.1 dJ36_siftDownUsingComparator_0) ?_
    refine jlk_cons (sm_iconst rfl B.1 dJ36_siftDownUsingComparator_1) ?_
    refine jlk_cons (sm_iushr B.1 dJ36_siftDownUsingComparator_2) ?_
    refine jlk_cons (sm_istore B.1 dJ36_siftDownUsingComparator_3) ?_
    refine jlk_cons (sm_iload_n rfl B.1 dJ36_siftDownUsingComparator_5) ?_
    refine jlk_cons (sm_iload B.1 dJ36_siftDownUsingComparator_6) ?_
    refine jlk_cons (sm_icmpge rfl B.1 dJ36_siftDownUsingComparator_8) ?_
    refine jlk_cons (sm_iload_n rfl B.1 dJ36_siftDownUsingComparator_11) ?_
    refine jlk_cons (sm_iconst rfl B.1 dJ36_siftDownUsingComparator_12) ?_
    refine jlk_cons (sm_ishl B.1 dJ36_siftDownUsingComparator_13) ?_
    refine jlk_cons (sm_iconst rfl B.1 dJ36_siftDownUsingComparator_14) ?_
    refine jlk_cons (sm_iadd B.1 dJ36_siftDownUsingComparator_15) ?_
    refine jlk_cons (sm_istore B.1 dJ36_siftDownUsingComparator_16) ?_
    refine jlk_cons (sm_aload_n rfl B.1 dJ36_siftDownUsingComparator_18) ?_
    refine jlk_cons (sm_iload B.1 dJ36_siftDownUsingComparator_19) ?_
    refine jlk_cons (sm_aald B.1 (t := 107) (by decide) rfl dJ36_siftDownUsingComparator_21) ?_
    refine jlk_cons (sm_astore B.1 dJ36_siftDownUsingComparator_22) ?_
    refine jlk_cons (sm_iload B.1 dJ36_siftDownUsingComparator_24) ?_
    refine jlk_cons (sm_iconst rfl B.1 dJ36_siftDownUsingComparator_26) ?_
    refine jlk_cons (sm_iadd B.1 dJ36_siftDownUsingComparator_27) ?_
    refine jlk_cons (sm_istore B.1 dJ36_siftDownUsingComparator_28) ?_
    refine jlk_cons (sm_iload B.1 dJ36_siftDownUsingComparator_30) ?_
    refine jlk_cons (sm_iload_n rfl B.1 dJ36_siftDownUsingComparator_32) ?_
    refine jlk_cons (sm_icmpge rfl B.1 dJ36_siftDownUsingComparator_33) ?_
    refine jlk_cons (sm_aload B.1 dJ36_siftDownUsingComparator_36) ?_
    refine jlk_cons (sm_aload B.1 dJ36_siftDownUsingComparator_38) ?_
    refine jlk_cons (sm_aload_n rfl B.1 dJ36_siftDownUsingComparator_40) ?_
    refine jlk_cons (sm_iload B.1 dJ36_siftDownUsingComparator_41) ?_
    refine jlk_cons (sm_aald B.1 (t := 107) (by decide) rfl dJ36_siftDownUsingComparator_43) ?_
    refine jlk_cons (sm_cF (x := ⟨"java/util/Comparator", "compare", "(Ljava/lang/Object;Ljava/lang/Object;)I"⟩) (host := "") (owner := "") isRI (i_X9_compare hI) B (List.mem_of_getElem? (i := 12) rfl) q2031 q613 q615 w4_X9_compare w6_X9_compare (by decide) (by decide) (by decide) kc_9 (hl_X9_compare : _) dJ36_siftDownUsingComparator_44 trivial) ?_
    refine jlk_cons (sm_ifle rfl B.1 dJ36_siftDownUsingComparator_49) ?_
    refine jlk_cons (sm_aload_n rfl B.1 dJ36_siftDownUsingComparator_52) ?_
    refine jlk_cons (sm_iload B.1 dJ36_siftDownUsingComparator_53) ?_
    refine jlk_cons (sm_dup B.1 dJ36_siftDownUsingComparator_55) ?_
    refine jlk_cons (sm_istore B.1 dJ36_siftDownUsingComparator_56) ?_
    refine jlk_cons (sm_aald B.1 (t := 107) (by decide) rfl dJ36_siftDownUsingComparator_58) ?_
    refine jlk_cons (sm_astore B.1 dJ36_siftDownUsingComparator_59) ?_
    refine jlk_cons (sm_aload B.1 dJ36_siftDownUsingComparator_61) ?_
    refine jlk_cons (sm_aload_n rfl B.1 dJ36_siftDownUsingComparator_63) ?_
    refine jlk_cons (sm_aload B.1 dJ36_siftDownUsingComparator_64) ?_
    exact jlk_nil
  · skip
    refine jlk_cons (sm_cF (x := ⟨"java/util/Comparator", "compare", "(Ljava/lang/Object;Ljava/lang/Object;)I"⟩) (host := "") (owner := "") isRI (i_X9_compare hI) B (List.mem_of_getElem? (i := 12) rfl) q2031 q613 q615 w4_X9_compare w6_X9_compare (by decide) (by decide) (by decide) kc_9 (hl_X9_compare : _) dJ36_siftDownUsingComparator_66 trivial) ?_
    refine jlk_cons (sm_ifgt rfl B.1 dJ36_siftDownUsingComparator_71) ?_
    refine jlk_cons (sm_goto rfl B.1 dJ36_siftDownUsingComparator_74) ?_
    refine jlk_cons (sm_aload_n rfl B.1 dJ36_siftDownUsingComparator_77) ?_
    refine jlk_cons (sm_iload_n rfl B.1 dJ36_siftDownUsingComparator_78) ?_
    refine jlk_cons (sm_aload B.1 dJ36_siftDownUsingComparator_79) ?_
    refine jlk_cons (sm_aast B.1 (t := 107) (by decide) (by decide) rfl (List.forall_mem_cons.mpr ⟨⟨by decide, by decide, _, kc_3, Or.inr q3472⟩, (List.forall_mem_cons.mpr ⟨⟨by decide, by decide, _, kc_7, Or.inr q3481⟩, (List.forall_mem_cons.mpr ⟨⟨by decide, by decide, _, kc_11, Or.inr q3488⟩, (List.forall_mem_cons.mpr ⟨⟨by decide, by decide, _, kc_12, Or.inr q3493⟩, (List.forall_mem_cons.mpr ⟨⟨by decide, by decide, _, kc_13, Or.inr q3496⟩, (List.forall_mem_cons.mpr ⟨⟨by decide, by decide, _, kc_21, Or.inr q3466⟩, (List.forall_mem_cons.mpr ⟨⟨by decide, by decide, _, kc_24, Or.inr q3468⟩, (List.forall_mem_cons.mpr ⟨⟨by decide, by decide, _, kc_35, Or.inr q3487⟩, (List.forall_mem_nil _)⟩)⟩)⟩)⟩)⟩)⟩)⟩)⟩) dJ36_siftDownUsingComparator_81) ?_
    refine jlk_cons (sm_iload B.1 dJ36_siftDownUsingComparator_82) ?_
    refine jlk_cons (sm_istore_n rfl B.1 dJ36_siftDownUsingComparator_84) ?_
    refine jlk_cons (sm_goto rfl B.1 dJ36_siftDownUsingComparator_85) ?_
    refine jlk_cons (sm_aload_n rfl B.1 dJ36_siftDownUsingComparator_88) ?_
    refine jlk_cons (sm_iload_n rfl B.1 dJ36_siftDownUsingComparator_89) ?_
    refine jlk_cons (sm_aload_n rfl B.1 dJ36_siftDownUsingComparator_90) ?_
    refine jlk_cons (sm_aast B.1 (t := 107) (by decide) (by decide) rfl (List.forall_mem_cons.mpr ⟨⟨by decide, by decide, _, kc_3, Or.inr q3472⟩, (List.forall_mem_cons.mpr ⟨⟨by decide, by decide, _, kc_7, Or.inr q3481⟩, (List.forall_mem_cons.mpr ⟨⟨by decide, by decide, _, kc_11, Or.inr q3488⟩, (List.forall_mem_cons.mpr ⟨⟨by decide, by decide, _, kc_12, Or.inr q3493⟩, (List.forall_mem_cons.mpr ⟨⟨by decide, by decide, _, kc_13, Or.inr q3496⟩, (List.forall_mem_cons.mpr ⟨⟨by decide, by decide, _, kc_21, Or.inr q3466⟩, (List.forall_mem_cons.mpr ⟨⟨by decide, by decide, _, kc_24, Or.inr q3468⟩, (List.forall_mem_cons.mpr ⟨⟨by decide, by decide, _, kc_35, Or.inr q3487⟩, (List.forall_mem_nil _)⟩)⟩)⟩)⟩)⟩)⟩)⟩)⟩) dJ36_siftDownUsingComparator_91) ?_
    refine jlk_cons (sm_vret B.1 B.2.1 hret dJ36_siftDownUsingComparator_92) ?_
    exact jlk_nil
theorem v_J36_siftDownUsingComparator (hst : l.stackTraces = false) (hz : jEz (EV (d + 1))) (hI : jIH l D dA lo cs0 d) : jMe l D dA lo cs0 (EV (d + 1)) 307 yJ36_siftDownUsingComparator (ws_ yJ36_siftDownUsingComparator cJ36_siftDownUsingComparator 9 (Option.none : Option Jvm.ClassFile.FieldType)) (d + 1) := z_meth hz rfl hp_J36_siftDownUsingComparator (r_J36_siftDownUsingComparator hst hI)
theorem r_J40_trimToSize (hst : l.stackTraces = false) (hI : jIH l D dA lo cs0 d) : jRows l D dA lo cs0 d 1 (tb_J40_trimToSize (EV d)) yJ40_trimToSize cJ40_trimToSize (Option.none : Option Jvm.ClassFile.FieldType) [] := by
  intro p e R s m args below meth c z0 w0 zF wF Q rF hF B hz hw hret hnm
  refine jlk_cons (sm_aload_n rfl B.1 dJ40_trimToSize_0) ?_
  refine jlk_cons (sm_getI B.1 fl_java_util_BitSet_7_36_149 dJ40_trimToSize_1) ?_
  refine jlk_cons (sm_aload_n rfl B.1 dJ40_trimToSize_4) ?_
  refine jlk_cons (sm_getP B.1 fl_java_util_BitSet_11_36_148 dJ40_trimToSize_5) ?_
  refine jlk_cons (sm_alen B.1 (t := 105) (by decide) rfl dJ40_trimToSize_8) ?_
  refine jlk_cons (sm_icmpeq rfl B.1 dJ40_trimToSize_9) ?_
  refine jlk_cons (sm_aload_n rfl B.1 dJ40_trimToSize_12) ?_
  refine jlk_cons (sm_aload_n rfl B.1 dJ40_trimToSize_13) ?_
  refine jlk_cons (sm_getP B.1 fl_java_util_BitSet_11_36_148 dJ40_trimToSize_14) ?_
  refine jlk_cons (sm_aload_n rfl B.1 dJ40_trimToSize_17) ?_
  refine jlk_cons (sm_getI B.1 fl_java_util_BitSet_7_36_149 dJ40_trimToSize_18) ?_
  refine jlk_cons (sm_cS (x := yJ29_copyOf_4) (r9 := kr_6) (host := "") (owner := "") isSP (i_J29_copyOf_4 hI) B q1902 q1903 w4_J29_copyOf_4 w6_J29_copyOf_4 (by decide) hy_J29_copyOf_4 hl_J29_copyOf_4 dJ40_trimToSize_21 trivial) ?_
  refine jlk_cons (sm_putP B.1 fl_java_util_BitSet_11_36_148 tyJ40 tyJ40_ok nmJ40 (Or.inl rfl) rfl (tyJ40_ok 0 (by decide)) rfl (by decide) dJ40_trimToSize_24) ?_
  refine jlk_cons (sm_aload_n rfl B.1 dJ40_trimToSize_27) ?_
  refine jlk_cons (sm_cV (x := yJ40_checkInvariants) (host := "") (owner := "") isRV (i_J40_checkInvariants hI) B q1910 q1912 qs20 w4_J40_checkInvariants w6_J40_checkInvariants (by decide) (by decide) (by decide) kc_36 hy_J40_checkInvariants hl_J40_checkInvariants dJ40_trimToSize_28 trivial) ?_
  refine jlk_cons (sm_vret B.1 B.2.1 hret dJ40_trimToSize_31) ?_
  exact jlk_nil
theorem v_J40_trimToSize (hst : l.stackTraces = false) (hz : jEz (EV (d + 1))) (hI : jIH l D dA lo cs0 d) : jMe l D dA lo cs0 (EV (d + 1)) 311 yJ40_trimToSize (ws_ yJ40_trimToSize cJ40_trimToSize 1 (Option.none : Option Jvm.ClassFile.FieldType)) (d + 1) := z_meth hz rfl hp_J40_trimToSize (r_J40_trimToSize hst hI)
theorem r_J1_compare (hst : l.stackTraces = false) (hI : jIH l D dA lo cs0 d) : jRows l D dA lo cs0 d 3 (tb_J1_compare (EV d)) yJ1_compare cJ1_compare (Option.some Jvm.ClassFile.FieldType.int) [] := by
  intro p e R s m args below meth c z0 w0 zF wF Q rF hF B hz hw hret hnm
  refine jlk_cons (sm_aload_n rfl B.1 dJ1_compare_0) ?_
  refine jlk_cons (sm_getP B.1 fl_java_util_TreeMap_16_20_116 dJ1_compare_1) ?_
  refine jlk_cons (sm_ifnonnull rfl B.1 dJ1_compare_4) ?_
  refine jlk_cons (sm_aload_n rfl B.1 dJ1_compare_7) ?_
  refine jlk_cons (sm_cast B.1 q304 (List.forall_mem_cons.mpr ⟨⟨by decide, by decide, _, kc_22, Or.inr q386⟩, (List.forall_mem_cons.mpr ⟨⟨by decide, by decide, _, kc_11, Or.inr q309⟩, (List.forall_mem_nil _)⟩)⟩) dJ1_compare_8) ?_
  refine jlk_cons (sm_aload_n rfl B.1 dJ1_compare_11) ?_
  refine jlk_cons (sm_cMI (fun k yi hk => by
      rcases jlk2 hk with ⟨rfl, rfl⟩ | ⟨rfl, rfl⟩
      · exact sm_cF (x := ⟨"java/lang/Comparable", "compareTo", "(Ljava/lang/Object;)I"⟩) (host := "") (owner := "") isRI (i_J6_compareTo hI) B (List.mem_of_getElem? (i := 4) rfl) q306 q387 q389 w4_J6_compareTo w6_J6_compareTo (by decide)  (by decide) (by decide) kc_22 (hl_J6_compareTo : _) dJ1_compare_12 trivial
      · exact sm_cF (x := ⟨"java/lang/Comparable", "compareTo", "(Ljava/lang/Object;)I"⟩) (host := "") (owner := "") isRI (i_X11_compareTo hI) B (List.mem_of_getElem? (i := 5) rfl) q306 q310 q312 w4_X11_compareTo w6_X11_compareTo (by decide)  (by decide) (by decide) kc_11 (hl_X11_compareTo : _) dJ1_compare_12 trivial)) ?_
  refine jlk_cons (sm_goto rfl B.1 dJ1_compare_17) ?_
  refine jlk_cons (sm_aload_n rfl B.1 dJ1_compare_20) ?_
  refine jlk_cons (sm_getP B.1 fl_java_util_TreeMap_16_20_116 dJ1_compare_21) ?_
  refine jlk_cons (sm_aload_n rfl B.1 dJ1_compare_24) ?_
  refine jlk_cons (sm_aload_n rfl B.1 dJ1_compare_25) ?_
  refine jlk_cons (sm_iret B.1 B.2.1 hret dJ1_compare_31) ?_
  exact jlk_nil
theorem v_J1_compare (hst : l.stackTraces = false) (hz : jEz (EV (d + 1))) (hI : jIH l D dA lo cs0 d) : jMe l D dA lo cs0 (EV (d + 1)) 320 yJ1_compare (ws_ yJ1_compare cJ1_compare 3 (Option.some Jvm.ClassFile.FieldType.int)) (d + 1) := z_meth hz rfl hp_J1_compare (r_J1_compare hst hI)
theorem r_J15_init (hst : l.stackTraces = false) (hI : jIH l D dA lo cs0 d) : jRows l D dA lo cs0 d 4 (tb_J15_init (EV d)) yJ15_init cJ15_init (Option.none : Option Jvm.ClassFile.FieldType) [] := by
  intro p e R s m args below meth c z0 w0 zF wF Q rF hF B hz hw hret hnm
  refine jlk_cons (sm_aload_n rfl B.1 dJ15_init_0) ?_
  refine jlk_cons (sm_obj B.1 q639 q196 q197 dJ15_init_1) ?_
  refine jlk_cons (sm_aload_n rfl B.1 dJ15_init_4) ?_
  refine jlk_cons (sm_iconst rfl B.1 dJ15_init_5) ?_
  refine jlk_cons (sm_putZ B.1 fl_java_util_TreeMap_Entry_9_24_136 tyJ15 tyJ15_ok nmJ15 (Or.inl rfl) (tyJ15_ok 5 (by decide)) rfl (by decide) dJ15_init_6) ?_
  refine jlk_cons (sm_aload_n rfl B.1 dJ15_init_9) ?_
  refine jlk_cons (sm_aload_n rfl B.1 dJ15_init_10) ?_
  refine jlk_cons (sm_putP B.1 fl_java_util_TreeMap_Entry_15_24_131 tyJ15 tyJ15_ok nmJ15 (Or.inl rfl) rfl (tyJ15_ok 0 (by decide)) rfl (by decide) dJ15_init_11) ?_
  refine jlk_cons (sm_aload_n rfl B.1 dJ15_init_14) ?_
  refine jlk_cons (sm_aload_n rfl B.1 dJ15_init_15) ?_
  refine jlk_cons (sm_putP B.1 fl_java_util_TreeMap_Entry_19_24_132 tyJ15 tyJ15_ok nmJ15 (Or.inl rfl) rfl (tyJ15_ok 1 (by decide)) rfl (by decide) dJ15_init_16) ?_
  refine jlk_cons (sm_aload_n rfl B.1 dJ15_init_19) ?_
  refine jlk_cons (sm_aload_n rfl B.1 dJ15_init_20) ?_
  refine jlk_cons (sm_putP B.1 fl_java_util_TreeMap_Entry_22_24_135 tyJ15 tyJ15_ok nmJ15 (Or.inl rfl) rfl (tyJ15_ok 4 (by decide)) rfl (by decide) dJ15_init_21) ?_
  refine jlk_cons (sm_vret B.1 B.2.1 hret dJ15_init_24) ?_
  exact jlk_nil
theorem v_J15_init (hst : l.stackTraces = false) (hz : jEz (EV (d + 1))) (hI : jIH l D dA lo cs0 d) : jMe l D dA lo cs0 (EV (d + 1)) 321 yJ15_init (ws_ yJ15_init cJ15_init 4 (Option.none : Option Jvm.ClassFile.FieldType)) (d + 1) := z_meth hz rfl hp_J15_init (r_J15_init hst hI)
theorem r_J6_compareTo_2 (hst : l.stackTraces = false) (hI : jIH l D dA lo cs0 d) : jRows l D dA lo cs0 d 2 (tb_J6_compareTo_2 (EV d)) yJ6_compareTo_2 cJ6_compareTo_2 (Option.some Jvm.ClassFile.FieldType.int) [] := by
  intro p e R s m args below meth c z0 w0 zF wF Q rF hF B hz hw hret hnm
  refine jlk_cons (sm_aload_n rfl B.1 dJ6_compareTo_2_0) ?_
  refine jlk_cons (sm_getI B.1 fl_java_lang_Integer_205_22_126 dJ6_compareTo_2_1) ?_
  refine jlk_cons (sm_aload_n rfl B.1 dJ6_compareTo_2_4) ?_
  refine jlk_cons (sm_getI B.1 fl_java_lang_Integer_205_22_126 dJ6_compareTo_2_5) ?_
  refine jlk_cons (sm_cS (x := yJ6_compare) (r9 := kr_6) (host := "") (owner := "") isSI (i_J6_compare hI) B q396 q321 w4_J6_compare w6_J6_compare (by decide) hy_J6_compare hl_J6_compare dJ6_compareTo_2_8 trivial) ?_
  refine jlk_cons (sm_iret B.1 B.2.1 hret dJ6_compareTo_2_11) ?_
  exact jlk_nil
theorem v_J6_compareTo_2 (hst : l.stackTraces = false) (hz : jEz (EV (d + 1))) (hI : jIH l D dA lo cs0 d) : jMe l D dA lo cs0 (EV (d + 1)) 323 yJ6_compareTo_2 (ws_ yJ6_compareTo_2 cJ6_compareTo_2 2 (Option.some Jvm.ClassFile.FieldType.int)) (d + 1) := z_meth hz rfl hp_J6_compareTo_2 (r_J6_compareTo_2 hst hI)
theorem r_J1_fixAfterInsertion (hst : l.stackTraces = false) (hI : jIH l D dA lo cs0 d) : jRows l D dA lo cs0 d 3 (tb_J1_fixAfterInsertion (EV d)) yJ1_fixAfterInsertion cJ1_fixAfterInsertion (Option.none : Option Jvm.ClassFile.FieldType) [] := by
  intro p e R s m args below meth c z0 w0 zF wF Q rF hF B hz hw hret hnm
  refine jlk_app ?_ ?_
  · refine jlk_cons (sm_aload_n rfl B.1 dJ1_fixAfterInsertion_0) ?_
    refine jlk_cons (sm_iconst rfl B.1 dJ1_fixAfterInsertion_1) ?_
    refine jlk_cons (sm_putZ B.1 fl_java_util_TreeMap_290_24_136 tyJ15 tyJ15_ok nmJ15 (Or.inl rfl) (tyJ15_ok 5 (by decide)) rfl (by decide) dJ1_fixAfterInsertion_2) ?_
    refine jlk_cons (sm_aload_n rfl B.1 dJ1_fixAfterInsertion_5) ?_
    refine jlk_cons (sm_ifnull rfl B.1 dJ1_fixAfterInsertion_6) ?_
    refine jlk_cons (sm_aload_n rfl B.1 dJ1_fixAfterInsertion_9) ?_
    refine jlk_cons (sm_aload_n rfl B.1 dJ1_fixAfterInsertion_10) ?_
    refine jlk_cons (sm_getP B.1 fl_java_util_TreeMap_101_20_117 dJ1_fixAfterInsertion_11) ?_
    refine jlk_cons (sm_acmpeq rfl B.1 dJ1_fixAfterInsertion_14) ?_
    refine jlk_cons (sm_aload_n rfl B.1 dJ1_fixAfterInsertion_17) ?_
    refine jlk_cons (sm_getP B.1 fl_java_util_TreeMap_124_24_135 dJ1_fixAfterInsertion_18) ?_
    refine jlk_cons (sm_getI B.1 fl_java_util_TreeMap_290_24_136 dJ1_fixAfterInsertion_21) ?_
    refine jlk_cons (sm_ifne rfl B.1 dJ1_fixAfterInsertion_24) ?_
    refine jlk_cons (sm_aload_n rfl B.1 dJ1_fixAfterInsertion_27) ?_
    refine jlk_cons (sm_cS (x := yJ1_parentOf) (r9 := kr_6) (host := "") (owner := "") isSP (i_J1_parentOf hI) B q675 q676 w4_J1_parentOf w6_J1_parentOf (by decide) hy_J1_parentOf hl_J1_parentOf dJ1_fixAfterInsertion_28 trivial) ?_
    refine jlk_cons (sm_aload_n rfl B.1 dJ1_fixAfterInsertion_31) ?_
    refine jlk_cons (sm_cS (x := yJ1_parentOf) (r9 := kr_6) (host := "") (owner := "") isSP (i_J1_parentOf hI) B q675 q676 w4_J1_parentOf w6_J1_parentOf (by decide) hy_J1_parentOf hl_J1_parentOf dJ1_fixAfterInsertion_32 trivial) ?_
    refine jlk_cons (sm_cS (x := yJ1_parentOf) (r9 := kr_6) (host := "") (owner := "") isSP (i_J1_parentOf hI) B q675 q676 w4_J1_parentOf w6_J1_parentOf (by decide) hy_J1_parentOf hl_J1_parentOf dJ1_fixAfterInsertion_35 trivial) ?_
    refine jlk_cons (sm_cS (x := yJ1_leftOf) (r9 := kr_6) (host := "") (owner := "") isSP (i_J1_leftOf hI) B q678 q679 w4_J1_leftOf w6_J1_leftOf (by decide) hy_J1_leftOf hl_J1_leftOf dJ1_fixAfterInsertion_38 trivial) ?_
    refine jlk_cons (sm_acmpne rfl B.1 dJ1_fixAfterInsertion_41) ?_
    refine jlk_cons (sm_aload_n rfl B.1 dJ1_fixAfterInsertion_44) ?_
    refine jlk_cons (sm_cS (x := yJ1_parentOf) (r9 := kr_6) (host := "") (owner := "") isSP (i_J1_parentOf hI) B q675 q676 w4_J1_parentOf w6_J1_parentOf (by decide) hy_J1_parentOf hl_J1_parentOf dJ1_fixAfterInsertion_45 trivial) ?_
    refine jlk_cons (sm_cS (x := yJ1_parentOf) (r9 := kr_6) (host := "") (owner := "") isSP (i_J1_parentOf hI) B q675 q676 w4_J1_parentOf w6_J1_parentOf (by decide) hy_J1_parentOf hl_J1_parentOf dJ1_fixAfterInsertion_48 trivial) ?_
    refine jlk_cons (sm_cS (x := yJ1_rightOf) (r9 := kr_6) (host := "") (owner := "") isSP (i_J1_rightOf hI) B q681 q682 w4_J1_rightOf w6_J1_rightOf (by decide) hy_J1_rightOf hl_J1_rightOf dJ1_fixAfterInsertion_51 trivial) ?_
    refine jlk_cons (sm_astore_n rfl B.1 dJ1_fixAfterInsertion_54) ?_
    refine jlk_cons (sm_aload_n rfl B.1 dJ1_fixAfterInsertion_55) ?_
    refine jlk_cons (sm_cS (x := yJ1_colorOf) (r9 := kr_6) (host := "") (owner := "") isSI (i_J1_colorOf hI) B q684 q685 w4_J1_colorOf w6_J1_colorOf (by decide) hy_J1_colorOf hl_J1_colorOf dJ1_fixAfterInsertion_56 trivial) ?_
    refine jlk_cons (sm_ifne rfl B.1 dJ1_fixAfterInsertion_59) ?_
    refine jlk_cons (sm_aload_n rfl B.1 dJ1_fixAfterInsertion_62) ?_
    refine jlk_cons (sm_cS (x := yJ1_parentOf) (r9 := kr_6) (host := "") (owner := "") isSP (i_J1_parentOf hI) B q675 q676 w4_J1_parentOf w6_J1_parentOf (by decide) hy_J1_parentOf hl_J1_parentOf dJ1_fixAfterInsertion_63 trivial) ?_
    refine jlk_cons (sm_iconst rfl B.1 dJ1_fixAfterInsertion_66) ?_
    refine jlk_cons (sm_cS (x := yJ1_setColor) (r9 := kr_6) (host := "") (owner := "") isSV (i_J1_setColor hI) B q687 q688 w4_J1_setColor w6_J1_setColor (by decide) hy_J1_setColor hl_J1_setColor dJ1_fixAfterInsertion_67 trivial) ?_
    refine jlk_cons (sm_aload_n rfl B.1 dJ1_fixAfterInsertion_70) ?_
    refine jlk_cons (sm_iconst rfl B.1 dJ1_fixAfterInsertion_71) ?_
    refine jlk_cons (sm_cS (x := yJ1_setColor) (r9 := kr_6) (host := "") (owner := "") isSV (i_J1_setColor hI) B q687 q688 w4_J1_setColor w6_J1_setColor (by decide) hy_J1_setColor hl_J1_setColor dJ1_fixAfterInsertion_72 trivial) ?_
    refine jlk_cons (sm_aload_n rfl B.1 dJ1_fixAfterInsertion_75) ?_
    refine jlk_cons (sm_cS (x := yJ1_parentOf) (r9 := kr_6) (host := "") (owner := "") isSP (i_J1_parentOf hI) B q675 q676 w4_J1_parentOf w6_J1_parentOf (by decide) hy_J1_parentOf hl_J1_parentOf dJ1_fixAfterInsertion_76 trivial) ?_
    refine jlk_cons (sm_cS (x := yJ1_parentOf) (r9 := kr_6) (host := "") (owner := "") isSP (i_J1_parentOf hI) B q675 q676 w4_J1_parentOf w6_J1_parentOf (by decide) hy_J1_parentOf hl_J1_parentOf dJ1_fixAfterInsertion_79 trivial) ?_
    refine jlk_cons (sm_iconst rfl B.1 dJ1_fixAfterInsertion_82) ?_
    refine jlk_cons (sm_cS (x := yJ1_setColor) (r9 := kr_6) (host := "") (owner := "") isSV (i_J1_setColor hI) B q687 q688 w4_J1_setColor w6_J1_setColor (by decide) hy_J1_setColor hl_J1_setColor dJ1_fixAfterInsertion_83 trivial) ?_
    exact jlk_nil
  · skip
    refine jlk_app ?_ ?_
    · refine jlk_cons (sm_aload_n rfl B.1 dJ1_fixAfterInsertion_86) ?_
      refine jlk_cons (sm_cS (x := yJ1_parentOf) (r9 := kr_6) (host := "") (owner := "") isSP (i_J1_parentOf hI) B q675 q676 w4_J1_parentOf w6_J1_parentOf (by decide) hy_J1_parentOf hl_J1_parentOf dJ1_fixAfterInsertion_87 trivial) ?_
      refine jlk_cons (sm_cS (x := yJ1_parentOf) (r9 := kr_6) (host := "") (owner := "") isSP (i_J1_parentOf hI) B q675 q676 w4_J1_parentOf w6_J1_parentOf (by decide) hy_J1_parentOf hl_J1_parentOf dJ1_fixAfterInsertion_90 trivial) ?_
      refine jlk_cons (sm_astore_n rfl B.1 dJ1_fixAfterInsertion_93) ?_
      refine jlk_cons (sm_goto rfl B.1 dJ1_fixAfterInsertion_94) ?_
      refine jlk_cons (sm_aload_n rfl B.1 dJ1_fixAfterInsertion_97) ?_
      refine jlk_cons (sm_aload_n rfl B.1 dJ1_fixAfterInsertion_98) ?_
      refine jlk_cons (sm_cS (x := yJ1_parentOf) (r9 := kr_6) (host := "") (owner := "") isSP (i_J1_parentOf hI) B q675 q676 w4_J1_parentOf w6_J1_parentOf (by decide) hy_J1_parentOf hl_J1_parentOf dJ1_fixAfterInsertion_99 trivial) ?_
      refine jlk_cons (sm_cS (x := yJ1_rightOf) (r9 := kr_6) (host := "") (owner := "") isSP (i_J1_rightOf hI) B q681 q682 w4_J1_rightOf w6_J1_rightOf (by decide) hy_J1_rightOf hl_J1_rightOf dJ1_fixAfterInsertion_102 trivial) ?_
      refine jlk_cons (sm_acmpne rfl B.1 dJ1_fixAfterInsertion_105) ?_
      refine jlk_cons (sm_aload_n rfl B.1 dJ1_fixAfterInsertion_108) ?_
      refine jlk_cons (sm_cS (x := yJ1_parentOf) (r9 := kr_6) (host := "") (owner := "") isSP (i_J1_parentOf hI) B q675 q676 w4_J1_parentOf w6_J1_parentOf (by decide) hy_J1_parentOf hl_J1_parentOf dJ1_fixAfterInsertion_109 trivial) ?_
      refine jlk_cons (sm_astore_n rfl B.1 dJ1_fixAfterInsertion_112) ?_
      refine jlk_cons (sm_aload_n rfl B.1 dJ1_fixAfterInsertion_113) ?_
      refine jlk_cons (sm_aload_n rfl B.1 dJ1_fixAfterInsertion_114) ?_
      refine jlk_cons (sm_cV (x := yJ1_rotateLeft) (host := "") (owner := "") isRV (i_J1_rotateLeft hI) B q690 q692 qs4 w4_J1_rotateLeft w6_J1_rotateLeft (by decide) (by decide) (by decide) kc_20 hy_J1_rotateLeft hl_J1_rotateLeft dJ1_fixAfterInsertion_115 trivial) ?_
      refine jlk_cons (sm_aload_n rfl B.1 dJ1_fixAfterInsertion_118) ?_
      refine jlk_cons (sm_cS (x := yJ1_parentOf) (r9 := kr_6) (host := "") (owner := "") isSP (i_J1_parentOf hI) B q675 q676 w4_J1_parentOf w6_J1_parentOf (by decide) hy_J1_parentOf hl_J1_parentOf dJ1_fixAfterInsertion_119 trivial) ?_
      refine jlk_cons (sm_iconst rfl B.1 dJ1_fixAfterInsertion_122) ?_
      refine jlk_cons (sm_cS (x := yJ1_setColor) (r9 := kr_6) (host := "") (owner := "") isSV (i_J1_setColor hI) B q687 q688 w4_J1_setColor w6_J1_setColor (by decide) hy_J1_setColor hl_J1_setColor dJ1_fixAfterInsertion_123 trivial) ?_
      refine jlk_cons (sm_aload_n rfl B.1 dJ1_fixAfterInsertion_126) ?_
      refine jlk_cons (sm_cS (x := yJ1_parentOf) (r9 := kr_6) (host := "") (owner := "") isSP (i_J1_parentOf hI) B q675 q676 w4_J1_parentOf w6_J1_parentOf (by decide) hy_J1_parentOf hl_J1_parentOf dJ1_fixAfterInsertion_127 trivial) ?_
      refine jlk_cons (sm_cS (x := yJ1_parentOf) (r9 := kr_6) (host := "") (owner := "") isSP (i_J1_parentOf hI) B q675 q676 w4_J1_parentOf w6_J1_parentOf (by decide) hy_J1_parentOf hl_J1_parentOf dJ1_fixAfterInsertion_130 trivial) ?_
      refine jlk_cons (sm_iconst rfl B.1 dJ1_fixAfterInsertion_133) ?_
      refine jlk_cons (sm_cS (x := yJ1_setColor) (r9 := kr_6) (host := "") (owner := "") isSV (i_J1_setColor hI) B q687 q688 w4_J1_setColor w6_J1_setColor (by decide) hy_J1_setColor hl_J1_setColor dJ1_fixAfterInsertion_134 trivial) ?_
      refine jlk_cons (sm_aload_n rfl B.1 dJ1_fixAfterInsertion_137) ?_
      refine jlk_cons (sm_aload_n rfl B.1 dJ1_fixAfterInsertion_138) ?_
      refine jlk_cons (sm_cS (x := yJ1_parentOf) (r9 := kr_6) (host := "") (owner := "") isSP (i_J1_parentOf hI) B q675 q676 w4_J1_parentOf w6_J1_parentOf (by decide) hy_J1_parentOf hl_J1_parentOf dJ1_fixAfterInsertion_139 trivial) ?_
      refine jlk_cons (sm_cS (x := yJ1_parentOf) (r9 := kr_6) (host := "") (owner := "") isSP (i_J1_parentOf hI) B q675 q676 w4_J1_parentOf w6_J1_parentOf (by decide) hy_J1_parentOf hl_J1_parentOf dJ1_fixAfterInsertion_142 trivial) ?_
      refine jlk_cons (sm_cV (x := yJ1_rotateRight) (host := "") (owner := "") isRV (i_J1_rotateRight hI) B q694 q696 qs5 w4_J1_rotateRight w6_J1_rotateRight (by decide) (by decide) (by decide) kc_20 hy_J1_rotateRight hl_J1_rotateRight dJ1_fixAfterInsertion_145 trivial) ?_
      refine jlk_cons (sm_goto rfl B.1 dJ1_fixAfterInsertion_148) ?_
      refine jlk_cons (sm_aload_n rfl B.1 dJ1_fixAfterInsertion_151) ?_
      refine jlk_cons (sm_cS (x := yJ1_parentOf) (r9 := kr_6) (host := "") (owner := "") isSP (i_J1_parentOf hI) B q675 q676 w4_J1_parentOf w6_J1_parentOf (by decide) hy_J1_parentOf hl_J1_parentOf dJ1_fixAfterInsertion_152 trivial) ?_
      refine jlk_cons (sm_cS (x := yJ1_parentOf) (r9 := kr_6) (host := "") (owner := "") isSP (i_J1_parentOf hI) B q675 q676 w4_J1_parentOf w6_J1_parentOf (by decide) hy_J1_parentOf hl_J1_parentOf dJ1_fixAfterInsertion_155 trivial) ?_
      refine jlk_cons (sm_cS (x := yJ1_leftOf) (r9 := kr_6) (host := "") (owner := "") isSP (i_J1_leftOf hI) B q678 q679 w4_J1_leftOf w6_J1_leftOf (by decide) hy_J1_leftOf hl_J1_leftOf dJ1_fixAfterInsertion_158 trivial) ?_
      refine jlk_cons (sm_astore_n rfl B.1 dJ1_fixAfterInsertion_161) ?_
      refine jlk_cons (sm_aload_n rfl B.1 dJ1_fixAfterInsertion_162) ?_
      refine jlk_cons (sm_cS (x := yJ1_colorOf) (r9 := kr_6) (host := "") (owner := "") isSI (i_J1_colorOf hI) B q684 q685 w4_J1_colorOf w6_J1_colorOf (by decide) hy_J1_colorOf hl_J1_colorOf dJ1_fixAfterInsertion_163 trivial) ?_
      refine jlk_cons (sm_ifne rfl B.1 dJ1_fixAfterInsertion_166) ?_
      refine jlk_cons (sm_aload_n rfl B.1 dJ1_fixAfterInsertion_169) ?_
      exact jlk_nil
    · skip
      refine jlk_app ?_ ?_
      · refine jlk_cons (sm_cS (x := yJ1_parentOf) (r9 := kr_6) (host := "") (owner := "") isSP (i_J1_parentOf hI) B q675 q676 w4_J1_parentOf w6_J1_parentOf (by decide) hy_J1_parentOf hl_J1_parentOf dJ1_fixAfterInsertion_170 trivial) ?_
        refine jlk_cons (sm_iconst rfl B.1 dJ1_fixAfterInsertion_173) ?_
        refine jlk_cons (sm_cS (x := yJ1_setColor) (r9 := kr_6) (host := "") (owner := "") isSV (i_J1_setColor hI) B q687 q688 w4_J1_setColor w6_J1_setColor (by decide) hy_J1_setColor hl_J1_setColor dJ1_fixAfterInsertion_174 trivial) ?_
        refine jlk_cons (sm_aload_n rfl B.1 dJ1_fixAfterInsertion_177) ?_
        refine jlk_cons (sm_iconst rfl B.1 dJ1_fixAfterInsertion_178) ?_
        refine jlk_cons (sm_cS (x := yJ1_setColor) (r9 := kr_6) (host := "") (owner := "") isSV (i_J1_setColor hI) B q687 q688 w4_J1_setColor w6_J1_setColor (by decide) hy_J1_setColor hl_J1_setColor dJ1_fixAfterInsertion_179 trivial) ?_
        refine jlk_cons (sm_aload_n rfl B.1 dJ1_fixAfterInsertion_182) ?_
        refine jlk_cons (sm_cS (x := yJ1_parentOf) (r9 := kr_6) (host := "") (owner := "") isSP (i_J1_parentOf hI) B q675 q676 w4_J1_parentOf w6_J1_parentOf (by decide) hy_J1_parentOf hl_J1_parentOf dJ1_fixAfterInsertion_183 trivial) ?_
        refine jlk_cons (sm_cS (x := yJ1_parentOf) (r9 := kr_6) (host := "") (owner := "") isSP (i_J1_parentOf hI) B q675 q676 w4_J1_parentOf w6_J1_parentOf (by decide) hy_J1_parentOf hl_J1_parentOf dJ1_fixAfterInsertion_186 trivial) ?_
        refine jlk_cons (sm_iconst rfl B.1 dJ1_fixAfterInsertion_189) ?_
        refine jlk_cons (sm_cS (x := yJ1_setColor) (r9 := kr_6) (host := "") (owner := "") isSV (i_J1_setColor hI) B q687 q688 w4_J1_setColor w6_J1_setColor (by decide) hy_J1_setColor hl_J1_setColor dJ1_fixAfterInsertion_190 trivial) ?_
        refine jlk_cons (sm_aload_n rfl B.1 dJ1_fixAfterInsertion_193) ?_
        refine jlk_cons (sm_cS (x := yJ1_parentOf) (r9 := kr_6) (host := "") (owner := "") isSP (i_J1_parentOf hI) B q675 q676 w4_J1_parentOf w6_J1_parentOf (by decide) hy_J1_parentOf hl_J1_parentOf dJ1_fixAfterInsertion_194 trivial) ?_
        refine jlk_cons (sm_cS (x := yJ1_parentOf) (r9 := kr_6) (host := "") (owner := "") isSP (i_J1_parentOf hI) B q675 q676 w4_J1_parentOf w6_J1_parentOf (by decide) hy_J1_parentOf hl_J1_parentOf dJ1_fixAfterInsertion_197 trivial) ?_
        refine jlk_cons (sm_astore_n rfl B.1 dJ1_fixAfterInsertion_200) ?_
        refine jlk_cons (sm_goto rfl B.1 dJ1_fixAfterInsertion_201) ?_
        refine jlk_cons (sm_aload_n rfl B.1 dJ1_fixAfterInsertion_204) ?_
        refine jlk_cons (sm_aload_n rfl B.1 dJ1_fixAfterInsertion_205) ?_
        refine jlk_cons (sm_cS (x := yJ1_parentOf) (r9 := kr_6) (host := "") (owner := "") isSP (i_J1_parentOf hI) B q675 q676 w4_J1_parentOf w6_J1_parentOf (by decide) hy_J1_parentOf hl_J1_parentOf dJ1_fixAfterInsertion_206 trivial) ?_
        refine jlk_cons (sm_cS (x := yJ1_leftOf) (r9 := kr_6) (host := "") (owner := "") isSP (i_J1_leftOf hI) B q678 q679 w4_J1_leftOf w6_J1_leftOf (by decide) hy_J1_leftOf hl_J1_leftOf dJ1_fixAfterInsertion_209 trivial) ?_
        refine jlk_cons (sm_acmpne rfl B.1 dJ1_fixAfterInsertion_212) ?_
        refine jlk_cons (sm_aload_n rfl B.1 dJ1_fixAfterInsertion_215) ?_
        refine jlk_cons (sm_cS (x := yJ1_parentOf) (r9 := kr_6) (host := "") (owner := "") isSP (i_J1_parentOf hI) B q675 q676 w4_J1_parentOf w6_J1_parentOf (by decide) hy_J1_parentOf hl_J1_parentOf dJ1_fixAfterInsertion_216 trivial) ?_
        refine jlk_cons (sm_astore_n rfl B.1 dJ1_fixAfterInsertion_219) ?_
        refine jlk_cons (sm_aload_n rfl B.1 dJ1_fixAfterInsertion_220) ?_
        refine jlk_cons (sm_aload_n rfl B.1 dJ1_fixAfterInsertion_221) ?_
        refine jlk_cons (sm_cV (x := yJ1_rotateRight) (host := "") (owner := "") isRV (i_J1_rotateRight hI) B q694 q696 qs5 w4_J1_rotateRight w6_J1_rotateRight (by decide) (by decide) (by decide) kc_20 hy_J1_rotateRight hl_J1_rotateRight dJ1_fixAfterInsertion_222 trivial) ?_
        refine jlk_cons (sm_aload_n rfl B.1 dJ1_fixAfterInsertion_225) ?_
        refine jlk_cons (sm_cS (x := yJ1_parentOf) (r9 := kr_6) (host := "") (owner := "") isSP (i_J1_parentOf hI) B q675 q676 w4_J1_parentOf w6_J1_parentOf (by decide) hy_J1_parentOf hl_J1_parentOf dJ1_fixAfterInsertion_226 trivial) ?_
        refine jlk_cons (sm_iconst rfl B.1 dJ1_fixAfterInsertion_229) ?_
        refine jlk_cons (sm_cS (x := yJ1_setColor) (r9 := kr_6) (host := "") (owner := "") isSV (i_J1_setColor hI) B q687 q688 w4_J1_setColor w6_J1_setColor (by decide) hy_J1_setColor hl_J1_setColor dJ1_fixAfterInsertion_230 trivial) ?_
        refine jlk_cons (sm_aload_n rfl B.1 dJ1_fixAfterInsertion_233) ?_
        refine jlk_cons (sm_cS (x := yJ1_parentOf) (r9 := kr_6) (host := "") (owner := "") isSP (i_J1_parentOf hI) B q675 q676 w4_J1_parentOf w6_J1_parentOf (by decide) hy_J1_parentOf hl_J1_parentOf dJ1_fixAfterInsertion_234 trivial) ?_
        refine jlk_cons (sm_cS (x := yJ1_parentOf) (r9 := kr_6) (host := "") (owner := "") isSP (i_J1_parentOf hI) B q675 q676 w4_J1_parentOf w6_J1_parentOf (by decide) hy_J1_parentOf hl_J1_parentOf dJ1_fixAfterInsertion_237 trivial) ?_
        refine jlk_cons (sm_iconst rfl B.1 dJ1_fixAfterInsertion_240) ?_
        refine jlk_cons (sm_cS (x := yJ1_setColor) (r9 := kr_6) (host := "") (owner := "") isSV (i_J1_setColor hI) B q687 q688 w4_J1_setColor w6_J1_setColor (by decide) hy_J1_setColor hl_J1_setColor dJ1_fixAfterInsertion_241 trivial) ?_
        refine jlk_cons (sm_aload_n rfl B.1 dJ1_fixAfterInsertion_244) ?_
        refine jlk_cons (sm_aload_n rfl B.1 dJ1_fixAfterInsertion_245) ?_
        refine jlk_cons (sm_cS (x := yJ1_parentOf) (r9 := kr_6) (host := "") (owner := "") isSP (i_J1_parentOf hI) B q675 q676 w4_J1_parentOf w6_J1_parentOf (by decide) hy_J1_parentOf hl_J1_parentOf dJ1_fixAfterInsertion_246 trivial) ?_
        refine jlk_cons (sm_cS (x := yJ1_parentOf) (r9 := kr_6) (host := "") (owner := "") isSP (i_J1_parentOf hI) B q675 q676 w4_J1_parentOf w6_J1_parentOf (by decide) hy_J1_parentOf hl_J1_parentOf dJ1_fixAfterInsertion_249 trivial) ?_
        exact jlk_nil
      · skip
        refine jlk_cons (sm_cV (x := yJ1_rotateLeft) (host := "") (owner := "") isRV (i_J1_rotateLeft hI) B q690 q692 qs4 w4_J1_rotateLeft w6_J1_rotateLeft (by decide) (by decide) (by decide) kc_20 hy_J1_rotateLeft hl_J1_rotateLeft dJ1_fixAfterInsertion_252 trivial) ?_
        refine jlk_cons (sm_goto rfl B.1 dJ1_fixAfterInsertion_255) ?_
        refine jlk_cons (sm_aload_n rfl B.1 dJ1_fixAfterInsertion_258) ?_
        refine jlk_cons (sm_getP B.1 fl_java_util_TreeMap_101_20_117 dJ1_fixAfterInsertion_259) ?_
        refine jlk_cons (sm_iconst rfl B.1 dJ1_fixAfterInsertion_262) ?_
        refine jlk_cons (sm_putZ B.1 fl_java_util_TreeMap_290_24_136 tyJ15 tyJ15_ok nmJ15 (Or.inl rfl) (tyJ15_ok 5 (by decide)) rfl (by decide) dJ1_fixAfterInsertion_263) ?_
        refine jlk_cons (sm_vret B.1 B.2.1 hret dJ1_fixAfterInsertion_266) ?_
        exact jlk_nil
theorem v_J1_fixAfterInsertion (hst : l.stackTraces = false) (hz : jEz (EV (d + 1))) (hI : jIH l D dA lo cs0 d) : jMe l D dA lo cs0 (EV (d + 1)) 325 yJ1_fixAfterInsertion (ws_ yJ1_fixAfterInsertion cJ1_fixAfterInsertion 3 (Option.none : Option Jvm.ClassFile.FieldType)) (d + 1) := z_meth hz rfl hp_J1_fixAfterInsertion (r_J1_fixAfterInsertion hst hI)
theorem r_J17_init (hst : l.stackTraces = false) (hI : jIH l D dA lo cs0 d) : jRows l D dA lo cs0 d 1 (tb_J17_init (EV d)) yJ17_init cJ17_init (Option.none : Option Jvm.ClassFile.FieldType) [] := by
  intro p e R s m args below meth c z0 w0 zF wF Q rF hF B hz hw hret hnm
  refine jlk_cons (sm_aload_n rfl B.1 dJ17_init_0) ?_
  refine jlk_cons (sm_cI (x := yJ2_init) (r9 := kr_6) (host := "") (owner := "") isNV (i_J2_init hI) B q819 q248 w4_J2_init w6_J2_init (by decide) rfl hy_J2_init hl_J2_init dJ17_init_1 trivial) ?_
  refine jlk_cons (sm_vret B.1 B.2.1 hret dJ17_init_4) ?_
  exact jlk_nil
theorem v_J17_init (hst : l.stackTraces = false) (hz : jEz (EV (d + 1))) (hI : jIH l D dA lo cs0 d) : jMe l D dA lo cs0 (EV (d + 1)) 326 yJ17_init (ws_ yJ17_init cJ17_init 1 (Option.none : Option Jvm.ClassFile.FieldType)) (d + 1) := z_meth hz rfl hp_J17_init (r_J17_init hst hI)
theorem r_J19_init (hst : l.stackTraces = false) (hI : jIH l D dA lo cs0 d) : jRows l D dA lo cs0 d 3 (tb_J19_init (EV d)) yJ19_init cJ19_init (Option.none : Option Jvm.ClassFile.FieldType) [] := by
  intro p e R s m args below meth c z0 w0 zF wF Q rF hF B hz hw hret hnm
  refine jlk_cons (sm_aload_n rfl B.1 dJ19_init_0) ?_
  refine jlk_cons (sm_aload_n rfl B.1 dJ19_init_1) ?_
  refine jlk_cons (sm_putPM B.1 (List.forall_mem_cons.mpr ⟨⟨_, _, _, _, _, tyJ20, fl_java_util_TreeMap_PrivateEntryIterator_1_26_141, tyJ20_ok, nmJ20, Or.inr ⟨rfl, hnm, rfl⟩, ⟨_, rfl, tyJ20_ok 3 (by decide)⟩, rfl, by decide⟩, (List.forall_mem_cons.mpr ⟨⟨_, _, _, _, _, tyJ21, fl_java_util_TreeMap_PrivateEntryIterator_1_27_141, tyJ21_ok, nmJ21, Or.inr ⟨rfl, hnm, rfl⟩, ⟨_, rfl, tyJ21_ok 3 (by decide)⟩, rfl, by decide⟩, (List.forall_mem_nil _)⟩)⟩) dJ19_init_2) ?_
  refine jlk_cons (sm_aload_n rfl B.1 dJ19_init_5) ?_
  refine jlk_cons (sm_obj B.1 q846 q196 q197 dJ19_init_6) ?_
  refine jlk_cons (sm_aload_n rfl B.1 dJ19_init_9) ?_
  refine jlk_cons (sm_aload_n rfl B.1 dJ19_init_10) ?_
  refine jlk_cons (sm_getIN B.1 fn_java_util_TreeMap_PrivateEntryIterator_13_20_119 dJ19_init_11) ?_
  refine jlk_cons (sm_putIM B.1 (List.forall_mem_cons.mpr ⟨⟨_, _, _, _, _, tyJ20, fl_java_util_TreeMap_PrivateEntryIterator_19_26_140, tyJ20_ok, nmJ20, Or.inl rfl, tyJ20_ok 2 (by decide), rfl, by decide⟩, (List.forall_mem_cons.mpr ⟨⟨_, _, _, _, _, tyJ21, fl_java_util_TreeMap_PrivateEntryIterator_19_27_140, tyJ21_ok, nmJ21, Or.inl rfl, tyJ21_ok 2 (by decide), rfl, by decide⟩, (List.forall_mem_nil _)⟩)⟩) dJ19_init_14) ?_
  refine jlk_cons (sm_aload_n rfl B.1 dJ19_init_17) ?_
  refine jlk_cons (sm_null B.1 dJ19_init_18) ?_
  refine jlk_cons (sm_putPM B.1 (List.forall_mem_cons.mpr ⟨⟨_, _, _, _, _, tyJ20, fl_java_util_TreeMap_PrivateEntryIterator_22_26_139, tyJ20_ok, nmJ20, Or.inl rfl, ⟨_, rfl, tyJ20_ok 1 (by decide)⟩, rfl, by decide⟩, (List.forall_mem_cons.mpr ⟨⟨_, _, _, _, _, tyJ21, fl_java_util_TreeMap_PrivateEntryIterator_22_27_139, tyJ21_ok, nmJ21, Or.inl rfl, ⟨_, rfl, tyJ21_ok 1 (by decide)⟩, rfl, by decide⟩, (List.forall_mem_nil _)⟩)⟩) dJ19_init_19) ?_
  refine jlk_cons (sm_aload_n rfl B.1 dJ19_init_22) ?_
  refine jlk_cons (sm_aload_n rfl B.1 dJ19_init_23) ?_
  refine jlk_cons (sm_putPM B.1 (List.forall_mem_cons.mpr ⟨⟨_, _, _, _, _, tyJ20, fl_java_util_TreeMap_PrivateEntryIterator_26_26_138, tyJ20_ok, nmJ20, Or.inl rfl, ⟨_, rfl, tyJ20_ok 0 (by decide)⟩, rfl, by decide⟩, (List.forall_mem_cons.mpr ⟨⟨_, _, _, _, _, tyJ21, fl_java_util_TreeMap_PrivateEntryIterator_26_27_138, tyJ21_ok, nmJ21, Or.inl rfl, ⟨_, rfl, tyJ21_ok 0 (by decide)⟩, rfl, by decide⟩, (List.forall_mem_nil _)⟩)⟩) dJ19_init_24) ?_
  refine jlk_cons (sm_vret B.1 B.2.1 hret dJ19_init_27) ?_
  exact jlk_nil
theorem v_J19_init (hst : l.stackTraces = false) (hz : jEz (EV (d + 1))) (hI : jIH l D dA lo cs0 d) : jMe l D dA lo cs0 (EV (d + 1)) 327 yJ19_init (ws_ yJ19_init cJ19_init 3 (Option.none : Option Jvm.ClassFile.FieldType)) (d + 1) := z_meth hz rfl hp_J19_init (r_J19_init hst hI)
theorem r_J21_init (hst : l.stackTraces = false) (hI : jIH l D dA lo cs0 d) : jRows l D dA lo cs0 d 3 (tb_J21_init (EV d)) yJ21_init cJ21_init (Option.none : Option Jvm.ClassFile.FieldType) [] := by
  intro p e R s m args below meth c z0 w0 zF wF Q rF hF B hz hw hret hnm
  refine jlk_cons (sm_aload_n rfl B.1 dJ21_init_0) ?_
  refine jlk_cons (sm_aload_n rfl B.1 dJ21_init_1) ?_
  refine jlk_cons (sm_aload_n rfl B.1 dJ21_init_2) ?_
  refine jlk_cons (sm_cI (x := yJ19_init) (r9 := kr_6) (host := "") (owner := "") isNV (i_J19_init hI) B q877 q844 w4_J19_init w6_J19_init (by decide) rfl hy_J19_init hl_J19_init dJ21_init_3 trivial) ?_
  refine jlk_cons (sm_vret B.1 B.2.1 hret dJ21_init_6) ?_
  exact jlk_nil
theorem v_J21_init (hst : l.stackTraces = false) (hz : jEz (EV (d + 1))) (hI : jIH l D dA lo cs0 d) : jMe l D dA lo cs0 (EV (d + 1)) 328 yJ21_init (ws_ yJ21_init cJ21_init 3 (Option.none : Option Jvm.ClassFile.FieldType)) (d + 1) := z_meth hz rfl hp_J21_init (r_J21_init hst hI)
theorem r_J22_init (hst : l.stackTraces = false) (hI : jIH l D dA lo cs0 d) : jRows l D dA lo cs0 d 2 (tb_J22_init (EV d)) yJ22_init cJ22_init (Option.none : Option Jvm.ClassFile.FieldType) [] := by
  intro p e R s m args below meth c z0 w0 zF wF Q rF hF B hz hw hret hnm
  refine jlk_cons (sm_aload_n rfl B.1 dJ22_init_0) ?_
  refine jlk_cons (sm_cI (x := yJ17_init) (r9 := kr_6) (host := "") (owner := "") isNV (i_J17_init hI) B q908 q817 w4_J17_init w6_J17_init (by decide) rfl hy_J17_init hl_J17_init dJ22_init_1 trivial) ?_
  refine jlk_cons (sm_aload_n rfl B.1 dJ22_init_4) ?_
  refine jlk_cons (sm_aload_n rfl B.1 dJ22_init_5) ?_
  refine jlk_cons (sm_putP B.1 fl_java_util_TreeMap_KeySet_7_28_142 tyJ22 tyJ22_ok nmJ22 (Or.inr ⟨rfl, hnm, rfl⟩) rfl (tyJ22_ok 0 (by decide)) rfl (by decide) dJ22_init_6) ?_
  refine jlk_cons (sm_vret B.1 B.2.1 hret dJ22_init_9) ?_
  exact jlk_nil
theorem v_J22_init (hst : l.stackTraces = false) (hz : jEz (EV (d + 1))) (hI : jIH l D dA lo cs0 d) : jMe l D dA lo cs0 (EV (d + 1)) 329 yJ22_init (ws_ yJ22_init cJ22_init 2 (Option.none : Option Jvm.ClassFile.FieldType)) (d + 1) := z_meth hz rfl hp_J22_init (r_J22_init hst hI)
theorem r_J6_numberOfLeadingZeros (hst : l.stackTraces = false) (hI : jIH l D dA lo cs0 d) : jRows l D dA lo cs0 d 2 (tb_J6_numberOfLeadingZeros (EV d)) yJ6_numberOfLeadingZeros cJ6_numberOfLeadingZeros (Option.some Jvm.ClassFile.FieldType.int) [] := by
  intro p e R s m args below meth c z0 w0 zF wF Q rF hF B hz hw hret hnm
  refine jlk_app ?_ ?_
  · refine jlk_cons (sm_iload_n rfl B.1 dJ6_numberOfLeadingZeros_0) ?_
    refine jlk_cons (sm_ifgt rfl B.1 dJ6_numberOfLeadingZeros_1) ?_
    refine jlk_cons (sm_iload_n rfl B.1 dJ6_numberOfLeadingZeros_4) ?_
    refine jlk_cons (sm_ifne rfl B.1 dJ6_numberOfLeadingZeros_5) ?_
    refine jlk_cons (sm_bipush rfl B.1 dJ6_numberOfLeadingZeros_8) ?_
    refine jlk_cons (sm_goto rfl B.1 dJ6_numberOfLeadingZeros_10) ?_
    refine jlk_cons (sm_iconst rfl B.1 dJ6_numberOfLeadingZeros_13) ?_
    refine jlk_cons (sm_iret B.1 B.2.1 hret dJ6_numberOfLeadingZeros_14) ?_
    refine jlk_cons (sm_bipush rfl B.1 dJ6_numberOfLeadingZeros_15) ?_
    refine jlk_cons (sm_istore_n rfl B.1 dJ6_numberOfLeadingZeros_17) ?_
    refine jlk_cons (sm_iload_n rfl B.1 dJ6_numberOfLeadingZeros_18) ?_
    refine jlk_cons (sm_ldcw q497 B.1 dJ6_numberOfLeadingZeros_19) ?_
    refine jlk_cons (sm_icmplt rfl B.1 dJ6_numberOfLeadingZeros_22) ?_
    refine jlk_cons (sm_iinc rfl B.1 dJ6_numberOfLeadingZeros_25) ?_
    refine jlk_cons (sm_iload_n rfl B.1 dJ6_numberOfLeadingZeros_28) ?_
    refine jlk_cons (sm_bipush rfl B.1 dJ6_numberOfLeadingZeros_29) ?_
    refine jlk_cons (sm_iushr B.1 dJ6_numberOfLeadingZeros_31) ?_
    refine jlk_cons (sm_istore_n rfl B.1 dJ6_numberOfLeadingZeros_32) ?_
    refine jlk_cons (sm_iload_n rfl B.1 dJ6_numberOfLeadingZeros_33) ?_
    refine jlk_cons (sm_sipush rfl B.1 dJ6_numberOfLeadingZeros_34) ?_
    refine jlk_cons (sm_icmplt rfl B.1 dJ6_numberOfLeadingZeros_37) ?_
    refine jlk_cons (sm_iinc rfl B.1 dJ6_numberOfLeadingZeros_40) ?_
    refine jlk_cons (sm_iload_n rfl B.1 dJ6_numberOfLeadingZeros_43) ?_
    refine jlk_cons (sm_bipush rfl B.1 dJ6_numberOfLeadingZeros_44) ?_
    refine jlk_cons (sm_iushr B.1 dJ6_numberOfLeadingZeros_46) ?_
    refine jlk_cons (sm_istore_n rfl B.1 dJ6_numberOfLeadingZeros_47) ?_
    refine jlk_cons (sm_iload_n rfl B.1 dJ6_numberOfLeadingZeros_48) ?_
    refine jlk_cons (sm_bipush rfl B.1 dJ6_numberOfLeadingZeros_49) ?_
    refine jlk_cons (sm_icmplt rfl B.1 dJ6_numberOfLeadingZeros_51) ?_
    refine jlk_cons (sm_iinc rfl B.1 dJ6_numberOfLeadingZeros_54) ?_
    refine jlk_cons (sm_iload_n rfl B.1 dJ6_numberOfLeadingZeros_57) ?_
    refine jlk_cons (sm_iconst rfl B.1 dJ6_numberOfLeadingZeros_58) ?_
    refine jlk_cons (sm_iushr B.1 dJ6_numberOfLeadingZeros_59) ?_
    refine jlk_cons (sm_istore_n rfl B.1 dJ6_numberOfLeadingZeros_60) ?_
    refine jlk_cons (sm_iload_n rfl B.1 dJ6_numberOfLeadingZeros_61) ?_
    refine jlk_cons (sm_iconst rfl B.1 dJ6_numberOfLeadingZeros_62) ?_
    refine jlk_cons (sm_icmplt rfl B.1 dJ6_numberOfLeadingZeros_63) ?_
    refine jlk_cons (sm_iinc rfl B.1 dJ6_numberOfLeadingZeros_66) ?_
    refine jlk_cons (sm_iload_n rfl B.1 dJ6_numberOfLeadingZeros_69) ?_
    refine jlk_cons (sm_iconst rfl B.1 dJ6_numberOfLeadingZeros_70) ?_
    exact jlk_nil
  · skip
    refine jlk_cons (sm_iushr B.1 dJ6_numberOfLeadingZeros_71) ?_
    refine jlk_cons (sm_istore_n rfl B.1 dJ6_numberOfLeadingZeros_72) ?_
    refine jlk_cons (sm_iload_n rfl B.1 dJ6_numberOfLeadingZeros_73) ?_
    refine jlk_cons (sm_iload_n rfl B.1 dJ6_numberOfLeadingZeros_74) ?_
    refine jlk_cons (sm_iconst rfl B.1 dJ6_numberOfLeadingZeros_75) ?_
    refine jlk_cons (sm_iushr B.1 dJ6_numberOfLeadingZeros_76) ?_
    refine jlk_cons (sm_isub B.1 dJ6_numberOfLeadingZeros_77) ?_
    refine jlk_cons (sm_iret B.1 B.2.1 hret dJ6_numberOfLeadingZeros_78) ?_
    exact jlk_nil
theorem v_J6_numberOfLeadingZeros (hst : l.stackTraces = false) (hz : jEz (EV (d + 1))) (hI : jIH l D dA lo cs0 d) : jMe l D dA lo cs0 (EV (d + 1)) 330 yJ6_numberOfLeadingZeros (ws_ yJ6_numberOfLeadingZeros cJ6_numberOfLeadingZeros 2 (Option.some Jvm.ClassFile.FieldType.int)) (d + 1) := z_meth hz rfl hp_J6_numberOfLeadingZeros (r_J6_numberOfLeadingZeros hst hI)
theorem r_J20_next_2 (hst : l.stackTraces = false) (hI : jIH l D dA lo cs0 d) : jRows l D dA lo cs0 d 1 (tb_J20_next_2 (EV d)) yJ20_next_2 cJ20_next_2 (Option.some (Jvm.ClassFile.FieldType.object "java/util/Map$Entry")) [] := by
  intro p e R s m args below meth c z0 w0 zF wF Q rF hF B hz hw hret hnm
  refine jlk_cons (sm_aload_n rfl B.1 dJ20_next_2_0) ?_
  refine jlk_cons (sm_cVU (x := ⟨"java/util/TreeMap$EntryIterator", "nextEntry", "()Ljava/util/TreeMap$Entry;"⟩) (host := "") (owner := "java/util/TreeMap$PrivateEntryIterator") isRP (i_J19_nextEntry hI) B q1048 q1049 q1050 ⟨by decide, by decide⟩ q1051 q1052 w4_J19_nextEntry w6_J19_nextEntry (by decide) (by decide) (by decide) kc_26 (hl_J19_nextEntry : _) dJ20_next_2_1 trivial) ?_
  refine jlk_cons (sm_aret B.1 B.2.1 hret (Or.inl ⟨_, rfl⟩) dJ20_next_2_4) ?_
  exact jlk_nil
theorem v_J20_next_2 (hst : l.stackTraces = false) (hz : jEz (EV (d + 1))) (hI : jIH l D dA lo cs0 d) : jMe l D dA lo cs0 (EV (d + 1)) 331 yJ20_next_2 (ws_ yJ20_next_2 cJ20_next_2 1 (Option.some (Jvm.ClassFile.FieldType.object "java/util/Map$Entry"))) (d + 1) := z_meth hz rfl hp_J20_next_2 (r_J20_next_2 hst hI)
theorem r_J19_nextEntry (hst : l.stackTraces = false) (hI : jIH l D dA lo cs0 d) : jRows l D dA lo cs0 d 2 (tb_J19_nextEntry (EV d)) yJ19_nextEntry cJ19_nextEntry (Option.some (Jvm.ClassFile.FieldType.object "java/util/TreeMap$Entry")) [] := by
  intro p e R s m args below meth c z0 w0 zF wF Q rF hF B hz hw hret hnm
  refine jlk_cons (sm_aload_n rfl B.1 dJ19_nextEntry_0) ?_
  refine jlk_cons (sm_getPM B.1 (List.forall_mem_cons.mpr ⟨⟨_, _, _, _, _, fl_java_util_TreeMap_PrivateEntryIterator_26_26_138⟩, (List.forall_mem_cons.mpr ⟨⟨_, _, _, _, _, fl_java_util_TreeMap_PrivateEntryIterator_26_27_138⟩, (List.forall_mem_nil _)⟩)⟩) dJ19_nextEntry_1) ?_
  refine jlk_cons (sm_astore_n rfl B.1 dJ19_nextEntry_4) ?_
  refine jlk_cons (sm_aload_n rfl B.1 dJ19_nextEntry_5) ?_
  refine jlk_cons (sm_ifnonnull rfl B.1 dJ19_nextEntry_6) ?_
  refine jlk_cons (sm_aload_n rfl B.1 dJ19_nextEntry_17) ?_
  refine jlk_cons (sm_getPM B.1 (List.forall_mem_cons.mpr ⟨⟨_, _, _, _, _, fl_java_util_TreeMap_PrivateEntryIterator_1_26_141⟩, (List.forall_mem_cons.mpr ⟨⟨_, _, _, _, _, fl_java_util_TreeMap_PrivateEntryIterator_1_27_141⟩, (List.forall_mem_nil _)⟩)⟩) dJ19_nextEntry_18) ?_
  refine jlk_cons (sm_getIN B.1 fn_java_util_TreeMap_PrivateEntryIterator_13_20_119 dJ19_nextEntry_21) ?_
  refine jlk_cons (sm_aload_n rfl B.1 dJ19_nextEntry_24) ?_
  refine jlk_cons (sm_getIM B.1 (List.forall_mem_cons.mpr ⟨⟨_, _, _, _, _, fl_java_util_TreeMap_PrivateEntryIterator_19_26_140⟩, (List.forall_mem_cons.mpr ⟨⟨_, _, _, _, _, fl_java_util_TreeMap_PrivateEntryIterator_19_27_140⟩, (List.forall_mem_nil _)⟩)⟩) dJ19_nextEntry_25) ?_
  refine jlk_cons (sm_icmpeq rfl B.1 dJ19_nextEntry_28) ?_
  refine jlk_cons (sm_aload_n rfl B.1 dJ19_nextEntry_39) ?_
  refine jlk_cons (sm_aload_n rfl B.1 dJ19_nextEntry_40) ?_
  refine jlk_cons (sm_cS (x := yJ1_successor) (r9 := kr_6) (host := "") (owner := "") isSP (i_J1_successor hI) B q1056 q1057 w4_J1_successor w6_J1_successor (by decide) hy_J1_successor hl_J1_successor dJ19_nextEntry_41 trivial) ?_
  refine jlk_cons (sm_putPM B.1 (List.forall_mem_cons.mpr ⟨⟨_, _, _, _, _, tyJ20, fl_java_util_TreeMap_PrivateEntryIterator_26_26_138, tyJ20_ok, nmJ20, Or.inl rfl, ⟨_, rfl, tyJ20_ok 0 (by decide)⟩, rfl, by decide⟩, (List.forall_mem_cons.mpr ⟨⟨_, _, _, _, _, tyJ21, fl_java_util_TreeMap_PrivateEntryIterator_26_27_138, tyJ21_ok, nmJ21, Or.inl rfl, ⟨_, rfl, tyJ21_ok 0 (by decide)⟩, rfl, by decide⟩, (List.forall_mem_nil _)⟩)⟩) dJ19_nextEntry_44) ?_
  refine jlk_cons (sm_aload_n rfl B.1 dJ19_nextEntry_47) ?_
  refine jlk_cons (sm_aload_n rfl B.1 dJ19_nextEntry_48) ?_
  refine jlk_cons (sm_putPM B.1 (List.forall_mem_cons.mpr ⟨⟨_, _, _, _, _, tyJ20, fl_java_util_TreeMap_PrivateEntryIterator_22_26_139, tyJ20_ok, nmJ20, Or.inl rfl, ⟨_, rfl, tyJ20_ok 1 (by decide)⟩, rfl, by decide⟩, (List.forall_mem_cons.mpr ⟨⟨_, _, _, _, _, tyJ21, fl_java_util_TreeMap_PrivateEntryIterator_22_27_139, tyJ21_ok, nmJ21, Or.inl rfl, ⟨_, rfl, tyJ21_ok 1 (by decide)⟩, rfl, by decide⟩, (List.forall_mem_nil _)⟩)⟩) dJ19_nextEntry_49) ?_
  refine jlk_cons (sm_aload_n rfl B.1 dJ19_nextEntry_52) ?_
  refine jlk_cons (sm_aret B.1 B.2.1 hret (Or.inl ⟨_, rfl⟩) dJ19_nextEntry_53) ?_
  exact jlk_nil
theorem v_J19_nextEntry (hst : l.stackTraces = false) (hz : jEz (EV (d + 1))) (hI : jIH l D dA lo cs0 d) : jMe l D dA lo cs0 (EV (d + 1)) 332 yJ19_nextEntry (ws_ yJ19_nextEntry cJ19_nextEntry 2 (Option.some (Jvm.ClassFile.FieldType.object "java/util/TreeMap$Entry"))) (d + 1) := z_meth hz rfl hp_J19_nextEntry (r_J19_nextEntry hst hI)
theorem r_J4_grow_2 (hst : l.stackTraces = false) (hI : jIH l D dA lo cs0 d) : jRows l D dA lo cs0 d 4 (tb_J4_grow_2 (EV d)) yJ4_grow_2 cJ4_grow_2 (Option.some (Jvm.ClassFile.FieldType.array (Jvm.ClassFile.FieldType.object "java/lang/Object"))) [] := by
  intro p e R s m args below meth c z0 w0 zF wF Q rF hF B hz hw hret hnm
  refine jlk_cons (sm_aload_n rfl B.1 dJ4_grow_2_0) ?_
  refine jlk_cons (sm_getP B.1 fl_java_util_ArrayList_9_21_124 dJ4_grow_2_1) ?_
  refine jlk_cons (sm_alen B.1 (t := 107) (by decide) rfl dJ4_grow_2_4) ?_
  refine jlk_cons (sm_istore_n rfl B.1 dJ4_grow_2_5) ?_
  refine jlk_cons (sm_iload_n rfl B.1 dJ4_grow_2_6) ?_
  refine jlk_cons (sm_ifgt rfl B.1 dJ4_grow_2_7) ?_
  refine jlk_cons (sm_aload_n rfl B.1 dJ4_grow_2_10) ?_
  refine jlk_cons (sm_getP B.1 fl_java_util_ArrayList_9_21_124 dJ4_grow_2_11) ?_
  refine jlk_cons (sm_cstS B.1 (List.mem_of_getElem? (i := 0) rfl) q251 dJ4_grow_2_14) ?_
  refine jlk_cons (sm_acmpeq rfl B.1 dJ4_grow_2_17) ?_
  refine jlk_cons (sm_iload_n rfl B.1 dJ4_grow_2_20) ?_
  refine jlk_cons (sm_iload_n rfl B.1 dJ4_grow_2_21) ?_
  refine jlk_cons (sm_iload_n rfl B.1 dJ4_grow_2_22) ?_
  refine jlk_cons (sm_isub B.1 dJ4_grow_2_23) ?_
  refine jlk_cons (sm_iload_n rfl B.1 dJ4_grow_2_24) ?_
  refine jlk_cons (sm_iconst rfl B.1 dJ4_grow_2_25) ?_
  refine jlk_cons (sm_ishr B.1 dJ4_grow_2_26) ?_
  refine jlk_cons (sm_cS (x := yJ10_newLength) (r9 := kr_6) (host := "") (owner := "") isSI (i_J10_newLength hI) B q1219 q1220 w4_J10_newLength w6_J10_newLength (by decide) hy_J10_newLength hl_J10_newLength dJ4_grow_2_27 trivial) ?_
  refine jlk_cons (sm_istore_n rfl B.1 dJ4_grow_2_30) ?_
  refine jlk_cons (sm_aload_n rfl B.1 dJ4_grow_2_31) ?_
  refine jlk_cons (sm_aload_n rfl B.1 dJ4_grow_2_32) ?_
  refine jlk_cons (sm_getP B.1 fl_java_util_ArrayList_9_21_124 dJ4_grow_2_33) ?_
  refine jlk_cons (sm_iload_n rfl B.1 dJ4_grow_2_36) ?_
  refine jlk_cons (sm_cS (x := yJ29_copyOf) (r9 := kr_6) (host := "") (owner := "") isSP (i_J29_copyOf hI) B q1229 q1230 w4_J29_copyOf w6_J29_copyOf (by decide) hy_J29_copyOf hl_J29_copyOf dJ4_grow_2_37 trivial) ?_
  refine jlk_cons (sm_dup_x1 B.1 dJ4_grow_2_40) ?_
  refine jlk_cons (sm_putP B.1 fl_java_util_ArrayList_9_21_124 tyJ4 tyJ4_ok nmJ4 (Or.inl rfl) rfl (tyJ4_ok 1 (by decide)) rfl (by decide) dJ4_grow_2_41) ?_
  refine jlk_cons (sm_aret B.1 B.2.1 hret (Or.inr ⟨_, rfl⟩) dJ4_grow_2_44) ?_
  refine jlk_cons (sm_aload_n rfl B.1 dJ4_grow_2_45) ?_
  refine jlk_cons (sm_bipush rfl B.1 dJ4_grow_2_46) ?_
  refine jlk_cons (sm_iload_n rfl B.1 dJ4_grow_2_48) ?_
  refine jlk_cons (sm_cS (x := yJ9_max) (r9 := kr_6) (host := "") (owner := "") isSI (i_J9_max hI) B q1243 q1223 w4_J9_max w6_J9_max (by decide) hy_J9_max hl_J9_max dJ4_grow_2_49 trivial) ?_
  refine jlk_cons (sm_anew B.1 (by decide) rfl q1244 q1237 B.2.2.2 hz hw dJ4_grow_2_52) ?_
  refine jlk_cons (sm_dup_x1 B.1 dJ4_grow_2_55) ?_
  refine jlk_cons (sm_putP B.1 fl_java_util_ArrayList_9_21_124 tyJ4 tyJ4_ok nmJ4 (Or.inl rfl) rfl (tyJ4_ok 1 (by decide)) rfl (by decide) dJ4_grow_2_56) ?_
  refine jlk_cons (sm_aret B.1 B.2.1 hret (Or.inr ⟨_, rfl⟩) dJ4_grow_2_59) ?_
  exact jlk_nil
theorem v_J4_grow_2 (hst : l.stackTraces = false) (hz : jEz (EV (d + 1))) (hI : jIH l D dA lo cs0 d) : jMe l D dA lo cs0 (EV (d + 1)) 333 yJ4_grow_2 (ws_ yJ4_grow_2 cJ4_grow_2 4 (Option.some (Jvm.ClassFile.FieldType.array (Jvm.ClassFile.FieldType.object "java/lang/Object")))) (d + 1) := z_meth hz rfl hp_J4_grow_2 (r_J4_grow_2 hst hI)
theorem r_J37_init_2 (hst : l.stackTraces = false) (hI : jIH l D dA lo cs0 d) : jRows l D dA lo cs0 d 2 (tb_J37_init_2 (EV d)) yJ37_init_2 cJ37_init_2 (Option.none : Option Jvm.ClassFile.FieldType) [] := by
  intro p e R s m args below meth c z0 w0 zF wF Q rF hF B hz hw hret hnm
  refine jlk_cons (sm_aload_n rfl B.1 dJ37_init_2_0) ?_
  refine jlk_cons (sm_cI (x := yJ17_init) (r9 := kr_6) (host := "") (owner := "") isNV (i_J17_init hI) B q1372 q817 w4_J17_init w6_J17_init (by decide) rfl hy_J17_init hl_J17_init dJ37_init_2_1 trivial) ?_
  refine jlk_cons (sm_aload_n rfl B.1 dJ37_init_2_4) ?_
  refine jlk_cons (sm_aload_n rfl B.1 dJ37_init_2_5) ?_
  refine jlk_cons (sm_putP B.1 fl_java_util_TreeSet_7_35_147 tyJ37 tyJ37_ok nmJ37 (Or.inl rfl) rfl (tyJ37_ok 0 (by decide)) rfl (by decide) dJ37_init_2_6) ?_
  refine jlk_cons (sm_vret B.1 B.2.1 hret dJ37_init_2_9) ?_
  exact jlk_nil
theorem v_J37_init_2 (hst : l.stackTraces = false) (hz : jEz (EV (d + 1))) (hI : jIH l D dA lo cs0 d) : jMe l D dA lo cs0 (EV (d + 1)) 339 yJ37_init_2 (ws_ yJ37_init_2 cJ37_init_2 2 (Option.none : Option Jvm.ClassFile.FieldType)) (d + 1) := z_meth hz rfl hp_J37_init_2 (r_J37_init_2 hst hI)
theorem r_J2_toArray (hst : l.stackTraces = false) (hI : jIH l D dA lo cs0 d) : jRows l D dA lo cs0 d 4 (tb_J2_toArray (EV d)) yJ2_toArray cJ2_toArray (Option.some (Jvm.ClassFile.FieldType.array (Jvm.ClassFile.FieldType.object "java/lang/Object"))) [] := by
  intro p e R s m args below meth c z0 w0 zF wF Q rF hF B hz hw hret hnm
  refine jlk_cons (sm_aload_n rfl B.1 dJ2_toArray_0) ?_
  refine jlk_cons (sm_cVU (x := ⟨"java/util/AbstractCollection", "size", "()I"⟩) (host := "") (owner := "java/util/AbstractCollection") isRI (i_J37_size hI) B q1437 q1439 q1438 ⟨by decide, by decide⟩ q1453 q1454 w4_J37_size w6_J37_size (by decide) (by decide) (by decide) kc_35 (hl_J37_size : _) dJ2_toArray_1 trivial) ?_
  refine jlk_cons (sm_anew B.1 (by decide) rfl q1457 q1237 B.2.2.2 hz hw dJ2_toArray_4) ?_
  refine jlk_cons (sm_astore_n rfl B.1 dJ2_toArray_7) ?_
  refine jlk_cons (sm_aload_n rfl B.1 dJ2_toArray_8) ?_
  refine jlk_cons (sm_cVU (x := ⟨"java/util/AbstractCollection", "iterator", "()Ljava/util/Iterator;"⟩) (host := "") (owner := "java/util/AbstractCollection") isRP (i_J37_iterator hI) B q1458 q1460 q1459 ⟨by decide, by decide⟩ q1513 q890 w4_J37_iterator w6_J37_iterator (by decide) (by decide) (by decide) kc_35 (hl_J37_iterator : _) dJ2_toArray_9 trivial) ?_
  refine jlk_cons (sm_astore_n rfl B.1 dJ2_toArray_12) ?_
  refine jlk_cons (sm_iconst rfl B.1 dJ2_toArray_13) ?_
  refine jlk_cons (sm_istore_n rfl B.1 dJ2_toArray_14) ?_
  refine jlk_cons (sm_iload_n rfl B.1 dJ2_toArray_15) ?_
  refine jlk_cons (sm_aload_n rfl B.1 dJ2_toArray_16) ?_
  refine jlk_cons (sm_alen B.1 (t := 107) (by decide) rfl dJ2_toArray_17) ?_
  refine jlk_cons (sm_icmpge rfl B.1 dJ2_toArray_18) ?_
  refine jlk_cons (sm_aload_n rfl B.1 dJ2_toArray_21) ?_
  refine jlk_cons (sm_cF (x := ⟨"java/util/Iterator", "hasNext", "()Z"⟩) (host := "") (owner := "") isRI (i_J19_hasNext hI) B (List.mem_of_getElem? (i := 13) rfl) q1515 q1118 q1115 w4_J19_hasNext w6_J19_hasNext (by decide) (by decide) (by decide) kc_27 (hl_J19_hasNext : _) dJ2_toArray_22 trivial) ?_
  refine jlk_cons (sm_ifne rfl B.1 dJ2_toArray_27) ?_
  refine jlk_cons (sm_aload_n rfl B.1 dJ2_toArray_30) ?_
  refine jlk_cons (sm_iload_n rfl B.1 dJ2_toArray_31) ?_
  refine jlk_cons (sm_cS (x := yJ29_copyOf) (r9 := kr_6) (host := "") (owner := "") isSP (i_J29_copyOf hI) B q1516 q1230 w4_J29_copyOf w6_J29_copyOf (by decide) hy_J29_copyOf hl_J29_copyOf dJ2_toArray_32 trivial) ?_
  refine jlk_cons (sm_aret B.1 B.2.1 hret (Or.inr ⟨_, rfl⟩) dJ2_toArray_35) ?_
  refine jlk_cons (sm_aload_n rfl B.1 dJ2_toArray_36) ?_
  refine jlk_cons (sm_iload_n rfl B.1 dJ2_toArray_37) ?_
  refine jlk_cons (sm_aload_n rfl B.1 dJ2_toArray_38) ?_
  refine jlk_cons (sm_cF (x := ⟨"java/util/Iterator", "next", "()Ljava/lang/Object;"⟩) (host := "") (owner := "") isRP (i_J21_next hI) B (List.mem_of_getElem? (i := 14) rfl) q1518 q1060 q1062 w4_J21_next w6_J21_next (by decide) (by decide) (by decide) kc_27 (hl_J21_next : _) dJ2_toArray_39 trivial) ?_
  refine jlk_cons (sm_aast B.1 (t := 107) (by decide) (by decide) rfl (List.forall_mem_cons.mpr ⟨⟨by decide, by decide, _, kc_3, Or.inr q3472⟩, (List.forall_mem_cons.mpr ⟨⟨by decide, by decide, _, kc_7, Or.inr q3481⟩, (List.forall_mem_cons.mpr ⟨⟨by decide, by decide, _, kc_11, Or.inr q3488⟩, (List.forall_mem_cons.mpr ⟨⟨by decide, by decide, _, kc_12, Or.inr q3493⟩, (List.forall_mem_cons.mpr ⟨⟨by decide, by decide, _, kc_13, Or.inr q3496⟩, (List.forall_mem_cons.mpr ⟨⟨by decide, by decide, _, kc_21, Or.inr q3466⟩, (List.forall_mem_cons.mpr ⟨⟨by decide, by decide, _, kc_24, Or.inr q3468⟩, (List.forall_mem_cons.mpr ⟨⟨by decide, by decide, _, kc_35, Or.inr q3487⟩, (List.forall_mem_nil _)⟩)⟩)⟩)⟩)⟩)⟩)⟩)⟩) dJ2_toArray_44) ?_
  refine jlk_cons (sm_iinc rfl B.1 dJ2_toArray_45) ?_
  refine jlk_cons (sm_goto rfl B.1 dJ2_toArray_48) ?_
  refine jlk_cons (sm_aload_n rfl B.1 dJ2_toArray_51) ?_
  refine jlk_cons (sm_cF (x := ⟨"java/util/Iterator", "hasNext", "()Z"⟩) (host := "") (owner := "") isRI (i_J19_hasNext hI) B (List.mem_of_getElem? (i := 13) rfl) q1515 q1118 q1115 w4_J19_hasNext w6_J19_hasNext (by decide) (by decide) (by decide) kc_27 (hl_J19_hasNext : _) dJ2_toArray_52 trivial) ?_
  refine jlk_cons (sm_ifeq rfl B.1 dJ2_toArray_57) ?_
  refine jlk_cons (sm_aload_n rfl B.1 dJ2_toArray_60) ?_
  refine jlk_cons (sm_aload_n rfl B.1 dJ2_toArray_61) ?_
  refine jlk_cons (sm_aload_n rfl B.1 dJ2_toArray_68) ?_
  refine jlk_cons (sm_aret B.1 B.2.1 hret (Or.inr ⟨_, rfl⟩) dJ2_toArray_69) ?_
  exact jlk_nil
theorem v_J2_toArray (hst : l.stackTraces = false) (hz : jEz (EV (d + 1))) (hI : jIH l D dA lo cs0 d) : jMe l D dA lo cs0 (EV (d + 1)) 340 yJ2_toArray (ws_ yJ2_toArray cJ2_toArray 4 (Option.some (Jvm.ClassFile.FieldType.array (Jvm.ClassFile.FieldType.object "java/lang/Object")))) (d + 1) := z_meth hz rfl hp_J2_toArray (r_J2_toArray hst hI)
theorem r_J4_toArray (hst : l.stackTraces = false) (hI : jIH l D dA lo cs0 d) : jRows l D dA lo cs0 d 1 (tb_J4_toArray (EV d)) yJ4_toArray cJ4_toArray (Option.some (Jvm.ClassFile.FieldType.array (Jvm.ClassFile.FieldType.object "java/lang/Object"))) [] := by
  intro p e R s m args below meth c z0 w0 zF wF Q rF hF B hz hw hret hnm
  refine jlk_cons (sm_aload_n rfl B.1 dJ4_toArray_0) ?_
  refine jlk_cons (sm_getP B.1 fl_java_util_ArrayList_9_21_124 dJ4_toArray_1) ?_
  refine jlk_cons (sm_aload_n rfl B.1 dJ4_toArray_4) ?_
  refine jlk_cons (sm_getI B.1 fl_java_util_ArrayList_48_21_125 dJ4_toArray_5) ?_
  refine jlk_cons (sm_cS (x := yJ29_copyOf) (r9 := kr_6) (host := "") (owner := "") isSP (i_J29_copyOf hI) B q1229 q1230 w4_J29_copyOf w6_J29_copyOf (by decide) hy_J29_copyOf hl_J29_copyOf dJ4_toArray_8 trivial) ?_
  refine jlk_cons (sm_aret B.1 B.2.1 hret (Or.inr ⟨_, rfl⟩) dJ4_toArray_11) ?_
  exact jlk_nil
theorem v_J4_toArray (hst : l.stackTraces = false) (hz : jEz (EV (d + 1))) (hI : jIH l D dA lo cs0 d) : jMe l D dA lo cs0 (EV (d + 1)) 341 yJ4_toArray (ws_ yJ4_toArray cJ4_toArray 1 (Option.some (Jvm.ClassFile.FieldType.array (Jvm.ClassFile.FieldType.object "java/lang/Object")))) (d + 1) := z_meth hz rfl hp_J4_toArray (r_J4_toArray hst hI)
theorem r_J29_copyOf_2 (hst : l.stackTraces = false) (hI : jIH l D dA lo cs0 d) : jRows l D dA lo cs0 d 4 (tb_J29_copyOf_2 (EV d)) yJ29_copyOf_2 cJ29_copyOf_2 (Option.some (Jvm.ClassFile.FieldType.array (Jvm.ClassFile.FieldType.object "java/lang/Object"))) [] := by
  intro p e R s m args below meth c z0 w0 zF wF Q rF hF B hz hw hret hnm
  refine jlk_cons (sm_aload_n rfl B.1 dJ29_copyOf_2_0) ?_
  refine jlk_cons (sm_cstM B.1 (List.mem_of_getElem? (i := 2) rfl) q1236 dJ29_copyOf_2_1) ?_
  refine jlk_cons (sm_acmpne rfl B.1 dJ29_copyOf_2_3) ?_
  refine jlk_cons (sm_iload_n rfl B.1 dJ29_copyOf_2_6) ?_
  refine jlk_cons (sm_anew B.1 (by decide) rfl q1238 q1237 B.2.2.2 hz hw dJ29_copyOf_2_7) ?_
  refine jlk_cons (sm_goto rfl B.1 dJ29_copyOf_2_10) ?_
  refine jlk_cons (sm_aload_n rfl B.1 dJ29_copyOf_2_13) ?_
  refine jlk_cons (sm_astore_n rfl B.1 dJ29_copyOf_2_24) ?_
  refine jlk_cons (sm_aload_n rfl B.1 dJ29_copyOf_2_25) ?_
  refine jlk_cons (sm_iconst rfl B.1 dJ29_copyOf_2_26) ?_
  refine jlk_cons (sm_aload_n rfl B.1 dJ29_copyOf_2_27) ?_
  refine jlk_cons (sm_iconst rfl B.1 dJ29_copyOf_2_28) ?_
  refine jlk_cons (sm_aload_n rfl B.1 dJ29_copyOf_2_29) ?_
  refine jlk_cons (sm_alen B.1 (t := 107) (by decide) rfl dJ29_copyOf_2_30) ?_
  refine jlk_cons (sm_iload_n rfl B.1 dJ29_copyOf_2_31) ?_
  refine jlk_cons (sm_cS (x := yJ9_min) (r9 := kr_6) (host := "") (owner := "") isSI (i_J9_min hI) B q1239 q421 w4_J9_min w6_J9_min (by decide) hy_J9_min hl_J9_min dJ29_copyOf_2_32 trivial) ?_
  refine jlk_cons (sm_cpP B.1 (t := 107) (by decide) (by decide) rfl (List.forall_mem_cons.mpr ⟨⟨by decide, by decide, _, kc_3, Or.inr q3472⟩, (List.forall_mem_cons.mpr ⟨⟨by decide, by decide, _, kc_7, Or.inr q3481⟩, (List.forall_mem_cons.mpr ⟨⟨by decide, by decide, _, kc_11, Or.inr q3488⟩, (List.forall_mem_cons.mpr ⟨⟨by decide, by decide, _, kc_12, Or.inr q3493⟩, (List.forall_mem_cons.mpr ⟨⟨by decide, by decide, _, kc_13, Or.inr q3496⟩, (List.forall_mem_cons.mpr ⟨⟨by decide, by decide, _, kc_21, Or.inr q3466⟩, (List.forall_mem_cons.mpr ⟨⟨by decide, by decide, _, kc_24, Or.inr q3468⟩, (List.forall_mem_cons.mpr ⟨⟨by decide, by decide, _, kc_35, Or.inr q3487⟩, (List.forall_mem_nil _)⟩)⟩)⟩)⟩)⟩)⟩)⟩)⟩) q1240 q1242 q1241 q159 dJ29_copyOf_2_35) ?_
  refine jlk_cons (sm_aload_n rfl B.1 dJ29_copyOf_2_38) ?_
  refine jlk_cons (sm_aret B.1 B.2.1 hret (Or.inr ⟨_, rfl⟩) dJ29_copyOf_2_39) ?_
  exact jlk_nil
theorem v_J29_copyOf_2 (hst : l.stackTraces = false) (hz : jEz (EV (d + 1))) (hI : jIH l D dA lo cs0 d) : jMe l D dA lo cs0 (EV (d + 1)) 342 yJ29_copyOf_2 (ws_ yJ29_copyOf_2 cJ29_copyOf_2 4 (Option.some (Jvm.ClassFile.FieldType.array (Jvm.ClassFile.FieldType.object "java/lang/Object")))) (d + 1) := z_meth hz rfl hp_J29_copyOf_2 (r_J29_copyOf_2 hst hI)
theorem r_J9_min (hst : l.stackTraces = false) (hI : jIH l D dA lo cs0 d) : jRows l D dA lo cs0 d 2 (tb_J9_min (EV d)) yJ9_min cJ9_min (Option.some Jvm.ClassFile.FieldType.int) [] := by
  intro p e R s m args below meth c z0 w0 zF wF Q rF hF B hz hw hret hnm
  refine jlk_cons (sm_iload_n rfl B.1 dJ9_min_0) ?_
  refine jlk_cons (sm_iload_n rfl B.1 dJ9_min_1) ?_
  refine jlk_cons (sm_icmpgt rfl B.1 dJ9_min_2) ?_
  refine jlk_cons (sm_iload_n rfl B.1 dJ9_min_5) ?_
  refine jlk_cons (sm_goto rfl B.1 dJ9_min_6) ?_
  refine jlk_cons (sm_iload_n rfl B.1 dJ9_min_9) ?_
  refine jlk_cons (sm_iret B.1 B.2.1 hret dJ9_min_10) ?_
  exact jlk_nil
theorem v_J9_min (hst : l.stackTraces = false) (hz : jEz (EV (d + 1))) (hI : jIH l D dA lo cs0 d) : jMe l D dA lo cs0 (EV (d + 1)) 343 yJ9_min (ws_ yJ9_min cJ9_min 2 (Option.some Jvm.ClassFile.FieldType.int)) (d + 1) := z_meth hz rfl hp_J9_min (r_J9_min hst hI)
theorem r_J40_expandTo (hst : l.stackTraces = false) (hI : jIH l D dA lo cs0 d) : jRows l D dA lo cs0 d 3 (tb_J40_expandTo (EV d)) yJ40_expandTo cJ40_expandTo (Option.none : Option Jvm.ClassFile.FieldType) [] := by
  intro p e R s m args below meth c z0 w0 zF wF Q rF hF B hz hw hret hnm
  refine jlk_cons (sm_iload_n rfl B.1 dJ40_expandTo_0) ?_
  refine jlk_cons (sm_iconst rfl B.1 dJ40_expandTo_1) ?_
  refine jlk_cons (sm_iadd B.1 dJ40_expandTo_2) ?_
  refine jlk_cons (sm_istore_n rfl B.1 dJ40_expandTo_3) ?_
  refine jlk_cons (sm_aload_n rfl B.1 dJ40_expandTo_4) ?_
  refine jlk_cons (sm_getI B.1 fl_java_util_BitSet_7_36_149 dJ40_expandTo_5) ?_
  refine jlk_cons (sm_iload_n rfl B.1 dJ40_expandTo_8) ?_
  refine jlk_cons (sm_icmpge rfl B.1 dJ40_expandTo_9) ?_
  refine jlk_cons (sm_aload_n rfl B.1 dJ40_expandTo_12) ?_
  refine jlk_cons (sm_iload_n rfl B.1 dJ40_expandTo_13) ?_
  refine jlk_cons (sm_cV (x := yJ40_ensureCapacity) (host := "") (owner := "") isRV (i_J40_ensureCapacity hI) B q1897 q1899 qs19 w4_J40_ensureCapacity w6_J40_ensureCapacity (by decide) (by decide) (by decide) kc_36 hy_J40_ensureCapacity hl_J40_ensureCapacity dJ40_expandTo_14 trivial) ?_
  refine jlk_cons (sm_aload_n rfl B.1 dJ40_expandTo_17) ?_
  refine jlk_cons (sm_iload_n rfl B.1 dJ40_expandTo_18) ?_
  refine jlk_cons (sm_putI B.1 fl_java_util_BitSet_7_36_149 tyJ40 tyJ40_ok nmJ40 (Or.inl rfl) (tyJ40_ok 1 (by decide)) rfl (by decide) dJ40_expandTo_19) ?_
  refine jlk_cons (sm_vret B.1 B.2.1 hret dJ40_expandTo_22) ?_
  exact jlk_nil
theorem v_J40_expandTo (hst : l.stackTraces = false) (hz : jEz (EV (d + 1))) (hI : jIH l D dA lo cs0 d) : jMe l D dA lo cs0 (EV (d + 1)) 345 yJ40_expandTo (ws_ yJ40_expandTo cJ40_expandTo 3 (Option.none : Option Jvm.ClassFile.FieldType)) (d + 1) := z_meth hz rfl hp_J40_expandTo (r_J40_expandTo hst hI)
theorem r_J40_init (hst : l.stackTraces = false) (hI : jIH l D dA lo cs0 d) : jRows l D dA lo cs0 d 1 (tb_J40_init (EV d)) yJ40_init cJ40_init (Option.none : Option Jvm.ClassFile.FieldType) [] := by
  intro p e R s m args below meth c z0 w0 zF wF Q rF hF B hz hw hret hnm
  refine jlk_cons (sm_aload_n rfl B.1 dJ40_init_0) ?_
  refine jlk_cons (sm_obj B.1 q1576 q196 q197 dJ40_init_1) ?_
  refine jlk_cons (sm_aload_n rfl B.1 dJ40_init_4) ?_
  refine jlk_cons (sm_iconst rfl B.1 dJ40_init_5) ?_
  refine jlk_cons (sm_putI B.1 fl_java_util_BitSet_7_36_149 tyJ40 tyJ40_ok nmJ40 (Or.inl rfl) (tyJ40_ok 1 (by decide)) rfl (by decide) dJ40_init_6) ?_
  refine jlk_cons (sm_aload_n rfl B.1 dJ40_init_9) ?_
  refine jlk_cons (sm_iconst rfl B.1 dJ40_init_10) ?_
  refine jlk_cons (sm_putZ B.1 fl_java_util_BitSet_24_36_150 tyJ40 tyJ40_ok nmJ40 (Or.inl rfl) (tyJ40_ok 2 (by decide)) rfl (by decide) dJ40_init_11) ?_
  refine jlk_cons (sm_aload_n rfl B.1 dJ40_init_14) ?_
  refine jlk_cons (sm_bipush rfl B.1 dJ40_init_15) ?_
  refine jlk_cons (sm_cV (x := yJ40_initWords) (host := "") (owner := "") isRV (i_J40_initWords hI) B q1577 q1579 qs15 w4_J40_initWords w6_J40_initWords (by decide) (by decide) (by decide) kc_36 hy_J40_initWords hl_J40_initWords dJ40_init_17 trivial) ?_
  refine jlk_cons (sm_aload_n rfl B.1 dJ40_init_20) ?_
  refine jlk_cons (sm_iconst rfl B.1 dJ40_init_21) ?_
  refine jlk_cons (sm_putZ B.1 fl_java_util_BitSet_24_36_150 tyJ40 tyJ40_ok nmJ40 (Or.inl rfl) (tyJ40_ok 2 (by decide)) rfl (by decide) dJ40_init_22) ?_
  refine jlk_cons (sm_vret B.1 B.2.1 hret dJ40_init_25) ?_
  exact jlk_nil
theorem v_J40_init (hst : l.stackTraces = false) (hz : jEz (EV (d + 1))) (hI : jIH l D dA lo cs0 d) : jMe l D dA lo cs0 (EV (d + 1)) 346 yJ40_init (ws_ yJ40_init cJ40_init 1 (Option.none : Option Jvm.ClassFile.FieldType)) (d + 1) := z_meth hz rfl hp_J40_init (r_J40_init hst hI)
theorem r_J40_clear (hst : l.stackTraces = false) (hI : jIH l D dA lo cs0 d) : jRows l D dA lo cs0 d 3 (tb_J40_clear (EV d)) yJ40_clear cJ40_clear (Option.none : Option Jvm.ClassFile.FieldType) [] := by
  intro p e R s m args below meth c z0 w0 zF wF Q rF hF B hz hw hret hnm
  refine jlk_cons (sm_iload_n rfl B.1 dJ40_clear_0) ?_
  refine jlk_cons (sm_ifge rfl B.1 dJ40_clear_1) ?_
  refine jlk_cons (sm_iload_n rfl B.1 dJ40_clear_31) ?_
  refine jlk_cons (sm_cS (x := yJ40_wordIndex) (r9 := kr_6) (host := "") (owner := "") isSI (i_J40_wordIndex hI) B q1581 q1582 w4_J40_wordIndex w6_J40_wordIndex (by decide) hy_J40_wordIndex hl_J40_wordIndex dJ40_clear_32 trivial) ?_
  refine jlk_cons (sm_istore_n rfl B.1 dJ40_clear_35) ?_
  refine jlk_cons (sm_iload_n rfl B.1 dJ40_clear_36) ?_
  refine jlk_cons (sm_aload_n rfl B.1 dJ40_clear_37) ?_
  refine jlk_cons (sm_getI B.1 fl_java_util_BitSet_7_36_149 dJ40_clear_38) ?_
  refine jlk_cons (sm_icmplt rfl B.1 dJ40_clear_41) ?_
  refine jlk_cons (sm_vret B.1 B.2.1 hret dJ40_clear_44) ?_
  refine jlk_cons (sm_aload_n rfl B.1 dJ40_clear_45) ?_
  refine jlk_cons (sm_getP B.1 fl_java_util_BitSet_11_36_148 dJ40_clear_46) ?_
  refine jlk_cons (sm_iload_n rfl B.1 dJ40_clear_49) ?_
  refine jlk_cons (sm_dup2 B.1 dJ40_clear_50) ?_
  refine jlk_cons (sm_lald B.1 dJ40_clear_51) ?_
  refine jlk_cons (sm_lconst rfl B.1 dJ40_clear_52) ?_
  refine jlk_cons (sm_iload_n rfl B.1 dJ40_clear_53) ?_
  refine jlk_cons (sm_lshl B.1 dJ40_clear_54) ?_
  refine jlk_cons (sm_ldc2 q1970 B.1 dJ40_clear_55) ?_
  refine jlk_cons (sm_lxor B.1 dJ40_clear_58) ?_
  refine jlk_cons (sm_land B.1 dJ40_clear_59) ?_
  refine jlk_cons (sm_last B.1 dJ40_clear_60) ?_
  refine jlk_cons (sm_aload_n rfl B.1 dJ40_clear_61) ?_
  refine jlk_cons (sm_cV (x := yJ40_recalculateWordsInUse) (host := "") (owner := "") isRV (i_J40_recalculateWordsInUse hI) B q1976 q1978 qs24 w4_J40_recalculateWordsInUse w6_J40_recalculateWordsInUse (by decide) (by decide) (by decide) kc_36 hy_J40_recalculateWordsInUse hl_J40_recalculateWordsInUse dJ40_clear_62 trivial) ?_
  refine jlk_cons (sm_aload_n rfl B.1 dJ40_clear_65) ?_
  refine jlk_cons (sm_cV (x := yJ40_checkInvariants) (host := "") (owner := "") isRV (i_J40_checkInvariants hI) B q1910 q1912 qs20 w4_J40_checkInvariants w6_J40_checkInvariants (by decide) (by decide) (by decide) kc_36 hy_J40_checkInvariants hl_J40_checkInvariants dJ40_clear_66 trivial) ?_
  refine jlk_cons (sm_vret B.1 B.2.1 hret dJ40_clear_69) ?_
  exact jlk_nil
theorem v_J40_clear (hst : l.stackTraces = false) (hz : jEz (EV (d + 1))) (hI : jIH l D dA lo cs0 d) : jMe l D dA lo cs0 (EV (d + 1)) 347 yJ40_clear (ws_ yJ40_clear cJ40_clear 3 (Option.none : Option Jvm.ClassFile.FieldType)) (d + 1) := z_meth hz rfl hp_J40_clear (r_J40_clear hst hI)
theorem r_J40_or (hst : l.stackTraces = false) (hI : jIH l D dA lo cs0 d) : jRows l D dA lo cs0 d 4 (tb_J40_or (EV d)) yJ40_or cJ40_or (Option.none : Option Jvm.ClassFile.FieldType) [] := by
  intro p e R s m args below meth c z0 w0 zF wF Q rF hF B hz hw hret hnm
  refine jlk_app ?_ ?_
  · refine jlk_cons (sm_aload_n rfl B.1 dJ40_or_0) ?_
    refine jlk_cons (sm_aload_n rfl B.1 dJ40_or_1) ?_
    refine jlk_cons (sm_acmpne rfl B.1 dJ40_or_2) ?_
    refine jlk_cons (sm_vret B.1 B.2.1 hret dJ40_or_5) ?_
    refine jlk_cons (sm_aload_n rfl B.1 dJ40_or_6) ?_
    refine jlk_cons (sm_getI B.1 fl_java_util_BitSet_7_36_149 dJ40_or_7) ?_
    refine jlk_cons (sm_aload_n rfl B.1 dJ40_or_10) ?_
    refine jlk_cons (sm_getI B.1 fl_java_util_BitSet_7_36_149 dJ40_or_11) ?_
    refine jlk_cons (sm_cS (x := yJ9_min) (r9 := kr_6) (host := "") (owner := "") isSI (i_J9_min hI) B q1984 q421 w4_J9_min w6_J9_min (by decide) hy_J9_min hl_J9_min dJ40_or_14 trivial) ?_
    refine jlk_cons (sm_istore_n rfl B.1 dJ40_or_17) ?_
    refine jlk_cons (sm_aload_n rfl B.1 dJ40_or_18) ?_
    refine jlk_cons (sm_getI B.1 fl_java_util_BitSet_7_36_149 dJ40_or_19) ?_
    refine jlk_cons (sm_aload_n rfl B.1 dJ40_or_22) ?_
    refine jlk_cons (sm_getI B.1 fl_java_util_BitSet_7_36_149 dJ40_or_23) ?_
    refine jlk_cons (sm_icmpge rfl B.1 dJ40_or_26) ?_
    refine jlk_cons (sm_aload_n rfl B.1 dJ40_or_29) ?_
    refine jlk_cons (sm_aload_n rfl B.1 dJ40_or_30) ?_
    refine jlk_cons (sm_getI B.1 fl_java_util_BitSet_7_36_149 dJ40_or_31) ?_
    refine jlk_cons (sm_cV (x := yJ40_ensureCapacity) (host := "") (owner := "") isRV (i_J40_ensureCapacity hI) B q1897 q1899 qs19 w4_J40_ensureCapacity w6_J40_ensureCapacity (by decide) (by decide) (by decide) kc_36 hy_J40_ensureCapacity hl_J40_ensureCapacity dJ40_or_34 trivial) ?_
    refine jlk_cons (sm_aload_n rfl B.1 dJ40_or_37) ?_
    refine jlk_cons (sm_aload_n rfl B.1 dJ40_or_38) ?_
    refine jlk_cons (sm_getI B.1 fl_java_util_BitSet_7_36_149 dJ40_or_39) ?_
    refine jlk_cons (sm_putI B.1 fl_java_util_BitSet_7_36_149 tyJ40 tyJ40_ok nmJ40 (Or.inl rfl) (tyJ40_ok 1 (by decide)) rfl (by decide) dJ40_or_42) ?_
    refine jlk_cons (sm_iconst rfl B.1 dJ40_or_45) ?_
    refine jlk_cons (sm_istore_n rfl B.1 dJ40_or_46) ?_
    refine jlk_cons (sm_iload_n rfl B.1 dJ40_or_47) ?_
    refine jlk_cons (sm_iload_n rfl B.1 dJ40_or_48) ?_
    refine jlk_cons (sm_icmpge rfl B.1 dJ40_or_49) ?_
    refine jlk_cons (sm_aload_n rfl B.1 dJ40_or_52) ?_
    refine jlk_cons (sm_getP B.1 fl_java_util_BitSet_11_36_148 dJ40_or_53) ?_
    refine jlk_cons (sm_iload_n rfl B.1 dJ40_or_56) ?_
    refine jlk_cons (sm_dup2 B.1 dJ40_or_57) ?_
    refine jlk_cons (sm_lald B.1 dJ40_or_58) ?_
    refine jlk_cons (sm_aload_n rfl B.1 dJ40_or_59) ?_
    refine jlk_cons (sm_getP B.1 fl_java_util_BitSet_11_36_148 dJ40_or_60) ?_
    refine jlk_cons (sm_iload_n rfl B.1 dJ40_or_63) ?_
    refine jlk_cons (sm_lald B.1 dJ40_or_64) ?_
    refine jlk_cons (sm_lor B.1 dJ40_or_65) ?_
    refine jlk_cons (sm_last B.1 dJ40_or_66) ?_
    refine jlk_cons (sm_iinc rfl B.1 dJ40_or_67) ?_
    exact jlk_nil
  · skip
    refine jlk_cons (sm_goto rfl B.1 dJ40_or_70) ?_
    refine jlk_cons (sm_iload_n rfl B.1 dJ40_or_73) ?_
    refine jlk_cons (sm_aload_n rfl B.1 dJ40_or_74) ?_
    refine jlk_cons (sm_getI B.1 fl_java_util_BitSet_7_36_149 dJ40_or_75) ?_
    refine jlk_cons (sm_icmpge rfl B.1 dJ40_or_78) ?_
    refine jlk_cons (sm_aload_n rfl B.1 dJ40_or_81) ?_
    refine jlk_cons (sm_getP B.1 fl_java_util_BitSet_11_36_148 dJ40_or_82) ?_
    refine jlk_cons (sm_iload_n rfl B.1 dJ40_or_85) ?_
    refine jlk_cons (sm_aload_n rfl B.1 dJ40_or_86) ?_
    refine jlk_cons (sm_getP B.1 fl_java_util_BitSet_11_36_148 dJ40_or_87) ?_
    refine jlk_cons (sm_iload_n rfl B.1 dJ40_or_90) ?_
    refine jlk_cons (sm_aload_n rfl B.1 dJ40_or_91) ?_
    refine jlk_cons (sm_getI B.1 fl_java_util_BitSet_7_36_149 dJ40_or_92) ?_
    refine jlk_cons (sm_iload_n rfl B.1 dJ40_or_95) ?_
    refine jlk_cons (sm_isub B.1 dJ40_or_96) ?_
    refine jlk_cons (sm_cpL B.1 q1985 q1242 q1241 q159 dJ40_or_97) ?_
    refine jlk_cons (sm_aload_n rfl B.1 dJ40_or_100) ?_
    refine jlk_cons (sm_cV (x := yJ40_checkInvariants) (host := "") (owner := "") isRV (i_J40_checkInvariants hI) B q1910 q1912 qs20 w4_J40_checkInvariants w6_J40_checkInvariants (by decide) (by decide) (by decide) kc_36 hy_J40_checkInvariants hl_J40_checkInvariants dJ40_or_101 trivial) ?_
    refine jlk_cons (sm_vret B.1 B.2.1 hret dJ40_or_104) ?_
    exact jlk_nil
theorem v_J40_or (hst : l.stackTraces = false) (hz : jEz (EV (d + 1))) (hI : jIH l D dA lo cs0 d) : jMe l D dA lo cs0 (EV (d + 1)) 348 yJ40_or (ws_ yJ40_or cJ40_or 4 (Option.none : Option Jvm.ClassFile.FieldType)) (d + 1) := z_meth hz rfl hp_J40_or (r_J40_or hst hI)
theorem r_J40_andNot (hst : l.stackTraces = false) (hI : jIH l D dA lo cs0 d) : jRows l D dA lo cs0 d 3 (tb_J40_andNot (EV d)) yJ40_andNot cJ40_andNot (Option.none : Option Jvm.ClassFile.FieldType) [] := by
  intro p e R s m args below meth c z0 w0 zF wF Q rF hF B hz hw hret hnm
  refine jlk_cons (sm_aload_n rfl B.1 dJ40_andNot_0) ?_
  refine jlk_cons (sm_getI B.1 fl_java_util_BitSet_7_36_149 dJ40_andNot_1) ?_
  refine jlk_cons (sm_aload_n rfl B.1 dJ40_andNot_4) ?_
  refine jlk_cons (sm_getI B.1 fl_java_util_BitSet_7_36_149 dJ40_andNot_5) ?_
  refine jlk_cons (sm_cS (x := yJ9_min) (r9 := kr_6) (host := "") (owner := "") isSI (i_J9_min hI) B q1984 q421 w4_J9_min w6_J9_min (by decide) hy_J9_min hl_J9_min dJ40_andNot_8 trivial) ?_
  refine jlk_cons (sm_iconst rfl B.1 dJ40_andNot_11) ?_
  refine jlk_cons (sm_isub B.1 dJ40_andNot_12) ?_
  refine jlk_cons (sm_istore_n rfl B.1 dJ40_andNot_13) ?_
  refine jlk_cons (sm_iload_n rfl B.1 dJ40_andNot_14) ?_
  refine jlk_cons (sm_iflt rfl B.1 dJ40_andNot_15) ?_
  refine jlk_cons (sm_aload_n rfl B.1 dJ40_andNot_18) ?_
  refine jlk_cons (sm_getP B.1 fl_java_util_BitSet_11_36_148 dJ40_andNot_19) ?_
  refine jlk_cons (sm_iload_n rfl B.1 dJ40_andNot_22) ?_
  refine jlk_cons (sm_dup2 B.1 dJ40_andNot_23) ?_
  refine jlk_cons (sm_lald B.1 dJ40_andNot_24) ?_
  refine jlk_cons (sm_aload_n rfl B.1 dJ40_andNot_25) ?_
  refine jlk_cons (sm_getP B.1 fl_java_util_BitSet_11_36_148 dJ40_andNot_26) ?_
  refine jlk_cons (sm_iload_n rfl B.1 dJ40_andNot_29) ?_
  refine jlk_cons (sm_lald B.1 dJ40_andNot_30) ?_
  refine jlk_cons (sm_ldc2 q1970 B.1 dJ40_andNot_31) ?_
  refine jlk_cons (sm_lxor B.1 dJ40_andNot_34) ?_
  refine jlk_cons (sm_land B.1 dJ40_andNot_35) ?_
  refine jlk_cons (sm_last B.1 dJ40_andNot_36) ?_
  refine jlk_cons (sm_iinc rfl B.1 dJ40_andNot_37) ?_
  refine jlk_cons (sm_goto rfl B.1 dJ40_andNot_40) ?_
  refine jlk_cons (sm_aload_n rfl B.1 dJ40_andNot_43) ?_
  refine jlk_cons (sm_cV (x := yJ40_recalculateWordsInUse) (host := "") (owner := "") isRV (i_J40_recalculateWordsInUse hI) B q1976 q1978 qs24 w4_J40_recalculateWordsInUse w6_J40_recalculateWordsInUse (by decide) (by decide) (by decide) kc_36 hy_J40_recalculateWordsInUse hl_J40_recalculateWordsInUse dJ40_andNot_44 trivial) ?_
  refine jlk_cons (sm_aload_n rfl B.1 dJ40_andNot_47) ?_
  refine jlk_cons (sm_cV (x := yJ40_checkInvariants) (host := "") (owner := "") isRV (i_J40_checkInvariants hI) B q1910 q1912 qs20 w4_J40_checkInvariants w6_J40_checkInvariants (by decide) (by decide) (by decide) kc_36 hy_J40_checkInvariants hl_J40_checkInvariants dJ40_andNot_48 trivial) ?_
  refine jlk_cons (sm_vret B.1 B.2.1 hret dJ40_andNot_51) ?_
  exact jlk_nil
theorem v_J40_andNot (hst : l.stackTraces = false) (hz : jEz (EV (d + 1))) (hI : jIH l D dA lo cs0 d) : jMe l D dA lo cs0 (EV (d + 1)) 349 yJ40_andNot (ws_ yJ40_andNot cJ40_andNot 3 (Option.none : Option Jvm.ClassFile.FieldType)) (d + 1) := z_meth hz rfl hp_J40_andNot (r_J40_andNot hst hI)
theorem r_J4_addAll (hst : l.stackTraces = false) (hI : jIH l D dA lo cs0 d) : jRows l D dA lo cs0 d 6 (tb_J4_addAll (EV d)) yJ4_addAll cJ4_addAll (Option.some Jvm.ClassFile.FieldType.boolean) [] := by
  intro p e R s m args below meth c z0 w0 zF wF Q rF hF B hz hw hret hnm
  refine jlk_app ?_ ?_
  · refine jlk_cons (sm_aload_n rfl B.1 dJ4_addAll_0) ?_
    refine jlk_cons (sm_cF (x := ⟨"java/util/Collection", "toArray", "()[Ljava/lang/Object;"⟩) (host := "") (owner := "") isRP (i_J4_toArray hI) B (List.mem_of_getElem? (i := 15) rfl) q1415 q1419 q1421 w4_J4_toArray w6_J4_toArray (by decide) (by decide) (by decide) kc_21 (hl_J4_toArray : _) dJ4_addAll_1 trivial) ?_
    refine jlk_cons (sm_astore_n rfl B.1 dJ4_addAll_6) ?_
    refine jlk_cons (sm_aload_n rfl B.1 dJ4_addAll_7) ?_
    refine jlk_cons (sm_dup B.1 dJ4_addAll_8) ?_
    refine jlk_cons (sm_getI B.1 (fl_java_util_ArrayList_63_21_123 B.1.2.2.2.1) dJ4_addAll_9) ?_
    refine jlk_cons (sm_iconst rfl B.1 dJ4_addAll_12) ?_
    refine jlk_cons (sm_iadd B.1 dJ4_addAll_13) ?_
    refine jlk_cons (sm_putI B.1 (fl_java_util_ArrayList_63_21_123 B.1.2.2.2.1) tyJ4 tyJ4_ok nmJ4 (Or.inl rfl) (tyJ4_ok 0 (by decide)) rfl (by decide) dJ4_addAll_14) ?_
    refine jlk_cons (sm_aload_n rfl B.1 dJ4_addAll_17) ?_
    refine jlk_cons (sm_alen B.1 (t := 107) (by decide) rfl dJ4_addAll_18) ?_
    refine jlk_cons (sm_istore_n rfl B.1 dJ4_addAll_19) ?_
    refine jlk_cons (sm_iload_n rfl B.1 dJ4_addAll_20) ?_
    refine jlk_cons (sm_ifne rfl B.1 dJ4_addAll_21) ?_
    refine jlk_cons (sm_iconst rfl B.1 dJ4_addAll_24) ?_
    refine jlk_cons (sm_zret B.1 B.2.1 hret dJ4_addAll_25) ?_
    refine jlk_cons (sm_iload_n rfl B.1 dJ4_addAll_26) ?_
    refine jlk_cons (sm_aload_n rfl B.1 dJ4_addAll_27) ?_
    refine jlk_cons (sm_getP B.1 fl_java_util_ArrayList_9_21_124 dJ4_addAll_28) ?_
    refine jlk_cons (sm_dup B.1 dJ4_addAll_31) ?_
    refine jlk_cons (sm_astore B.1 dJ4_addAll_32) ?_
    refine jlk_cons (sm_alen B.1 (t := 107) (by decide) rfl dJ4_addAll_34) ?_
    refine jlk_cons (sm_aload_n rfl B.1 dJ4_addAll_35) ?_
    refine jlk_cons (sm_getI B.1 fl_java_util_ArrayList_48_21_125 dJ4_addAll_36) ?_
    refine jlk_cons (sm_dup B.1 dJ4_addAll_39) ?_
    refine jlk_cons (sm_istore B.1 dJ4_addAll_40) ?_
    refine jlk_cons (sm_isub B.1 dJ4_addAll_42) ?_
    refine jlk_cons (sm_icmple rfl B.1 dJ4_addAll_43) ?_
    refine jlk_cons (sm_aload_n rfl B.1 dJ4_addAll_46) ?_
    refine jlk_cons (sm_iload B.1 dJ4_addAll_47) ?_
    refine jlk_cons (sm_iload_n rfl B.1 dJ4_addAll_49) ?_
    refine jlk_cons (sm_iadd B.1 dJ4_addAll_50) ?_
    refine jlk_cons (sm_cV (x := yJ4_grow_2) (host := "") (owner := "") isRP (i_J4_grow_2 hI) B q1215 q1217 qs11 w4_J4_grow_2 w6_J4_grow_2 (by decide) (by decide) (by decide) kc_21 hy_J4_grow_2 hl_J4_grow_2 dJ4_addAll_51 trivial) ?_
    refine jlk_cons (sm_astore B.1 dJ4_addAll_54) ?_
    refine jlk_cons (sm_aload_n rfl B.1 dJ4_addAll_56) ?_
    refine jlk_cons (sm_iconst rfl B.1 dJ4_addAll_57) ?_
    refine jlk_cons (sm_aload B.1 dJ4_addAll_58) ?_
    refine jlk_cons (sm_iload B.1 dJ4_addAll_60) ?_
    refine jlk_cons (sm_iload_n rfl B.1 dJ4_addAll_62) ?_
    refine jlk_cons (sm_cpP B.1 (t := 107) (by decide) (by decide) rfl (List.forall_mem_cons.mpr ⟨⟨by decide, by decide, _, kc_3, Or.inr q3472⟩, (List.forall_mem_cons.mpr ⟨⟨by decide, by decide, _, kc_7, Or.inr q3481⟩, (List.forall_mem_cons.mpr ⟨⟨by decide, by decide, _, kc_11, Or.inr q3488⟩, (List.forall_mem_cons.mpr ⟨⟨by decide, by decide, _, kc_12, Or.inr q3493⟩, (List.forall_mem_cons.mpr ⟨⟨by decide, by decide, _, kc_13, Or.inr q3496⟩, (List.forall_mem_cons.mpr ⟨⟨by decide, by decide, _, kc_21, Or.inr q3466⟩, (List.forall_mem_cons.mpr ⟨⟨by decide, by decide, _, kc_24, Or.inr q3468⟩, (List.forall_mem_cons.mpr ⟨⟨by decide, by decide, _, kc_35, Or.inr q3487⟩, (List.forall_mem_nil _)⟩)⟩)⟩)⟩)⟩)⟩)⟩)⟩) q2005 q1242 q1241 q159 dJ4_addAll_63) ?_
    exact jlk_nil
  · skip
    refine jlk_cons (sm_aload_n rfl B.1 dJ4_addAll_66) ?_
    refine jlk_cons (sm_iload B.1 dJ4_addAll_67) ?_
    refine jlk_cons (sm_iload_n rfl B.1 dJ4_addAll_69) ?_
    refine jlk_cons (sm_iadd B.1 dJ4_addAll_70) ?_
    refine jlk_cons (sm_putI B.1 fl_java_util_ArrayList_48_21_125 tyJ4 tyJ4_ok nmJ4 (Or.inl rfl) (tyJ4_ok 2 (by decide)) rfl (by decide) dJ4_addAll_71) ?_
    refine jlk_cons (sm_iconst rfl B.1 dJ4_addAll_74) ?_
    refine jlk_cons (sm_zret B.1 B.2.1 hret dJ4_addAll_75) ?_
    exact jlk_nil
theorem v_J4_addAll (hst : l.stackTraces = false) (hz : jEz (EV (d + 1))) (hI : jIH l D dA lo cs0 d) : jMe l D dA lo cs0 (EV (d + 1)) 350 yJ4_addAll (ws_ yJ4_addAll cJ4_addAll 6 (Option.some Jvm.ClassFile.FieldType.boolean)) (d + 1) := z_meth hz rfl hp_J4_addAll (r_J4_addAll hst hI)
theorem r_J36_offer (hst : l.stackTraces = false) (hI : jIH l D dA lo cs0 d) : jRows l D dA lo cs0 d 3 (tb_J36_offer (EV d)) yJ36_offer cJ36_offer (Option.some Jvm.ClassFile.FieldType.boolean) [] := by
  intro p e R s m args below meth c z0 w0 zF wF Q rF hF B hz hw hret hnm
  refine jlk_cons (sm_aload_n rfl B.1 dJ36_offer_0) ?_
  refine jlk_cons (sm_ifnonnull rfl B.1 dJ36_offer_1) ?_
  refine jlk_cons (sm_aload_n rfl B.1 dJ36_offer_12) ?_
  refine jlk_cons (sm_dup B.1 dJ36_offer_13) ?_
  refine jlk_cons (sm_getI B.1 fl_java_util_PriorityQueue_93_34_146 dJ36_offer_14) ?_
  refine jlk_cons (sm_iconst rfl B.1 dJ36_offer_17) ?_
  refine jlk_cons (sm_iadd B.1 dJ36_offer_18) ?_
  refine jlk_cons (sm_putI B.1 fl_java_util_PriorityQueue_93_34_146 tyJ36 tyJ36_ok nmJ36 (Or.inl rfl) (tyJ36_ok 3 (by decide)) rfl (by decide) dJ36_offer_19) ?_
  refine jlk_cons (sm_aload_n rfl B.1 dJ36_offer_22) ?_
  refine jlk_cons (sm_getI B.1 fl_java_util_PriorityQueue_58_34_144 dJ36_offer_23) ?_
  refine jlk_cons (sm_istore_n rfl B.1 dJ36_offer_26) ?_
  refine jlk_cons (sm_iload_n rfl B.1 dJ36_offer_27) ?_
  refine jlk_cons (sm_aload_n rfl B.1 dJ36_offer_28) ?_
  refine jlk_cons (sm_getP B.1 fl_java_util_PriorityQueue_17_34_143 dJ36_offer_29) ?_
  refine jlk_cons (sm_alen B.1 (t := 107) (by decide) rfl dJ36_offer_32) ?_
  refine jlk_cons (sm_icmplt rfl B.1 dJ36_offer_33) ?_
  refine jlk_cons (sm_aload_n rfl B.1 dJ36_offer_36) ?_
  refine jlk_cons (sm_iload_n rfl B.1 dJ36_offer_37) ?_
  refine jlk_cons (sm_iconst rfl B.1 dJ36_offer_38) ?_
  refine jlk_cons (sm_iadd B.1 dJ36_offer_39) ?_
  refine jlk_cons (sm_cV (x := yJ36_grow) (host := "") (owner := "") isRV (i_J36_grow hI) B q2018 q2020 qs26 w4_J36_grow w6_J36_grow (by decide) (by decide) (by decide) kc_34 hy_J36_grow hl_J36_grow dJ36_offer_40 trivial) ?_
  refine jlk_cons (sm_aload_n rfl B.1 dJ36_offer_43) ?_
  refine jlk_cons (sm_iload_n rfl B.1 dJ36_offer_44) ?_
  refine jlk_cons (sm_aload_n rfl B.1 dJ36_offer_45) ?_
  refine jlk_cons (sm_cV (x := yJ36_siftUp) (host := "") (owner := "") isRV (i_J36_siftUp hI) B q2023 q2025 qs27 w4_J36_siftUp w6_J36_siftUp (by decide) (by decide) (by decide) kc_34 hy_J36_siftUp hl_J36_siftUp dJ36_offer_46 trivial) ?_
  refine jlk_cons (sm_aload_n rfl B.1 dJ36_offer_49) ?_
  refine jlk_cons (sm_iload_n rfl B.1 dJ36_offer_50) ?_
  refine jlk_cons (sm_iconst rfl B.1 dJ36_offer_51) ?_
  refine jlk_cons (sm_iadd B.1 dJ36_offer_52) ?_
  refine jlk_cons (sm_putI B.1 fl_java_util_PriorityQueue_58_34_144 tyJ36 tyJ36_ok nmJ36 (Or.inl rfl) (tyJ36_ok 1 (by decide)) rfl (by decide) dJ36_offer_53) ?_
  refine jlk_cons (sm_iconst rfl B.1 dJ36_offer_56) ?_
  refine jlk_cons (sm_zret B.1 B.2.1 hret dJ36_offer_57) ?_
  exact jlk_nil
theorem v_J36_offer (hst : l.stackTraces = false) (hz : jEz (EV (d + 1))) (hI : jIH l D dA lo cs0 d) : jMe l D dA lo cs0 (EV (d + 1)) 351 yJ36_offer (ws_ yJ36_offer cJ36_offer 3 (Option.some Jvm.ClassFile.FieldType.boolean)) (d + 1) := z_meth hz rfl hp_J36_offer (r_J36_offer hst hI)
theorem r_J36_remove (hst : l.stackTraces = false) (hI : jIH l D dA lo cs0 d) : jRows l D dA lo cs0 d 3 (tb_J36_remove (EV d)) yJ36_remove cJ36_remove (Option.some Jvm.ClassFile.FieldType.boolean) [] := by
  intro p e R s m args below meth c z0 w0 zF wF Q rF hF B hz hw hret hnm
  refine jlk_cons (sm_aload_n rfl B.1 dJ36_remove_0) ?_
  refine jlk_cons (sm_aload_n rfl B.1 dJ36_remove_1) ?_
  refine jlk_cons (sm_cV (x := yJ36_indexOf) (host := "") (owner := "") isRI (i_J36_indexOf hI) B q2070 q2072 qs31 w4_J36_indexOf w6_J36_indexOf (by decide) (by decide) (by decide) kc_34 hy_J36_indexOf hl_J36_indexOf dJ36_remove_2 trivial) ?_
  refine jlk_cons (sm_istore_n rfl B.1 dJ36_remove_5) ?_
  refine jlk_cons (sm_iload_n rfl B.1 dJ36_remove_6) ?_
  refine jlk_cons (sm_iconst rfl B.1 dJ36_remove_7) ?_
  refine jlk_cons (sm_icmpne rfl B.1 dJ36_remove_8) ?_
  refine jlk_cons (sm_iconst rfl B.1 dJ36_remove_11) ?_
  refine jlk_cons (sm_zret B.1 B.2.1 hret dJ36_remove_12) ?_
  refine jlk_cons (sm_aload_n rfl B.1 dJ36_remove_13) ?_
  refine jlk_cons (sm_iload_n rfl B.1 dJ36_remove_14) ?_
  refine jlk_cons (sm_cV (x := yJ36_removeAt) (host := "") (owner := "") isRP (i_J36_removeAt hI) B q2075 q2076 q2077 w4_J36_removeAt w6_J36_removeAt (by decide) (by decide) (by decide) kc_34 hy_J36_removeAt hl_J36_removeAt dJ36_remove_15 trivial) ?_
  refine jlk_cons (sm_pop B.1 dJ36_remove_18) ?_
  refine jlk_cons (sm_iconst rfl B.1 dJ36_remove_19) ?_
  refine jlk_cons (sm_zret B.1 B.2.1 hret dJ36_remove_20) ?_
  exact jlk_nil
theorem v_J36_remove (hst : l.stackTraces = false) (hz : jEz (EV (d + 1))) (hI : jIH l D dA lo cs0 d) : jMe l D dA lo cs0 (EV (d + 1)) 352 yJ36_remove (ws_ yJ36_remove cJ36_remove 3 (Option.some Jvm.ClassFile.FieldType.boolean)) (d + 1) := z_meth hz rfl hp_J36_remove (r_J36_remove hst hI)
theorem r_J29_copyOf_4 (hst : l.stackTraces = false) (hI : jIH l D dA lo cs0 d) : jRows l D dA lo cs0 d 3 (tb_J29_copyOf_4 (EV d)) yJ29_copyOf_4 cJ29_copyOf_4 (Option.some (Jvm.ClassFile.FieldType.array Jvm.ClassFile.FieldType.long)) [] := by
  intro p e R s m args below meth c z0 w0 zF wF Q rF hF B hz hw hret hnm
  refine jlk_cons (sm_iload_n rfl B.1 dJ29_copyOf_4_0) ?_
  refine jlk_cons (sm_aload_n rfl B.1 dJ29_copyOf_4_1) ?_
  refine jlk_cons (sm_alen B.1 (t := 105) (by decide) rfl dJ29_copyOf_4_2) ?_
  refine jlk_cons (sm_icmpne rfl B.1 dJ29_copyOf_4_3) ?_
  refine jlk_cons (sm_aload_n rfl B.1 dJ29_copyOf_4_6) ?_
  refine jlk_cons (sm_cloL B.1 q1905 q1906 q1731 q1732 q1907 q1908 nmA_105 B.2.2.2 hz hw dJ29_copyOf_4_7) ?_
  refine jlk_cons (sm_castA B.1 (t := 105) (by decide) rfl nmA_105 q1909 dJ29_copyOf_4_10) ?_
  refine jlk_cons (sm_aret B.1 B.2.1 hret (Or.inr ⟨_, rfl⟩) dJ29_copyOf_4_13) ?_
  refine jlk_cons (sm_iload_n rfl B.1 dJ29_copyOf_4_14) ?_
  refine jlk_cons (sm_newA B.1 (at9 := .long) rfl (by decide) rfl (by decide) hc_105 (fun _ => rfl) q1594 B.2.2.2 hz hw dJ29_copyOf_4_15) ?_
  refine jlk_cons (sm_astore_n rfl B.1 dJ29_copyOf_4_17) ?_
  refine jlk_cons (sm_aload_n rfl B.1 dJ29_copyOf_4_18) ?_
  refine jlk_cons (sm_iconst rfl B.1 dJ29_copyOf_4_19) ?_
  refine jlk_cons (sm_aload_n rfl B.1 dJ29_copyOf_4_20) ?_
  refine jlk_cons (sm_iconst rfl B.1 dJ29_copyOf_4_21) ?_
  refine jlk_cons (sm_aload_n rfl B.1 dJ29_copyOf_4_22) ?_
  refine jlk_cons (sm_alen B.1 (t := 105) (by decide) rfl dJ29_copyOf_4_23) ?_
  refine jlk_cons (sm_iload_n rfl B.1 dJ29_copyOf_4_24) ?_
  refine jlk_cons (sm_cS (x := yJ9_min) (r9 := kr_6) (host := "") (owner := "") isSI (i_J9_min hI) B q1239 q421 w4_J9_min w6_J9_min (by decide) hy_J9_min hl_J9_min dJ29_copyOf_4_25 trivial) ?_
  refine jlk_cons (sm_cpL B.1 q1240 q1242 q1241 q159 dJ29_copyOf_4_28) ?_
  refine jlk_cons (sm_aload_n rfl B.1 dJ29_copyOf_4_31) ?_
  refine jlk_cons (sm_aret B.1 B.2.1 hret (Or.inr ⟨_, rfl⟩) dJ29_copyOf_4_32) ?_
  exact jlk_nil
theorem v_J29_copyOf_4 (hst : l.stackTraces = false) (hz : jEz (EV (d + 1))) (hI : jIH l D dA lo cs0 d) : jMe l D dA lo cs0 (EV (d + 1)) 353 yJ29_copyOf_4 (ws_ yJ29_copyOf_4 cJ29_copyOf_4 3 (Option.some (Jvm.ClassFile.FieldType.array Jvm.ClassFile.FieldType.long))) (d + 1) := z_meth hz rfl hp_J29_copyOf_4 (r_J29_copyOf_4 hst hI)
theorem r_J6_compare (hst : l.stackTraces = false) (hI : jIH l D dA lo cs0 d) : jRows l D dA lo cs0 d 2 (tb_J6_compare (EV d)) yJ6_compare cJ6_compare (Option.some Jvm.ClassFile.FieldType.int) [] := by
  intro p e R s m args below meth c z0 w0 zF wF Q rF hF B hz hw hret hnm
  refine jlk_cons (sm_iload_n rfl B.1 dJ6_compare_0) ?_
  refine jlk_cons (sm_iload_n rfl B.1 dJ6_compare_1) ?_
  refine jlk_cons (sm_icmpge rfl B.1 dJ6_compare_2) ?_
  refine jlk_cons (sm_iconst rfl B.1 dJ6_compare_5) ?_
  refine jlk_cons (sm_goto rfl B.1 dJ6_compare_6) ?_
  refine jlk_cons (sm_iload_n rfl B.1 dJ6_compare_9) ?_
  refine jlk_cons (sm_iload_n rfl B.1 dJ6_compare_10) ?_
  refine jlk_cons (sm_icmpne rfl B.1 dJ6_compare_11) ?_
  refine jlk_cons (sm_iconst rfl B.1 dJ6_compare_14) ?_
  refine jlk_cons (sm_goto rfl B.1 dJ6_compare_15) ?_
  refine jlk_cons (sm_iconst rfl B.1 dJ6_compare_18) ?_
  refine jlk_cons (sm_iret B.1 B.2.1 hret dJ6_compare_19) ?_
  exact jlk_nil
theorem v_J6_compare (hst : l.stackTraces = false) (hz : jEz (EV (d + 1))) (hI : jIH l D dA lo cs0 d) : jMe l D dA lo cs0 (EV (d + 1)) 355 yJ6_compare (ws_ yJ6_compare cJ6_compare 2 (Option.some Jvm.ClassFile.FieldType.int)) (d + 1) := z_meth hz rfl hp_J6_compare (r_J6_compare hst hI)
theorem r_J1_parentOf (hst : l.stackTraces = false) (hI : jIH l D dA lo cs0 d) : jRows l D dA lo cs0 d 1 (tb_J1_parentOf (EV d)) yJ1_parentOf cJ1_parentOf (Option.some (Jvm.ClassFile.FieldType.object "java/util/TreeMap$Entry")) [] := by
  intro p e R s m args below meth c z0 w0 zF wF Q rF hF B hz hw hret hnm
  refine jlk_cons (sm_aload_n rfl B.1 dJ1_parentOf_0) ?_
  refine jlk_cons (sm_ifnonnull rfl B.1 dJ1_parentOf_1) ?_
  refine jlk_cons (sm_null B.1 dJ1_parentOf_4) ?_
  refine jlk_cons (sm_goto rfl B.1 dJ1_parentOf_5) ?_
  refine jlk_cons (sm_aload_n rfl B.1 dJ1_parentOf_8) ?_
  refine jlk_cons (sm_getP B.1 fl_java_util_TreeMap_124_24_135 dJ1_parentOf_9) ?_
  refine jlk_cons (sm_aret B.1 B.2.1 hret (Or.inl ⟨_, rfl⟩) dJ1_parentOf_12) ?_
  exact jlk_nil
theorem v_J1_parentOf (hst : l.stackTraces = false) (hz : jEz (EV (d + 1))) (hI : jIH l D dA lo cs0 d) : jMe l D dA lo cs0 (EV (d + 1)) 356 yJ1_parentOf (ws_ yJ1_parentOf cJ1_parentOf 1 (Option.some (Jvm.ClassFile.FieldType.object "java/util/TreeMap$Entry"))) (d + 1) := z_meth hz rfl hp_J1_parentOf (r_J1_parentOf hst hI)
theorem r_J1_leftOf (hst : l.stackTraces = false) (hI : jIH l D dA lo cs0 d) : jRows l D dA lo cs0 d 1 (tb_J1_leftOf (EV d)) yJ1_leftOf cJ1_leftOf (Option.some (Jvm.ClassFile.FieldType.object "java/util/TreeMap$Entry")) [] := by
  intro p e R s m args below meth c z0 w0 zF wF Q rF hF B hz hw hret hnm
  refine jlk_cons (sm_aload_n rfl B.1 dJ1_leftOf_0) ?_
  refine jlk_cons (sm_ifnonnull rfl B.1 dJ1_leftOf_1) ?_
  refine jlk_cons (sm_null B.1 dJ1_leftOf_4) ?_
  refine jlk_cons (sm_goto rfl B.1 dJ1_leftOf_5) ?_
  refine jlk_cons (sm_aload_n rfl B.1 dJ1_leftOf_8) ?_
  refine jlk_cons (sm_getP B.1 fl_java_util_TreeMap_111_24_133 dJ1_leftOf_9) ?_
  refine jlk_cons (sm_aret B.1 B.2.1 hret (Or.inl ⟨_, rfl⟩) dJ1_leftOf_12) ?_
  exact jlk_nil
theorem v_J1_leftOf (hst : l.stackTraces = false) (hz : jEz (EV (d + 1))) (hI : jIH l D dA lo cs0 d) : jMe l D dA lo cs0 (EV (d + 1)) 357 yJ1_leftOf (ws_ yJ1_leftOf cJ1_leftOf 1 (Option.some (Jvm.ClassFile.FieldType.object "java/util/TreeMap$Entry"))) (d + 1) := z_meth hz rfl hp_J1_leftOf (r_J1_leftOf hst hI)
theorem r_J1_rightOf (hst : l.stackTraces = false) (hI : jIH l D dA lo cs0 d) : jRows l D dA lo cs0 d 1 (tb_J1_rightOf (EV d)) yJ1_rightOf cJ1_rightOf (Option.some (Jvm.ClassFile.FieldType.object "java/util/TreeMap$Entry")) [] := by
  intro p e R s m args below meth c z0 w0 zF wF Q rF hF B hz hw hret hnm
  refine jlk_cons (sm_aload_n rfl B.1 dJ1_rightOf_0) ?_
  refine jlk_cons (sm_ifnonnull rfl B.1 dJ1_rightOf_1) ?_
  refine jlk_cons (sm_null B.1 dJ1_rightOf_4) ?_
  refine jlk_cons (sm_goto rfl B.1 dJ1_rightOf_5) ?_
  refine jlk_cons (sm_aload_n rfl B.1 dJ1_rightOf_8) ?_
  refine jlk_cons (sm_getP B.1 fl_java_util_TreeMap_114_24_134 dJ1_rightOf_9) ?_
  refine jlk_cons (sm_aret B.1 B.2.1 hret (Or.inl ⟨_, rfl⟩) dJ1_rightOf_12) ?_
  exact jlk_nil
theorem v_J1_rightOf (hst : l.stackTraces = false) (hz : jEz (EV (d + 1))) (hI : jIH l D dA lo cs0 d) : jMe l D dA lo cs0 (EV (d + 1)) 358 yJ1_rightOf (ws_ yJ1_rightOf cJ1_rightOf 1 (Option.some (Jvm.ClassFile.FieldType.object "java/util/TreeMap$Entry"))) (d + 1) := z_meth hz rfl hp_J1_rightOf (r_J1_rightOf hst hI)
theorem r_J1_colorOf (hst : l.stackTraces = false) (hI : jIH l D dA lo cs0 d) : jRows l D dA lo cs0 d 1 (tb_J1_colorOf (EV d)) yJ1_colorOf cJ1_colorOf (Option.some Jvm.ClassFile.FieldType.boolean) [] := by
  intro p e R s m args below meth c z0 w0 zF wF Q rF hF B hz hw hret hnm
  refine jlk_cons (sm_aload_n rfl B.1 dJ1_colorOf_0) ?_
  refine jlk_cons (sm_ifnonnull rfl B.1 dJ1_colorOf_1) ?_
  refine jlk_cons (sm_iconst rfl B.1 dJ1_colorOf_4) ?_
  refine jlk_cons (sm_goto rfl B.1 dJ1_colorOf_5) ?_
  refine jlk_cons (sm_aload_n rfl B.1 dJ1_colorOf_8) ?_
  refine jlk_cons (sm_getI B.1 fl_java_util_TreeMap_290_24_136 dJ1_colorOf_9) ?_
  refine jlk_cons (sm_zret B.1 B.2.1 hret dJ1_colorOf_12) ?_
  exact jlk_nil
theorem v_J1_colorOf (hst : l.stackTraces = false) (hz : jEz (EV (d + 1))) (hI : jIH l D dA lo cs0 d) : jMe l D dA lo cs0 (EV (d + 1)) 359 yJ1_colorOf (ws_ yJ1_colorOf cJ1_colorOf 1 (Option.some Jvm.ClassFile.FieldType.boolean)) (d + 1) := z_meth hz rfl hp_J1_colorOf (r_J1_colorOf hst hI)
theorem r_J1_setColor (hst : l.stackTraces = false) (hI : jIH l D dA lo cs0 d) : jRows l D dA lo cs0 d 2 (tb_J1_setColor (EV d)) yJ1_setColor cJ1_setColor (Option.none : Option Jvm.ClassFile.FieldType) [] := by
  intro p e R s m args below meth c z0 w0 zF wF Q rF hF B hz hw hret hnm
  refine jlk_cons (sm_aload_n rfl B.1 dJ1_setColor_0) ?_
  refine jlk_cons (sm_ifnull rfl B.1 dJ1_setColor_1) ?_
  refine jlk_cons (sm_aload_n rfl B.1 dJ1_setColor_4) ?_
  refine jlk_cons (sm_iload_n rfl B.1 dJ1_setColor_5) ?_
  refine jlk_cons (sm_putZ B.1 fl_java_util_TreeMap_290_24_136 tyJ15 tyJ15_ok nmJ15 (Or.inl rfl) (tyJ15_ok 5 (by decide)) rfl (by decide) dJ1_setColor_6) ?_
  refine jlk_cons (sm_vret B.1 B.2.1 hret dJ1_setColor_9) ?_
  exact jlk_nil
theorem v_J1_setColor (hst : l.stackTraces = false) (hz : jEz (EV (d + 1))) (hI : jIH l D dA lo cs0 d) : jMe l D dA lo cs0 (EV (d + 1)) 360 yJ1_setColor (ws_ yJ1_setColor cJ1_setColor 2 (Option.none : Option Jvm.ClassFile.FieldType)) (d + 1) := z_meth hz rfl hp_J1_setColor (r_J1_setColor hst hI)
theorem r_J1_rotateLeft (hst : l.stackTraces = false) (hI : jIH l D dA lo cs0 d) : jRows l D dA lo cs0 d 3 (tb_J1_rotateLeft (EV d)) yJ1_rotateLeft cJ1_rotateLeft (Option.none : Option Jvm.ClassFile.FieldType) [] := by
  intro p e R s m args below meth c z0 w0 zF wF Q rF hF B hz hw hret hnm
  refine jlk_app ?_ ?_
  · refine jlk_cons (sm_aload_n rfl B.1 dJ1_rotateLeft_0) ?_
    refine jlk_cons (sm_ifnull rfl B.1 dJ1_rotateLeft_1) ?_
    refine jlk_cons (sm_aload_n rfl B.1 dJ1_rotateLeft_4) ?_
    refine jlk_cons (sm_getP B.1 fl_java_util_TreeMap_114_24_134 dJ1_rotateLeft_5) ?_
    refine jlk_cons (sm_astore_n rfl B.1 dJ1_rotateLeft_8) ?_
    refine jlk_cons (sm_aload_n rfl B.1 dJ1_rotateLeft_9) ?_
    refine jlk_cons (sm_aload_n rfl B.1 dJ1_rotateLeft_10) ?_
    refine jlk_cons (sm_getP B.1 fl_java_util_TreeMap_111_24_133 dJ1_rotateLeft_11) ?_
    refine jlk_cons (sm_putP B.1 fl_java_util_TreeMap_114_24_134 tyJ15 tyJ15_ok nmJ15 (Or.inl rfl) rfl (tyJ15_ok 3 (by decide)) rfl (by decide) dJ1_rotateLeft_14) ?_
    refine jlk_cons (sm_aload_n rfl B.1 dJ1_rotateLeft_17) ?_
    refine jlk_cons (sm_getP B.1 fl_java_util_TreeMap_111_24_133 dJ1_rotateLeft_18) ?_
    refine jlk_cons (sm_ifnull rfl B.1 dJ1_rotateLeft_21) ?_
    refine jlk_cons (sm_aload_n rfl B.1 dJ1_rotateLeft_24) ?_
    refine jlk_cons (sm_getP B.1 fl_java_util_TreeMap_111_24_133 dJ1_rotateLeft_25) ?_
    refine jlk_cons (sm_aload_n rfl B.1 dJ1_rotateLeft_28) ?_
    refine jlk_cons (sm_putP B.1 fl_java_util_TreeMap_124_24_135 tyJ15 tyJ15_ok nmJ15 (Or.inl rfl) rfl (tyJ15_ok 4 (by decide)) rfl (by decide) dJ1_rotateLeft_29) ?_
    refine jlk_cons (sm_aload_n rfl B.1 dJ1_rotateLeft_32) ?_
    refine jlk_cons (sm_aload_n rfl B.1 dJ1_rotateLeft_33) ?_
    refine jlk_cons (sm_getP B.1 fl_java_util_TreeMap_124_24_135 dJ1_rotateLeft_34) ?_
    refine jlk_cons (sm_putP B.1 fl_java_util_TreeMap_124_24_135 tyJ15 tyJ15_ok nmJ15 (Or.inl rfl) rfl (tyJ15_ok 4 (by decide)) rfl (by decide) dJ1_rotateLeft_37) ?_
    refine jlk_cons (sm_aload_n rfl B.1 dJ1_rotateLeft_40) ?_
    refine jlk_cons (sm_getP B.1 fl_java_util_TreeMap_124_24_135 dJ1_rotateLeft_41) ?_
    refine jlk_cons (sm_ifnonnull rfl B.1 dJ1_rotateLeft_44) ?_
    refine jlk_cons (sm_aload_n rfl B.1 dJ1_rotateLeft_47) ?_
    refine jlk_cons (sm_aload_n rfl B.1 dJ1_rotateLeft_48) ?_
    refine jlk_cons (sm_putP B.1 fl_java_util_TreeMap_101_20_117 tyJ1 tyJ1_ok nmJ1 (Or.inl rfl) rfl (tyJ1_ok 3 (by decide)) rfl (by decide) dJ1_rotateLeft_49) ?_
    refine jlk_cons (sm_goto rfl B.1 dJ1_rotateLeft_52) ?_
    refine jlk_cons (sm_aload_n rfl B.1 dJ1_rotateLeft_55) ?_
    refine jlk_cons (sm_getP B.1 fl_java_util_TreeMap_124_24_135 dJ1_rotateLeft_56) ?_
    refine jlk_cons (sm_getP B.1 fl_java_util_TreeMap_111_24_133 dJ1_rotateLeft_59) ?_
    refine jlk_cons (sm_aload_n rfl B.1 dJ1_rotateLeft_62) ?_
    refine jlk_cons (sm_acmpne rfl B.1 dJ1_rotateLeft_63) ?_
    refine jlk_cons (sm_aload_n rfl B.1 dJ1_rotateLeft_66) ?_
    refine jlk_cons (sm_getP B.1 fl_java_util_TreeMap_124_24_135 dJ1_rotateLeft_67) ?_
    refine jlk_cons (sm_aload_n rfl B.1 dJ1_rotateLeft_70) ?_
    refine jlk_cons (sm_putP B.1 fl_java_util_TreeMap_111_24_133 tyJ15 tyJ15_ok nmJ15 (Or.inl rfl) rfl (tyJ15_ok 2 (by decide)) rfl (by decide) dJ1_rotateLeft_71) ?_
    refine jlk_cons (sm_goto rfl B.1 dJ1_rotateLeft_74) ?_
    refine jlk_cons (sm_aload_n rfl B.1 dJ1_rotateLeft_77) ?_
    refine jlk_cons (sm_getP B.1 fl_java_util_TreeMap_124_24_135 dJ1_rotateLeft_78) ?_
    refine jlk_cons (sm_aload_n rfl B.1 dJ1_rotateLeft_81) ?_
    exact jlk_nil
  · skip
    refine jlk_cons (sm_putP B.1 fl_java_util_TreeMap_114_24_134 tyJ15 tyJ15_ok nmJ15 (Or.inl rfl) rfl (tyJ15_ok 3 (by decide)) rfl (by decide) dJ1_rotateLeft_82) ?_
    refine jlk_cons (sm_aload_n rfl B.1 dJ1_rotateLeft_85) ?_
    refine jlk_cons (sm_aload_n rfl B.1 dJ1_rotateLeft_86) ?_
    refine jlk_cons (sm_putP B.1 fl_java_util_TreeMap_111_24_133 tyJ15 tyJ15_ok nmJ15 (Or.inl rfl) rfl (tyJ15_ok 2 (by decide)) rfl (by decide) dJ1_rotateLeft_87) ?_
    refine jlk_cons (sm_aload_n rfl B.1 dJ1_rotateLeft_90) ?_
    refine jlk_cons (sm_aload_n rfl B.1 dJ1_rotateLeft_91) ?_
    refine jlk_cons (sm_putP B.1 fl_java_util_TreeMap_124_24_135 tyJ15 tyJ15_ok nmJ15 (Or.inl rfl) rfl (tyJ15_ok 4 (by decide)) rfl (by decide) dJ1_rotateLeft_92) ?_
    refine jlk_cons (sm_vret B.1 B.2.1 hret dJ1_rotateLeft_95) ?_
    exact jlk_nil
theorem v_J1_rotateLeft (hst : l.stackTraces = false) (hz : jEz (EV (d + 1))) (hI : jIH l D dA lo cs0 d) : jMe l D dA lo cs0 (EV (d + 1)) 361 yJ1_rotateLeft (ws_ yJ1_rotateLeft cJ1_rotateLeft 3 (Option.none : Option Jvm.ClassFile.FieldType)) (d + 1) := z_meth hz rfl hp_J1_rotateLeft (r_J1_rotateLeft hst hI)
theorem r_J1_rotateRight (hst : l.stackTraces = false) (hI : jIH l D dA lo cs0 d) : jRows l D dA lo cs0 d 3 (tb_J1_rotateRight (EV d)) yJ1_rotateRight cJ1_rotateRight (Option.none : Option Jvm.ClassFile.FieldType) [] := by
  intro p e R s m args below meth c z0 w0 zF wF Q rF hF B hz hw hret hnm
  refine jlk_app ?_ ?_
  · refine jlk_cons (sm_aload_n rfl B.1 dJ1_rotateRight_0) ?_
    refine jlk_cons (sm_ifnull rfl B.1 dJ1_rotateRight_1) ?_
    refine jlk_cons (sm_aload_n rfl B.1 dJ1_rotateRight_4) ?_
    refine jlk_cons (sm_getP B.1 fl_java_util_TreeMap_111_24_133 dJ1_rotateRight_5) ?_
    refine jlk_cons (sm_astore_n rfl B.1 dJ1_rotateRight_8) ?_
    refine jlk_cons (sm_aload_n rfl B.1 dJ1_rotateRight_9) ?_
    refine jlk_cons (sm_aload_n rfl B.1 dJ1_rotateRight_10) ?_
    refine jlk_cons (sm_getP B.1 fl_java_util_TreeMap_114_24_134 dJ1_rotateRight_11) ?_
    refine jlk_cons (sm_putP B.1 fl_java_util_TreeMap_111_24_133 tyJ15 tyJ15_ok nmJ15 (Or.inl rfl) rfl (tyJ15_ok 2 (by decide)) rfl (by decide) dJ1_rotateRight_14) ?_
    refine jlk_cons (sm_aload_n rfl B.1 dJ1_rotateRight_17) ?_
    refine jlk_cons (sm_getP B.1 fl_java_util_TreeMap_114_24_134 dJ1_rotateRight_18) ?_
    refine jlk_cons (sm_ifnull rfl B.1 dJ1_rotateRight_21) ?_
    refine jlk_cons (sm_aload_n rfl B.1 dJ1_rotateRight_24) ?_
    refine jlk_cons (sm_getP B.1 fl_java_util_TreeMap_114_24_134 dJ1_rotateRight_25) ?_
    refine jlk_cons (sm_aload_n rfl B.1 dJ1_rotateRight_28) ?_
    refine jlk_cons (sm_putP B.1 fl_java_util_TreeMap_124_24_135 tyJ15 tyJ15_ok nmJ15 (Or.inl rfl) rfl (tyJ15_ok 4 (by decide)) rfl (by decide) dJ1_rotateRight_29) ?_
    refine jlk_cons (sm_aload_n rfl B.1 dJ1_rotateRight_32) ?_
    refine jlk_cons (sm_aload_n rfl B.1 dJ1_rotateRight_33) ?_
    refine jlk_cons (sm_getP B.1 fl_java_util_TreeMap_124_24_135 dJ1_rotateRight_34) ?_
    refine jlk_cons (sm_putP B.1 fl_java_util_TreeMap_124_24_135 tyJ15 tyJ15_ok nmJ15 (Or.inl rfl) rfl (tyJ15_ok 4 (by decide)) rfl (by decide) dJ1_rotateRight_37) ?_
    refine jlk_cons (sm_aload_n rfl B.1 dJ1_rotateRight_40) ?_
    refine jlk_cons (sm_getP B.1 fl_java_util_TreeMap_124_24_135 dJ1_rotateRight_41) ?_
    refine jlk_cons (sm_ifnonnull rfl B.1 dJ1_rotateRight_44) ?_
    refine jlk_cons (sm_aload_n rfl B.1 dJ1_rotateRight_47) ?_
    refine jlk_cons (sm_aload_n rfl B.1 dJ1_rotateRight_48) ?_
    refine jlk_cons (sm_putP B.1 fl_java_util_TreeMap_101_20_117 tyJ1 tyJ1_ok nmJ1 (Or.inl rfl) rfl (tyJ1_ok 3 (by decide)) rfl (by decide) dJ1_rotateRight_49) ?_
    refine jlk_cons (sm_goto rfl B.1 dJ1_rotateRight_52) ?_
    refine jlk_cons (sm_aload_n rfl B.1 dJ1_rotateRight_55) ?_
    refine jlk_cons (sm_getP B.1 fl_java_util_TreeMap_124_24_135 dJ1_rotateRight_56) ?_
    refine jlk_cons (sm_getP B.1 fl_java_util_TreeMap_114_24_134 dJ1_rotateRight_59) ?_
    refine jlk_cons (sm_aload_n rfl B.1 dJ1_rotateRight_62) ?_
    refine jlk_cons (sm_acmpne rfl B.1 dJ1_rotateRight_63) ?_
    refine jlk_cons (sm_aload_n rfl B.1 dJ1_rotateRight_66) ?_
    refine jlk_cons (sm_getP B.1 fl_java_util_TreeMap_124_24_135 dJ1_rotateRight_67) ?_
    refine jlk_cons (sm_aload_n rfl B.1 dJ1_rotateRight_70) ?_
    refine jlk_cons (sm_putP B.1 fl_java_util_TreeMap_114_24_134 tyJ15 tyJ15_ok nmJ15 (Or.inl rfl) rfl (tyJ15_ok 3 (by decide)) rfl (by decide) dJ1_rotateRight_71) ?_
    refine jlk_cons (sm_goto rfl B.1 dJ1_rotateRight_74) ?_
    refine jlk_cons (sm_aload_n rfl B.1 dJ1_rotateRight_77) ?_
    refine jlk_cons (sm_getP B.1 fl_java_util_TreeMap_124_24_135 dJ1_rotateRight_78) ?_
    refine jlk_cons (sm_aload_n rfl B.1 dJ1_rotateRight_81) ?_
    exact jlk_nil
  · skip
    refine jlk_cons (sm_putP B.1 fl_java_util_TreeMap_111_24_133 tyJ15 tyJ15_ok nmJ15 (Or.inl rfl) rfl (tyJ15_ok 2 (by decide)) rfl (by decide) dJ1_rotateRight_82) ?_
    refine jlk_cons (sm_aload_n rfl B.1 dJ1_rotateRight_85) ?_
    refine jlk_cons (sm_aload_n rfl B.1 dJ1_rotateRight_86) ?_
    refine jlk_cons (sm_putP B.1 fl_java_util_TreeMap_114_24_134 tyJ15 tyJ15_ok nmJ15 (Or.inl rfl) rfl (tyJ15_ok 3 (by decide)) rfl (by decide) dJ1_rotateRight_87) ?_
    refine jlk_cons (sm_aload_n rfl B.1 dJ1_rotateRight_90) ?_
    refine jlk_cons (sm_aload_n rfl B.1 dJ1_rotateRight_91) ?_
    refine jlk_cons (sm_putP B.1 fl_java_util_TreeMap_124_24_135 tyJ15 tyJ15_ok nmJ15 (Or.inl rfl) rfl (tyJ15_ok 4 (by decide)) rfl (by decide) dJ1_rotateRight_92) ?_
    refine jlk_cons (sm_vret B.1 B.2.1 hret dJ1_rotateRight_95) ?_
    exact jlk_nil
theorem v_J1_rotateRight (hst : l.stackTraces = false) (hz : jEz (EV (d + 1))) (hI : jIH l D dA lo cs0 d) : jMe l D dA lo cs0 (EV (d + 1)) 362 yJ1_rotateRight (ws_ yJ1_rotateRight cJ1_rotateRight 3 (Option.none : Option Jvm.ClassFile.FieldType)) (d + 1) := z_meth hz rfl hp_J1_rotateRight (r_J1_rotateRight hst hI)
theorem r_J1_successor (hst : l.stackTraces = false) (hI : jIH l D dA lo cs0 d) : jRows l D dA lo cs0 d 3 (tb_J1_successor (EV d)) yJ1_successor cJ1_successor (Option.some (Jvm.ClassFile.FieldType.object "java/util/TreeMap$Entry")) [] := by
  intro p e R s m args below meth c z0 w0 zF wF Q rF hF B hz hw hret hnm
  refine jlk_cons (sm_aload_n rfl B.1 dJ1_successor_0) ?_
  refine jlk_cons (sm_ifnonnull rfl B.1 dJ1_successor_1) ?_
  refine jlk_cons (sm_null B.1 dJ1_successor_4) ?_
  refine jlk_cons (sm_aret B.1 B.2.1 hret (Or.inl ⟨_, rfl⟩) dJ1_successor_5) ?_
  refine jlk_cons (sm_aload_n rfl B.1 dJ1_successor_6) ?_
  refine jlk_cons (sm_getP B.1 fl_java_util_TreeMap_114_24_134 dJ1_successor_7) ?_
  refine jlk_cons (sm_ifnull rfl B.1 dJ1_successor_10) ?_
  refine jlk_cons (sm_aload_n rfl B.1 dJ1_successor_13) ?_
  refine jlk_cons (sm_getP B.1 fl_java_util_TreeMap_114_24_134 dJ1_successor_14) ?_
  refine jlk_cons (sm_astore_n rfl B.1 dJ1_successor_17) ?_
  refine jlk_cons (sm_aload_n rfl B.1 dJ1_successor_18) ?_
  refine jlk_cons (sm_getP B.1 fl_java_util_TreeMap_111_24_133 dJ1_successor_19) ?_
  refine jlk_cons (sm_ifnull rfl B.1 dJ1_successor_22) ?_
  refine jlk_cons (sm_aload_n rfl B.1 dJ1_successor_25) ?_
  refine jlk_cons (sm_getP B.1 fl_java_util_TreeMap_111_24_133 dJ1_successor_26) ?_
  refine jlk_cons (sm_astore_n rfl B.1 dJ1_successor_29) ?_
  refine jlk_cons (sm_goto rfl B.1 dJ1_successor_30) ?_
  refine jlk_cons (sm_aload_n rfl B.1 dJ1_successor_33) ?_
  refine jlk_cons (sm_aret B.1 B.2.1 hret (Or.inl ⟨_, rfl⟩) dJ1_successor_34) ?_
  refine jlk_cons (sm_aload_n rfl B.1 dJ1_successor_35) ?_
  refine jlk_cons (sm_getP B.1 fl_java_util_TreeMap_124_24_135 dJ1_successor_36) ?_
  refine jlk_cons (sm_astore_n rfl B.1 dJ1_successor_39) ?_
  refine jlk_cons (sm_aload_n rfl B.1 dJ1_successor_40) ?_
  refine jlk_cons (sm_astore_n rfl B.1 dJ1_successor_41) ?_
  refine jlk_cons (sm_aload_n rfl B.1 dJ1_successor_42) ?_
  refine jlk_cons (sm_ifnull rfl B.1 dJ1_successor_43) ?_
  refine jlk_cons (sm_aload_n rfl B.1 dJ1_successor_46) ?_
  refine jlk_cons (sm_aload_n rfl B.1 dJ1_successor_47) ?_
  refine jlk_cons (sm_getP B.1 fl_java_util_TreeMap_114_24_134 dJ1_successor_48) ?_
  refine jlk_cons (sm_acmpne rfl B.1 dJ1_successor_51) ?_
  refine jlk_cons (sm_aload_n rfl B.1 dJ1_successor_54) ?_
  refine jlk_cons (sm_astore_n rfl B.1 dJ1_successor_55) ?_
  refine jlk_cons (sm_aload_n rfl B.1 dJ1_successor_56) ?_
  refine jlk_cons (sm_getP B.1 fl_java_util_TreeMap_124_24_135 dJ1_successor_57) ?_
  refine jlk_cons (sm_astore_n rfl B.1 dJ1_successor_60) ?_
  refine jlk_cons (sm_goto rfl B.1 dJ1_successor_61) ?_
  refine jlk_cons (sm_aload_n rfl B.1 dJ1_successor_64) ?_
  refine jlk_cons (sm_aret B.1 B.2.1 hret (Or.inl ⟨_, rfl⟩) dJ1_successor_65) ?_
  exact jlk_nil
theorem v_J1_successor (hst : l.stackTraces = false) (hz : jEz (EV (d + 1))) (hI : jIH l D dA lo cs0 d) : jMe l D dA lo cs0 (EV (d + 1)) 363 yJ1_successor (ws_ yJ1_successor cJ1_successor 3 (Option.some (Jvm.ClassFile.FieldType.object "java/util/TreeMap$Entry"))) (d + 1) := z_meth hz rfl hp_J1_successor (r_J1_successor hst hI)
theorem r_J10_newLength (hst : l.stackTraces = false) (hI : jIH l D dA lo cs0 d) : jRows l D dA lo cs0 d 4 (tb_J10_newLength (EV d)) yJ10_newLength cJ10_newLength (Option.some Jvm.ClassFile.FieldType.int) [] := by
  intro p e R s m args below meth c z0 w0 zF wF Q rF hF B hz hw hret hnm
  refine jlk_cons (sm_iload_n rfl B.1 dJ10_newLength_0) ?_
  refine jlk_cons (sm_iload_n rfl B.1 dJ10_newLength_1) ?_
  refine jlk_cons (sm_iload_n rfl B.1 dJ10_newLength_2) ?_
  refine jlk_cons (sm_cS (x := yJ9_max) (r9 := kr_6) (host := "") (owner := "") isSI (i_J9_max hI) B q1222 q1223 w4_J9_max w6_J9_max (by decide) hy_J9_max hl_J9_max dJ10_newLength_3 trivial) ?_
  refine jlk_cons (sm_iadd B.1 dJ10_newLength_6) ?_
  refine jlk_cons (sm_istore_n rfl B.1 dJ10_newLength_7) ?_
  refine jlk_cons (sm_iconst rfl B.1 dJ10_newLength_8) ?_
  refine jlk_cons (sm_iload_n rfl B.1 dJ10_newLength_9) ?_
  refine jlk_cons (sm_icmpge rfl B.1 dJ10_newLength_10) ?_
  refine jlk_cons (sm_iload_n rfl B.1 dJ10_newLength_13) ?_
  refine jlk_cons (sm_ldc q1225 B.1 dJ10_newLength_14) ?_
  refine jlk_cons (sm_icmpgt rfl B.1 dJ10_newLength_16) ?_
  refine jlk_cons (sm_iload_n rfl B.1 dJ10_newLength_19) ?_
  refine jlk_cons (sm_iret B.1 B.2.1 hret dJ10_newLength_20) ?_
  refine jlk_cons (sm_iload_n rfl B.1 dJ10_newLength_21) ?_
  refine jlk_cons (sm_iload_n rfl B.1 dJ10_newLength_22) ?_
  exact jlk_nil
theorem v_J10_newLength (hst : l.stackTraces = false) (hz : jEz (EV (d + 1))) (hI : jIH l D dA lo cs0 d) : jMe l D dA lo cs0 (EV (d + 1)) 364 yJ10_newLength (ws_ yJ10_newLength cJ10_newLength 4 (Option.some Jvm.ClassFile.FieldType.int)) (d + 1) := z_meth hz rfl hp_J10_newLength (r_J10_newLength hst hI)
theorem r_J29_copyOf (hst : l.stackTraces = false) (hI : jIH l D dA lo cs0 d) : jRows l D dA lo cs0 d 2 (tb_J29_copyOf (EV d)) yJ29_copyOf cJ29_copyOf (Option.some (Jvm.ClassFile.FieldType.array (Jvm.ClassFile.FieldType.object "java/lang/Object"))) [] := by
  intro p e R s m args below meth c z0 w0 zF wF Q rF hF B hz hw hret hnm
  refine jlk_cons (sm_aload_n rfl B.1 dJ29_copyOf_0) ?_
  refine jlk_cons (sm_iload_n rfl B.1 dJ29_copyOf_1) ?_
  refine jlk_cons (sm_aload_n rfl B.1 dJ29_copyOf_2) ?_
  refine jlk_cons (sm_gclV B.1 (t := 107) (by decide) rfl nmA_107 (List.mem_of_getElem? (i := 2) rfl) q1232 q1532 q3505 q336 q380 dJ29_copyOf_3) ?_
  refine jlk_cons (sm_cS (x := yJ29_copyOf_2) (r9 := kr_6) (host := "") (owner := "") isSP (i_J29_copyOf_2 hI) B q1233 q1234 w4_J29_copyOf_2 w6_J29_copyOf_2 (by decide) hy_J29_copyOf_2 hl_J29_copyOf_2 dJ29_copyOf_6 trivial) ?_
  refine jlk_cons (sm_aret B.1 B.2.1 hret (Or.inr ⟨_, rfl⟩) dJ29_copyOf_9) ?_
  exact jlk_nil
theorem v_J29_copyOf (hst : l.stackTraces = false) (hz : jEz (EV (d + 1))) (hI : jIH l D dA lo cs0 d) : jMe l D dA lo cs0 (EV (d + 1)) 365 yJ29_copyOf (ws_ yJ29_copyOf cJ29_copyOf 2 (Option.some (Jvm.ClassFile.FieldType.array (Jvm.ClassFile.FieldType.object "java/lang/Object")))) (d + 1) := z_meth hz rfl hp_J29_copyOf (r_J29_copyOf hst hI)
theorem r_J9_max (hst : l.stackTraces = false) (hI : jIH l D dA lo cs0 d) : jRows l D dA lo cs0 d 2 (tb_J9_max (EV d)) yJ9_max cJ9_max (Option.some Jvm.ClassFile.FieldType.int) [] := by
  intro p e R s m args below meth c z0 w0 zF wF Q rF hF B hz hw hret hnm
  refine jlk_cons (sm_iload_n rfl B.1 dJ9_max_0) ?_
  refine jlk_cons (sm_iload_n rfl B.1 dJ9_max_1) ?_
  refine jlk_cons (sm_icmplt rfl B.1 dJ9_max_2) ?_
  refine jlk_cons (sm_iload_n rfl B.1 dJ9_max_5) ?_
  refine jlk_cons (sm_goto rfl B.1 dJ9_max_6) ?_
  refine jlk_cons (sm_iload_n rfl B.1 dJ9_max_9) ?_
  refine jlk_cons (sm_iret B.1 B.2.1 hret dJ9_max_10) ?_
  exact jlk_nil
theorem v_J9_max (hst : l.stackTraces = false) (hz : jEz (EV (d + 1))) (hI : jIH l D dA lo cs0 d) : jMe l D dA lo cs0 (EV (d + 1)) 366 yJ9_max (ws_ yJ9_max cJ9_max 2 (Option.some Jvm.ClassFile.FieldType.int)) (d + 1) := z_meth hz rfl hp_J9_max (r_J9_max hst hI)
theorem r_J7_indexOf (hst : l.stackTraces = false) (hI : jIH l D dA lo cs0 d) : jRows l D dA lo cs0 d 2 (tb_J7_indexOf (EV d)) yJ7_indexOf cJ7_indexOf (Option.some Jvm.ClassFile.FieldType.int) [] := by
  intro p e R s m args below meth c z0 w0 zF wF Q rF hF B hz hw hret hnm
  refine jlk_cons (sm_aload_n rfl B.1 dJ7_indexOf_0) ?_
  refine jlk_cons (sm_iload_n rfl B.1 dJ7_indexOf_1) ?_
  refine jlk_cons (sm_iconst rfl B.1 dJ7_indexOf_2) ?_
  refine jlk_cons (sm_cV (x := yJ7_indexOf_2) (host := "") (owner := "") isRI (i_J7_indexOf_2 hI) B q2515 q2516 q2517 w4_J7_indexOf_2 w6_J7_indexOf_2 (by decide) (by decide) (by decide) kc_23 hy_J7_indexOf_2 hl_J7_indexOf_2 dJ7_indexOf_3 trivial) ?_
  refine jlk_cons (sm_iret B.1 B.2.1 hret dJ7_indexOf_6) ?_
  exact jlk_nil
theorem v_J7_indexOf (hst : l.stackTraces = false) (hz : jEz (EV (d + 1))) (hI : jIH l D dA lo cs0 d) : jMe l D dA lo cs0 (EV (d + 1)) 368 yJ7_indexOf (ws_ yJ7_indexOf cJ7_indexOf 2 (Option.some Jvm.ClassFile.FieldType.int)) (d + 1) := z_meth hz rfl hp_J7_indexOf (r_J7_indexOf hst hI)
theorem r_J24_init_3 (hst : l.stackTraces = false) (hI : jIH l D dA lo cs0 d) : jRows l D dA lo cs0 d 5 (tb_J24_init_3 (EV d)) yJ24_init_3 cJ24_init_3 (Option.none : Option Jvm.ClassFile.FieldType) [] := by
  intro p e R s m args below meth c z0 w0 zF wF Q rF hF B hz hw hret hnm
  refine jlk_cons (sm_aload_n rfl B.1 dJ24_init_3_0) ?_
  refine jlk_cons (sm_aload_n rfl B.1 dJ24_init_3_1) ?_
  refine jlk_cons (sm_aload_n rfl B.1 dJ24_init_3_2) ?_
  refine jlk_cons (sm_iload_n rfl B.1 dJ24_init_3_3) ?_
  refine jlk_cons (sm_iload B.1 dJ24_init_3_4) ?_
  refine jlk_cons (sm_cI (x := yJ23_init_3) (r9 := kr_6) (host := "") (owner := "") isNV (i_J23_init_3 hI) B q2325 q2326 w4_J23_init_3 w6_J23_init_3 (by decide) rfl hy_J23_init_3 hl_J23_init_3 dJ24_init_3_6 trivial) ?_
  refine jlk_cons (sm_vret B.1 B.2.1 hret dJ24_init_3_9) ?_
  exact jlk_nil
theorem v_J24_init_3 (hst : l.stackTraces = false) (hz : jEz (EV (d + 1))) (hI : jIH l D dA lo cs0 d) : jMe l D dA lo cs0 (EV (d + 1)) 369 yJ24_init_3 (ws_ yJ24_init_3 cJ24_init_3 5 (Option.none : Option Jvm.ClassFile.FieldType)) (d + 1) := z_meth hz rfl hp_J24_init_3 (r_J24_init_3 hst hI)
theorem r_J40_ensureCapacity (hst : l.stackTraces = false) (hI : jIH l D dA lo cs0 d) : jRows l D dA lo cs0 d 3 (tb_J40_ensureCapacity (EV d)) yJ40_ensureCapacity cJ40_ensureCapacity (Option.none : Option Jvm.ClassFile.FieldType) [] := by
  intro p e R s m args below meth c z0 w0 zF wF Q rF hF B hz hw hret hnm
  refine jlk_cons (sm_aload_n rfl B.1 dJ40_ensureCapacity_0) ?_
  refine jlk_cons (sm_getP B.1 fl_java_util_BitSet_11_36_148 dJ40_ensureCapacity_1) ?_
  refine jlk_cons (sm_alen B.1 (t := 105) (by decide) rfl dJ40_ensureCapacity_4) ?_
  refine jlk_cons (sm_iload_n rfl B.1 dJ40_ensureCapacity_5) ?_
  refine jlk_cons (sm_icmpge rfl B.1 dJ40_ensureCapacity_6) ?_
  refine jlk_cons (sm_iconst rfl B.1 dJ40_ensureCapacity_9) ?_
  refine jlk_cons (sm_aload_n rfl B.1 dJ40_ensureCapacity_10) ?_
  refine jlk_cons (sm_getP B.1 fl_java_util_BitSet_11_36_148 dJ40_ensureCapacity_11) ?_
  refine jlk_cons (sm_alen B.1 (t := 105) (by decide) rfl dJ40_ensureCapacity_14) ?_
  refine jlk_cons (sm_imul B.1 dJ40_ensureCapacity_15) ?_
  refine jlk_cons (sm_iload_n rfl B.1 dJ40_ensureCapacity_16) ?_
  refine jlk_cons (sm_cS (x := yJ9_max) (r9 := kr_6) (host := "") (owner := "") isSI (i_J9_max hI) B q1901 q1223 w4_J9_max w6_J9_max (by decide) hy_J9_max hl_J9_max dJ40_ensureCapacity_17 trivial) ?_
  refine jlk_cons (sm_istore_n rfl B.1 dJ40_ensureCapacity_20) ?_
  refine jlk_cons (sm_aload_n rfl B.1 dJ40_ensureCapacity_21) ?_
  refine jlk_cons (sm_aload_n rfl B.1 dJ40_ensureCapacity_22) ?_
  refine jlk_cons (sm_getP B.1 fl_java_util_BitSet_11_36_148 dJ40_ensureCapacity_23) ?_
  refine jlk_cons (sm_iload_n rfl B.1 dJ40_ensureCapacity_26) ?_
  refine jlk_cons (sm_cS (x := yJ29_copyOf_4) (r9 := kr_6) (host := "") (owner := "") isSP (i_J29_copyOf_4 hI) B q1902 q1903 w4_J29_copyOf_4 w6_J29_copyOf_4 (by decide) hy_J29_copyOf_4 hl_J29_copyOf_4 dJ40_ensureCapacity_27 trivial) ?_
  refine jlk_cons (sm_putP B.1 fl_java_util_BitSet_11_36_148 tyJ40 tyJ40_ok nmJ40 (Or.inl rfl) rfl (tyJ40_ok 0 (by decide)) rfl (by decide) dJ40_ensureCapacity_30) ?_
  refine jlk_cons (sm_aload_n rfl B.1 dJ40_ensureCapacity_33) ?_
  refine jlk_cons (sm_iconst rfl B.1 dJ40_ensureCapacity_34) ?_
  refine jlk_cons (sm_putZ B.1 fl_java_util_BitSet_24_36_150 tyJ40 tyJ40_ok nmJ40 (Or.inl rfl) (tyJ40_ok 2 (by decide)) rfl (by decide) dJ40_ensureCapacity_35) ?_
  refine jlk_cons (sm_vret B.1 B.2.1 hret dJ40_ensureCapacity_38) ?_
  exact jlk_nil
theorem v_J40_ensureCapacity (hst : l.stackTraces = false) (hz : jEz (EV (d + 1))) (hI : jIH l D dA lo cs0 d) : jMe l D dA lo cs0 (EV (d + 1)) 370 yJ40_ensureCapacity (ws_ yJ40_ensureCapacity cJ40_ensureCapacity 3 (Option.none : Option Jvm.ClassFile.FieldType)) (d + 1) := z_meth hz rfl hp_J40_ensureCapacity (r_J40_ensureCapacity hst hI)
theorem r_J40_initWords (hst : l.stackTraces = false) (hI : jIH l D dA lo cs0 d) : jRows l D dA lo cs0 d 2 (tb_J40_initWords (EV d)) yJ40_initWords cJ40_initWords (Option.none : Option Jvm.ClassFile.FieldType) [] := by
  intro p e R s m args below meth c z0 w0 zF wF Q rF hF B hz hw hret hnm
  refine jlk_cons (sm_aload_n rfl B.1 dJ40_initWords_0) ?_
  refine jlk_cons (sm_iload_n rfl B.1 dJ40_initWords_1) ?_
  refine jlk_cons (sm_iconst rfl B.1 dJ40_initWords_2) ?_
  refine jlk_cons (sm_isub B.1 dJ40_initWords_3) ?_
  refine jlk_cons (sm_cS (x := yJ40_wordIndex) (r9 := kr_6) (host := "") (owner := "") isSI (i_J40_wordIndex hI) B q1581 q1582 w4_J40_wordIndex w6_J40_wordIndex (by decide) hy_J40_wordIndex hl_J40_wordIndex dJ40_initWords_4 trivial) ?_
  refine jlk_cons (sm_iconst rfl B.1 dJ40_initWords_7) ?_
  refine jlk_cons (sm_iadd B.1 dJ40_initWords_8) ?_
  refine jlk_cons (sm_newA B.1 (at9 := .long) rfl (by decide) rfl (by decide) hc_105 (fun _ => rfl) q1594 B.2.2.2 hz hw dJ40_initWords_9) ?_
  refine jlk_cons (sm_putP B.1 fl_java_util_BitSet_11_36_148 tyJ40 tyJ40_ok nmJ40 (Or.inl rfl) rfl (tyJ40_ok 0 (by decide)) rfl (by decide) dJ40_initWords_11) ?_
  refine jlk_cons (sm_vret B.1 B.2.1 hret dJ40_initWords_14) ?_
  exact jlk_nil
theorem v_J40_initWords (hst : l.stackTraces = false) (hz : jEz (EV (d + 1))) (hI : jIH l D dA lo cs0 d) : jMe l D dA lo cs0 (EV (d + 1)) 371 yJ40_initWords (ws_ yJ40_initWords cJ40_initWords 2 (Option.none : Option Jvm.ClassFile.FieldType)) (d + 1) := z_meth hz rfl hp_J40_initWords (r_J40_initWords hst hI)
theorem r_J40_recalculateWordsInUse (hst : l.stackTraces = false) (hI : jIH l D dA lo cs0 d) : jRows l D dA lo cs0 d 2 (tb_J40_recalculateWordsInUse (EV d)) yJ40_recalculateWordsInUse cJ40_recalculateWordsInUse (Option.none : Option Jvm.ClassFile.FieldType) [] := by
  intro p e R s m args below meth c z0 w0 zF wF Q rF hF B hz hw hret hnm
  refine jlk_cons (sm_aload_n rfl B.1 dJ40_recalculateWordsInUse_0) ?_
  refine jlk_cons (sm_getI B.1 fl_java_util_BitSet_7_36_149 dJ40_recalculateWordsInUse_1) ?_
  refine jlk_cons (sm_iconst rfl B.1 dJ40_recalculateWordsInUse_4) ?_
  refine jlk_cons (sm_isub B.1 dJ40_recalculateWordsInUse_5) ?_
  refine jlk_cons (sm_istore_n rfl B.1 dJ40_recalculateWordsInUse_6) ?_
  refine jlk_cons (sm_iload_n rfl B.1 dJ40_recalculateWordsInUse_7) ?_
  refine jlk_cons (sm_iflt rfl B.1 dJ40_recalculateWordsInUse_8) ?_
  refine jlk_cons (sm_aload_n rfl B.1 dJ40_recalculateWordsInUse_11) ?_
  refine jlk_cons (sm_getP B.1 fl_java_util_BitSet_11_36_148 dJ40_recalculateWordsInUse_12) ?_
  refine jlk_cons (sm_iload_n rfl B.1 dJ40_recalculateWordsInUse_15) ?_
  refine jlk_cons (sm_lald B.1 dJ40_recalculateWordsInUse_16) ?_
  refine jlk_cons (sm_lconst rfl B.1 dJ40_recalculateWordsInUse_17) ?_
  refine jlk_cons (sm_lcmp B.1 dJ40_recalculateWordsInUse_18) ?_
  refine jlk_cons (sm_ifeq rfl B.1 dJ40_recalculateWordsInUse_19) ?_
  refine jlk_cons (sm_goto rfl B.1 dJ40_recalculateWordsInUse_22) ?_
  refine jlk_cons (sm_iinc rfl B.1 dJ40_recalculateWordsInUse_25) ?_
  refine jlk_cons (sm_goto rfl B.1 dJ40_recalculateWordsInUse_28) ?_
  refine jlk_cons (sm_aload_n rfl B.1 dJ40_recalculateWordsInUse_31) ?_
  refine jlk_cons (sm_iload_n rfl B.1 dJ40_recalculateWordsInUse_32) ?_
  refine jlk_cons (sm_iconst rfl B.1 dJ40_recalculateWordsInUse_33) ?_
  refine jlk_cons (sm_iadd B.1 dJ40_recalculateWordsInUse_34) ?_
  refine jlk_cons (sm_putI B.1 fl_java_util_BitSet_7_36_149 tyJ40 tyJ40_ok nmJ40 (Or.inl rfl) (tyJ40_ok 1 (by decide)) rfl (by decide) dJ40_recalculateWordsInUse_35) ?_
  refine jlk_cons (sm_vret B.1 B.2.1 hret dJ40_recalculateWordsInUse_38) ?_
  exact jlk_nil
theorem v_J40_recalculateWordsInUse (hst : l.stackTraces = false) (hz : jEz (EV (d + 1))) (hI : jIH l D dA lo cs0 d) : jMe l D dA lo cs0 (EV (d + 1)) 372 yJ40_recalculateWordsInUse (ws_ yJ40_recalculateWordsInUse cJ40_recalculateWordsInUse 2 (Option.none : Option Jvm.ClassFile.FieldType)) (d + 1) := z_meth hz rfl hp_J40_recalculateWordsInUse (r_J40_recalculateWordsInUse hst hI)
theorem r_J36_grow (hst : l.stackTraces = false) (hI : jIH l D dA lo cs0 d) : jRows l D dA lo cs0 d 4 (tb_J36_grow (EV d)) yJ36_grow cJ36_grow (Option.none : Option Jvm.ClassFile.FieldType) [] := by
  intro p e R s m args below meth c z0 w0 zF wF Q rF hF B hz hw hret hnm
  refine jlk_cons (sm_aload_n rfl B.1 dJ36_grow_0) ?_
  refine jlk_cons (sm_getP B.1 fl_java_util_PriorityQueue_17_34_143 dJ36_grow_1) ?_
  refine jlk_cons (sm_alen B.1 (t := 107) (by decide) rfl dJ36_grow_4) ?_
  refine jlk_cons (sm_istore_n rfl B.1 dJ36_grow_5) ?_
  refine jlk_cons (sm_iload_n rfl B.1 dJ36_grow_6) ?_
  refine jlk_cons (sm_iload_n rfl B.1 dJ36_grow_7) ?_
  refine jlk_cons (sm_iload_n rfl B.1 dJ36_grow_8) ?_
  refine jlk_cons (sm_isub B.1 dJ36_grow_9) ?_
  refine jlk_cons (sm_iload_n rfl B.1 dJ36_grow_10) ?_
  refine jlk_cons (sm_bipush rfl B.1 dJ36_grow_11) ?_
  refine jlk_cons (sm_icmpge rfl B.1 dJ36_grow_13) ?_
  refine jlk_cons (sm_iload_n rfl B.1 dJ36_grow_16) ?_
  refine jlk_cons (sm_iconst rfl B.1 dJ36_grow_17) ?_
  refine jlk_cons (sm_iadd B.1 dJ36_grow_18) ?_
  refine jlk_cons (sm_goto rfl B.1 dJ36_grow_19) ?_
  refine jlk_cons (sm_iload_n rfl B.1 dJ36_grow_22) ?_
  refine jlk_cons (sm_iconst rfl B.1 dJ36_grow_23) ?_
  refine jlk_cons (sm_ishr B.1 dJ36_grow_24) ?_
  refine jlk_cons (sm_cS (x := yJ10_newLength) (r9 := kr_6) (host := "") (owner := "") isSI (i_J10_newLength hI) B q2022 q1220 w4_J10_newLength w6_J10_newLength (by decide) hy_J10_newLength hl_J10_newLength dJ36_grow_25 trivial) ?_
  refine jlk_cons (sm_istore_n rfl B.1 dJ36_grow_28) ?_
  refine jlk_cons (sm_aload_n rfl B.1 dJ36_grow_29) ?_
  refine jlk_cons (sm_aload_n rfl B.1 dJ36_grow_30) ?_
  refine jlk_cons (sm_getP B.1 fl_java_util_PriorityQueue_17_34_143 dJ36_grow_31) ?_
  refine jlk_cons (sm_iload_n rfl B.1 dJ36_grow_34) ?_
  refine jlk_cons (sm_cS (x := yJ29_copyOf) (r9 := kr_6) (host := "") (owner := "") isSP (i_J29_copyOf hI) B q1430 q1230 w4_J29_copyOf w6_J29_copyOf (by decide) hy_J29_copyOf hl_J29_copyOf dJ36_grow_35 trivial) ?_
  refine jlk_cons (sm_putP B.1 fl_java_util_PriorityQueue_17_34_143 tyJ36 tyJ36_ok nmJ36 (Or.inl rfl) rfl (tyJ36_ok 0 (by decide)) rfl (by decide) dJ36_grow_38) ?_
  refine jlk_cons (sm_vret B.1 B.2.1 hret dJ36_grow_41) ?_
  exact jlk_nil
theorem v_J36_grow (hst : l.stackTraces = false) (hz : jEz (EV (d + 1))) (hI : jIH l D dA lo cs0 d) : jMe l D dA lo cs0 (EV (d + 1)) 373 yJ36_grow (ws_ yJ36_grow cJ36_grow 4 (Option.none : Option Jvm.ClassFile.FieldType)) (d + 1) := z_meth hz rfl hp_J36_grow (r_J36_grow hst hI)
theorem r_J36_siftUp (hst : l.stackTraces = false) (hI : jIH l D dA lo cs0 d) : jRows l D dA lo cs0 d 3 (tb_J36_siftUp (EV d)) yJ36_siftUp cJ36_siftUp (Option.none : Option Jvm.ClassFile.FieldType) [] := by
  intro p e R s m args below meth c z0 w0 zF wF Q rF hF B hz hw hret hnm
  refine jlk_cons (sm_aload_n rfl B.1 dJ36_siftUp_0) ?_
  refine jlk_cons (sm_getP B.1 fl_java_util_PriorityQueue_21_34_145 dJ36_siftUp_1) ?_
  refine jlk_cons (sm_ifnull rfl B.1 dJ36_siftUp_4) ?_
  refine jlk_cons (sm_iload_n rfl B.1 dJ36_siftUp_7) ?_
  refine jlk_cons (sm_aload_n rfl B.1 dJ36_siftUp_8) ?_
  refine jlk_cons (sm_aload_n rfl B.1 dJ36_siftUp_9) ?_
  refine jlk_cons (sm_getP B.1 fl_java_util_PriorityQueue_17_34_143 dJ36_siftUp_10) ?_
  refine jlk_cons (sm_aload_n rfl B.1 dJ36_siftUp_13) ?_
  refine jlk_cons (sm_getP B.1 fl_java_util_PriorityQueue_21_34_145 dJ36_siftUp_14) ?_
  refine jlk_cons (sm_cS (x := yJ36_siftUpUsingComparator) (r9 := kr_6) (host := "") (owner := "") isSV (i_J36_siftUpUsingComparator hI) B q2027 q2028 w4_J36_siftUpUsingComparator w6_J36_siftUpUsingComparator (by decide) hy_J36_siftUpUsingComparator hl_J36_siftUpUsingComparator dJ36_siftUp_17 trivial) ?_
  refine jlk_cons (sm_goto rfl B.1 dJ36_siftUp_20) ?_
  refine jlk_cons (sm_iload_n rfl B.1 dJ36_siftUp_23) ?_
  refine jlk_cons (sm_aload_n rfl B.1 dJ36_siftUp_24) ?_
  refine jlk_cons (sm_aload_n rfl B.1 dJ36_siftUp_25) ?_
  refine jlk_cons (sm_getP B.1 fl_java_util_PriorityQueue_17_34_143 dJ36_siftUp_26) ?_
  refine jlk_cons (sm_vret B.1 B.2.1 hret dJ36_siftUp_32) ?_
  exact jlk_nil
theorem v_J36_siftUp (hst : l.stackTraces = false) (hz : jEz (EV (d + 1))) (hI : jIH l D dA lo cs0 d) : jMe l D dA lo cs0 (EV (d + 1)) 374 yJ36_siftUp (ws_ yJ36_siftUp cJ36_siftUp 3 (Option.none : Option Jvm.ClassFile.FieldType)) (d + 1) := z_meth hz rfl hp_J36_siftUp (r_J36_siftUp hst hI)
theorem r_J36_indexOf (hst : l.stackTraces = false) (hI : jIH l D dA lo cs0 d) : jRows l D dA lo cs0 d 5 (tb_J36_indexOf (EV d)) yJ36_indexOf cJ36_indexOf (Option.some Jvm.ClassFile.FieldType.int) [] := by
  intro p e R s m args below meth c z0 w0 zF wF Q rF hF B hz hw hret hnm
  refine jlk_cons (sm_aload_n rfl B.1 dJ36_indexOf_0) ?_
  refine jlk_cons (sm_ifnull rfl B.1 dJ36_indexOf_1) ?_
  refine jlk_cons (sm_aload_n rfl B.1 dJ36_indexOf_4) ?_
  refine jlk_cons (sm_getP B.1 fl_java_util_PriorityQueue_17_34_143 dJ36_indexOf_5) ?_
  refine jlk_cons (sm_astore_n rfl B.1 dJ36_indexOf_8) ?_
  refine jlk_cons (sm_iconst rfl B.1 dJ36_indexOf_9) ?_
  refine jlk_cons (sm_istore_n rfl B.1 dJ36_indexOf_10) ?_
  refine jlk_cons (sm_aload_n rfl B.1 dJ36_indexOf_11) ?_
  refine jlk_cons (sm_getI B.1 fl_java_util_PriorityQueue_58_34_144 dJ36_indexOf_12) ?_
  refine jlk_cons (sm_istore B.1 dJ36_indexOf_15) ?_
  refine jlk_cons (sm_iload_n rfl B.1 dJ36_indexOf_17) ?_
  refine jlk_cons (sm_iload B.1 dJ36_indexOf_18) ?_
  refine jlk_cons (sm_icmpge rfl B.1 dJ36_indexOf_20) ?_
  refine jlk_cons (sm_aload_n rfl B.1 dJ36_indexOf_23) ?_
  refine jlk_cons (sm_aload_n rfl B.1 dJ36_indexOf_24) ?_
  refine jlk_cons (sm_iload_n rfl B.1 dJ36_indexOf_25) ?_
  refine jlk_cons (sm_aald B.1 (t := 107) (by decide) rfl dJ36_indexOf_26) ?_
  refine jlk_cons (sm_cV (x := yJ44_equals) (host := "") (owner := "") isRI (i_J44_equals hI) B q2074 q755 q759 w4_J44_equals w6_J44_equals (by decide) (by decide) (by decide) kc_12 hy_J44_equals hl_J44_equals dJ36_indexOf_27 trivial) ?_
  refine jlk_cons (sm_ifeq rfl B.1 dJ36_indexOf_30) ?_
  refine jlk_cons (sm_iload_n rfl B.1 dJ36_indexOf_33) ?_
  refine jlk_cons (sm_iret B.1 B.2.1 hret dJ36_indexOf_34) ?_
  refine jlk_cons (sm_iinc rfl B.1 dJ36_indexOf_35) ?_
  refine jlk_cons (sm_goto rfl B.1 dJ36_indexOf_38) ?_
  refine jlk_cons (sm_iconst rfl B.1 dJ36_indexOf_41) ?_
  refine jlk_cons (sm_iret B.1 B.2.1 hret dJ36_indexOf_42) ?_
  exact jlk_nil
theorem v_J36_indexOf (hst : l.stackTraces = false) (hz : jEz (EV (d + 1))) (hI : jIH l D dA lo cs0 d) : jMe l D dA lo cs0 (EV (d + 1)) 375 yJ36_indexOf (ws_ yJ36_indexOf cJ36_indexOf 5 (Option.some Jvm.ClassFile.FieldType.int)) (d + 1) := z_meth hz rfl hp_J36_indexOf (r_J36_indexOf hst hI)
theorem r_J36_removeAt (hst : l.stackTraces = false) (hI : jIH l D dA lo cs0 d) : jRows l D dA lo cs0 d 5 (tb_J36_removeAt (EV d)) yJ36_removeAt cJ36_removeAt (Option.some (Jvm.ClassFile.FieldType.object "java/lang/Object")) [] := by
  intro p e R s m args below meth c z0 w0 zF wF Q rF hF B hz hw hret hnm
  refine jlk_app ?_ ?_
  · refine jlk_cons (sm_aload_n rfl B.1 dJ36_removeAt_0) ?_
    refine jlk_cons (sm_getP B.1 fl_java_util_PriorityQueue_17_34_143 dJ36_removeAt_1) ?_
    refine jlk_cons (sm_astore_n rfl B.1 dJ36_removeAt_4) ?_
    refine jlk_cons (sm_aload_n rfl B.1 dJ36_removeAt_5) ?_
    refine jlk_cons (sm_dup B.1 dJ36_removeAt_6) ?_
    refine jlk_cons (sm_getI B.1 fl_java_util_PriorityQueue_93_34_146 dJ36_removeAt_7) ?_
    refine jlk_cons (sm_iconst rfl B.1 dJ36_removeAt_10) ?_
    refine jlk_cons (sm_iadd B.1 dJ36_removeAt_11) ?_
    refine jlk_cons (sm_putI B.1 fl_java_util_PriorityQueue_93_34_146 tyJ36 tyJ36_ok nmJ36 (Or.inl rfl) (tyJ36_ok 3 (by decide)) rfl (by decide) dJ36_removeAt_12) ?_
    refine jlk_cons (sm_aload_n rfl B.1 dJ36_removeAt_15) ?_
    refine jlk_cons (sm_dup B.1 dJ36_removeAt_16) ?_
    refine jlk_cons (sm_getI B.1 fl_java_util_PriorityQueue_58_34_144 dJ36_removeAt_17) ?_
    refine jlk_cons (sm_iconst rfl B.1 dJ36_removeAt_20) ?_
    refine jlk_cons (sm_isub B.1 dJ36_removeAt_21) ?_
    refine jlk_cons (sm_dup_x1 B.1 dJ36_removeAt_22) ?_
    refine jlk_cons (sm_putI B.1 fl_java_util_PriorityQueue_58_34_144 tyJ36 tyJ36_ok nmJ36 (Or.inl rfl) (tyJ36_ok 1 (by decide)) rfl (by decide) dJ36_removeAt_23) ?_
    refine jlk_cons (sm_istore_n rfl B.1 dJ36_removeAt_26) ?_
    refine jlk_cons (sm_iload_n rfl B.1 dJ36_removeAt_27) ?_
    refine jlk_cons (sm_iload_n rfl B.1 dJ36_removeAt_28) ?_
    refine jlk_cons (sm_icmpne rfl B.1 dJ36_removeAt_29) ?_
    refine jlk_cons (sm_aload_n rfl B.1 dJ36_removeAt_32) ?_
    refine jlk_cons (sm_iload_n rfl B.1 dJ36_removeAt_33) ?_
    refine jlk_cons (sm_null B.1 dJ36_removeAt_34) ?_
    refine jlk_cons (sm_aast B.1 (t := 107) (by decide) (by decide) rfl (List.forall_mem_cons.mpr ⟨⟨by decide, by decide, _, kc_3, Or.inr q3472⟩, (List.forall_mem_cons.mpr ⟨⟨by decide, by decide, _, kc_7, Or.inr q3481⟩, (List.forall_mem_cons.mpr ⟨⟨by decide, by decide, _, kc_11, Or.inr q3488⟩, (List.forall_mem_cons.mpr ⟨⟨by decide, by decide, _, kc_12, Or.inr q3493⟩, (List.forall_mem_cons.mpr ⟨⟨by decide, by decide, _, kc_13, Or.inr q3496⟩, (List.forall_mem_cons.mpr ⟨⟨by decide, by decide, _, kc_21, Or.inr q3466⟩, (List.forall_mem_cons.mpr ⟨⟨by decide, by decide, _, kc_24, Or.inr q3468⟩, (List.forall_mem_cons.mpr ⟨⟨by decide, by decide, _, kc_35, Or.inr q3487⟩, (List.forall_mem_nil _)⟩)⟩)⟩)⟩)⟩)⟩)⟩)⟩) dJ36_removeAt_35) ?_
    refine jlk_cons (sm_goto rfl B.1 dJ36_removeAt_36) ?_
    refine jlk_cons (sm_aload_n rfl B.1 dJ36_removeAt_39) ?_
    refine jlk_cons (sm_iload_n rfl B.1 dJ36_removeAt_40) ?_
    refine jlk_cons (sm_aald B.1 (t := 107) (by decide) rfl dJ36_removeAt_41) ?_
    refine jlk_cons (sm_astore B.1 dJ36_removeAt_42) ?_
    refine jlk_cons (sm_aload_n rfl B.1 dJ36_removeAt_44) ?_
    refine jlk_cons (sm_iload_n rfl B.1 dJ36_removeAt_45) ?_
    refine jlk_cons (sm_null B.1 dJ36_removeAt_46) ?_
    refine jlk_cons (sm_aast B.1 (t := 107) (by decide) (by decide) rfl (List.forall_mem_cons.mpr ⟨⟨by decide, by decide, _, kc_3, Or.inr q3472⟩, (List.forall_mem_cons.mpr ⟨⟨by decide, by decide, _, kc_7, Or.inr q3481⟩, (List.forall_mem_cons.mpr ⟨⟨by decide, by decide, _, kc_11, Or.inr q3488⟩, (List.forall_mem_cons.mpr ⟨⟨by decide, by decide, _, kc_12, Or.inr q3493⟩, (List.forall_mem_cons.mpr ⟨⟨by decide, by decide, _, kc_13, Or.inr q3496⟩, (List.forall_mem_cons.mpr ⟨⟨by decide, by decide, _, kc_21, Or.inr q3466⟩, (List.forall_mem_cons.mpr ⟨⟨by decide, by decide, _, kc_24, Or.inr q3468⟩, (List.forall_mem_cons.mpr ⟨⟨by decide, by decide, _, kc_35, Or.inr q3487⟩, (List.forall_mem_nil _)⟩)⟩)⟩)⟩)⟩)⟩)⟩)⟩) dJ36_removeAt_47) ?_
    refine jlk_cons (sm_aload_n rfl B.1 dJ36_removeAt_48) ?_
    refine jlk_cons (sm_iload_n rfl B.1 dJ36_removeAt_49) ?_
    refine jlk_cons (sm_aload B.1 dJ36_removeAt_50) ?_
    refine jlk_cons (sm_cV (x := yJ36_siftDown) (host := "") (owner := "") isRV (i_J36_siftDown hI) B q2079 q2081 qs32 w4_J36_siftDown w6_J36_siftDown (by decide) (by decide) (by decide) kc_34 hy_J36_siftDown hl_J36_siftDown dJ36_removeAt_52 trivial) ?_
    refine jlk_cons (sm_aload_n rfl B.1 dJ36_removeAt_55) ?_
    refine jlk_cons (sm_iload_n rfl B.1 dJ36_removeAt_56) ?_
    refine jlk_cons (sm_aald B.1 (t := 107) (by decide) rfl dJ36_removeAt_57) ?_
    exact jlk_nil
  · skip
    refine jlk_cons (sm_aload B.1 dJ36_removeAt_58) ?_
    refine jlk_cons (sm_acmpne rfl B.1 dJ36_removeAt_60) ?_
    refine jlk_cons (sm_aload_n rfl B.1 dJ36_removeAt_63) ?_
    refine jlk_cons (sm_iload_n rfl B.1 dJ36_removeAt_64) ?_
    refine jlk_cons (sm_aload B.1 dJ36_removeAt_65) ?_
    refine jlk_cons (sm_cV (x := yJ36_siftUp) (host := "") (owner := "") isRV (i_J36_siftUp hI) B q2023 q2025 qs27 w4_J36_siftUp w6_J36_siftUp (by decide) (by decide) (by decide) kc_34 hy_J36_siftUp hl_J36_siftUp dJ36_removeAt_67 trivial) ?_
    refine jlk_cons (sm_aload_n rfl B.1 dJ36_removeAt_70) ?_
    refine jlk_cons (sm_iload_n rfl B.1 dJ36_removeAt_71) ?_
    refine jlk_cons (sm_aald B.1 (t := 107) (by decide) rfl dJ36_removeAt_72) ?_
    refine jlk_cons (sm_aload B.1 dJ36_removeAt_73) ?_
    refine jlk_cons (sm_acmpeq rfl B.1 dJ36_removeAt_75) ?_
    refine jlk_cons (sm_aload B.1 dJ36_removeAt_78) ?_
    refine jlk_cons (sm_aret B.1 B.2.1 hret (Or.inl ⟨_, rfl⟩) dJ36_removeAt_80) ?_
    refine jlk_cons (sm_null B.1 dJ36_removeAt_81) ?_
    refine jlk_cons (sm_aret B.1 B.2.1 hret (Or.inl ⟨_, rfl⟩) dJ36_removeAt_82) ?_
    exact jlk_nil
theorem v_J36_removeAt (hst : l.stackTraces = false) (hz : jEz (EV (d + 1))) (hI : jIH l D dA lo cs0 d) : jMe l D dA lo cs0 (EV (d + 1)) 376 yJ36_removeAt (ws_ yJ36_removeAt cJ36_removeAt 5 (Option.some (Jvm.ClassFile.FieldType.object "java/lang/Object"))) (d + 1) := z_meth hz rfl hp_J36_removeAt (r_J36_removeAt hst hI)
theorem r_J7_indexOf_2 (hst : l.stackTraces = false) (hI : jIH l D dA lo cs0 d) : jRows l D dA lo cs0 d 3 (tb_J7_indexOf_2 (EV d)) yJ7_indexOf_2 cJ7_indexOf_2 (Option.some Jvm.ClassFile.FieldType.int) [] := by
  intro p e R s m args below meth c z0 w0 zF wF Q rF hF B hz hw hret hnm
  refine jlk_cons (sm_aload_n rfl B.1 dJ7_indexOf_2_0) ?_
  refine jlk_cons (sm_cV (x := yJ7_isLatin1) (host := "") (owner := "") isRI (i_J7_isLatin1 hI) B q2519 q2520 q2521 w4_J7_isLatin1 w6_J7_isLatin1 (by decide) (by decide) (by decide) kc_23 hy_J7_isLatin1 hl_J7_isLatin1 dJ7_indexOf_2_1 trivial) ?_
  refine jlk_cons (sm_ifeq rfl B.1 dJ7_indexOf_2_4) ?_
  refine jlk_cons (sm_aload_n rfl B.1 dJ7_indexOf_2_7) ?_
  refine jlk_cons (sm_getP B.1 fl_java_lang_String_9_23_127 dJ7_indexOf_2_8) ?_
  refine jlk_cons (sm_iload_n rfl B.1 dJ7_indexOf_2_11) ?_
  refine jlk_cons (sm_iload_n rfl B.1 dJ7_indexOf_2_12) ?_
  refine jlk_cons (sm_aload_n rfl B.1 dJ7_indexOf_2_13) ?_
  refine jlk_cons (sm_aload_n rfl B.1 dJ7_indexOf_2_23) ?_
  refine jlk_cons (sm_getP B.1 fl_java_lang_String_9_23_127 dJ7_indexOf_2_24) ?_
  refine jlk_cons (sm_iload_n rfl B.1 dJ7_indexOf_2_27) ?_
  refine jlk_cons (sm_iload_n rfl B.1 dJ7_indexOf_2_28) ?_
  refine jlk_cons (sm_aload_n rfl B.1 dJ7_indexOf_2_29) ?_
  exact jlk_nil
theorem v_J7_indexOf_2 (hst : l.stackTraces = false) (hz : jEz (EV (d + 1))) (hI : jIH l D dA lo cs0 d) : jMe l D dA lo cs0 (EV (d + 1)) 377 yJ7_indexOf_2 (ws_ yJ7_indexOf_2 cJ7_indexOf_2 3 (Option.some Jvm.ClassFile.FieldType.int)) (d + 1) := z_meth hz rfl hp_J7_indexOf_2 (r_J7_indexOf_2 hst hI)
theorem r_J23_init_3 (hst : l.stackTraces = false) (hI : jIH l D dA lo cs0 d) : jRows l D dA lo cs0 d 5 (tb_J23_init_3 (EV d)) yJ23_init_3 cJ23_init_3 (Option.none : Option Jvm.ClassFile.FieldType) [] := by
  intro p e R s m args below meth c z0 w0 zF wF Q rF hF B hz hw hret hnm
  refine jlk_cons (sm_aload_n rfl B.1 dJ23_init_3_0) ?_
  refine jlk_cons (sm_obj B.1 q972 q196 q197 dJ23_init_3_1) ?_
  refine jlk_cons (sm_aload_n rfl B.1 dJ23_init_3_4) ?_
  refine jlk_cons (sm_aload_n rfl B.1 dJ23_init_3_5) ?_
  refine jlk_cons (sm_putPM B.1 (List.forall_mem_cons.mpr ⟨⟨_, _, _, _, _, tyX6, fl_java_lang_Throwable_7_6_65, tyX6_ok, nmX6, Or.inl rfl, ⟨_, rfl, tyX6_ok 0 (by decide)⟩, rfl, by decide⟩, (List.forall_mem_cons.mpr ⟨⟨_, _, _, _, _, tyX19, fl_java_lang_Throwable_7_19_65, tyX19_ok, nmX19, Or.inl rfl, ⟨_, rfl, tyX19_ok 0 (by decide)⟩, rfl, by decide⟩, (List.forall_mem_nil _)⟩)⟩) dJ23_init_3_6) ?_
  refine jlk_cons (sm_aload_n rfl B.1 dJ23_init_3_9) ?_
  refine jlk_cons (sm_cstS B.1 (List.mem_of_getElem? (i := 11) rfl) q973 dJ23_init_3_10) ?_
  refine jlk_cons (sm_putPM B.1 (List.forall_mem_cons.mpr ⟨⟨_, _, _, _, _, tyX6, fl_java_lang_Throwable_17_6_66, tyX6_ok, nmX6, Or.inl rfl, ⟨_, rfl, tyX6_ok 1 (by decide)⟩, rfl, by decide⟩, (List.forall_mem_cons.mpr ⟨⟨_, _, _, _, _, tyX19, fl_java_lang_Throwable_17_19_66, tyX19_ok, nmX19, Or.inl rfl, ⟨_, rfl, tyX19_ok 1 (by decide)⟩, rfl, by decide⟩, (List.forall_mem_nil _)⟩)⟩) dJ23_init_3_13) ?_
  refine jlk_cons (sm_aload_n rfl B.1 dJ23_init_3_16) ?_
  refine jlk_cons (sm_cstS B.1 (List.mem_of_getElem? (i := 12) rfl) q975 dJ23_init_3_17) ?_
  refine jlk_cons (sm_putPM B.1 (List.forall_mem_cons.mpr ⟨⟨_, _, _, _, _, tyX6, fl_java_lang_Throwable_24_6_67, tyX6_ok, nmX6, Or.inl rfl, ⟨_, rfl, tyX6_ok 2 (by decide)⟩, rfl, by decide⟩, (List.forall_mem_cons.mpr ⟨⟨_, _, _, _, _, tyX19, fl_java_lang_Throwable_24_19_67, tyX19_ok, nmX19, Or.inl rfl, ⟨_, rfl, tyX19_ok 2 (by decide)⟩, rfl, by decide⟩, (List.forall_mem_nil _)⟩)⟩) dJ23_init_3_20) ?_
  refine jlk_cons (sm_iload B.1 dJ23_init_3_23) ?_
  refine jlk_cons (sm_ifeq rfl B.1 dJ23_init_3_25) ?_
  refine jlk_cons (sm_aload_n rfl B.1 dJ23_init_3_28) ?_
  refine jlk_cons (sm_aload_n rfl B.1 dJ23_init_3_36) ?_
  refine jlk_cons (sm_null B.1 dJ23_init_3_37) ?_
  refine jlk_cons (sm_putPM B.1 (List.forall_mem_cons.mpr ⟨⟨_, _, _, _, _, tyX6, fl_java_lang_Throwable_17_6_66, tyX6_ok, nmX6, Or.inl rfl, ⟨_, rfl, tyX6_ok 1 (by decide)⟩, rfl, by decide⟩, (List.forall_mem_cons.mpr ⟨⟨_, _, _, _, _, tyX19, fl_java_lang_Throwable_17_19_66, tyX19_ok, nmX19, Or.inl rfl, ⟨_, rfl, tyX19_ok 1 (by decide)⟩, rfl, by decide⟩, (List.forall_mem_nil _)⟩)⟩) dJ23_init_3_38) ?_
  refine jlk_cons (sm_aload_n rfl B.1 dJ23_init_3_41) ?_
  refine jlk_cons (sm_aload_n rfl B.1 dJ23_init_3_42) ?_
  refine jlk_cons (sm_putPM B.1 (List.forall_mem_cons.mpr ⟨⟨_, _, _, _, _, tyX6, fl_java_lang_Throwable_31_6_68, tyX6_ok, nmX6, Or.inl rfl, ⟨_, rfl, tyX6_ok 3 (by decide)⟩, rfl, by decide⟩, (List.forall_mem_cons.mpr ⟨⟨_, _, _, _, _, tyX19, fl_java_lang_Throwable_31_19_68, tyX19_ok, nmX19, Or.inl rfl, ⟨_, rfl, tyX19_ok 3 (by decide)⟩, rfl, by decide⟩, (List.forall_mem_nil _)⟩)⟩) dJ23_init_3_43) ?_
  refine jlk_cons (sm_aload_n rfl B.1 dJ23_init_3_46) ?_
  refine jlk_cons (sm_aload_n rfl B.1 dJ23_init_3_47) ?_
  refine jlk_cons (sm_putPM B.1 (List.forall_mem_cons.mpr ⟨⟨_, _, _, _, _, tyX6, fl_java_lang_Throwable_7_6_65, tyX6_ok, nmX6, Or.inl rfl, ⟨_, rfl, tyX6_ok 0 (by decide)⟩, rfl, by decide⟩, (List.forall_mem_cons.mpr ⟨⟨_, _, _, _, _, tyX19, fl_java_lang_Throwable_7_19_65, tyX19_ok, nmX19, Or.inl rfl, ⟨_, rfl, tyX19_ok 0 (by decide)⟩, rfl, by decide⟩, (List.forall_mem_nil _)⟩)⟩) dJ23_init_3_48) ?_
  refine jlk_cons (sm_iload_n rfl B.1 dJ23_init_3_51) ?_
  refine jlk_cons (sm_ifne rfl B.1 dJ23_init_3_52) ?_
  refine jlk_cons (sm_aload_n rfl B.1 dJ23_init_3_55) ?_
  refine jlk_cons (sm_null B.1 dJ23_init_3_56) ?_
  refine jlk_cons (sm_putPM B.1 (List.forall_mem_cons.mpr ⟨⟨_, _, _, _, _, tyX6, fl_java_lang_Throwable_24_6_67, tyX6_ok, nmX6, Or.inl rfl, ⟨_, rfl, tyX6_ok 2 (by decide)⟩, rfl, by decide⟩, (List.forall_mem_cons.mpr ⟨⟨_, _, _, _, _, tyX19, fl_java_lang_Throwable_24_19_67, tyX19_ok, nmX19, Or.inl rfl, ⟨_, rfl, tyX19_ok 2 (by decide)⟩, rfl, by decide⟩, (List.forall_mem_nil _)⟩)⟩) dJ23_init_3_57) ?_
  refine jlk_cons (sm_vret B.1 B.2.1 hret dJ23_init_3_60) ?_
  exact jlk_nil
theorem v_J23_init_3 (hst : l.stackTraces = false) (hz : jEz (EV (d + 1))) (hI : jIH l D dA lo cs0 d) : jMe l D dA lo cs0 (EV (d + 1)) 378 yJ23_init_3 (ws_ yJ23_init_3 cJ23_init_3 5 (Option.none : Option Jvm.ClassFile.FieldType)) (d + 1) := z_meth hz rfl hp_J23_init_3 (r_J23_init_3 hst hI)
theorem r_J36_siftUpUsingComparator (hst : l.stackTraces = false) (hI : jIH l D dA lo cs0 d) : jRows l D dA lo cs0 d 6 (tb_J36_siftUpUsingComparator (EV d)) yJ36_siftUpUsingComparator cJ36_siftUpUsingComparator (Option.none : Option Jvm.ClassFile.FieldType) [] := by
  intro p e R s m args below meth c z0 w0 zF wF Q rF hF B hz hw hret hnm
  refine jlk_cons (sm_iload_n rfl B.1 dJ36_siftUpUsingComparator_0) ?_
  refine jlk_cons (sm_ifle rfl B.1 dJ36_siftUpUsingComparator_1) ?_
  refine jlk_cons (sm_iload_n rfl B.1 dJ36_siftUpUsingComparator_4) ?_
  refine jlk_cons (sm_iconst rfl B.1 dJ36_siftUpUsingComparator_5) ?_
  refine jlk_cons (sm_isub B.1 dJ36_siftUpUsingComparator_6) ?_
  refine jlk_cons (sm_iconst rfl B.1 dJ36_siftUpUsingComparator_7) ?_
  refine jlk_cons (sm_iushr B.1 dJ36_siftUpUsingComparator_8) ?_
  refine jlk_cons (sm_istore B.1 dJ36_siftUpUsingComparator_9) ?_
  refine jlk_cons (sm_aload_n rfl B.1 dJ36_siftUpUsingComparator_11) ?_
  refine jlk_cons (sm_iload B.1 dJ36_siftUpUsingComparator_12) ?_
  refine jlk_cons (sm_aald B.1 (t := 107) (by decide) rfl dJ36_siftUpUsingComparator_14) ?_
  refine jlk_cons (sm_astore B.1 dJ36_siftUpUsingComparator_15) ?_
  refine jlk_cons (sm_aload_n rfl B.1 dJ36_siftUpUsingComparator_17) ?_
  refine jlk_cons (sm_aload_n rfl B.1 dJ36_siftUpUsingComparator_18) ?_
  refine jlk_cons (sm_aload B.1 dJ36_siftUpUsingComparator_19) ?_
  refine jlk_cons (sm_cF (x := ⟨"java/util/Comparator", "compare", "(Ljava/lang/Object;Ljava/lang/Object;)I"⟩) (host := "") (owner := "") isRI (i_X9_compare hI) B (List.mem_of_getElem? (i := 12) rfl) q2031 q613 q615 w4_X9_compare w6_X9_compare (by decide) (by decide) (by decide) kc_9 (hl_X9_compare : _) dJ36_siftUpUsingComparator_21 trivial) ?_
  refine jlk_cons (sm_iflt rfl B.1 dJ36_siftUpUsingComparator_26) ?_
  refine jlk_cons (sm_goto rfl B.1 dJ36_siftUpUsingComparator_29) ?_
  refine jlk_cons (sm_aload_n rfl B.1 dJ36_siftUpUsingComparator_32) ?_
  refine jlk_cons (sm_iload_n rfl B.1 dJ36_siftUpUsingComparator_33) ?_
  refine jlk_cons (sm_aload B.1 dJ36_siftUpUsingComparator_34) ?_
  refine jlk_cons (sm_aast B.1 (t := 107) (by decide) (by decide) rfl (List.forall_mem_cons.mpr ⟨⟨by decide, by decide, _, kc_3, Or.inr q3472⟩, (List.forall_mem_cons.mpr ⟨⟨by decide, by decide, _, kc_7, Or.inr q3481⟩, (List.forall_mem_cons.mpr ⟨⟨by decide, by decide, _, kc_11, Or.inr q3488⟩, (List.forall_mem_cons.mpr ⟨⟨by decide, by decide, _, kc_12, Or.inr q3493⟩, (List.forall_mem_cons.mpr ⟨⟨by decide, by decide, _, kc_13, Or.inr q3496⟩, (List.forall_mem_cons.mpr ⟨⟨by decide, by decide, _, kc_21, Or.inr q3466⟩, (List.forall_mem_cons.mpr ⟨⟨by decide, by decide, _, kc_24, Or.inr q3468⟩, (List.forall_mem_cons.mpr ⟨⟨by decide, by decide, _, kc_35, Or.inr q3487⟩, (List.forall_mem_nil _)⟩)⟩)⟩)⟩)⟩)⟩)⟩)⟩) dJ36_siftUpUsingComparator_36) ?_
  refine jlk_cons (sm_iload B.1 dJ36_siftUpUsingComparator_37) ?_
  refine jlk_cons (sm_istore_n rfl B.1 dJ36_siftUpUsingComparator_39) ?_
  refine jlk_cons (sm_goto rfl B.1 dJ36_siftUpUsingComparator_40) ?_
  refine jlk_cons (sm_aload_n rfl B.1 dJ36_siftUpUsingComparator_43) ?_
  refine jlk_cons (sm_iload_n rfl B.1 dJ36_siftUpUsingComparator_44) ?_
  refine jlk_cons (sm_aload_n rfl B.1 dJ36_siftUpUsingComparator_45) ?_
  refine jlk_cons (sm_aast B.1 (t := 107) (by decide) (by decide) rfl (List.forall_mem_cons.mpr ⟨⟨by decide, by decide, _, kc_3, Or.inr q3472⟩, (List.forall_mem_cons.mpr ⟨⟨by decide, by decide, _, kc_7, Or.inr q3481⟩, (List.forall_mem_cons.mpr ⟨⟨by decide, by decide, _, kc_11, Or.inr q3488⟩, (List.forall_mem_cons.mpr ⟨⟨by decide, by decide, _, kc_12, Or.inr q3493⟩, (List.forall_mem_cons.mpr ⟨⟨by decide, by decide, _, kc_13, Or.inr q3496⟩, (List.forall_mem_cons.mpr ⟨⟨by decide, by decide, _, kc_21, Or.inr q3466⟩, (List.forall_mem_cons.mpr ⟨⟨by decide, by decide, _, kc_24, Or.inr q3468⟩, (List.forall_mem_cons.mpr ⟨⟨by decide, by decide, _, kc_35, Or.inr q3487⟩, (List.forall_mem_nil _)⟩)⟩)⟩)⟩)⟩)⟩)⟩)⟩) dJ36_siftUpUsingComparator_46) ?_
  refine jlk_cons (sm_vret B.1 B.2.1 hret dJ36_siftUpUsingComparator_47) ?_
  exact jlk_nil
theorem v_J36_siftUpUsingComparator (hst : l.stackTraces = false) (hz : jEz (EV (d + 1))) (hI : jIH l D dA lo cs0 d) : jMe l D dA lo cs0 (EV (d + 1)) 379 yJ36_siftUpUsingComparator (ws_ yJ36_siftUpUsingComparator cJ36_siftUpUsingComparator 6 (Option.none : Option Jvm.ClassFile.FieldType)) (d + 1) := z_meth hz rfl hp_J36_siftUpUsingComparator (r_J36_siftUpUsingComparator hst hI)
theorem r_J36_siftDown (hst : l.stackTraces = false) (hI : jIH l D dA lo cs0 d) : jRows l D dA lo cs0 d 3 (tb_J36_siftDown (EV d)) yJ36_siftDown cJ36_siftDown (Option.none : Option Jvm.ClassFile.FieldType) [] := by
  intro p e R s m args below meth c z0 w0 zF wF Q rF hF B hz hw hret hnm
  refine jlk_cons (sm_aload_n rfl B.1 dJ36_siftDown_0) ?_
  refine jlk_cons (sm_getP B.1 fl_java_util_PriorityQueue_21_34_145 dJ36_siftDown_1) ?_
  refine jlk_cons (sm_ifnull rfl B.1 dJ36_siftDown_4) ?_
  refine jlk_cons (sm_iload_n rfl B.1 dJ36_siftDown_7) ?_
  refine jlk_cons (sm_aload_n rfl B.1 dJ36_siftDown_8) ?_
  refine jlk_cons (sm_aload_n rfl B.1 dJ36_siftDown_9) ?_
  refine jlk_cons (sm_getP B.1 fl_java_util_PriorityQueue_17_34_143 dJ36_siftDown_10) ?_
  refine jlk_cons (sm_aload_n rfl B.1 dJ36_siftDown_13) ?_
  refine jlk_cons (sm_getI B.1 fl_java_util_PriorityQueue_58_34_144 dJ36_siftDown_14) ?_
  refine jlk_cons (sm_aload_n rfl B.1 dJ36_siftDown_17) ?_
  refine jlk_cons (sm_getP B.1 fl_java_util_PriorityQueue_21_34_145 dJ36_siftDown_18) ?_
  refine jlk_cons (sm_cS (x := yJ36_siftDownUsingComparator) (r9 := kr_6) (host := "") (owner := "") isSV (i_J36_siftDownUsingComparator hI) B q2051 q2052 w4_J36_siftDownUsingComparator w6_J36_siftDownUsingComparator (by decide) hy_J36_siftDownUsingComparator hl_J36_siftDownUsingComparator dJ36_siftDown_21 trivial) ?_
  refine jlk_cons (sm_goto rfl B.1 dJ36_siftDown_24) ?_
  refine jlk_cons (sm_iload_n rfl B.1 dJ36_siftDown_27) ?_
  refine jlk_cons (sm_aload_n rfl B.1 dJ36_siftDown_28) ?_
  refine jlk_cons (sm_aload_n rfl B.1 dJ36_siftDown_29) ?_
  refine jlk_cons (sm_getP B.1 fl_java_util_PriorityQueue_17_34_143 dJ36_siftDown_30) ?_
  refine jlk_cons (sm_aload_n rfl B.1 dJ36_siftDown_33) ?_
  refine jlk_cons (sm_getI B.1 fl_java_util_PriorityQueue_58_34_144 dJ36_siftDown_34) ?_
  refine jlk_cons (sm_vret B.1 B.2.1 hret dJ36_siftDown_40) ?_
  exact jlk_nil
theorem v_J36_siftDown (hst : l.stackTraces = false) (hz : jEz (EV (d + 1))) (hI : jIH l D dA lo cs0 d) : jMe l D dA lo cs0 (EV (d + 1)) 380 yJ36_siftDown (ws_ yJ36_siftDown cJ36_siftDown 3 (Option.none : Option Jvm.ClassFile.FieldType)) (d + 1) := z_meth hz rfl hp_J36_siftDown (r_J36_siftDown hst hI)
theorem r_J7_isLatin1 (hst : l.stackTraces = false) (hI : jIH l D dA lo cs0 d) : jRows l D dA lo cs0 d 1 (tb_J7_isLatin1 (EV d)) yJ7_isLatin1 cJ7_isLatin1 (Option.some Jvm.ClassFile.FieldType.boolean) [] := by
  intro p e R s m args below meth c z0 w0 zF wF Q rF hF B hz hw hret hnm
  refine jlk_cons (sm_getsI B.1 (List.mem_of_getElem? (i := 1) rfl) q412 dJ7_isLatin1_0) ?_
  refine jlk_cons (sm_ifeq rfl B.1 dJ7_isLatin1_3) ?_
  refine jlk_cons (sm_aload_n rfl B.1 dJ7_isLatin1_6) ?_
  refine jlk_cons (sm_getI B.1 fl_java_lang_String_15_23_128 dJ7_isLatin1_7) ?_
  refine jlk_cons (sm_ifne rfl B.1 dJ7_isLatin1_10) ?_
  refine jlk_cons (sm_iconst rfl B.1 dJ7_isLatin1_13) ?_
  refine jlk_cons (sm_goto rfl B.1 dJ7_isLatin1_14) ?_
  refine jlk_cons (sm_iconst rfl B.1 dJ7_isLatin1_17) ?_
  refine jlk_cons (sm_zret B.1 B.2.1 hret dJ7_isLatin1_18) ?_
  exact jlk_nil
theorem v_J7_isLatin1 (hst : l.stackTraces = false) (hz : jEz (EV (d + 1))) (hI : jIH l D dA lo cs0 d) : jMe l D dA lo cs0 (EV (d + 1)) 381 yJ7_isLatin1 (ws_ yJ7_isLatin1 cJ7_isLatin1 1 (Option.some Jvm.ClassFile.FieldType.boolean)) (d + 1) := z_meth hz rfl hp_J7_isLatin1 (r_J7_isLatin1 hst hI)
theorem r_J8_indexOf (hst : l.stackTraces = false) (hI : jIH l D dA lo cs0 d) : jRows l D dA lo cs0 d 4 (tb_J8_indexOf (EV d)) yJ8_indexOf cJ8_indexOf (Option.some Jvm.ClassFile.FieldType.int) [] := by
  intro p e R s m args below meth c z0 w0 zF wF Q rF hF B hz hw hret hnm
  refine jlk_cons (sm_iload_n rfl B.1 dJ8_indexOf_0) ?_
  refine jlk_cons (sm_cS (x := yJ8_canEncode) (r9 := kr_6) (host := "") (owner := "") isSI (i_J8_canEncode hI) B q2527 q2528 w4_J8_canEncode w6_J8_canEncode (by decide) hy_J8_canEncode hl_J8_canEncode dJ8_indexOf_1 trivial) ?_
  refine jlk_cons (sm_ifne rfl B.1 dJ8_indexOf_4) ?_
  refine jlk_cons (sm_iconst rfl B.1 dJ8_indexOf_7) ?_
  refine jlk_cons (sm_iret B.1 B.2.1 hret dJ8_indexOf_8) ?_
  refine jlk_cons (sm_iload_n rfl B.1 dJ8_indexOf_9) ?_
  refine jlk_cons (sm_iconst rfl B.1 dJ8_indexOf_10) ?_
  refine jlk_cons (sm_cS (x := yJ9_max) (r9 := kr_6) (host := "") (owner := "") isSI (i_J9_max hI) B q2530 q1223 w4_J9_max w6_J9_max (by decide) hy_J9_max hl_J9_max dJ8_indexOf_11 trivial) ?_
  refine jlk_cons (sm_istore_n rfl B.1 dJ8_indexOf_14) ?_
  refine jlk_cons (sm_iload_n rfl B.1 dJ8_indexOf_15) ?_
  refine jlk_cons (sm_aload_n rfl B.1 dJ8_indexOf_16) ?_
  refine jlk_cons (sm_alen0 B.1 (by decide) (fun q => q.2.1) dJ8_indexOf_17) ?_
  refine jlk_cons (sm_cS (x := yJ9_min) (r9 := kr_6) (host := "") (owner := "") isSI (i_J9_min hI) B q420 q421 w4_J9_min w6_J9_min (by decide) hy_J9_min hl_J9_min dJ8_indexOf_18 trivial) ?_
  refine jlk_cons (sm_istore_n rfl B.1 dJ8_indexOf_21) ?_
  refine jlk_cons (sm_iload_n rfl B.1 dJ8_indexOf_22) ?_
  refine jlk_cons (sm_iload_n rfl B.1 dJ8_indexOf_23) ?_
  refine jlk_cons (sm_icmplt rfl B.1 dJ8_indexOf_24) ?_
  refine jlk_cons (sm_iconst rfl B.1 dJ8_indexOf_27) ?_
  refine jlk_cons (sm_iret B.1 B.2.1 hret dJ8_indexOf_28) ?_
  refine jlk_cons (sm_aload_n rfl B.1 dJ8_indexOf_29) ?_
  refine jlk_cons (sm_iload_n rfl B.1 dJ8_indexOf_30) ?_
  refine jlk_cons (sm_iload_n rfl B.1 dJ8_indexOf_31) ?_
  refine jlk_cons (sm_iload_n rfl B.1 dJ8_indexOf_32) ?_
  refine jlk_cons (sm_cS (x := yJ8_indexOfChar) (r9 := kr_6) (host := "") (owner := "") isSI (i_J8_indexOfChar hI) B q2531 q2532 w4_J8_indexOfChar w6_J8_indexOfChar (by decide) hy_J8_indexOfChar hl_J8_indexOfChar dJ8_indexOf_33 trivial) ?_
  refine jlk_cons (sm_iret B.1 B.2.1 hret dJ8_indexOf_36) ?_
  exact jlk_nil
theorem v_J8_indexOf (hst : l.stackTraces = false) (hz : jEz (EV (d + 1))) (hI : jIH l D dA lo cs0 d) : jMe l D dA lo cs0 (EV (d + 1)) 382 yJ8_indexOf (ws_ yJ8_indexOf cJ8_indexOf 4 (Option.some Jvm.ClassFile.FieldType.int)) (d + 1) := z_meth hz rfl hp_J8_indexOf (r_J8_indexOf hst hI)
theorem r_J8_canEncode (hst : l.stackTraces = false) (hI : jIH l D dA lo cs0 d) : jRows l D dA lo cs0 d 1 (tb_J8_canEncode (EV d)) yJ8_canEncode cJ8_canEncode (Option.some Jvm.ClassFile.FieldType.boolean) [] := by
  intro p e R s m args below meth c z0 w0 zF wF Q rF hF B hz hw hret hnm
  refine jlk_cons (sm_iload_n rfl B.1 dJ8_canEncode_0) ?_
  refine jlk_cons (sm_iflt rfl B.1 dJ8_canEncode_1) ?_
  refine jlk_cons (sm_iload_n rfl B.1 dJ8_canEncode_4) ?_
  refine jlk_cons (sm_sipush rfl B.1 dJ8_canEncode_5) ?_
  refine jlk_cons (sm_icmpgt rfl B.1 dJ8_canEncode_8) ?_
  refine jlk_cons (sm_iconst rfl B.1 dJ8_canEncode_11) ?_
  refine jlk_cons (sm_goto rfl B.1 dJ8_canEncode_12) ?_
  refine jlk_cons (sm_iconst rfl B.1 dJ8_canEncode_15) ?_
  refine jlk_cons (sm_zret B.1 B.2.1 hret dJ8_canEncode_16) ?_
  exact jlk_nil
theorem v_J8_canEncode (hst : l.stackTraces = false) (hz : jEz (EV (d + 1))) (hI : jIH l D dA lo cs0 d) : jMe l D dA lo cs0 (EV (d + 1)) 383 yJ8_canEncode (ws_ yJ8_canEncode cJ8_canEncode 1 (Option.some Jvm.ClassFile.FieldType.boolean)) (d + 1) := z_meth hz rfl hp_J8_canEncode (r_J8_canEncode hst hI)
theorem r_J8_indexOfChar (hst : l.stackTraces = false) (hI : jIH l D dA lo cs0 d) : jRows l D dA lo cs0 d 6 (tb_J8_indexOfChar (EV d)) yJ8_indexOfChar cJ8_indexOfChar (Option.some Jvm.ClassFile.FieldType.int) [] := by
  intro p e R s m args below meth c z0 w0 zF wF Q rF hF B hz hw hret hnm
  refine jlk_cons (sm_iload_n rfl B.1 dJ8_indexOfChar_0) ?_
  refine jlk_cons (sm_i2b B.1 dJ8_indexOfChar_1) ?_
  refine jlk_cons (sm_istore B.1 dJ8_indexOfChar_2) ?_
  refine jlk_cons (sm_iload_n rfl B.1 dJ8_indexOfChar_4) ?_
  refine jlk_cons (sm_istore B.1 dJ8_indexOfChar_5) ?_
  refine jlk_cons (sm_iload B.1 dJ8_indexOfChar_7) ?_
  refine jlk_cons (sm_iload_n rfl B.1 dJ8_indexOfChar_9) ?_
  refine jlk_cons (sm_icmpge rfl B.1 dJ8_indexOfChar_10) ?_
  refine jlk_cons (sm_aload_n rfl B.1 dJ8_indexOfChar_13) ?_
  refine jlk_cons (sm_iload B.1 dJ8_indexOfChar_14) ?_
  refine jlk_cons (sm_bald B.1 dJ8_indexOfChar_16) ?_
  refine jlk_cons (sm_iload B.1 dJ8_indexOfChar_17) ?_
  refine jlk_cons (sm_icmpne rfl B.1 dJ8_indexOfChar_19) ?_
  refine jlk_cons (sm_iload B.1 dJ8_indexOfChar_22) ?_
  refine jlk_cons (sm_iret B.1 B.2.1 hret dJ8_indexOfChar_24) ?_
  refine jlk_cons (sm_iinc rfl B.1 dJ8_indexOfChar_25) ?_
  refine jlk_cons (sm_goto rfl B.1 dJ8_indexOfChar_28) ?_
  refine jlk_cons (sm_iconst rfl B.1 dJ8_indexOfChar_31) ?_
  refine jlk_cons (sm_iret B.1 B.2.1 hret dJ8_indexOfChar_32) ?_
  exact jlk_nil
theorem v_J8_indexOfChar (hst : l.stackTraces = false) (hz : jEz (EV (d + 1))) (hI : jIH l D dA lo cs0 d) : jMe l D dA lo cs0 (EV (d + 1)) 384 yJ8_indexOfChar (ws_ yJ8_indexOfChar cJ8_indexOfChar 6 (Option.some Jvm.ClassFile.FieldType.int)) (d + 1) := z_meth hz rfl hp_J8_indexOfChar (r_J8_indexOfChar hst hI)
end ROWS
