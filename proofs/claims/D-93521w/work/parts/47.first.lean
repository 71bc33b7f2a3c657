/-! THE FIRST HEAP (own work) -/
set_option maxRecDepth 100000
set_option maxHeartbeats 4000000
section FIRST
variable {s : State} {b : Nat}
theorem sl_ar0 : (Jvm.Cond.arrayOf (Jvm.Term.static "java/util/ArrayList" "DEFAULTCAPACITY_EMPTY_ELEMENTDATA" "[Ljava/lang/Object;") (Jvm.ClassFile.FieldType.object "java/lang/Object")) ∈ flatC stT := List.mem_of_getElem? (i := 5) (by decide +kernel)
theorem sl_ex0 : (Jvm.Cond.exactly (Jvm.Term.static "java/util/ArrayList" "DEFAULTCAPACITY_EMPTY_ELEMENTDATA" "[Ljava/lang/Object;") "[Ljava/lang/Object;") ∈ flatC stT := List.mem_of_getElem? (i := 6) (by decide +kernel)
theorem sl_ln0 : (Jvm.Cond.eq (Jvm.Term.length (Jvm.Term.static "java/util/ArrayList" "DEFAULTCAPACITY_EMPTY_ELEMENTDATA" "[Ljava/lang/Object;")) (Jvm.Term.int (0 : Int32))) ∈ flatC stT := List.mem_of_getElem? (i := 7) (by decide +kernel)
theorem sl_ar1 : (Jvm.Cond.arrayOf (Jvm.Term.static "java/util/ArrayList" "EMPTY_ELEMENTDATA" "[Ljava/lang/Object;") (Jvm.ClassFile.FieldType.object "java/lang/Object")) ∈ flatC stT := List.mem_of_getElem? (i := 35) (by decide +kernel)
theorem sl_ex1 : (Jvm.Cond.exactly (Jvm.Term.static "java/util/ArrayList" "EMPTY_ELEMENTDATA" "[Ljava/lang/Object;") "[Ljava/lang/Object;") ∈ flatC stT := List.mem_of_getElem? (i := 36) (by decide +kernel)
theorem sl_ln1 : (Jvm.Cond.eq (Jvm.Term.length (Jvm.Term.static "java/util/ArrayList" "EMPTY_ELEMENTDATA" "[Ljava/lang/Object;")) (Jvm.Term.int (0 : Int32))) ∈ flatC stT := List.mem_of_getElem? (i := 37) (by decide +kernel)
theorem sl_ne01 : (Jvm.Cond.not (Jvm.Cond.eq (Jvm.Term.static "java/util/ArrayList" "DEFAULTCAPACITY_EMPTY_ELEMENTDATA" "[Ljava/lang/Object;") (Jvm.Term.static "java/util/ArrayList" "EMPTY_ELEMENTDATA" "[Ljava/lang/Object;"))) ∈ flatC stT := List.mem_of_getElem? (i := 38) (by decide +kernel)
theorem sl_pr : (Jvm.Cond.exactly (Jvm.Term.static "java/util/TreeSet" "PRESENT" "Ljava/lang/Object;") "java/lang/Object") ∈ flatC stT := List.mem_of_getElem? (i := 30) (by decide +kernel)
theorem sl_car : (Jvm.Cond.arrayOf (Jvm.Term.static "java/lang/Integer$IntegerCache" "cache" "[Ljava/lang/Integer;") (Jvm.ClassFile.FieldType.object "java/lang/Integer")) ∈ flatC stT := List.mem_of_getElem? (i := 10) (by decide +kernel)
theorem sl_cln : (Jvm.Cond.eq (Jvm.Term.length (Jvm.Term.static "java/lang/Integer$IntegerCache" "cache" "[Ljava/lang/Integer;")) (Jvm.Term.int (256 : Int32))) ∈ flatC stT := List.mem_of_getElem? (i := 11) (by decide +kernel)
theorem sl_call : (Jvm.Cond.all (Jvm.Term.static "java/lang/Integer$IntegerCache" "cache" "[Ljava/lang/Integer;") (Jvm.Cond.and (Jvm.Cond.exactly (Jvm.Term.elem (Jvm.Term.static "java/lang/Integer$IntegerCache" "cache" "[Ljava/lang/Integer;") (Jvm.Term.index (0 : Nat))) "java/lang/Integer") (Jvm.Cond.eq (Jvm.Term.field (Jvm.Term.elem (Jvm.Term.static "java/lang/Integer$IntegerCache" "cache" "[Ljava/lang/Integer;") (Jvm.Term.index (0 : Nat))) "java/lang/Integer" "value" "I") (Jvm.Term.sub (Jvm.Term.index (0 : Nat)) (Jvm.Term.int (128 : Int32)))))) ∈ flatC stT := List.mem_of_getElem? (i := 12) (by decide +kernel)
theorem sl_hi : (Jvm.Cond.eq (Jvm.Term.static "java/lang/Integer$IntegerCache" "high" "I") (Jvm.Term.int (127 : Int32))) ∈ flatC stT := List.mem_of_getElem? (i := 8) (by decide +kernel)
theorem sl_cs : (Jvm.Cond.eq (Jvm.Term.static "java/lang/String" "COMPACT_STRINGS" "Z") (Jvm.Term.int (1 : Int32))) ∈ flatC stT := List.mem_of_getElem? (i := 13) (by decide +kernel)
theorem sl_bs : (Jvm.Cond.eq (Jvm.Term.static "java/util/BitSet" "$assertionsDisabled" "Z") (Jvm.Term.int (1 : Int32))) ∈ flatC stT := List.mem_of_getElem? (i := 245) (by decide +kernel)
theorem sl_us : (Jvm.Cond.isRef (Jvm.Term.static "java/lang/Throwable" "UNASSIGNED_STACK" "[Ljava/lang/StackTraceElement;")) ∈ flatC stT := List.mem_of_getElem? (i := 26) (by decide +kernel)
theorem sl_ss : (Jvm.Cond.isRef (Jvm.Term.static "java/lang/Throwable" "SUPPRESSED_SENTINEL" "Ljava/util/List;")) ∈ flatC stT := List.mem_of_getElem? (i := 27) (by decide +kernel)
theorem sl_tx : (Jvm.Cond.exactly (Jvm.Term.string "PointerAnalyzer$Reader" (45 : Nat)) "java/lang/String") ∈ flatC stT := List.mem_of_getElem? (i := 1137) (by decide +kernel)
theorem sl_tco : (Jvm.Cond.eq (Jvm.Term.field (Jvm.Term.string "PointerAnalyzer$Reader" (45 : Nat)) "java/lang/String" "coder" "B") (Jvm.Term.int (0 : Int32))) ∈ flatC stT := List.mem_of_getElem? (i := 1138) (by decide +kernel)
theorem sl_tar : (Jvm.Cond.arrayOf (Jvm.Term.field (Jvm.Term.string "PointerAnalyzer$Reader" (45 : Nat)) "java/lang/String" "value" "[B") Jvm.ClassFile.FieldType.byte) ∈ flatC stT := List.mem_of_getElem? (i := 1139) (by decide +kernel)
theorem sl_tln : (Jvm.Cond.eq (Jvm.Term.length (Jvm.Term.field (Jvm.Term.string "PointerAnalyzer$Reader" (45 : Nat)) "java/lang/String" "value" "[B")) (Jvm.Term.int (8 : Int32))) ∈ flatC stT := List.mem_of_getElem? (i := 1140) (by decide +kernel)
theorem sl_tel : ∀ j, j < 8 → (flatC stT)[1141 + j]? = some (Cond.eq (.elem (.field (.string "PointerAnalyzer$Reader" 45) "java/lang/String" "value" "[B") (.int (Int32.ofNat j))) (.int (([97, 98, 99, 100, 112, 114, 120, 121] : List Int32).getD j 0))) := by decide +kernel
theorem sl_m0 : (Jvm.Cond.isRef (Jvm.Term.mirror "java/util/ArrayList")) ∈ flatC stT := List.mem_of_getElem? (i := 915) (by decide +kernel)
theorem sl_m1 : (Jvm.Cond.isRef (Jvm.Term.mirror "java/util/TreeSet")) ∈ flatC stT := List.mem_of_getElem? (i := 1082) (by decide +kernel)
theorem sl_m2 : (Jvm.Cond.isRef (Jvm.Term.mirror "[Ljava/lang/Object;")) ∈ flatC stT := List.mem_of_getElem? (i := 913) (by decide +kernel)
theorem sl_mne : (Jvm.Cond.not (Jvm.Cond.eq (Jvm.Term.mirror "java/util/ArrayList") (Jvm.Term.mirror "java/util/TreeSet"))) ∈ flatC stT := List.mem_of_getElem? (i := 1085) (by decide +kernel)
theorem sw_0 : Cond.laysStatic "java/util/ArrayList" "DEFAULTCAPACITY_EMPTY_ELEMENTDATA" "[Ljava/lang/Object;" ∈ lw_tbl := q252
theorem si_0 : Cond.initialized "java/util/ArrayList" ∈ lw_tbl := (lw_all_tbl q129)
theorem sw_1 : Cond.laysStatic "java/util/ArrayList" "EMPTY_ELEMENTDATA" "[Ljava/lang/Object;" ∈ lw_tbl := q1543
theorem si_1 : Cond.initialized "java/util/ArrayList" ∈ lw_tbl := (lw_all_tbl q129)
theorem sw_pr : Cond.laysStatic "java/util/TreeSet" "PRESENT" "Ljava/lang/Object;" ∈ lw_tbl := q1395
theorem si_pr : Cond.initialized "java/util/TreeSet" ∈ lw_tbl := (lw_all_tbl q174)
theorem sw_c : Cond.laysStatic "java/lang/Integer$IntegerCache" "cache" "[Ljava/lang/Integer;" ∈ lw_tbl := q274
theorem si_c : Cond.initialized "java/lang/Integer$IntegerCache" ∈ lw_tbl := (lw_all_tbl q132)
theorem sw_us : Cond.laysStatic "java/lang/Throwable" "UNASSIGNED_STACK" "[Ljava/lang/StackTraceElement;" ∈ lw_tbl := q974
theorem si_us : Cond.initialized "java/lang/Throwable" ∈ lw_tbl := (lw_all_tbl q150)
theorem sw_ss : Cond.laysStatic "java/lang/Throwable" "SUPPRESSED_SENTINEL" "Ljava/util/List;" ∈ lw_tbl := q976
theorem si_ss : Cond.initialized "java/lang/Throwable" ∈ lw_tbl := (lw_all_tbl q150)
theorem sw_hi : Cond.laysStatic "java/lang/Integer$IntegerCache" "high" "I" ∈ lw_tbl := q272
theorem si_hi : Cond.initialized "java/lang/Integer$IntegerCache" ∈ lw_tbl := (lw_all_tbl q132)
theorem sw_cs : Cond.laysStatic "java/lang/String" "COMPACT_STRINGS" "Z" ∈ lw_tbl := q413
theorem si_cs : Cond.initialized "java/lang/String" ∈ lw_tbl := (lw_all_tbl q133)
theorem sw_bs : Cond.laysStatic "java/util/BitSet" "$assertionsDisabled" "Z" ∈ lw_tbl := q1915
theorem si_bs : Cond.initialized "java/util/BitSet" ∈ lw_tbl := (lw_all_tbl q179)
theorem sw_tx : Cond.stringRef "PointerAnalyzer$Reader" 45 "abcdprxy" ∈ lw_tbl := q2510
/-! roles differ -/
theorem st_neA {H : Heap} {a a' : Nat} {c1 c2 : Cell} {t1 t2 : FieldType} (h1 : H[a]? = some c1) (h2 : H[a']? = some c2) (k1 : s.isArrayOf c1 t1) (k2 : s.isArrayOf c2 t2) (hn : t1 ≠ t2) : a ≠ a' := by
  intro e
  subst e
  cases h1.symm.trans h2
  obtain ⟨-, x1, y1, m1, z1⟩ := k1
  obtain ⟨-, x2, y2, m2, z2⟩ := k2
  cases y1.symm.trans y2
  rw [z1] at z2
  injection z2 with _ e2
  exact hn e2
theorem st_neO {H : Heap} {a a' : Nat} {c1 c2 : Cell} {t1 : FieldType} {C : String} (h1 : H[a]? = some c1) (h2 : H[a']? = some c2) (k1 : s.isArrayOf c1 t1) (k2 : ClassAt s C c2.cls) : a ≠ a' := by
  intro e
  subst e
  cases h1.symm.trans h2
  obtain ⟨-, x1, y1, m1, z1⟩ := k1
  obtain ⟨-, x2, y2, z2⟩ := k2
  cases y1.symm.trans y2
  rw [z1] at z2
  cases z2
theorem st_neN {H : Heap} {a a' : Nat} {c1 c2 : Cell} {C1 C2 : String} (h1 : H[a]? = some c1) (h2 : H[a']? = some c2) (k1 : s.vm.findClass C1 = some c1.cls) (k2 : s.vm.findClass C2 = some c2.cls) (hn : C1 ≠ C2) : a ≠ a' := by
  intro e
  subst e
  cases h1.symm.trans h2
  obtain ⟨x1, y1, z1⟩ := Vm.findClass_spec k1
  obtain ⟨x2, y2, z2⟩ := Vm.findClass_spec k2
  cases y1.symm.trans y2
  exact hn (z1.symm.trans z2)
theorem st_vm0 {cell : Cell} (h : cell.vm.isStatics = false) (h2 : cell.vm ≠ .unknown) : jvm0 cell := ⟨fun q e => (by rw [e] at h; cases h), h2⟩
theorem st_wA {D : va_G} {H : Heap} {t N : Nat} {cell : Cell} {ty : FieldType} {F : Nat → Value} (h1 : H[t]? = some cell) (h2 : s.isArrayOf cell ty) (h3 : cell.vm ≠ .unknown) (h4 : N ≤ cell.slots.size) (h5 : cell.slots.size.toInt32 = Int32.ofNat N) (h6 : ∀ j, j < N → cell.slots[j]? = some (F j)) {x : vp_A} (hx1 : x.1 = N) (hx2 : ∀ j, j < N → (vp_cell cell.cls x).slots[j]? = some (F j)) : jwe D (t, .inl (cell.cls, x)) H :=
  ⟨cell, h1, rfl, ⟨h2.1, h3⟩, by rw [hx1]; exact h4, by rw [hx1]; exact h5, fun j hj => by rw [hx1] at hj; rw [h6 j hj]; exact (hx2 j hj).symm⟩
theorem st_slot {C n d : String} {i a : Nat} {v : Value} {A : Nat → Prop} {H : Heap} (h : SlotIs s C n d i) (k : va_OF C n d v a A s H) : ∃ cell, H[a]? = some cell ∧ cell.vm ≠ .unknown ∧ cell.slots[i]? = some v := by
  obtain ⟨cf, kf, fi, fd, h1, h2⟩ := h
  obtain ⟨cf2, k2, i2, f2, cell, g1, g2, g3, g4, g5, g6⟩ := k
  have e := h1.symm.trans g1
  have ef : fd = f2 := by injection e with e; injection e with e e2; injection e2 with e2 e3; injection e3
  subst ef
  exact ⟨cell, g3, g4, by rw [← h2]; exact g5⟩
/-- an enum's constants at the start -/
theorem st_oc {kk : Nat → Nat} (hE : va_En "PointerAnalyzer$Kind" "LPointerAnalyzer$Kind;" stKn [("java/lang/Enum", "ordinal", "I", [0, 1, 2, 3, 4, 5, 6])] kk (fun a => s.heap.size ≤ a) s s.heap) (i : Nat) (hi : i < 7) : ∃ cell : Cell, s.heap[kk i]? = some cell ∧ cell.vm.isStatics = false ∧ cell.vm ≠ .unknown ∧ s.vm.findClass "PointerAnalyzer$Kind" = some cell.cls ∧ ∃ sl : Nat, SlotIs s "java/lang/Enum" "ordinal" "I" sl ∧ cell.slots[sl]? = some (.int (nI i)) := by
  obtain ⟨-, ⟨cell, o1, o2, o3, o4⟩, hF⟩ := hE.1 i hi
  obtain ⟨cf, k, fi, f, cell2, g1, g2, g3, g4, g5, g6⟩ := hF _ List.mem_cons_self
  cases o1.symm.trans g3
  have e : (([0, 1, 2, 3, 4, 5, 6] : List Int32).getD i 0) = nI i := by
    have : ∀ i, i < 7 → (([0, 1, 2, 3, 4, 5, 6] : List Int32).getD i 0) = nI i := by decide
    exact this i hi
  exact ⟨cell, o1, o2, g4, o3, f.slot, ⟨cf, k, fi, f, g1, rfl⟩, by rw [← e]; exact g5⟩
theorem st_ord {kk : Nat → Nat} (hE : va_En "PointerAnalyzer$Kind" "LPointerAnalyzer$Kind;" stKn [("java/lang/Enum", "ordinal", "I", [0, 1, 2, 3, 4, 5, 6])] kk (fun a => s.heap.size ≤ a) s s.heap) : jOrd s := by
  obtain ⟨-, -, hF⟩ := hE.1 0 (by decide)
  obtain ⟨cf, k, fi, f, cell2, g1, g2, g3, g4, g5, g6⟩ := hF _ List.mem_cons_self
  exact ⟨cf, k, fi, f, g1, g2⟩
theorem st_zq {C n d : String} {A : Nat → Prop} {H : Heap} (h : va_Zq C n d A s H) : ∃ o : Option Nat, va_Z C n d (va_rf o) A s H := by
  rcases h with h | ⟨t, h⟩
  · exact ⟨none, h⟩
  · exact ⟨some t, h⟩
theorem st_mir {C : String} (h : (Cond.isRef (.mirror C)).before #[Value.ref b] s = true) : ∃ mi : Nat, va_Mi C mi s ∧ (Term.mirror C).eval #[Value.ref b] s none [] s = some (.ref mi) := by
  obtain ⟨v, hv, -⟩ := Cond.isRef_spec h
  obtain ⟨c, k, a, h1, h2, h3, h4⟩ := Term.mirror_spec hv
  subst h4
  exact ⟨a, ⟨c, k, h1, h2, h3⟩, hv⟩
/-- the first heap, of the cells that are told -/
def jkd0 (b e0 e1 c tx bt : Nat) (I : Nat → Nat) (a : Nat) : Nat := if a = b then 100 else if a = e0 ∨ a = e1 then 107 else if a = c then 112 else if (List.range 256).any (fun k => I k == a) = true then 22 else if a = tx then 23 else if a = bt then 104 else 0
def jln0 (b c bt L : Nat) (a : Nat) : Nat := if a = b then L else if a = c then 256 else if a = bt then 8 else 0
def jiv0 (I : Nat → Nat) (a : Nat) : Int32 := match (List.range 256).find? (fun k => I k == a) with
  | some k => vb_c k
  | none => 0
def jh0 (sz b e0 e1 c tx bt L : Nat) (I : Nat → Nat) (cs : Nat → Option Nat) (xs : Nat → Int32) : jH :=
  (jkd0 b e0 e1 c tx bt I, jln0 b c bt L, sz, 0, cs, fun f a => if f = 126 then jiv0 I a else 0, fun f a => if f = 127 ∧ a = tx then some bt else none, fun _ a k => if a = b then xs k else jtxt k, fun _ _ => 0, fun _ _ => 0, fun _ a k => if a = c then some (I k) else none)
def jcs0 (e0 e1 pr c tx m0 m1 m2 : Nat) (u v : Option Nat) (kk : Nat → Nat) (k : Nat) : Option Nat := if k = 0 then some e0 else if k = 1 then some e1 else if k = 2 then some pr else if k < 10 then some (kk (k - 3)) else if k = 10 then some c else if k = 11 then some tx else if k = 12 then some m0 else if k = 13 then some m1 else if k = 14 then some m2 else if k = 15 then u else v
theorem st_role {D : va_G} {dA : Nat → ClassId} {lo : Nat} {h : jH} {H : Heap} {a k : Nat} (hk : jkd h a = k) (hlt : a < lo) (hw : jwe D (a, jcell dA k h a) H) (hc : k ∈ [22, 23, 37, 38, 100, 104, 112] ∨ (k = 107 ∧ jln h a = 0)) (h36 : k ≠ 36) : (jwe D (a, jcell dA (jkd h a) h a) H ∧ (lo ≤ a → va_at D jcls (a, jcell dA (jkd h a) h a) H)) ∧ (lo ≤ a ∨ jcon h a) ∧ (jkd h a = 36 → jSz3 a H) := by
  subst hk
  exact ⟨⟨hw, fun h9 => absurd h9 (Nat.not_le.mpr hlt)⟩, Or.inr hc, fun h9 => absurd h9 h36⟩
theorem st_j100 {sz b e0 e1 c tx bt L : Nat} {I : Nat → Nat} {cs : Nat → Option Nat} {xs : Nat → Int32} : jarr 100 (jh0 sz b e0 e1 c tx bt L I cs xs) b = (L, .inl xs) := by
  have h1 : jln0 b c bt L b = L := if_pos rfl
  have h2 : (fun k => if b = b then xs k else jtxt k) = xs := funext fun k => if_pos rfl
  unfold jarr
  rw [if_pos (by decide)]
  show (jln0 b c bt L b, Sum.inl (fun k => if b = b then xs k else jtxt k)) = _
  rw [h1, h2]
theorem st_j104 {sz b e0 e1 c tx bt L : Nat} {I : Nat → Nat} {cs : Nat → Option Nat} {xs : Nat → Int32} (hl : jln0 b c bt L bt = 8) (hn : bt ≠ b) : jarr 104 (jh0 sz b e0 e1 c tx bt L I cs xs) bt = (8, .inl jtxt) := by
  have h2 : (fun k => if bt = b then xs k else jtxt k) = jtxt := funext fun k => if_neg hn
  unfold jarr
  rw [if_pos (by decide)]
  show (jln0 b c bt L bt, Sum.inl (fun k => if bt = b then xs k else jtxt k)) = _
  rw [hl, h2]
theorem st_txt : ∀ j, j < 8 → (([[97, 98, 99, 100, 112, 114, 120, 121]] : List (List Int32)).getD 0 []).getD j 0 = jtxt j := by decide
theorem st_first {xs : List Int32} (hts : ∀ w ∈ lw_tbl, w.before #[Value.ref b] s = true) (hgv : stT.before #[Value.ref b] s = true) (hx : s.IntsAt b xs) (hL : xs.length ≤ 96) : ∃ (D : va_G) (dA : Nat → ClassId) (cs0 : Nat → Option Nat) (h : jH), jInit h b xs ∧ jPc D dA s.heap.size cs0 [jP (some b)] h #[Value.ref b] s := by
  have hA : ∀ a : Nat, a < s.heap.size → ¬ (fun q => s.heap.size ≤ q) a := fun a h => Nat.not_le.mpr h
  obtain ⟨kk, hE⟩ := st_kind hts hgv
  have hO := st_ord hE
  obtain ⟨scr, harrAt, hlist, hof, hsmall⟩ := hx
  obtain ⟨hcb, hkn, -, -⟩ := State.arrayAt?_spec harrAt
  have hsz : scr.slots.size = xs.length := by rw [← Array.length_toList, hlist, List.length_map]
  have hval : ∀ j : Nat, j < xs.length → scr.slots[j]? = some (.int (xs.getD j 0)) := fun j hj => by
    rw [← Array.getElem?_toList, hlist]
    simp [hj]
  obtain ⟨e0, v0, cel0, a01, a02, a03, a04, a05, a06, a07⟩ := va_Tof (f := fun _ => Value.null) (N := 0) (A := fun q => s.heap.size ≤ q) (by decide) (st_nr hgv sl_ar0) (va_eqt (st_nr hgv sl_ln0)) (fun j hj => absurd hj (Nat.not_lt_zero j)) hA
  obtain ⟨e1, v1, cel1, a11, a12, a13, a14, a15, a16, a17⟩ := va_Tof (f := fun _ => Value.null) (N := 0) (A := fun q => s.heap.size ≤ q) (by decide) (st_nr hgv sl_ar1) (va_eqt (st_nr hgv sl_ln1)) (fun j hj => absurd hj (Nat.not_lt_zero j)) hA
  have hne := va_neR (st_nr hgv sl_ne01) v0 v1
  obtain ⟨x0, y0, z0, w0, p01, p02, p03, p04, p05, p06, -⟩ := Cond.exactly_spec (st_nr hgv sl_ex0)
  cases p01.symm.trans v0
  cases p03.symm.trans a01
  obtain ⟨x1, y1, z1, w1, p11, p12, p13, p14, p15, p16, -⟩ := Cond.exactly_spec (st_nr hgv sl_ex1)
  cases p11.symm.trans v1
  cases p13.symm.trans a11
  obtain ⟨pr, yp, zp, wp, pp1, pp2, pp3, pp4, pp5, pp6, -⟩ := Cond.exactly_spec (st_nr hgv sl_pr)
  obtain ⟨I, hC, hCe⟩ := vb_Cof (st := .static "java/lang/Integer$IntegerCache" "cache" "[Ljava/lang/Integer;") (A := fun q => s.heap.size ≤ q) rfl (va_eqt (st_nr hgv sl_cln)) (st_nr hgv sl_call) hA
  obtain ⟨c, vc, celc, c01, c02, c03, c04, c05, c06, c07⟩ := va_Tof (f := fun j => Value.ref (I j)) (N := 256) (A := fun q => s.heap.size ≤ q) (by decide) (st_nr hgv sl_car) (va_eqt (st_nr hgv sl_cln)) hCe hA
  obtain ⟨adK, adV, ⟨hS, -⟩, hSv⟩ := vk_Sof (args := #[Value.ref b]) (s := s) (N := 1) (tm := fun _ => .string "PointerAnalyzer$Reader" 45) (len := [8]) (byt := [[97, 98, 99, 100, 112, 114, 120, 121]]) (A := fun q => s.heap.size ≤ q)
    (fun i hi => by cases Nat.lt_one_iff.mp hi; decide) (fun i hi => st_nr hgv sl_tx) (fun i hi => st_nr hgv sl_tco) (fun i hi => st_nr hgv sl_tar) (fun i hi => by cases Nat.lt_one_iff.mp hi; exact st_nr hgv sl_tln) (fun i hi j hj => by cases Nat.lt_one_iff.mp hi; exact st_nr hgv (List.mem_of_getElem? (sl_tel j hj))) (fun i j hi hj hij => absurd ((Nat.lt_one_iff.mp hi).trans (Nat.lt_one_iff.mp hj).symm) hij) hA
  obtain ⟨⟨celt, t01, t02, t03, t04⟩, hco, hva, celb, b01, b02, b03, b04, b05, b06, b07⟩ := hS 0 (by decide)
  have htx := hSv 0 (by decide)
  generalize adK 0 = tx at *
  generalize adV 0 = bt at *
  obtain ⟨m0, hm0, gm0⟩ := st_mir (st_nr hgv sl_m0)
  obtain ⟨m1, hm1, gm1⟩ := st_mir (st_nr hgv sl_m1)
  obtain ⟨m2, hm2, gm2⟩ := st_mir (st_nr hgv sl_m2)
  have hmne : m0 ≠ m1 := by first | exact va_neR (st_nr hgv sl_mne) gm0 gm1 | exact (va_neR (st_nr hgv sl_mne) gm1 gm0).symm
  obtain ⟨u, hu⟩ := st_zq (va_Zqof (A := fun q => s.heap.size ≤ q) (hts _ sw_us) (hts _ si_us) (st_nr hgv sl_us) hA)
  obtain ⟨v, hv⟩ := st_zq (va_Zqof (A := fun q => s.heap.size ≤ q) (hts _ sw_ss) (hts _ si_ss) (st_nr hgv sl_ss) hA)
  have hkn2 : ∀ c, ∃ x : ClassId × (Nat → Nat), ∀ q : vw_C, jcls[c]? = some q → u_Kn s q.1 q.2.1 q.2.2 x.1 x.2 := fun c => by
    obtain ⟨a, i, h⟩ := st_kn hts hO c
    exact ⟨(a, i), h⟩
  obtain ⟨F, hF⟩ := Classical.axiomOfChoice hkn2
  obtain ⟨dA, d100, d104, d112, hty⟩ := st_tys hts scr.cls celb.cls celc.cls
  have h107 : dA 107 = cel0.cls ∧ dA 107 = cel1.cls := by
    have h1 := (hty 6 (dA 107, .object "java/lang/Object") rfl).2
    have h2 : s.vm.findClass "[Ljava/lang/Object;" = some (dA 107) := va_nmO h1 (by decide +kernel)
    exact ⟨Option.some.inj (h2.symm.trans (p02.trans (congrArg some p06.symm))), Option.some.inj (h2.symm.trans (p12.trans (congrArg some p16.symm)))⟩
  -- the integers of the cache, the text
  have hInt : ∀ k, k < 256 → ∃ cell : Cell, s.heap[I k]? = some cell ∧ jvm0 cell ∧ cell.cls = (F 22).1 ∧ cell.slots[(F 22).2 0]? = some (.int (vb_c k)) := by
    intro k hk
    obtain ⟨cell, o1, o2, o3, o4⟩ := hC.1 k hk
    obtain ⟨hSl, hcl, -⟩ := hF 22 (RJ6, TJ6, 1) rfl
    obtain ⟨cell2, q1, q2, q3⟩ := st_slot (hSl 0 (by decide)) (hC.2 k hk)
    cases o1.symm.trans q1
    exact ⟨cell, o1, st_vm0 o2 q2, Option.some.inj (o3.symm.trans hcl), q3⟩
  have hIc : ClassAt s "java/lang/Integer" (F 22).1 := (hF 22 (RJ6, TJ6, 1) rfl).2
  have hTc : ClassAt s "java/lang/String" (F 23).1 := (hF 23 (RJ7, TJ7, 2) rfl).2
  have htc : celt.cls = (F 23).1 := Option.some.inj (t03.symm.trans hTc.1)
  have hTs : jvm0 celt ∧ celt.slots[(F 23).2 0]? = some (.ref bt) ∧ celt.slots[(F 23).2 1]? = some (.int 0) := by
    obtain ⟨hSl, -⟩ := hF 23 (RJ7, TJ7, 2) rfl
    obtain ⟨cell2, q1, q2, q3⟩ := st_slot (hSl 0 (by decide)) hva
    obtain ⟨cell3, r1, r2, r3⟩ := st_slot (hSl 1 (by decide)) hco
    cases t01.symm.trans q1
    cases t01.symm.trans r1
    exact ⟨st_vm0 t02 q2, q3, r3⟩
  -- the roles differ
  have nb0 : e0 ≠ b := st_neA a01 hcb a02 hof (by decide)
  have nb1 : e1 ≠ b := st_neA a11 hcb a12 hof (by decide)
  have nbc : c ≠ b := st_neA c01 hcb c02 hof (by decide)
  have n0c : c ≠ e0 := st_neA c01 a01 c02 a02 (by decide)
  have n1c : c ≠ e1 := st_neA c01 a11 c02 a12 (by decide)
  have nbb : bt ≠ b := st_neA b01 hcb b02 hof (by decide)
  have n0b : bt ≠ e0 := st_neA b01 a01 b02 a02 (by decide)
  have n1b : bt ≠ e1 := st_neA b01 a11 b02 a12 (by decide)
  have ncb : bt ≠ c := st_neA b01 c01 b02 c02 (by decide)
  have htC : ClassAt s "java/lang/String" celt.cls := by rw [htc]; exact hTc
  have nbt : b ≠ tx := st_neO hcb t01 hof htC
  have n0t : e0 ≠ tx := st_neO a01 t01 a02 htC
  have n1t : e1 ≠ tx := st_neO a11 t01 a12 htC
  have nct : c ≠ tx := st_neO c01 t01 c02 htC
  have nbtx : bt ≠ tx := st_neO b01 t01 b02 htC
  have hIn : ∀ k, k < 256 → b ≠ I k ∧ e0 ≠ I k ∧ e1 ≠ I k ∧ c ≠ I k ∧ bt ≠ I k ∧ tx ≠ I k := by
    intro k hk
    obtain ⟨cell, o1, -, o3, -⟩ := hInt k hk
    have hk2 : ClassAt s "java/lang/Integer" cell.cls := by rw [o3]; exact hIc
    exact ⟨st_neO hcb o1 hof hk2, st_neO a01 o1 a02 hk2, st_neO a11 o1 a12 hk2, st_neO c01 o1 c02 hk2, st_neO b01 o1 b02 hk2, st_neN t01 o1 t03 hk2.1 (by decide)⟩
  have hany : ∀ a, (List.range 256).any (fun k => I k == a) = true ↔ ∃ k, k < 256 ∧ I k = a := by
    intro a
    rw [List.any_eq_true]
    exact ⟨fun ⟨k, h1, h2⟩ => ⟨k, List.mem_range.mp h1, beq_iff_eq.mp h2⟩, fun ⟨k, h1, h2⟩ => ⟨k, List.mem_range.mpr h1, beq_iff_eq.mpr h2⟩⟩
  have hnoI : ∀ a, (∀ k, k < 256 → a ≠ I k) → ¬ (List.range 256).any (fun k => I k == a) = true := fun a h h2 => by
    obtain ⟨k, h3, h4⟩ := (hany a).mp h2
    exact h k h3 h4.symm
  have hiv : ∀ a, (∃ k, k < 256 ∧ I k = a) → ∃ k, k < 256 ∧ I k = a ∧ jiv0 I a = vb_c k := by
    intro a ha
    unfold jiv0
    cases hf : (List.range 256).find? (fun k => I k == a) with
    | none =>
      obtain ⟨k, h1, h2⟩ := ha
      have h3 := List.find?_eq_none.mp hf k (List.mem_range.mpr h1)
      exact absurd (beq_iff_eq.mpr h2) h3
    | some k =>
      exact ⟨k, List.mem_range.mp (List.mem_of_find?_eq_some hf), beq_iff_eq.mp (show (I k == a) = true from List.find?_some (p := fun k => I k == a) hf), rfl⟩
  have hivk : ∀ k, k < 256 → jiv0 I (I k) = vb_c k := by
    intro k hk
    obtain ⟨k2, h1, h2, h3⟩ := hiv (I k) ⟨k, hk, rfl⟩
    rw [h3]
    obtain ⟨cell, o1, -, -, o4⟩ := hInt k hk
    obtain ⟨cell2, r1, -, -, r4⟩ := hInt k2 h1
    rw [h2] at r1
    cases o1.symm.trans r1
    have e := o4.symm.trans r4
    injection e with e
    injection e with e
    exact e.symm
  have kb : jkd0 b e0 e1 c tx bt I b = 100 := if_pos rfl
  have k0 : jkd0 b e0 e1 c tx bt I e0 = 107 := by unfold jkd0; rw [if_neg nb0, if_pos (Or.inl rfl)]
  have k1 : jkd0 b e0 e1 c tx bt I e1 = 107 := by unfold jkd0; rw [if_neg nb1, if_pos (Or.inr rfl)]
  have kc : jkd0 b e0 e1 c tx bt I c = 112 := by unfold jkd0; rw [if_neg nbc, if_neg (fun h => h.elim n0c n1c), if_pos rfl]
  have kI : ∀ k, k < 256 → jkd0 b e0 e1 c tx bt I (I k) = 22 := by
    intro k hk
    obtain ⟨i1, i2, i3, i4, i5, i6⟩ := hIn k hk
    unfold jkd0
    rw [if_neg i1.symm, if_neg (fun h => h.elim i2.symm i3.symm), if_neg i4.symm, if_pos ((hany _).mpr ⟨k, hk, rfl⟩)]
  have kt : jkd0 b e0 e1 c tx bt I tx = 23 := by
    unfold jkd0
    rw [if_neg nbt.symm, if_neg (fun h => h.elim n0t.symm n1t.symm), if_neg nct.symm, if_neg (hnoI tx fun k hk => (hIn k hk).2.2.2.2.2), if_pos rfl]
  have kbt : jkd0 b e0 e1 c tx bt I bt = 104 := by
    unfold jkd0
    rw [if_neg nbb, if_neg (fun h => h.elim n0b n1b), if_neg ncb, if_neg (hnoI bt fun k hk => (hIn k hk).2.2.2.2.1), if_neg nbtx, if_pos rfl]
  refine ⟨(fun c => (F c).1, fun c => (F c).2), dA, jcs0 e0 e1 pr c tx m0 m1 m2 u v kk, jh0 s.heap.size b e0 e1 c tx bt xs.length I (jcs0 e0 e1 pr c tx m0 m1 m2 u v kk) (fun k => xs.getD k 0), ?_, ?_⟩
  · refine ⟨⟨kb, if_pos rfl, fun k hk => if_pos rfl, hL⟩, fun a ha => ?_, ⟨e0, e1, rfl, rfl, hne, k0, k1, ?_, ?_⟩, ⟨kk, fun i hi => ?_, fun i j hi hj e => hE.2 i j hi hj e⟩, ⟨c, I, rfl, kc, ?_, fun k hk => ⟨if_pos rfl, kI k hk, ?_⟩⟩, ⟨tx, bt, rfl, kt, rfl, if_pos ⟨rfl, rfl⟩, kbt, ?_, fun k hk => if_neg nbb⟩, ⟨m0, m1, m2, rfl, rfl, rfl, hmne⟩⟩
    · have hlt : ∀ {q : Nat} {cell : Cell}, s.heap[q]? = some cell → a ≠ q := fun hq e => by
        have h1 := (Array.getElem?_eq_some_iff.mp hq).1
        have h2 : s.heap.size ≤ a := ha
        omega
      show jkd0 b e0 e1 c tx bt I a = 0
      unfold jkd0
      rw [if_neg (hlt hcb), if_neg (fun h => h.elim (hlt a01) (hlt a11)), if_neg (hlt c01), if_neg (hnoI a fun k hk => by
        obtain ⟨cell, o1, -⟩ := hInt k hk
        exact hlt o1), if_neg (hlt t01), if_neg (hlt b01)]
    · show jln0 b c bt xs.length e0 = 0
      unfold jln0
      rw [if_neg nb0, if_neg n0c.symm, if_neg n0b.symm]
    · show jln0 b c bt xs.length e1 = 0
      unfold jln0
      rw [if_neg nb1, if_neg n1c.symm, if_neg n1b.symm]
    · show jcs0 e0 e1 pr c tx m0 m1 m2 u v kk (3 + i) = some (kk i)
      unfold jcs0
      rw [if_neg (by omega), if_neg (by omega), if_neg (by omega), if_pos (by omega), show 3 + i - 3 = i by omega]
    · show jln0 b c bt xs.length c = 256
      unfold jln0
      rw [if_neg nbc, if_pos rfl]
    · exact hivk k hk
    · show jln0 b c bt xs.length bt = 8
      unfold jln0
      rw [if_neg nbb, if_neg ncb, if_pos rfl]
  · refine ⟨rfl, ⟨rfl, fun a ha => ?_⟩, rfl, ⟨⟨fun c q hq => hF c q hq, hty⟩, ?_⟩, st_nw hts, ⟨st_face hts, fun q hq => va_Nc.of (st_nr hgv (st_ncl q hq)), hO, st_nav hgv⟩, ?_, Nat.le_refl _⟩
    · have lt9 : ∀ {q : Nat} {cell : Cell}, s.heap[q]? = some cell → q < s.heap.size := fun hq => (Array.getElem?_eq_some_iff.mp hq).1
      by_cases e1' : a = b
      · subst e1'
        refine st_role kb (lt9 hcb) ?_ (Or.inl (by decide)) (by decide)
        rw [jcell_arr (by decide), d100]
        rw [st_j100]
        exact st_wA hcb hof hkn (Nat.le_of_eq hsz.symm) (by rw [hsz]) hval rfl (fun j hj => arrV_read _ _ hj)
      · by_cases e2' : a = e0 ∨ a = e1
        · have hz : jln0 b c bt xs.length a = 0 := by
            unfold jln0
            rcases e2' with rfl | rfl
            · rw [if_neg nb0, if_neg n0c.symm, if_neg n0b.symm]
            · rw [if_neg nb1, if_neg n1c.symm, if_neg n1b.symm]
          have hka : jkd0 b e0 e1 c tx bt I a = 107 := by rcases e2' with rfl | rfl <;> assumption
          refine st_role (k := 107) hka (by rcases e2' with rfl | rfl; exact lt9 a01; exact lt9 a11) ?_ (Or.inr ⟨rfl, hz⟩) (by decide)
          rw [jcell_arr (by decide), jarr_q (by decide)]
          rcases e2' with rfl | rfl
          · rw [h107.1]
            exact st_wA a01 a02 a03 a04 a05 a06 hz (fun j hj => absurd hj (Nat.not_lt_zero j))
          · rw [h107.2]
            exact st_wA a11 a12 a13 a14 a15 a16 hz (fun j hj => absurd hj (Nat.not_lt_zero j))
        · by_cases e3' : a = c
          · subst e3'
            refine st_role kc (lt9 c01) ?_ (Or.inl (by decide)) (by decide)
            rw [jcell_arr (by decide), jarr_q (by decide), d112]
            have hl9 : jln0 b a bt xs.length a = 256 := by
              unfold jln0
              rw [if_neg nbc, if_pos rfl]
            refine st_wA c01 c02 c03 c04 c05 c06 hl9 (fun j hj => ?_)
            refine (arrV_read _ _ (show j < jln0 b a bt xs.length a by rw [hl9]; exact hj)).trans ?_
            exact congrArg some (congrArg va_rf (if_pos rfl))
          · by_cases e4' : ∃ k, k < 256 ∧ I k = a
            · obtain ⟨k, hk, rfl⟩ := e4'
              obtain ⟨cell, o1, o2, o3, o4⟩ := hInt k hk
              refine st_role (kI k hk) (lt9 o1) ?_ (Or.inl (by decide)) (by decide)
              rw [jcell_obj (by decide)]
              refine ⟨(RJ6, TJ6, 1), cell, rfl, o1, o3, o2, fun j hj => ?_⟩
              cases Nat.lt_one_iff.mp hj
              refine o4.trans ?_
              rw [← hivk k hk]
              rfl
            · by_cases e5' : a = tx
              · subst e5'
                refine st_role kt (lt9 t01) ?_ (Or.inl (by decide)) (by decide)
                rw [jcell_obj (by decide)]
                refine ⟨(RJ7, TJ7, 2), celt, rfl, t01, htc, hTs.1, fun j hj => ?_⟩
                match j, hj with
                | 0, _ =>
                  refine hTs.2.1.trans (congrArg some ?_)
                  show Value.ref bt = va_rf (if 127 = 127 ∧ a = a then some bt else none)
                  rw [if_pos ⟨rfl, rfl⟩]
                  rfl
                | 1, _ => exact hTs.2.2
              · by_cases e6' : a = bt
                · subst e6'
                  refine st_role kbt (lt9 b01) ?_ (Or.inl (by decide)) (by decide)
                  rw [jcell_arr (by decide), d104]
                  have hl9 : jln0 b c a xs.length a = 8 := by
                    unfold jln0
                    rw [if_neg nbb, if_neg ncb, if_pos rfl]
                  rw [st_j104 hl9 nbb]
                  exact st_wA b01 b02 b03 b04 b05 b06 rfl (fun j hj => (arrV_read _ _ hj).trans (congrArg some (congrArg Value.int (st_txt j hj).symm)))
                · exfalso
                  apply ha
                  show jkd0 b e0 e1 c tx bt I a = 0
                  unfold jkd0
                  rw [if_neg e1', if_neg e2', if_neg e3', if_neg (fun h => e4' ((hany a).mp h)), if_neg e5', if_neg e6']
    · rw [show jK3 dA s = (ArrOfT s (dA 100) .int ∧ ArrOfT s (dA 104) .byte ∧ ArrOfT s (dA 112) (.object "java/lang/Integer")) from rfl, d100, d104, d112]
      exact ⟨fun n z => ⟨fun q h => (by cases h), hof.2⟩, fun n z => ⟨fun q h => (by cases h), b02.2⟩, fun n z => ⟨fun q h => (by cases h), c02.2⟩⟩
    · refine ⟨?_, ?_, ⟨tx, rfl, vk_R.of (hts _ sw_tx) htx⟩, ?_, vx_Zqof (hts _ sw_us) (hts _ si_us) (st_nr hgv sl_us) hA, vx_Zqof (hts _ sw_ss) (hts _ si_ss) (st_nr hgv sl_ss) hA, fun i hi => ?_⟩
      · have hK := fun i (hi : i < 7) => (hE.1 i hi).1
        exact List.forall_mem_cons.mpr ⟨va_Zref (hts _ sw_0) (hts _ si_0) v0 hA, List.forall_mem_cons.mpr ⟨va_Zref (hts _ sw_1) (hts _ si_1) v1 hA, List.forall_mem_cons.mpr ⟨va_Zref (hts _ sw_pr) (hts _ si_pr) pp1 hA,
          List.forall_mem_cons.mpr ⟨hK 0 (by decide), List.forall_mem_cons.mpr ⟨hK 1 (by decide), List.forall_mem_cons.mpr ⟨hK 2 (by decide), List.forall_mem_cons.mpr ⟨hK 3 (by decide), List.forall_mem_cons.mpr ⟨hK 4 (by decide), List.forall_mem_cons.mpr ⟨hK 5 (by decide), List.forall_mem_cons.mpr ⟨hK 6 (by decide),
          List.forall_mem_cons.mpr ⟨va_Zref (hts _ sw_c) (hts _ si_c) vc hA, List.forall_mem_cons.mpr ⟨hu, List.forall_mem_cons.mpr ⟨hv, List.forall_mem_nil _⟩⟩⟩⟩⟩⟩⟩⟩⟩⟩⟩⟩⟩
      · exact List.forall_mem_cons.mpr ⟨va_Zof (hts _ sw_hi) (hts _ si_hi) (va_eqt (st_nr hgv sl_hi)) hA, List.forall_mem_cons.mpr ⟨va_Zof (hts _ sw_cs) (hts _ si_cs) (va_eqt (st_nr hgv sl_cs)) hA, List.forall_mem_cons.mpr ⟨va_Zof (hts _ sw_bs) (hts _ si_bs) (va_eqt (st_nr hgv sl_bs)) hA, List.forall_mem_nil _⟩⟩⟩
      · exact List.forall_mem_cons.mpr ⟨⟨m0, rfl, hm0⟩, List.forall_mem_cons.mpr ⟨⟨m1, rfl, hm1⟩, List.forall_mem_cons.mpr ⟨⟨m2, rfl, hm2⟩, List.forall_mem_nil _⟩⟩⟩
      · obtain ⟨cell, o1, o2, o3, o4, o5⟩ := st_oc hE i hi
        refine ⟨kk i, cell, ?_, Nat.not_le.mpr (Array.getElem?_eq_some_iff.mp o1).1, o1, o2, o3, o4, o5⟩
        unfold jcs0
        rw [if_neg (by omega), if_neg (by omega), if_neg (by omega), if_pos (by omega), show 3 + i - 3 = i by omega]
/-- the walk of the law's body, the small machine's run being owed -/
theorem lw_walk9 {d : Nat} (hd : jfrm (d + 1) ≤ 8192 ∧ jloc (d + 1) ≤ 104096) (hJ : jLaw d) (l : Launch) (hst : l.stackTraces = false) (b : Addr) (xs : List Int32) : MetFree l x (headSpec (Jvm.Cond.code x code maxLocals ret :: tables_1) room_1) (lw_P b xs) (fun _ _ _ _ _ => True) lw_Q := by
  refine MetFree.of_bodyS (code := code) (maxLocals := maxLocals) (ret := ret) (by decide) ?_ ?_
  · intro args s m h hn
    obtain ⟨meth, c, h1, h2, h3, h4, h5, h6, -, -⟩ := Cond.code_spec hn (atoms_spec (ws := Jvm.Cond.code x code maxLocals ret :: tables_1) h _ List.mem_cons_self)
    exact ⟨meth, c, h1, h2, h3, h4, h5, h6⟩
  · intro p e s m args below meth c s₁ B hml0 hP _
    obtain ⟨rfl, hx, hbd, hgv⟩ := hP
    have hown : s.vm.findClass x.cls = some m.cls := findClass_of_methodNamed B.named
    have hts0 : ∀ c ∈ (Jvm.Cond.code x code maxLocals ret :: tables_1), c.before #[Value.ref b] s = true := atoms_spec (ws := Jvm.Cond.code x code maxLocals ret :: tables_1) B.pre
    have hts : ∀ w ∈ lw_tbl, w.before #[Value.ref b] s = true := k2_hts_sels lw_privs (fun w hw => hts0 w (List.mem_cons_of_mem _ hw)) lw_privs_ok
    have hml : c.maxLocals = 9 := B.maxLocals_eq (hts0 _ List.mem_cons_self)
    have ht : c.exceptionTable.toList = [] := by
      obtain ⟨meth9, c9, h1, h2, -, -, -, -, h7, -⟩ := Cond.code_spec B.named (atoms_spec (ws := Jvm.Cond.code x code maxLocals ret :: tables_1) B.pre _ List.mem_cons_self)
      cases Option.some.inj (h1.symm.trans B.method)
      cases Option.some.inj (h2.symm.trans (Stand.of_body B).code)
      rw [Array.isEmpty_iff.mp h7]
    have X₀ : Stand p l e room_1 s m #[Value.ref b] below meth c s₁ [] 0 0 := Stand.of_body B
    have hh0 : s₁.heap = s.heap := by rw [B.state]; rfl
    obtain ⟨D, dA, cs0, h0, hI, hPc⟩ := st_first hts hgv hx hbd
    obtain ⟨h1, hrun, hc1, hs1⟩ := hJ h0 b xs hI
    have hzz := jWX_z (tz_L_law (EV d) (EV_z d)) hrun (tg_L_law (EV d))
    have K := z_law (e := e) (below := below) (r_L_law hst (jIH_all hst d)) hzz hrun B.exec B.bytes B.returns (name_of_methodNamed B.named B.method).1 hml hown (fun w hw => hts w (lw_all_tbl hw)) B.notSynchronized ht hPc
    have K2 : W p l e room_1 s m #[Value.ref b] below meth c s.heap [] 0 0 (lw_Z below #[Value.ref b] s) (entryFrame m ([Value.ref b] : List Value).toArray 9) :=
      W_room (R' := jrmo (d + 1) h0 h1) hd.1 (show jsz h1 - jsz h0 ≤ 1200144 by omega) (show jsl h1 - jsl h0 ≤ 5494906 by omega) hd.2 (W_Q (fun t ht => z_lawQ (by omega) (by omega) rfl t ht) K)
    obtain ⟨t, a1, o, b1, b2, b3⟩ := K2 s₁ hh0 X₀
    exact ⟨t, o, a1, b1, b2, b3⟩
theorem lw_pre_spec {args : Array Value} {s : State} (h : (Jvm.Cond.and given_1 narrow_1).before args s = true) (hr : rest_1_c.before args s = true) : ∃ (b : Addr) (xs : List Int32), lw_P b xs args s := by
  have hs := flat_of_before _ h
  have hq := flat_of_before _ hr
  have hc : (Cond.count 1).before args s = true := hs _ (by decide +kernel)
  have harr : (Cond.arrayOf (.arg 0) .int).before args s = true := hs _ (by decide +kernel)
  have hle : (Cond.le (.length (.arg 0)) (.int 96)).before args s = true := hs _ (by decide +kernel)
  have hlen : (Cond.isInt (.length (.arg 0))).before args s = true := hq _ (by decide +kernel)
  have hall : (Cond.all (.arg 0) (.isInt (.elem (.arg 0) (.index 0)))).before args s = true := hq _ (by decide +kernel)
  obtain ⟨b, xs, hb, hx⟩ := State.ints_of_pre rfl harr hlen hall
  have hsm : xs.length < 2 ^ 31 := hx.choose_spec.2.2.2
  have hev : (Term.length (.arg 0)).eval args s none [] s = some (.int xs.length.toInt32) := hx.length_eval hb
  have hv := Cond.le_ints hev (show (Term.int 96).eval args s none [] s = some (.int 96) from rfl)
  have hd : xs.length.toInt32 ≤ 96 := by
    simpa [Cond.before, Cond.holds, hv] using hle
  have hN : xs.length ≤ 96 := (Int32.ofNat_le_ofNat hsm (by decide)).mp (show Int32.ofNat xs.length ≤ Int32.ofNat 96 from hd)
  exact ⟨b, xs, Cond.one_arg hc (show args[0]? = some (.ref b) from hb), hx, hN, h⟩
theorem lw_comes {d : Nat} (hd : jfrm (d + 1) ≤ 8192 ∧ jloc (d + 1) ≤ 104096) (hJ : jLaw d) (l : Launch) (hflags : l.flags = flags0) : Comes l x (Jvm.Cond.code x code maxLocals ret :: tables_1) room_1 (fun tb e args s => Calls_1 tb e args s ∧ rest_1 tb e args s ∧ Pre_1 tb e args s)
    (fun _ _ args s o t => lw_Q args s o t) := by
  intro p e ha hc hk s m args below hf hfit hheap happ hpre
  obtain ⟨b, xs, hP⟩ := lw_pre_spec hpre.2.2 hpre.2.1
  have hst : l.stackTraces = false := by
    unfold Launch.stackTraces
    rw [hflags]
    decide
  obtain ⟨k, o, h1, h2, h3, hQ⟩ := lw_walk9 hd hJ l hst b xs p e ha hc hk s m args below hf ((Spec.applies_iff_loose hf).mp happ).1 hP trivial
  exact ⟨k, o, h1, h2, h3, hQ⟩
theorem lw_frame {s t : State} {o : Outcome} {args : Array Value} (h : Framed s o t [] 1200144 5494906) :
    Framed s o t (fieldLocs frame_1_writes args s ++ arrayLocs frame_1_arrays args s ++ staticLocs frame_1_statics s) 1200144 5494906 := h
theorem lw_limb {d : Nat} (hd : jfrm (d + 1) ≤ 8192 ∧ jloc (d + 1) ≤ 104096) (hJ : jLaw d) (L : Cond) (hL : ∀ (args : Array Value) (s t : State), L.after args s (.returned (some (.int 1))) t = true) :
    ArmFor flags0 classFile x code maxLocals ret World_1 tables_1 room_1 Calls_1 rest_1 Pre_1
      (fun tb e a s o t => postC L tb e a s o t ∧ Framed s o t (fieldLocs frame_1_writes a s ++ arrayLocs frame_1_arrays a s ++ staticLocs frame_1_statics s) 1200144 5494906) := by
  intro l hflags _ _ p e ha hc hk s m args below hf hfit hheap happ hpre
  obtain ⟨k, o, h1, h2, h3, rfl, hF⟩ := lw_comes hd hJ l hflags p e ha hc hk s m args below hf hfit hheap happ hpre
  exact ⟨k, _, h1, h2, h3, hL args s _, lw_frame hF⟩
/-- THE CLAIM, the small machine's run of the law being owed -/
theorem i_vc_of {d : Nat} (hd : jfrm (d + 1) ≤ 8192 ∧ jloc (d + 1) ≤ 104096) (hJ : jLaw d) : Claimed_1_1 ∧ Claimed_1_2 := ⟨lw_limb hd hJ limb_1_1 (fun args s t => by simp [limb_1_1, Cond.after, Cond.holds, Cond.value]), lw_limb hd hJ limb_1_2 (fun args s t => Cond.after_iff.mpr (by
  first | (rw [show limb_1_2 = Cond.eq .result (.int 1) from rfl, Cond.eq_ints (x := 1) (y := 1) rfl rfl]; simp; done) | (simp [limb_1_2, Cond.value, Term.eval]; done)))⟩

end FIRST
