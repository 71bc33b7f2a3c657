/-! THE GIVEN MACHINE ANSWERS TO THE SMALL ONE (own work) -/
def jtv (v : jV) : Value := match v with
  | .inl x => .int x
  | .inr (.inl x) => .long x
  | .inr (.inr (.inl x)) => .double x
  | .inr (.inr (.inr (.inl x))) => .float x
  | .inr (.inr (.inr (.inr x))) => va_rf x
theorem va_rf_cat (o : Option Nat) : (va_rf o).category = 1 := by cases o <;> rfl
theorem jtv_cat (v : jV) : (jtv v).category = bif jwide v then 2 else 1 := by
  rcases v with x | x | x | x | x <;> first | rfl | exact va_rf_cat x
theorem jws_sum (r : List jV) : ((r.map jtv).map fun v => v.category).sum = jws r := by
  induction r with
  | nil => rfl
  | cons v r ih =>
    show (jtv v).category + ((r.map jtv).map fun v => v.category).sum = (bif jwide v then 2 else 1) + jws r
    rw [ih, jtv_cat]
def jlv : Nat → List (Option jV) → List (Nat × Value)
  | _, [] => []
  | i, none :: r => jlv (i + 1) r
  | i, some v :: r => (i, jtv v) :: jlv (i + 1) r
theorem jlv_mem {l : List (Option jV)} {i : Nat} {q : Nat × Value} : q ∈ jlv i l ↔ ∃ j v, l[j]? = some (some v) ∧ q = (i + j, jtv v) := by
  induction l generalizing i with
  | nil => simp [jlv]
  | cons a r ih =>
    cases a with
    | none =>
      show q ∈ jlv (i + 1) r ↔ _
      rw [ih]
      constructor
      · rintro ⟨j, v, h1, h2⟩
        exact ⟨j + 1, v, h1, by rw [h2]; congr 1; omega⟩
      · rintro ⟨j, v, h1, h2⟩
        cases j with
        | zero => cases h1
        | succ j => exact ⟨j, v, h1, by rw [h2]; congr 1; omega⟩
    | some w =>
      show q ∈ (i, jtv w) :: jlv (i + 1) r ↔ _
      rw [List.mem_cons, ih]
      constructor
      · rintro (h | ⟨j, v, h1, h2⟩)
        · exact ⟨0, w, rfl, h⟩
        · exact ⟨j + 1, v, h1, by rw [h2]; congr 1; omega⟩
      · rintro ⟨j, v, h1, h2⟩
        cases j with
        | zero =>
          cases h1
          exact Or.inl h2
        | succ j => exact Or.inr ⟨j, v, h1, by rw [h2]; congr 1; omega⟩
theorem jlv_at {mls : Array Slot} {n : Nat} {l : List (Option jV)} (h : lv_has mls n (jlv 0 l)) {i : Nat} {v : jV} (hi : l[i]? = some (some v)) : mls[i]? = some (.val (jtv v)) :=
  h.2.2 (i, jtv v) (jlv_mem.mpr ⟨i, v, hi, by rw [Nat.zero_add]⟩)
theorem jlv_sub {mls : Array Slot} {n : Nat} {l1 l2 : List (Nat × Value)} (h : lv_has mls n l2) (hs : ∀ q ∈ l1, q ∈ l2) : lv_has mls n l1 := ⟨h.1, h.2.1, fun q hq => h.2.2 q (hs q hq)⟩
theorem jlv_forget {mls : Array Slot} {n : Nat} {l1 l2 : List (Option jV)} (h : lv_has mls n (jlv 0 l2)) (hs : jsub l1 l2) : lv_has mls n (jlv 0 l1) := by
  refine jlv_sub h fun q hq => ?_
  obtain ⟨j, v, h1, h2⟩ := jlv_mem.mp hq
  exact jlv_mem.mpr ⟨j, v, hs.2 j v h1, h2⟩
theorem jclr_len (l : List (Option jV)) (i : Nat) : (jclr l i).length = l.length := by
  cases i with
  | zero => rfl
  | succ k =>
    show (match l[k]? with | some (some w) => bif jwide w then l.set k none else l | _ => l).length = l.length
    split
    · rename_i w _
      cases jwide w <;> simp
    · rfl
theorem jbr_s {c A B S : Prop} (k : (c → A) ∧ (¬ c → B)) (ha : A → S) (hb : B → S) : S := by
  by_cases q : c
  · exact ha (k.1 q)
  · exact hb (k.2 q)
theorem jset_len (l : List (Option jV)) (i : Nat) (v : jV) : (jset l i v).length = l.length := by
  unfold jset
  cases jwide v <;> simp [jclr_len]
theorem jclr_at {l : List (Option jV)} {i j : Nat} {w : jV} (h : (jclr l i)[j]? = some (some w)) : l[j]? = some (some w) ∧ (j + 1 = i → jwide w = false) := by
  cases i with
  | zero => exact ⟨h, fun e => by omega⟩
  | succ k =>
    have h' : (match l[k]? with | some (some w) => bif jwide w then l.set k none else l | _ => l)[j]? = some (some w) := h
    cases hk : l[k]? with
    | none =>
      rw [hk] at h'
      exact ⟨h', fun e => by
        have : j = k := by omega
        subst this
        rw [hk] at h'
        cases h'⟩
    | some a =>
      rw [hk] at h'
      cases a with
      | none =>
        exact ⟨h', fun e => by
          have : j = k := by omega
          subst this
          rw [hk] at h'
          cases h'⟩
      | some x =>
        have h2 : (bif jwide x then l.set k none else l)[j]? = some (some w) := h'
        cases hw : jwide x with
        | false =>
          rw [hw] at h2
          refine ⟨h2, fun e => ?_⟩
          have : j = k := by omega
          subst this
          have h3 : l[j]? = some (some w) := h2
          rw [hk] at h3
          cases h3
          exact hw
        | true =>
          rw [hw] at h2
          have h3 : (l.set k none)[j]? = some (some w) := h2
          rw [List.getElem?_set] at h3
          split at h3
          · split at h3 <;> cases h3
          · rename_i hn
            exact ⟨h3, fun e => absurd (by omega) hn⟩
theorem jset_at {l : List (Option jV)} {i j : Nat} {v w : jV} (h : (jset l i v)[j]? = some (some w)) : (j = i ∧ w = v) ∨ (j ≠ i ∧ l[j]? = some (some w) ∧ (j + 1 = i → jwide w = false) ∧ (jwide v = true → j ≠ i + 1)) := by
  unfold jset at h
  cases hv : jwide v with
  | false =>
    rw [hv] at h
    have h1 : ((jclr l i).set i (some v))[j]? = some (some w) := h
    rw [List.getElem?_set] at h1
    split at h1
    · rename_i e
      subst e
      split at h1
      · cases h1
        exact Or.inl ⟨rfl, rfl⟩
      · cases h1
    · rename_i e
      obtain ⟨a, b⟩ := jclr_at h1
      exact Or.inr ⟨fun q => e q.symm, a, b, fun q => by cases q⟩
  | true =>
    rw [hv] at h
    have h1 : (((jclr l i).set i (some v)).set (i + 1) none)[j]? = some (some w) := h
    rw [List.getElem?_set] at h1
    split at h1
    · split at h1 <;> cases h1
    · rename_i e1
      rw [List.getElem?_set] at h1
      split at h1
      · rename_i e
        subst e
        split at h1
        · cases h1
          exact Or.inl ⟨rfl, rfl⟩
        · cases h1
      · rename_i e
        obtain ⟨a, b⟩ := jclr_at h1
        exact Or.inr ⟨fun q => e q.symm, a, b, fun _ q => e1 q.symm⟩
theorem jlv_set1 {l : List (Option jV)} {i : Nat} {v : jV} (hv : jwide v = false) : ∀ q ∈ jlv 0 (jset l i v), q ∈ (i, jtv v) :: (jlv 0 l).filter (fun q => !(q.1 == i) && !(q.1 + 1 == i && q.2.category == 2)) := by
  intro q hq
  obtain ⟨j, w, h1, h2⟩ := jlv_mem.mp hq
  rw [Nat.zero_add] at h2
  rcases jset_at h1 with ⟨rfl, rfl⟩ | ⟨a, b, c, -⟩
  · rw [h2]; exact List.mem_cons_self
  · refine List.mem_cons_of_mem _ (List.mem_filter.mpr ⟨jlv_mem.mpr ⟨j, w, b, by rw [h2, Nat.zero_add]⟩, ?_⟩)
    rw [h2]
    by_cases e : j + 1 = i
    · have := c e
      have hc : (jtv w).category = 1 := by rw [jtv_cat, this]; rfl
      simp [a, hc]
    · simp [a, e]
theorem jlv_set2 {l : List (Option jV)} {i : Nat} {v : jV} (hv : jwide v = true) : ∀ q ∈ jlv 0 (jset l i v), q ∈ (i, jtv v) :: (jlv 0 l).filter (fun q => !(q.1 == i) && (!(q.1 == i + 1) && !(q.1 + 1 == i && q.2.category == 2))) := by
  intro q hq
  obtain ⟨j, w, h1, h2⟩ := jlv_mem.mp hq
  rw [Nat.zero_add] at h2
  rcases jset_at h1 with ⟨rfl, rfl⟩ | ⟨a, b, c, d⟩
  · rw [h2]; exact List.mem_cons_self
  · refine List.mem_cons_of_mem _ (List.mem_filter.mpr ⟨jlv_mem.mpr ⟨j, w, b, by rw [h2, Nat.zero_add]⟩, ?_⟩)
    have d' := d hv
    rw [h2]
    by_cases e : j + 1 = i
    · have := c e
      have hc : (jtv w).category = 1 := by rw [jtv_cat, this]; rfl
      simp [a, d', hc]
    · simp [a, e, d']
/-! heaps -/
def jfv (h : jH) (a : Nat) (q : Nat × Bool) : Value := if q.2 = true then va_rf (jOP h q.1 a) else .int (jOI h q.1 a)
def jfs (lay : List (Nat × Bool)) (h : jH) (a : Nat) : List Value := lay.map (jfv h a)
def jarr (k : Nat) (h : jH) (a : Nat) : vp_A := (jln h a, if k ≤ 104 then .inl (jAI h k a) else if k = 105 then .inr (.inl (jAL h a)) else if k = 106 then .inr (.inr (.inr (.inl (jAD h a)))) else .inr (.inr (.inr (.inr (jAP h k a)))))
def jlayl : List (List (Nat × Bool)) := [[], [(0, true), (1, false), (2, true), (3, true), (4, true), (5, false), (6, false), (7, true), (8, false)], [(9, true), (10, true), (11, false)], [(12, false), (13, false), (14, true), (15, false)], [(16, false), (17, true), (18, true), (19, true), (20, true), (21, true), (22, false), (23, true), (24, false), (25, false), (26, false), (27, false), (28, false), (29, false), (30, true), (31, true), (32, false), (33, true), (34, true), (35, false), (36, false), (37, true), (38, true), (39, false), (40, true), (41, true), (42, true), (43, true), (44, false), (45, false), (46, true), (47, true), (48, true), (49, true), (50, true), (51, true), (52, false), (53, false), (54, false), (55, false), (56, false), (57, true), (58, false), (59, false), (60, false)], [(61, false), (62, true), (63, false), (64, true)], [(65, true), (66, true), (67, true), (68, true), (69, true), (70, false), (71, false)], [(72, true), (73, false), (74, false), (75, false)], [(76, true), (77, true), (78, true), (79, true), (80, false), (81, true)], [], [(82, true)], [(83, true)], [(84, false), (85, false), (86, true), (87, true), (88, true), (89, true), (90, true), (91, true), (92, false)], [(93, true), (94, false)], [(95, true), (96, true), (97, true), (98, true), (99, false), (100, false)], [(101, true)], [(102, true), (103, true)], [(104, true), (105, true), (106, true), (107, false), (108, false), (109, false), (110, false)], [(111, false), (112, true), (113, true)], [(65, true), (66, true), (67, true), (68, true), (69, true), (70, false)], [(114, true), (115, true), (116, true), (117, true), (118, false), (119, false), (120, true), (121, true), (122, true)], [(123, false), (124, true), (125, false)], [(126, false)], [(127, true), (128, false)], [(131, true), (132, true), (133, true), (134, true), (135, true), (136, false)], [(137, true)], [(138, true), (139, true), (140, false), (141, true)], [(138, true), (139, true), (140, false), (141, true)], [(142, true)], [], [], [], [], [], [(143, true), (144, false), (145, true), (146, false)], [(147, true)], [(148, true), (149, false), (150, false)], [], [(151, false)]]
def jlay (k : Nat) : List (Nat × Bool) := jlayl.getD k []
def jTE : u_T := fun _ => ("java/lang/Enum", "ordinal", "I", true)
def jcls : List vw_C := [("java/lang/Object", jTE, 0), (RX1, TX1, 9), (RX2, TX2, 3), (RX3, TX3, 4), (RX4, TX4, 45), (RX5, TX5, 4), (RX6, TX6, 7), (RX7, TX7, 4), (RX8, TX8, 6), (RX9, jTE, 0), (RX10, TX10, 1), (RX11, TX11, 1), (RX12, TX12, 9), (RX13, TX13, 2), (RX14, TX14, 6), (RX15, TX15, 1), (RX16, TX16, 2), (RX17, TX17, 7), (RX18, TX18, 3), (RX19, TX19, 6), (RJ1, TJ1, 9), (RJ4, TJ4, 3), (RJ6, TJ6, 1), (RJ7, TJ7, 2), (RJ15, TJ15, 6), (RJ18, TJ18, 1), (RJ20, TJ20, 4), (RJ21, TJ21, 4), (RJ22, TJ22, 1), (RJ26, TJ26, 0), (RJ30, TJ30, 0), (RJ31, TJ31, 0), (RJ32, TJ32, 0), (RJ43, TJ43, 0), (RJ36, TJ36, 4), (RJ37, TJ37, 1), (RJ40, TJ40, 3), ("java/lang/Object", jTE, 0), ("java/lang/Object", jTE, 1)]
def jtys (dA : Nat → ClassId) : List (ClassId × FieldType) := [(dA 101, .int), (dA 102, .char), (dA 103, .boolean), (dA 101, .int), (dA 105, .long), (dA 106, .double), (dA 107, .object "java/lang/Object"), (dA 108, .object "PointerAnalyzer$Place"), (dA 109, .object "PointerAnalyzer$Term"), (dA 110, .object "java/util/BitSet"), (dA 111, .array .int), (dA 101, .int)]
/-- arrays that are only read: the script, a text's bytes, the cache of Integers -/
def jK3 (dA : Nat → ClassId) (U : State) : Prop := ArrOfT U (dA 100) .int ∧ ArrOfT U (dA 104) .byte ∧ ArrOfT U (dA 112) (.object "java/lang/Integer")
theorem jK3.moved {dA : Nat → ClassId} {u U : State} (hvm : u.vm.Alike U.vm) (h : jK3 dA u) : jK3 dA U := ⟨arrOfT_moved hvm h.1, arrOfT_moved hvm h.2.1, arrOfT_moved hvm h.2.2⟩
def jfcl : List (String × MethodName × MethodName) := [("java/util/TreeMap", ⟨"java/util/Map", "size", "()I"⟩, ⟨"java/util/TreeMap", "size", "()I"⟩), ("java/util/TreeMap", ⟨"java/util/SortedMap", "comparator", "()Ljava/util/Comparator;"⟩, ⟨"java/util/TreeMap", "comparator", "()Ljava/util/Comparator;"⟩), ("java/util/TreeMap", ⟨"java/util/Map", "entrySet", "()Ljava/util/Set;"⟩, ⟨"java/util/TreeMap", "entrySet", "()Ljava/util/Set;"⟩), ("java/util/TreeMap$EntrySet", ⟨"java/util/Set", "iterator", "()Ljava/util/Iterator;"⟩, ⟨"java/util/TreeMap$EntrySet", "iterator", "()Ljava/util/Iterator;"⟩), ("java/lang/Integer", ⟨"java/lang/Comparable", "compareTo", "(Ljava/lang/Object;)I"⟩, ⟨"java/lang/Integer", "compareTo", "(Ljava/lang/Object;)I"⟩), ("PointerAnalyzer$Context", ⟨"java/lang/Comparable", "compareTo", "(Ljava/lang/Object;)I"⟩, ⟨"PointerAnalyzer$Context", "compareTo", "(Ljava/lang/Object;)I"⟩), ("java/util/TreeMap", ⟨"java/util/NavigableMap", "navigableKeySet", "()Ljava/util/NavigableSet;"⟩, ⟨"java/util/TreeMap", "navigableKeySet", "()Ljava/util/NavigableSet;"⟩), ("java/util/TreeMap$KeySet", ⟨"java/util/NavigableSet", "iterator", "()Ljava/util/Iterator;"⟩, ⟨"java/util/TreeMap$KeySet", "iterator", "()Ljava/util/Iterator;"⟩), ("java/util/TreeMap$EntryIterator", ⟨"java/util/Iterator", "next", "()Ljava/lang/Object;"⟩, ⟨"java/util/TreeMap$EntryIterator", "next", "()Ljava/lang/Object;"⟩), ("java/util/TreeMap$Entry", ⟨"java/util/Map$Entry", "getKey", "()Ljava/lang/Object;"⟩, ⟨"java/util/TreeMap$Entry", "getKey", "()Ljava/lang/Object;"⟩), ("java/util/TreeMap$Entry", ⟨"java/util/Map$Entry", "getValue", "()Ljava/lang/Object;"⟩, ⟨"java/util/TreeMap$Entry", "getValue", "()Ljava/lang/Object;"⟩), ("java/util/TreeSet", ⟨"java/util/Collection", "toArray", "()[Ljava/lang/Object;"⟩, ⟨"java/util/AbstractCollection", "toArray", "()[Ljava/lang/Object;"⟩), ("PointerAnalyzer$FewestFirst", ⟨"java/util/Comparator", "compare", "(Ljava/lang/Object;Ljava/lang/Object;)I"⟩, ⟨"PointerAnalyzer$FewestFirst", "compare", "(Ljava/lang/Object;Ljava/lang/Object;)I"⟩), ("java/util/TreeMap$KeyIterator", ⟨"java/util/Iterator", "hasNext", "()Z"⟩, ⟨"java/util/TreeMap$PrivateEntryIterator", "hasNext", "()Z"⟩), ("java/util/TreeMap$KeyIterator", ⟨"java/util/Iterator", "next", "()Ljava/lang/Object;"⟩, ⟨"java/util/TreeMap$KeyIterator", "next", "()Ljava/lang/Object;"⟩), ("java/util/ArrayList", ⟨"java/util/Collection", "toArray", "()[Ljava/lang/Object;"⟩, ⟨"java/util/ArrayList", "toArray", "()[Ljava/lang/Object;"⟩)]
theorem jfcl_ok : ∀ q ∈ jfcl, q.2.1.cls ≠ "java/lang/invoke/MethodHandle" ∧ q.2.1.cls ≠ "java/lang/invoke/VarHandle" := by decide +kernel
/-- pairs of classes that do not cast: what handlers pass by -/
def jncl : List (String × String) := [("PointerAnalyzer$FaultException", "PointerAnalyzer$OverException"), ("PointerAnalyzer$FaultException", "java/util/NoSuchElementException"), ("PointerAnalyzer$FaultException", "java/lang/IllegalArgumentException"), ("PointerAnalyzer$FaultException", "java/lang/IllegalStateException"), ("PointerAnalyzer$FaultException", "java/lang/IndexOutOfBoundsException"), ("PointerAnalyzer$FaultException", "java/lang/ArithmeticException"), ("PointerAnalyzer$OverException", "PointerAnalyzer$FaultException"), ("PointerAnalyzer$OverException", "java/util/NoSuchElementException"), ("PointerAnalyzer$OverException", "java/lang/IllegalArgumentException"), ("PointerAnalyzer$OverException", "java/lang/IllegalStateException"), ("PointerAnalyzer$OverException", "java/lang/IndexOutOfBoundsException"), ("PointerAnalyzer$OverException", "java/lang/ArithmeticException"), ("java/util/NoSuchElementException", "PointerAnalyzer$FaultException"), ("java/util/NoSuchElementException", "PointerAnalyzer$OverException"), ("java/util/NoSuchElementException", "java/lang/IllegalArgumentException"), ("java/util/NoSuchElementException", "java/lang/IllegalStateException"), ("java/util/NoSuchElementException", "java/lang/IndexOutOfBoundsException"), ("java/util/NoSuchElementException", "java/lang/ArithmeticException"), ("java/lang/IllegalArgumentException", "PointerAnalyzer$FaultException"), ("java/lang/IllegalArgumentException", "PointerAnalyzer$OverException"), ("java/lang/IllegalArgumentException", "java/util/NoSuchElementException"), ("java/lang/IllegalArgumentException", "java/lang/IllegalStateException"), ("java/lang/IllegalArgumentException", "java/lang/IndexOutOfBoundsException"), ("java/lang/IllegalArgumentException", "java/lang/ArithmeticException"), ("java/lang/IllegalStateException", "PointerAnalyzer$FaultException"), ("java/lang/IllegalStateException", "PointerAnalyzer$OverException"), ("java/lang/IllegalStateException", "java/util/NoSuchElementException"), ("java/lang/IllegalStateException", "java/lang/IllegalArgumentException"), ("java/lang/IllegalStateException", "java/lang/IndexOutOfBoundsException"), ("java/lang/IllegalStateException", "java/lang/ArithmeticException"), ("java/lang/IndexOutOfBoundsException", "PointerAnalyzer$FaultException"), ("java/lang/IndexOutOfBoundsException", "PointerAnalyzer$OverException"), ("java/lang/IndexOutOfBoundsException", "java/util/NoSuchElementException"), ("java/lang/IndexOutOfBoundsException", "java/lang/IllegalArgumentException"), ("java/lang/IndexOutOfBoundsException", "java/lang/IllegalStateException"), ("java/lang/IndexOutOfBoundsException", "java/lang/ArithmeticException"), ("java/lang/ArithmeticException", "PointerAnalyzer$FaultException"), ("java/lang/ArithmeticException", "PointerAnalyzer$OverException"), ("java/lang/ArithmeticException", "java/util/NoSuchElementException"), ("java/lang/ArithmeticException", "java/lang/IllegalArgumentException"), ("java/lang/ArithmeticException", "java/lang/IllegalStateException"), ("java/lang/ArithmeticException", "java/lang/IndexOutOfBoundsException")]
def jcell (dA : Nat → ClassId) (k : Nat) (h : jH) (a : Nat) : va_E := if k < 100 then .inr (k, jfs (jlay k) h a) else .inl (dA k, jarr k h a)
def jcon (h : jH) (a : Nat) : Prop := jkd h a ∈ [22, 23, 37, 38, 100, 104, 112] ∨ (jkd h a = 107 ∧ jln h a = 0)
def jSz3 (a : Nat) (H : Heap) : Prop := ∃ cell : Cell, H[a]? = some cell ∧ cell.slots.size = 3
/-- a cell as it is read: nothing is said of its monitor and its hash -/
def jvm0 (cell : Cell) : Prop := (∀ q, cell.vm ≠ .statics q) ∧ cell.vm ≠ .unknown
theorem jvm0_st {cell : Cell} (h : jvm0 cell) : cell.vm.isStatics = false := by
  cases hv : cell.vm with
  | statics q => exact absurd hv (h.1 q)
  | _ => rfl
theorem jvm0_n {cell : Cell} (h : cell.vm = .none) : jvm0 cell := ⟨fun q e => (by rw [h] at e; cases e), fun e => (by rw [h] at e; cases e)⟩
def jwe (D : va_G) (q : Nat × va_E) (H : Heap) : Prop := match q.2 with
  | .inl x => ∃ cell : Cell, H[q.1]? = some cell ∧ cell.cls = x.1 ∧ jvm0 cell ∧ x.2.1 ≤ cell.slots.size ∧ cell.slots.size.toInt32 = Int32.ofNat x.2.1 ∧ ∀ j, j < x.2.1 → cell.slots[j]? = (vp_cell x.1 x.2).slots[j]?
  | .inr o => ∃ (r : vw_C) (cell : Cell), jcls[o.1]? = some r ∧ H[q.1]? = some cell ∧ cell.cls = D.1 o.1 ∧ jvm0 cell ∧ ∀ k, k < r.2.2 → cell.slots[D.2 o.1 k]? = some (vp_V o.2 k)
theorem vp_cell_vm (cA : ClassId) (x : vp_A) : (vp_cell cA x).vm = .none := by
  obtain ⟨n, f | f | f | f | f⟩ := x <;> rfl
theorem vp_cell_cls (cA : ClassId) (x : vp_A) : (vp_cell cA x).cls = cA := by
  obtain ⟨n, f | f | f | f | f⟩ := x <;> rfl
theorem vp_cell_sz (cA : ClassId) (x : vp_A) : (vp_cell cA x).slots.size = x.1 := by
  obtain ⟨n, f | f | f | f | f⟩ := x <;> exact arrV_size _ _ _
theorem jwe_of {D : va_G} {a : Nat} {e : va_E} {H : Heap} (h : va_at D jcls (a, e) H) : jwe D (a, e) H := by
  cases e with
  | inl x => exact ⟨_, h, vp_cell_cls _ _, jvm0_n (vp_cell_vm _ _), Nat.le_of_eq (vp_cell_sz _ _).symm, by rw [vp_cell_sz], fun _ _ => rfl⟩
  | inr o =>
    obtain ⟨r, h1, cell, q1, q2, q3, q4⟩ := h
    exact ⟨r, cell, h1, q1, q2, jvm0_n q3, q4⟩
theorem jwe.kept {D : va_G} {a : Nat} {e : va_E} {H H1 : Heap} (h : jwe D (a, e) H) (ho : H1[a]? = H[a]?) : jwe D (a, e) H1 := by
  cases e with
  | inl x =>
    obtain ⟨cell, q1, q2⟩ := h
    exact ⟨cell, ho.trans q1, q2⟩
  | inr o =>
    obtain ⟨r, cell, h1, q1, q2⟩ := h
    exact ⟨r, cell, h1, ho.trans q1, q2⟩
theorem jwe_lt {D : va_G} {a : Nat} {e : va_E} {H : Heap} (h : jwe D (a, e) H) : a < H.size := by
  cases e with
  | inl x =>
    obtain ⟨cell, q1, -⟩ := h
    exact (Array.getElem?_eq_some_iff.mp q1).1
  | inr o =>
    obtain ⟨r, cell, -, q1, -⟩ := h
    exact (Array.getElem?_eq_some_iff.mp q1).1
def jRep (D : va_G) (dA : Nat → ClassId) (lo : Nat) (h : jH) (H : Heap) : Prop := H.size = jsz h ∧ ∀ a, jkd h a ≠ 0 → (jwe D (a, jcell dA (jkd h a) h a) H ∧ (lo ≤ a → va_at D jcls (a, jcell dA (jkd h a) h a) H)) ∧ (lo ≤ a ∨ jcon h a) ∧ (jkd h a = 36 → jSz3 a H)
section JS
variable {p : Program} {l : Launch} {e : Env} {R : Room} {s : State} {m : MethodId} {args : Array Value} {below : List Frame} {meth : Method} {c : Code} {D : va_G} {dA : Nat → ClassId} {lo nL z0 w0 zF wF dd : Nat} {cs0 : Nat → Option Nat} {Q : State → Prop} {cc : ByteArray} {own : String} {pc : Nat} {Rf : jR}
def jSim (p : Program) (l : Launch) (e : Env) (R : Room) (s : State) (m : MethodId) (args : Array Value) (below : List Frame) (meth : Method) (c : Code) (D : va_G) (dA : Nat → ClassId) (lo : Nat) (cs0 : Nat → Option Nat) (nL z0 w0 zF wF : Nat) (Q : State → Prop) : jK := fun pc ls st h =>
  (jsz h ≤ zF ∧ jsl h ≤ wF) ∧ (z0 ≤ jsz h → w0 ≤ jsl h → (ls.length = nL ∧ jcs h = cs0) → ∀ (H : Heap) (locs : List Loc) (mls : Array Slot), jRep D dA lo h H → va_S (fun q => lo ≤ q) s.heap H locs → lv_has mls nL (jlv 0 ls) →
    W p l e R s m args below meth c H locs (jsz h - z0) (jsl h - w0) Q (F0 m pc mls (st.map jtv)))
/-- words of the tables that don't ride in lists -/
def jNok : Cond → Bool
  | .castable _ _ => true
  | .fieldLinkNest _ _ _ _ _ _ => true
  | .methodLinkNest _ _ _ _ => true
  | .declares _ => true
  | .interfaceMethod _ _ _ _ => true
  | .publicMethod _ => true
  | .unhidden _ _ _ => true
  | .arrayOver (.object _) => true
  | .arrayOver (.array _) => true
  | _ => false
def jNw (U : State) : Prop := ∀ w ∈ lw_tbl, jNok w = true → w.before #[] U = true
/-- the faces' facts that calls by an interface ask -/
def jOrd (U : State) : Prop := ∃ (cf : ClassId) (k : Class) (i : Nat) (f : Field), U.fieldFound? "java/lang/Enum" "ordinal" "I" = some (cf, k, i, f) ∧ f.isStatic = false
theorem jOrd.moved {u U : State} (hvm : u.vm.Alike U.vm) (h : jOrd u) : jOrd U := by
  obtain ⟨cf, k, i, f, h1, h2⟩ := h
  obtain ⟨k', hi', -⟩ := State.fieldFound?_setVm (s := u) hvm h1
  exact ⟨cf, k', i, f, by simpa only [State.fieldFound?, State.vm_setVm] using hi', h2⟩
theorem jif_rides {a a' : Array Value} {s U : State} (hal : s.vm.Alike U.vm) {ref owner name desc : String} (h : (Cond.interfaceMethod ref owner name desc).before a s = true) : (Cond.interfaceMethod ref owner name desc).before a' U = true := by
  have h1 : (Cond.interfaceMethod ref owner name desc).before a' (s.setVm U.vm) = (Cond.interfaceMethod ref owner name desc).before a s := by
    simp only [Cond.before, Cond.holds, Cond.value, State.vm_setVm, hal.findClass, State.methodFound?_setVm hal, State.methodNamed?_setVm hal, arm_isInterface_setVm hal]
  exact (show (Cond.interfaceMethod ref owner name desc).before a' (s.setVm U.vm) = true from h1.trans h)
/-- words of the start that the tables' list has not: an interface's inherited methods -/
def jnavl : List Cond := [.methodLink "java/util/TreeSet" 69 ⟨"java/util/NavigableMap", "put", "(Ljava/lang/Object;Ljava/lang/Object;)Ljava/lang/Object;"⟩, .methodLink "java/util/TreeSet" 53 ⟨"java/util/NavigableMap", "size", "()I"⟩, .interfaceMethod "java/util/NavigableMap" "java/util/Map" "put" "(Ljava/lang/Object;Ljava/lang/Object;)Ljava/lang/Object;", .interfaceMethod "java/util/NavigableMap" "java/util/Map" "size" "()I"]
def jNav (U : State) : Prop := ∀ w ∈ jnavl, w.before #[] U = true
theorem jNav.warm {s U : State} (hW : s.WarmedH U.vm) (h : jNav s) : jNav U :=
  List.forall_mem_cons.mpr ⟨word_at hW (good_of_word (by decide +kernel)) (h _ (List.mem_of_getElem? (i := 0) rfl)), List.forall_mem_cons.mpr ⟨word_at hW (good_of_word (by decide +kernel)) (h _ (List.mem_of_getElem? (i := 1) rfl)), List.forall_mem_cons.mpr ⟨jif_rides hW.alike (h _ (List.mem_of_getElem? (i := 2) rfl)), List.forall_mem_cons.mpr ⟨jif_rides hW.alike (h _ (List.mem_of_getElem? (i := 3) rfl)), List.forall_mem_nil _⟩⟩⟩⟩
theorem jNav.same {u U : State} (hv : u.vm = U.vm) (h : jNav u) : jNav U :=
  List.forall_mem_cons.mpr ⟨va_tabs rfl hv (h _ (List.mem_of_getElem? (i := 0) rfl)), List.forall_mem_cons.mpr ⟨va_tabs rfl hv (h _ (List.mem_of_getElem? (i := 1) rfl)), List.forall_mem_cons.mpr ⟨va_tabs rfl hv (h _ (List.mem_of_getElem? (i := 2) rfl)), List.forall_mem_cons.mpr ⟨va_tabs rfl hv (h _ (List.mem_of_getElem? (i := 3) rfl)), List.forall_mem_nil _⟩⟩⟩⟩
def jFs (U : State) : Prop := (∀ q ∈ jfcl, va_Fw q.1 q.2.1 q.2.2 U) ∧ (∀ q ∈ jncl, va_Nc q.1 q.2 U) ∧ jOrd U ∧ jNav U
theorem jFs.warm {s U : State} (hW : s.WarmedH U.vm) (h : jFs s) : jFs U := ⟨fun q hq => (h.1 q hq).moved (jfcl_ok q hq) hW.alike, fun q hq => (h.2.1 q hq).moved hW.alike, h.2.2.1.moved hW.alike, h.2.2.2.warm hW⟩
theorem jFs.same {u U : State} (hv : u.vm = U.vm) (h : jFs u) : jFs U := by
  have ha : u.vm.Alike U.vm := by rw [hv]; exact Vm.Alike.refl _
  exact ⟨fun q hq => (h.1 q hq).moved (jfcl_ok q hq) ha, fun q hq => (h.2.1 q hq).moved ha, h.2.2.1.moved ha, h.2.2.2.same hv⟩
def jstl : List (Nat × String × String × String) := [(0, "java/util/ArrayList", "DEFAULTCAPACITY_EMPTY_ELEMENTDATA", "[Ljava/lang/Object;"), (1, "java/util/ArrayList", "EMPTY_ELEMENTDATA", "[Ljava/lang/Object;"), (2, "java/util/TreeSet", "PRESENT", "Ljava/lang/Object;"), (3, "PointerAnalyzer$Kind", "ADDRESS", "LPointerAnalyzer$Kind;"), (4, "PointerAnalyzer$Kind", "COPY", "LPointerAnalyzer$Kind;"), (5, "PointerAnalyzer$Kind", "LOAD", "LPointerAnalyzer$Kind;"), (6, "PointerAnalyzer$Kind", "STORE", "LPointerAnalyzer$Kind;"), (7, "PointerAnalyzer$Kind", "ALLOCATION", "LPointerAnalyzer$Kind;"), (8, "PointerAnalyzer$Kind", "OFFSET", "LPointerAnalyzer$Kind;"), (9, "PointerAnalyzer$Kind", "CALL", "LPointerAnalyzer$Kind;"), (10, "java/lang/Integer$IntegerCache", "cache", "[Ljava/lang/Integer;"), (15, "java/lang/Throwable", "UNASSIGNED_STACK", "[Ljava/lang/StackTraceElement;"), (16, "java/lang/Throwable", "SUPPRESSED_SENTINEL", "Ljava/util/List;")]
def jsti : List (String × String × String × Int32) := [("java/lang/Integer$IntegerCache", "high", "I", 127), ("java/lang/String", "COMPACT_STRINGS", "Z", 1), ("java/util/BitSet", "$assertionsDisabled", "Z", 1)]
def jmir : List (Nat × String) := [(12, "java/util/ArrayList"), (13, "java/util/TreeSet"), (14, "[Ljava/lang/Object;")]
/-- the enum's constants: their class, their ordinals -/
def jOc (cs : Nat → Option Nat) (lo : Nat) (U : State) (H : Heap) : Prop := ∀ i : Nat, i < 7 → ∃ (a : Nat) (cell : Cell), cs (3 + i) = some a ∧ ¬ lo ≤ a ∧ H[a]? = some cell ∧ cell.vm.isStatics = false ∧ cell.vm ≠ .unknown ∧ U.vm.findClass "PointerAnalyzer$Kind" = some cell.cls ∧ ∃ sl : Nat, SlotIs U "java/lang/Enum" "ordinal" "I" sl ∧ cell.slots[sl]? = some (.int (nI i))
theorem jOc.kept {cs : Nat → Option Nat} {lo : Nat} {U : State} {H H1 : Heap} (h : jOc cs lo U H) (hq : ∀ a : Nat, a < H.size → ¬ lo ≤ a → H1[a]? = H[a]?) : jOc cs lo U H1 := fun i hi => by
  obtain ⟨a, cell, h1, h2, h3, h4⟩ := h i hi
  exact ⟨a, cell, h1, h2, (hq a (Array.getElem?_eq_some_iff.mp h3).1 h2).trans h3, h4⟩
theorem jOc.moved {cs : Nat → Option Nat} {lo : Nat} {s U : State} {H : Heap} (hvm : s.vm.Alike U.vm) (h : jOc cs lo s H) : jOc cs lo U H := fun i hi => by
  obtain ⟨a, cell, h1, h2, h3, h4, h5, h6, sl, h7, h8⟩ := h i hi
  exact ⟨a, cell, h1, h2, h3, h4, h5, by rw [hvm.findClass]; exact h6, sl, slotIs_moved hvm h7, h8⟩
/-- the constants: statics, the text, classes -/
def jSt (cs : Nat → Option Nat) (lo : Nat) (U : State) (H : Heap) : Prop :=
  (∀ q ∈ jstl, va_Z q.2.1 q.2.2.1 q.2.2.2 (va_rf (cs q.1)) (fun a => lo ≤ a) U H) ∧ (∀ q ∈ jsti, va_Z q.1 q.2.1 q.2.2.1 (.int q.2.2.2) (fun a => lo ≤ a) U H) ∧ (∃ t, cs 11 = some t ∧ vk_R "PointerAnalyzer$Reader" 45 "abcdprxy" t U) ∧ (∀ q ∈ jmir, ∃ mi, cs q.1 = some mi ∧ va_Mi q.2 mi U) ∧
  vx_Zq Bundle.tN "UNASSIGNED_STACK" Bundle.steD (fun a => lo ≤ a) U H ∧ vx_Zq Bundle.tN "SUPPRESSED_SENTINEL" Bundle.listD (fun a => lo ≤ a) U H ∧ jOc cs lo U H
theorem jSt.kept {cs : Nat → Option Nat} {lo : Nat} {U : State} {H H1 : Heap} (h : jSt cs lo U H) (hq : ∀ a : Nat, a < H.size → ¬ lo ≤ a → H1[a]? = H[a]?) : jSt cs lo U H1 :=
  ⟨fun q m => (h.1 q m).kept hq, fun q m => (h.2.1 q m).kept hq, h.2.2.1, h.2.2.2.1, h.2.2.2.2.1.kept hq, h.2.2.2.2.2.1.kept hq, h.2.2.2.2.2.2.kept hq⟩
theorem jSt.warm {cs : Nat → Option Nat} {lo : Nat} {s U : State} {H : Heap} (hW : s.WarmedH U.vm) (h : jSt cs lo s H) : jSt cs lo U H := by
  obtain ⟨h1, h2, ⟨t, h3, h4⟩, h5, h6, h7, h8⟩ := h
  exact ⟨fun q m => (h1 q m).moved hW.alike, fun q m => (h2 q m).moved hW.alike, ⟨t, h3, h4.warm hW⟩, fun q m => (h5 q m).imp fun mi k => ⟨k.1, k.2.moved hW.alike⟩, h6.moved hW.alike, h7.moved hW.alike, h8.moved hW.alike⟩
def jfrm (d : Nat) : Nat := d + 16
def jloc (d : Nat) : Nat := 64 * d + 600
/-- what stands all through a body -/
def jCx (p : Program) (l : Launch) (e : Env) (R : Room) (s : State) (m : MethodId) (args : Array Value) (meth : Method) (c : Code) (cc : ByteArray) (own : String) (D : va_G) (dA : Nat → ClassId) (lo : Nat) (cs0 : Nat → Option Nat) (nL z0 w0 zF wF dd : Nat) : Prop :=
  p.tables.exec = Jvm.exec ∧ c.code = cc ∧ s.vm.findClass own = some m.cls ∧ (∀ w ∈ lw_all, w.before args s = true) ∧ meth.locks = false ∧ c.maxLocals = nL ∧ R.cells = zF - z0 ∧ R.slots = wF - w0 ∧ (va_K D jcls (jtys dA) s ∧ jK3 dA s) ∧ (jNw s ∧ jFs s) ∧ jSt cs0 lo s s.heap ∧ jfrm (dd + 1) ≤ R.frames ∧ jloc (dd + 1) ≤ R.locals
theorem jSim_forget {pc : Nat} {l1 l2 : List (Option jV)} {st : List jV} {h : jH} (hs : jsub l1 l2) (k : jSim p l e R s m args below meth c D dA lo cs0 nL z0 w0 zF wF Q pc l1 st h) : jSim p l e R s m args below meth c D dA lo cs0 nL z0 w0 zF wF Q pc l2 st h :=
  ⟨k.1, fun a b n H locs mls r v w => k.2 a b ⟨hs.1.trans n.1, n.2⟩ H locs mls r v (jlv_forget w hs)⟩
theorem sm_iconst {x : Int32} {n : Int} (hv : Int32.ofInt n = x) (C : jCx p l e R s m args meth c cc own D dA lo cs0 nL z0 w0 zF wF dd) (d : decode cc pc = .ok (.iconst n, 1)) : ∀ ls st h, okc (jI x) (pc + 1) (jSim p l e R s m args below meth c D dA lo cs0 nL z0 w0 zF wF Q) Rf ls st h → jSim p l e R s m args below meth c D dA lo cs0 nL z0 w0 zF wF Q pc ls st h := by
  intro ls st h k
  exact ⟨k.1, fun a b n H locs mls r v w => lv_iconst (v := x) C.1 C.2.1 d hv (k.2 a b n H locs mls r v w)⟩
theorem sm_bipush {x : Int32} {n : Int} (hv : (Int8.ofInt n).toInt32 = x) (C : jCx p l e R s m args meth c cc own D dA lo cs0 nL z0 w0 zF wF dd) (d : decode cc pc = .ok (.bipush n, 2)) : ∀ ls st h, okc (jI x) (pc + 2) (jSim p l e R s m args below meth c D dA lo cs0 nL z0 w0 zF wF Q) Rf ls st h → jSim p l e R s m args below meth c D dA lo cs0 nL z0 w0 zF wF Q pc ls st h := by
  intro ls st h k
  exact ⟨k.1, fun a b n H locs mls r v w => lv_bipush (v := x) C.1 C.2.1 d hv (k.2 a b n H locs mls r v w)⟩
theorem sm_sipush {x : Int32} {n : Int} (hv : (Int16.ofInt n).toInt32 = x) (C : jCx p l e R s m args meth c cc own D dA lo cs0 nL z0 w0 zF wF dd) (d : decode cc pc = .ok (.sipush n, 3)) : ∀ ls st h, okc (jI x) (pc + 3) (jSim p l e R s m args below meth c D dA lo cs0 nL z0 w0 zF wF Q) Rf ls st h → jSim p l e R s m args below meth c D dA lo cs0 nL z0 w0 zF wF Q pc ls st h := by
  intro ls st h k
  exact ⟨k.1, fun a b n H locs mls r v w => lv_sipush (v := x) C.1 C.2.1 d hv (k.2 a b n H locs mls r v w)⟩
theorem sm_lconst {x : Int64} {n : Fin 2} (hv : Int64.ofNat (n : Nat) = x) (C : jCx p l e R s m args meth c cc own D dA lo cs0 nL z0 w0 zF wF dd) (d : decode cc pc = .ok (.lconst n, 1)) : ∀ ls st h, okc (jL x) (pc + 1) (jSim p l e R s m args below meth c D dA lo cs0 nL z0 w0 zF wF Q) Rf ls st h → jSim p l e R s m args below meth c D dA lo cs0 nL z0 w0 zF wF Q pc ls st h := by
  intro ls st h k
  exact ⟨k.1, fun a b n H locs mls r v w => lv_lconst (v := x) C.1 C.2.1 d hv (k.2 a b n H locs mls r v w)⟩
theorem sm_null (C : jCx p l e R s m args meth c cc own D dA lo cs0 nL z0 w0 zF wF dd) (d : decode cc pc = .ok (.aconst_null, 1)) : ∀ ls st h, okc (jP none) (pc + 1) (jSim p l e R s m args below meth c D dA lo cs0 nL z0 w0 zF wF Q) Rf ls st h → jSim p l e R s m args below meth c D dA lo cs0 nL z0 w0 zF wF Q pc ls st h := by
  intro ls st h k
  exact ⟨k.1, fun a b n H locs mls r v w => lv_null C.1 C.2.1 d (k.2 a b n H locs mls r v w)⟩
theorem sm_dconst0 (C : jCx p l e R s m args meth c cc own D dA lo cs0 nL z0 w0 zF wF dd) (d : decode cc pc = .ok (.dconst 0, 1)) : ∀ ls st h, okc (jD 0) (pc + 1) (jSim p l e R s m args below meth c D dA lo cs0 nL z0 w0 zF wF Q) Rf ls st h → jSim p l e R s m args below meth c D dA lo cs0 nL z0 w0 zF wF Q pc ls st h := by
  intro ls st h k
  exact ⟨k.1, fun a b n H locs mls r v w => lv_dconst0 C.1 C.2.1 d (k.2 a b n H locs mls r v w)⟩
theorem sm_fconst0 (C : jCx p l e R s m args meth c cc own D dA lo cs0 nL z0 w0 zF wF dd) (d : decode cc pc = .ok (.fconst 0, 1)) : ∀ ls st h, okc (jF 0) (pc + 1) (jSim p l e R s m args below meth c D dA lo cs0 nL z0 w0 zF wF Q) Rf ls st h → jSim p l e R s m args below meth c D dA lo cs0 nL z0 w0 zF wF Q pc ls st h := by
  intro ls st h k
  exact ⟨k.1, fun a b n H locs mls r v w => lv_fconst0 C.1 C.2.1 d (k.2 a b n H locs mls r v w)⟩
theorem sm_ldc {x : Int32} {ix : Nat} (hq : Cond.constant own ix x ∈ lw_all) (C : jCx p l e R s m args meth c cc own D dA lo cs0 nL z0 w0 zF wF dd) (d : decode cc pc = .ok (.ldc ix, 2)) : ∀ ls st h, okc (jI x) (pc + 2) (jSim p l e R s m args below meth c D dA lo cs0 nL z0 w0 zF wF Q) Rf ls st h → jSim p l e R s m args below meth c D dA lo cs0 nL z0 w0 zF wF Q pc ls st h := by
  intro ls st h k
  exact ⟨k.1, fun a b n H locs mls r v w => lv_ldc C.1 C.2.1 C.2.2.1 (C.2.2.2.1 _ hq) d (k.2 a b n H locs mls r v w)⟩
theorem sm_ldcw {x : Int32} {ix : Nat} (hq : Cond.constant own ix x ∈ lw_all) (C : jCx p l e R s m args meth c cc own D dA lo cs0 nL z0 w0 zF wF dd) (d : decode cc pc = .ok (.ldc_w ix, 3)) : ∀ ls st h, okc (jI x) (pc + 3) (jSim p l e R s m args below meth c D dA lo cs0 nL z0 w0 zF wF Q) Rf ls st h → jSim p l e R s m args below meth c D dA lo cs0 nL z0 w0 zF wF Q pc ls st h := by
  intro ls st h k
  exact ⟨k.1, fun a b n H locs mls r v w => lv_ldcw C.1 C.2.1 C.2.2.1 (C.2.2.2.1 _ hq) d (k.2 a b n H locs mls r v w)⟩
theorem sm_ldc2 {x : Int64} {ix : Nat} (hq : Cond.constantLong own ix x ∈ lw_all) (C : jCx p l e R s m args meth c cc own D dA lo cs0 nL z0 w0 zF wF dd) (d : decode cc pc = .ok (.ldc2_w ix, 3)) : ∀ ls st h, okc (jL x) (pc + 3) (jSim p l e R s m args below meth c D dA lo cs0 nL z0 w0 zF wF Q) Rf ls st h → jSim p l e R s m args below meth c D dA lo cs0 nL z0 w0 zF wF Q pc ls st h := by
  intro ls st h k
  exact ⟨k.1, fun a b n H locs mls r v w => lv_ldc2 C.1 C.2.1 C.2.2.1 (C.2.2.2.1 _ hq) d (k.2 a b n H locs mls r v w)⟩
theorem sm_iload_n {i : Nat} {k4 : Fin 4} (hi : (k4 : Nat) = i) (C : jCx p l e R s m args meth c cc own D dA lo cs0 nL z0 w0 zF wF dd) (d : decode cc pc = .ok (.iload_n k4, 1)) : ∀ ls st h, oldI i (pc + 1) (jSim p l e R s m args below meth c D dA lo cs0 nL z0 w0 zF wF Q) Rf ls st h → jSim p l e R s m args below meth c D dA lo cs0 nL z0 w0 zF wF Q pc ls st h := by
  intro ls st h k
  unfold oldI at k
  split at k
  · rename_i v0 hv0
    exact ⟨k.1, fun a b n H locs mls r v w => lv_iload_n C.1 C.2.1 d hi (jlv_at w hv0) (k.2 a b n H locs mls r v w)⟩
  · exact k.elim
theorem sm_iload {i : Nat} (C : jCx p l e R s m args meth c cc own D dA lo cs0 nL z0 w0 zF wF dd) (d : decode cc pc = .ok (.iload i, 2)) : ∀ ls st h, oldI i (pc + 2) (jSim p l e R s m args below meth c D dA lo cs0 nL z0 w0 zF wF Q) Rf ls st h → jSim p l e R s m args below meth c D dA lo cs0 nL z0 w0 zF wF Q pc ls st h := by
  intro ls st h k
  unfold oldI at k
  split at k
  · rename_i v0 hv0
    exact ⟨k.1, fun a b n H locs mls r v w => lv_iload C.1 C.2.1 d (jlv_at w hv0) (k.2 a b n H locs mls r v w)⟩
  · exact k.elim
theorem sm_lload_n {i : Nat} {k4 : Fin 4} (hi : (k4 : Nat) = i) (C : jCx p l e R s m args meth c cc own D dA lo cs0 nL z0 w0 zF wF dd) (d : decode cc pc = .ok (.lload_n k4, 1)) : ∀ ls st h, oldL i (pc + 1) (jSim p l e R s m args below meth c D dA lo cs0 nL z0 w0 zF wF Q) Rf ls st h → jSim p l e R s m args below meth c D dA lo cs0 nL z0 w0 zF wF Q pc ls st h := by
  intro ls st h k
  unfold oldL at k
  split at k
  · rename_i v0 hv0
    exact ⟨k.1, fun a b n H locs mls r v w => lv_lload_n C.1 C.2.1 d hi (jlv_at w hv0) (k.2 a b n H locs mls r v w)⟩
  · exact k.elim
theorem sm_lload {i : Nat} (C : jCx p l e R s m args meth c cc own D dA lo cs0 nL z0 w0 zF wF dd) (d : decode cc pc = .ok (.lload i, 2)) : ∀ ls st h, oldL i (pc + 2) (jSim p l e R s m args below meth c D dA lo cs0 nL z0 w0 zF wF Q) Rf ls st h → jSim p l e R s m args below meth c D dA lo cs0 nL z0 w0 zF wF Q pc ls st h := by
  intro ls st h k
  unfold oldL at k
  split at k
  · rename_i v0 hv0
    exact ⟨k.1, fun a b n H locs mls r v w => lv_lload C.1 C.2.1 d (jlv_at w hv0) (k.2 a b n H locs mls r v w)⟩
  · exact k.elim
theorem sm_dload {i : Nat} (C : jCx p l e R s m args meth c cc own D dA lo cs0 nL z0 w0 zF wF dd) (d : decode cc pc = .ok (.dload i, 2)) : ∀ ls st h, oldD i (pc + 2) (jSim p l e R s m args below meth c D dA lo cs0 nL z0 w0 zF wF Q) Rf ls st h → jSim p l e R s m args below meth c D dA lo cs0 nL z0 w0 zF wF Q pc ls st h := by
  intro ls st h k
  unfold oldD at k
  split at k
  · rename_i v0 hv0
    exact ⟨k.1, fun a b n H locs mls r v w => lv_dload C.1 C.2.1 d (jlv_at w hv0) (k.2 a b n H locs mls r v w)⟩
  · exact k.elim
theorem sm_fload {i : Nat} (C : jCx p l e R s m args meth c cc own D dA lo cs0 nL z0 w0 zF wF dd) (d : decode cc pc = .ok (.fload i, 2)) : ∀ ls st h, oldF i (pc + 2) (jSim p l e R s m args below meth c D dA lo cs0 nL z0 w0 zF wF Q) Rf ls st h → jSim p l e R s m args below meth c D dA lo cs0 nL z0 w0 zF wF Q pc ls st h := by
  intro ls st h k
  unfold oldF at k
  split at k
  · rename_i v0 hv0
    exact ⟨k.1, fun a b n H locs mls r v w => lv_fload C.1 C.2.1 d (jlv_at w hv0) (k.2 a b n H locs mls r v w)⟩
  · exact k.elim
theorem sm_aload_n {i : Nat} {k4 : Fin 4} (hi : (k4 : Nat) = i) (C : jCx p l e R s m args meth c cc own D dA lo cs0 nL z0 w0 zF wF dd) (d : decode cc pc = .ok (.aload_n k4, 1)) : ∀ ls st h, oldP i (pc + 1) (jSim p l e R s m args below meth c D dA lo cs0 nL z0 w0 zF wF Q) Rf ls st h → jSim p l e R s m args below meth c D dA lo cs0 nL z0 w0 zF wF Q pc ls st h := by
  intro ls st h k
  unfold oldP at k
  split at k
  · rename_i v0 hv0
    refine ⟨k.1, fun a b n H locs mls r v w => ?_⟩
    have h9 := k.2 a b n H locs mls r v w
    have h8 := jlv_at w hv0
    cases v0 with
    | none => exact lv_aload_nN C.1 C.2.1 d hi h8 h9
    | some x => exact lv_aload_n C.1 C.2.1 d hi h8 h9
  · exact k.elim
theorem sm_aload {i : Nat} (C : jCx p l e R s m args meth c cc own D dA lo cs0 nL z0 w0 zF wF dd) (d : decode cc pc = .ok (.aload i, 2)) : ∀ ls st h, oldP i (pc + 2) (jSim p l e R s m args below meth c D dA lo cs0 nL z0 w0 zF wF Q) Rf ls st h → jSim p l e R s m args below meth c D dA lo cs0 nL z0 w0 zF wF Q pc ls st h := by
  intro ls st h k
  unfold oldP at k
  split at k
  · rename_i v0 hv0
    refine ⟨k.1, fun a b n H locs mls r v w => ?_⟩
    have h9 := k.2 a b n H locs mls r v w
    have h8 := jlv_at w hv0
    cases v0 with
    | none => exact lv_aloadN C.1 C.2.1 d h8 h9
    | some x => exact lv_aload C.1 C.2.1 d h8 h9
  · exact k.elim
theorem sm_istore_n {i : Nat} {k4 : Fin 4} (hi : (k4 : Nat) = i) (C : jCx p l e R s m args meth c cc own D dA lo cs0 nL z0 w0 zF wF dd) (d : decode cc pc = .ok (.istore_n k4, 1)) : ∀ ls st h, ostI i (pc + 1) (jSim p l e R s m args below meth c D dA lo cs0 nL z0 w0 zF wF Q) Rf ls st h → jSim p l e R s m args below meth c D dA lo cs0 nL z0 w0 zF wF Q pc ls st h := by
  intro ls st h k
  unfold ostI at k
  split at k
  · obtain ⟨g, k⟩ := jgd_ex k
    refine ⟨k.1, fun a b n H locs mls r v w => ?_⟩
    refine lv_istore_n C.1 C.2.1 d hi w (by have := Nat.le_of_ble_eq_true g; have := n.1; omega) rfl fun ls9 h9 => ?_
    exact k.2 a b ⟨(jset_len _ _ _).trans n.1, n.2⟩ H locs ls9 r v (jlv_sub h9 (jlv_set1 rfl))
  · exact k.elim
theorem sm_istore {i : Nat} (C : jCx p l e R s m args meth c cc own D dA lo cs0 nL z0 w0 zF wF dd) (d : decode cc pc = .ok (.istore i, 2)) : ∀ ls st h, ostI i (pc + 2) (jSim p l e R s m args below meth c D dA lo cs0 nL z0 w0 zF wF Q) Rf ls st h → jSim p l e R s m args below meth c D dA lo cs0 nL z0 w0 zF wF Q pc ls st h := by
  intro ls st h k
  unfold ostI at k
  split at k
  · obtain ⟨g, k⟩ := jgd_ex k
    refine ⟨k.1, fun a b n H locs mls r v w => ?_⟩
    refine lv_istore C.1 C.2.1 d w (by have := Nat.le_of_ble_eq_true g; have := n.1; omega) rfl fun ls9 h9 => ?_
    exact k.2 a b ⟨(jset_len _ _ _).trans n.1, n.2⟩ H locs ls9 r v (jlv_sub h9 (jlv_set1 rfl))
  · exact k.elim
theorem sm_lstore_n {i : Nat} {k4 : Fin 4} (hi : (k4 : Nat) = i) (C : jCx p l e R s m args meth c cc own D dA lo cs0 nL z0 w0 zF wF dd) (d : decode cc pc = .ok (.lstore_n k4, 1)) : ∀ ls st h, ostL i (pc + 1) (jSim p l e R s m args below meth c D dA lo cs0 nL z0 w0 zF wF Q) Rf ls st h → jSim p l e R s m args below meth c D dA lo cs0 nL z0 w0 zF wF Q pc ls st h := by
  intro ls st h k
  unfold ostL at k
  split at k
  · obtain ⟨g, k⟩ := jgd_ex k
    refine ⟨k.1, fun a b n H locs mls r v w => ?_⟩
    refine lv_lstore_n C.1 C.2.1 d hi w (by have := Nat.le_of_ble_eq_true g; have := n.1; omega) rfl fun ls9 h9 => ?_
    exact k.2 a b ⟨(jset_len _ _ _).trans n.1, n.2⟩ H locs ls9 r v (jlv_sub h9 (jlv_set2 rfl))
  · exact k.elim
theorem sm_lstore {i : Nat} (C : jCx p l e R s m args meth c cc own D dA lo cs0 nL z0 w0 zF wF dd) (d : decode cc pc = .ok (.lstore i, 2)) : ∀ ls st h, ostL i (pc + 2) (jSim p l e R s m args below meth c D dA lo cs0 nL z0 w0 zF wF Q) Rf ls st h → jSim p l e R s m args below meth c D dA lo cs0 nL z0 w0 zF wF Q pc ls st h := by
  intro ls st h k
  unfold ostL at k
  split at k
  · obtain ⟨g, k⟩ := jgd_ex k
    refine ⟨k.1, fun a b n H locs mls r v w => ?_⟩
    refine lv_lstore C.1 C.2.1 d w (by have := Nat.le_of_ble_eq_true g; have := n.1; omega) rfl fun ls9 h9 => ?_
    exact k.2 a b ⟨(jset_len _ _ _).trans n.1, n.2⟩ H locs ls9 r v (jlv_sub h9 (jlv_set2 rfl))
  · exact k.elim
theorem sm_dstore {i : Nat} (C : jCx p l e R s m args meth c cc own D dA lo cs0 nL z0 w0 zF wF dd) (d : decode cc pc = .ok (.dstore i, 2)) : ∀ ls st h, ostD i (pc + 2) (jSim p l e R s m args below meth c D dA lo cs0 nL z0 w0 zF wF Q) Rf ls st h → jSim p l e R s m args below meth c D dA lo cs0 nL z0 w0 zF wF Q pc ls st h := by
  intro ls st h k
  unfold ostD at k
  split at k
  · obtain ⟨g, k⟩ := jgd_ex k
    refine ⟨k.1, fun a b n H locs mls r v w => ?_⟩
    refine lv_dstore C.1 C.2.1 d w (by have := Nat.le_of_ble_eq_true g; have := n.1; omega) rfl fun ls9 h9 => ?_
    exact k.2 a b ⟨(jset_len _ _ _).trans n.1, n.2⟩ H locs ls9 r v (jlv_sub h9 (jlv_set2 rfl))
  · exact k.elim
theorem sm_fstore {i : Nat} (C : jCx p l e R s m args meth c cc own D dA lo cs0 nL z0 w0 zF wF dd) (d : decode cc pc = .ok (.fstore i, 2)) : ∀ ls st h, ostF i (pc + 2) (jSim p l e R s m args below meth c D dA lo cs0 nL z0 w0 zF wF Q) Rf ls st h → jSim p l e R s m args below meth c D dA lo cs0 nL z0 w0 zF wF Q pc ls st h := by
  intro ls st h k
  unfold ostF at k
  split at k
  · obtain ⟨g, k⟩ := jgd_ex k
    refine ⟨k.1, fun a b n H locs mls r v w => ?_⟩
    refine lv_fstore C.1 C.2.1 d w (by have := Nat.le_of_ble_eq_true g; have := n.1; omega) rfl fun ls9 h9 => ?_
    exact k.2 a b ⟨(jset_len _ _ _).trans n.1, n.2⟩ H locs ls9 r v (jlv_sub h9 (jlv_set1 rfl))
  · exact k.elim
theorem sm_astore_n {i : Nat} {k4 : Fin 4} (hi : (k4 : Nat) = i) (C : jCx p l e R s m args meth c cc own D dA lo cs0 nL z0 w0 zF wF dd) (d : decode cc pc = .ok (.astore_n k4, 1)) : ∀ ls st h, ostP i (pc + 1) (jSim p l e R s m args below meth c D dA lo cs0 nL z0 w0 zF wF Q) Rf ls st h → jSim p l e R s m args below meth c D dA lo cs0 nL z0 w0 zF wF Q pc ls st h := by
  intro ls st h k
  unfold ostP at k
  split at k
  · rename_i v0 _
    obtain ⟨g, k⟩ := jgd_ex k
    refine ⟨k.1, fun a b n H locs mls r v w => ?_⟩
    cases v0 with
    | none =>
      refine lv_astore_nN C.1 C.2.1 d hi w (by have := Nat.le_of_ble_eq_true g; have := n.1; omega) rfl fun ls9 h9 => ?_
      exact k.2 a b ⟨(jset_len _ _ _).trans n.1, n.2⟩ H locs ls9 r v (jlv_sub h9 (jlv_set1 rfl))
    | some x =>
      refine lv_astore_n C.1 C.2.1 d hi w (by have := Nat.le_of_ble_eq_true g; have := n.1; omega) rfl fun ls9 h9 => ?_
      exact k.2 a b ⟨(jset_len _ _ _).trans n.1, n.2⟩ H locs ls9 r v (jlv_sub h9 (jlv_set1 rfl))
  · exact k.elim
theorem sm_astore {i : Nat} (C : jCx p l e R s m args meth c cc own D dA lo cs0 nL z0 w0 zF wF dd) (d : decode cc pc = .ok (.astore i, 2)) : ∀ ls st h, ostP i (pc + 2) (jSim p l e R s m args below meth c D dA lo cs0 nL z0 w0 zF wF Q) Rf ls st h → jSim p l e R s m args below meth c D dA lo cs0 nL z0 w0 zF wF Q pc ls st h := by
  intro ls st h k
  unfold ostP at k
  split at k
  · rename_i v0 _
    obtain ⟨g, k⟩ := jgd_ex k
    refine ⟨k.1, fun a b n H locs mls r v w => ?_⟩
    cases v0 with
    | none =>
      refine lv_astoreN C.1 C.2.1 d w (by have := Nat.le_of_ble_eq_true g; have := n.1; omega) rfl fun ls9 h9 => ?_
      exact k.2 a b ⟨(jset_len _ _ _).trans n.1, n.2⟩ H locs ls9 r v (jlv_sub h9 (jlv_set1 rfl))
    | some x =>
      refine lv_astore C.1 C.2.1 d w (by have := Nat.le_of_ble_eq_true g; have := n.1; omega) rfl fun ls9 h9 => ?_
      exact k.2 a b ⟨(jset_len _ _ _).trans n.1, n.2⟩ H locs ls9 r v (jlv_sub h9 (jlv_set1 rfl))
  · exact k.elim
theorem sm_iinc {i : Nat} {n : Int} {x : Int32} (hv : Int32.ofInt n = x) (C : jCx p l e R s m args meth c cc own D dA lo cs0 nL z0 w0 zF wF dd) (d : decode cc pc = .ok (.iinc i n, 3)) : ∀ ls st h, oinc i x (pc + 3) (jSim p l e R s m args below meth c D dA lo cs0 nL z0 w0 zF wF Q) Rf ls st h → jSim p l e R s m args below meth c D dA lo cs0 nL z0 w0 zF wF Q pc ls st h := by
  intro ls st h k
  unfold oinc at k
  split at k
  · rename_i v0 hv0
    obtain ⟨g, k⟩ := jgd_ex k
    refine ⟨k.1, fun a b n9 H locs mls r v w => ?_⟩
    have hm : (i, Value.int v0) ∈ jlv 0 ls := jlv_mem.mpr ⟨i, _, hv0, by rw [Nat.zero_add]; rfl⟩
    obtain ⟨j, hj⟩ := List.getElem?_of_mem hm
    refine lv_iinc (k := j) C.1 C.2.1 d w hj (by rw [hv]) (by have := Nat.le_of_ble_eq_true g; have := n9.1; omega) rfl fun ls9 h9 => ?_
    exact k.2 a b ⟨(jset_len _ _ _).trans n9.1, n9.2⟩ H locs ls9 r v (jlv_sub h9 (jlv_set1 rfl))
  · exact k.elim
theorem sm_iadd (C : jCx p l e R s m args meth c cc own D dA lo cs0 nL z0 w0 zF wF dd) (d : decode cc pc = .ok (.iadd, 1)) : ∀ ls st h, oi2 (fun x y => x + y) (pc + 1) (jSim p l e R s m args below meth c D dA lo cs0 nL z0 w0 zF wF Q) Rf ls st h → jSim p l e R s m args below meth c D dA lo cs0 nL z0 w0 zF wF Q pc ls st h := by
  intro ls st h k
  unfold oi2 at k
  split at k
  · exact ⟨k.1, fun a b n H locs mls r v w => lv_iadd C.1 C.2.1 d (k.2 a b n H locs mls r v w)⟩
  · exact k.elim
theorem sm_isub (C : jCx p l e R s m args meth c cc own D dA lo cs0 nL z0 w0 zF wF dd) (d : decode cc pc = .ok (.isub, 1)) : ∀ ls st h, oi2 (fun x y => x - y) (pc + 1) (jSim p l e R s m args below meth c D dA lo cs0 nL z0 w0 zF wF Q) Rf ls st h → jSim p l e R s m args below meth c D dA lo cs0 nL z0 w0 zF wF Q pc ls st h := by
  intro ls st h k
  unfold oi2 at k
  split at k
  · exact ⟨k.1, fun a b n H locs mls r v w => lv_isub C.1 C.2.1 d (k.2 a b n H locs mls r v w)⟩
  · exact k.elim
theorem sm_imul (C : jCx p l e R s m args meth c cc own D dA lo cs0 nL z0 w0 zF wF dd) (d : decode cc pc = .ok (.imul, 1)) : ∀ ls st h, oi2 (fun x y => x * y) (pc + 1) (jSim p l e R s m args below meth c D dA lo cs0 nL z0 w0 zF wF Q) Rf ls st h → jSim p l e R s m args below meth c D dA lo cs0 nL z0 w0 zF wF Q pc ls st h := by
  intro ls st h k
  unfold oi2 at k
  split at k
  · exact ⟨k.1, fun a b n H locs mls r v w => lv_imul C.1 C.2.1 d (k.2 a b n H locs mls r v w)⟩
  · exact k.elim
theorem sm_iand (C : jCx p l e R s m args meth c cc own D dA lo cs0 nL z0 w0 zF wF dd) (d : decode cc pc = .ok (.iand, 1)) : ∀ ls st h, oi2 (fun x y => x &&& y) (pc + 1) (jSim p l e R s m args below meth c D dA lo cs0 nL z0 w0 zF wF Q) Rf ls st h → jSim p l e R s m args below meth c D dA lo cs0 nL z0 w0 zF wF Q pc ls st h := by
  intro ls st h k
  unfold oi2 at k
  split at k
  · exact ⟨k.1, fun a b n H locs mls r v w => lv_iand C.1 C.2.1 d (k.2 a b n H locs mls r v w)⟩
  · exact k.elim
theorem sm_ior (C : jCx p l e R s m args meth c cc own D dA lo cs0 nL z0 w0 zF wF dd) (d : decode cc pc = .ok (.ior, 1)) : ∀ ls st h, oi2 (fun x y => x ||| y) (pc + 1) (jSim p l e R s m args below meth c D dA lo cs0 nL z0 w0 zF wF Q) Rf ls st h → jSim p l e R s m args below meth c D dA lo cs0 nL z0 w0 zF wF Q pc ls st h := by
  intro ls st h k
  unfold oi2 at k
  split at k
  · exact ⟨k.1, fun a b n H locs mls r v w => lv_ior C.1 C.2.1 d (k.2 a b n H locs mls r v w)⟩
  · exact k.elim
theorem sm_ixor (C : jCx p l e R s m args meth c cc own D dA lo cs0 nL z0 w0 zF wF dd) (d : decode cc pc = .ok (.ixor, 1)) : ∀ ls st h, oi2 (fun x y => x ^^^ y) (pc + 1) (jSim p l e R s m args below meth c D dA lo cs0 nL z0 w0 zF wF Q) Rf ls st h → jSim p l e R s m args below meth c D dA lo cs0 nL z0 w0 zF wF Q pc ls st h := by
  intro ls st h k
  unfold oi2 at k
  split at k
  · exact ⟨k.1, fun a b n H locs mls r v w => lv_ixor C.1 C.2.1 d (k.2 a b n H locs mls r v w)⟩
  · exact k.elim
theorem sm_ishl (C : jCx p l e R s m args meth c cc own D dA lo cs0 nL z0 w0 zF wF dd) (d : decode cc pc = .ok (.ishl, 1)) : ∀ ls st h, oi2 (fun x y => x <<< (y &&& 31)) (pc + 1) (jSim p l e R s m args below meth c D dA lo cs0 nL z0 w0 zF wF Q) Rf ls st h → jSim p l e R s m args below meth c D dA lo cs0 nL z0 w0 zF wF Q pc ls st h := by
  intro ls st h k
  unfold oi2 at k
  split at k
  · exact ⟨k.1, fun a b n H locs mls r v w => lv_ishl C.1 C.2.1 d (k.2 a b n H locs mls r v w)⟩
  · exact k.elim
theorem sm_ishr (C : jCx p l e R s m args meth c cc own D dA lo cs0 nL z0 w0 zF wF dd) (d : decode cc pc = .ok (.ishr, 1)) : ∀ ls st h, oi2 (fun x y => x >>> (y &&& 31)) (pc + 1) (jSim p l e R s m args below meth c D dA lo cs0 nL z0 w0 zF wF Q) Rf ls st h → jSim p l e R s m args below meth c D dA lo cs0 nL z0 w0 zF wF Q pc ls st h := by
  intro ls st h k
  unfold oi2 at k
  split at k
  · exact ⟨k.1, fun a b n H locs mls r v w => lv_ishr C.1 C.2.1 d (k.2 a b n H locs mls r v w)⟩
  · exact k.elim
theorem sm_iushr (C : jCx p l e R s m args meth c cc own D dA lo cs0 nL z0 w0 zF wF dd) (d : decode cc pc = .ok (.iushr, 1)) : ∀ ls st h, oi2 (fun x y => (x.toUInt32 >>> (y.toUInt32 &&& Int32.toUInt32 31)).toInt32) (pc + 1) (jSim p l e R s m args below meth c D dA lo cs0 nL z0 w0 zF wF Q) Rf ls st h → jSim p l e R s m args below meth c D dA lo cs0 nL z0 w0 zF wF Q pc ls st h := by
  intro ls st h k
  unfold oi2 at k
  split at k
  · exact ⟨k.1, fun a b n H locs mls r v w => lv_iushr C.1 C.2.1 d rfl (k.2 a b n H locs mls r v w)⟩
  · exact k.elim
theorem sm_idiv (C : jCx p l e R s m args meth c cc own D dA lo cs0 nL z0 w0 zF wF dd) (d : decode cc pc = .ok (.idiv, 1)) : ∀ ls st h, oi2n (fun x y => x / y) (pc + 1) (jSim p l e R s m args below meth c D dA lo cs0 nL z0 w0 zF wF Q) Rf ls st h → jSim p l e R s m args below meth c D dA lo cs0 nL z0 w0 zF wF Q pc ls st h := by
  intro ls st h k
  unfold oi2n at k
  split at k
  · exact ⟨k.2.1, fun a b n H locs mls r v w => lv_idiv C.1 C.2.1 d k.1 (k.2.2 a b n H locs mls r v w)⟩
  · exact k.elim
theorem sm_irem (C : jCx p l e R s m args meth c cc own D dA lo cs0 nL z0 w0 zF wF dd) (d : decode cc pc = .ok (.irem, 1)) : ∀ ls st h, oi2n (fun x y => x - x / y * y) (pc + 1) (jSim p l e R s m args below meth c D dA lo cs0 nL z0 w0 zF wF Q) Rf ls st h → jSim p l e R s m args below meth c D dA lo cs0 nL z0 w0 zF wF Q pc ls st h := by
  intro ls st h k
  unfold oi2n at k
  split at k
  · exact ⟨k.2.1, fun a b n H locs mls r v w => lv_irem C.1 C.2.1 d k.1 (k.2.2 a b n H locs mls r v w)⟩
  · exact k.elim
theorem sm_ladd (C : jCx p l e R s m args meth c cc own D dA lo cs0 nL z0 w0 zF wF dd) (d : decode cc pc = .ok (.ladd, 1)) : ∀ ls st h, ol2 (fun x y => x + y) (pc + 1) (jSim p l e R s m args below meth c D dA lo cs0 nL z0 w0 zF wF Q) Rf ls st h → jSim p l e R s m args below meth c D dA lo cs0 nL z0 w0 zF wF Q pc ls st h := by
  intro ls st h k
  unfold ol2 at k
  split at k
  · exact ⟨k.1, fun a b n H locs mls r v w => lv_ladd C.1 C.2.1 d (k.2 a b n H locs mls r v w)⟩
  · exact k.elim
theorem sm_lsub (C : jCx p l e R s m args meth c cc own D dA lo cs0 nL z0 w0 zF wF dd) (d : decode cc pc = .ok (.lsub, 1)) : ∀ ls st h, ol2 (fun x y => x - y) (pc + 1) (jSim p l e R s m args below meth c D dA lo cs0 nL z0 w0 zF wF Q) Rf ls st h → jSim p l e R s m args below meth c D dA lo cs0 nL z0 w0 zF wF Q pc ls st h := by
  intro ls st h k
  unfold ol2 at k
  split at k
  · exact ⟨k.1, fun a b n H locs mls r v w => lv_lsub C.1 C.2.1 d (k.2 a b n H locs mls r v w)⟩
  · exact k.elim
theorem sm_land (C : jCx p l e R s m args meth c cc own D dA lo cs0 nL z0 w0 zF wF dd) (d : decode cc pc = .ok (.land, 1)) : ∀ ls st h, ol2 (fun x y => x &&& y) (pc + 1) (jSim p l e R s m args below meth c D dA lo cs0 nL z0 w0 zF wF Q) Rf ls st h → jSim p l e R s m args below meth c D dA lo cs0 nL z0 w0 zF wF Q pc ls st h := by
  intro ls st h k
  unfold ol2 at k
  split at k
  · exact ⟨k.1, fun a b n H locs mls r v w => lv_land C.1 C.2.1 d (k.2 a b n H locs mls r v w)⟩
  · exact k.elim
theorem sm_lor (C : jCx p l e R s m args meth c cc own D dA lo cs0 nL z0 w0 zF wF dd) (d : decode cc pc = .ok (.lor, 1)) : ∀ ls st h, ol2 (fun x y => x ||| y) (pc + 1) (jSim p l e R s m args below meth c D dA lo cs0 nL z0 w0 zF wF Q) Rf ls st h → jSim p l e R s m args below meth c D dA lo cs0 nL z0 w0 zF wF Q pc ls st h := by
  intro ls st h k
  unfold ol2 at k
  split at k
  · exact ⟨k.1, fun a b n H locs mls r v w => lv_lor C.1 C.2.1 d (k.2 a b n H locs mls r v w)⟩
  · exact k.elim
theorem sm_lxor (C : jCx p l e R s m args meth c cc own D dA lo cs0 nL z0 w0 zF wF dd) (d : decode cc pc = .ok (.lxor, 1)) : ∀ ls st h, ol2 (fun x y => x ^^^ y) (pc + 1) (jSim p l e R s m args below meth c D dA lo cs0 nL z0 w0 zF wF Q) Rf ls st h → jSim p l e R s m args below meth c D dA lo cs0 nL z0 w0 zF wF Q pc ls st h := by
  intro ls st h k
  unfold ol2 at k
  split at k
  · exact ⟨k.1, fun a b n H locs mls r v w => lv_lxor C.1 C.2.1 d (k.2 a b n H locs mls r v w)⟩
  · exact k.elim
theorem sm_lshl (C : jCx p l e R s m args meth c cc own D dA lo cs0 nL z0 w0 zF wF dd) (d : decode cc pc = .ok (.lshl, 1)) : ∀ ls st h, olsh (fun x y => x <<< (y.toInt64 &&& 63)) (pc + 1) (jSim p l e R s m args below meth c D dA lo cs0 nL z0 w0 zF wF Q) Rf ls st h → jSim p l e R s m args below meth c D dA lo cs0 nL z0 w0 zF wF Q pc ls st h := by
  intro ls st h k
  unfold olsh at k
  split at k
  · exact ⟨k.1, fun a b n H locs mls r v w => lv_lshl C.1 C.2.1 d rfl (k.2 a b n H locs mls r v w)⟩
  · exact k.elim
theorem sm_lshr (C : jCx p l e R s m args meth c cc own D dA lo cs0 nL z0 w0 zF wF dd) (d : decode cc pc = .ok (.lshr, 1)) : ∀ ls st h, olsh (fun x y => x >>> (y.toInt64 &&& 63)) (pc + 1) (jSim p l e R s m args below meth c D dA lo cs0 nL z0 w0 zF wF Q) Rf ls st h → jSim p l e R s m args below meth c D dA lo cs0 nL z0 w0 zF wF Q pc ls st h := by
  intro ls st h k
  unfold olsh at k
  split at k
  · exact ⟨k.1, fun a b n H locs mls r v w => lv_lshr C.1 C.2.1 d rfl (k.2 a b n H locs mls r v w)⟩
  · exact k.elim
theorem sm_lushr (C : jCx p l e R s m args meth c cc own D dA lo cs0 nL z0 w0 zF wF dd) (d : decode cc pc = .ok (.lushr, 1)) : ∀ ls st h, olsh (fun x y => (x.toUInt64 >>> (y.toInt64.toUInt64 &&& Int64.toUInt64 63)).toInt64) (pc + 1) (jSim p l e R s m args below meth c D dA lo cs0 nL z0 w0 zF wF Q) Rf ls st h → jSim p l e R s m args below meth c D dA lo cs0 nL z0 w0 zF wF Q pc ls st h := by
  intro ls st h k
  unfold olsh at k
  split at k
  · exact ⟨k.1, fun a b n H locs mls r v w => lv_lushr C.1 C.2.1 d rfl (k.2 a b n H locs mls r v w)⟩
  · exact k.elim
theorem sm_lcmp (C : jCx p l e R s m args meth c cc own D dA lo cs0 nL z0 w0 zF wF dd) (d : decode cc pc = .ok (.lcmp, 1)) : ∀ ls st h, olc (fun x y => lg_cmp x y) (pc + 1) (jSim p l e R s m args below meth c D dA lo cs0 nL z0 w0 zF wF Q) Rf ls st h → jSim p l e R s m args below meth c D dA lo cs0 nL z0 w0 zF wF Q pc ls st h := by
  intro ls st h k
  unfold olc at k
  split at k
  · exact ⟨k.1, fun a b n H locs mls r v w => W.lcmp C.1 C.2.1 d (k.2 a b n H locs mls r v w)⟩
  · exact k.elim
theorem sm_ineg (C : jCx p l e R s m args meth c cc own D dA lo cs0 nL z0 w0 zF wF dd) (d : decode cc pc = .ok (.ineg, 1)) : ∀ ls st h, oi1 (fun x => -x) (pc + 1) (jSim p l e R s m args below meth c D dA lo cs0 nL z0 w0 zF wF Q) Rf ls st h → jSim p l e R s m args below meth c D dA lo cs0 nL z0 w0 zF wF Q pc ls st h := by
  intro ls st h k
  unfold oi1 at k
  split at k
  · exact ⟨k.1, fun a b n H locs mls r v w => lv_ineg C.1 C.2.1 d (k.2 a b n H locs mls r v w)⟩
  · exact k.elim
theorem sm_i2b (C : jCx p l e R s m args meth c cc own D dA lo cs0 nL z0 w0 zF wF dd) (d : decode cc pc = .ok (.i2b, 1)) : ∀ ls st h, oi1 (fun x => x.toInt8.toInt32) (pc + 1) (jSim p l e R s m args below meth c D dA lo cs0 nL z0 w0 zF wF Q) Rf ls st h → jSim p l e R s m args below meth c D dA lo cs0 nL z0 w0 zF wF Q pc ls st h := by
  intro ls st h k
  unfold oi1 at k
  split at k
  · exact ⟨k.1, fun a b n H locs mls r v w => lv_i2b C.1 C.2.1 d rfl (k.2 a b n H locs mls r v w)⟩
  · exact k.elim
theorem sm_i2c (C : jCx p l e R s m args meth c cc own D dA lo cs0 nL z0 w0 zF wF dd) (d : decode cc pc = .ok (.i2c, 1)) : ∀ ls st h, oi1 (fun x => (x.toUInt32 % 65536).toInt32) (pc + 1) (jSim p l e R s m args below meth c D dA lo cs0 nL z0 w0 zF wF Q) Rf ls st h → jSim p l e R s m args below meth c D dA lo cs0 nL z0 w0 zF wF Q pc ls st h := by
  intro ls st h k
  unfold oi1 at k
  split at k
  · exact ⟨k.1, fun a b n H locs mls r v w => lv_i2c C.1 C.2.1 d rfl (k.2 a b n H locs mls r v w)⟩
  · exact k.elim
theorem sm_i2l (C : jCx p l e R s m args meth c cc own D dA lo cs0 nL z0 w0 zF wF dd) (d : decode cc pc = .ok (.i2l, 1)) : ∀ ls st h, oi2l (pc + 1) (jSim p l e R s m args below meth c D dA lo cs0 nL z0 w0 zF wF Q) Rf ls st h → jSim p l e R s m args below meth c D dA lo cs0 nL z0 w0 zF wF Q pc ls st h := by
  intro ls st h k
  unfold oi2l at k
  split at k
  · exact ⟨k.1, fun a b n H locs mls r v w => lv_i2l C.1 C.2.1 d rfl (k.2 a b n H locs mls r v w)⟩
  · exact k.elim
theorem sm_l2i (C : jCx p l e R s m args meth c cc own D dA lo cs0 nL z0 w0 zF wF dd) (d : decode cc pc = .ok (.l2i, 1)) : ∀ ls st h, ol2i (pc + 1) (jSim p l e R s m args below meth c D dA lo cs0 nL z0 w0 zF wF Q) Rf ls st h → jSim p l e R s m args below meth c D dA lo cs0 nL z0 w0 zF wF Q pc ls st h := by
  intro ls st h k
  unfold ol2i at k
  split at k
  · exact ⟨k.1, fun a b n H locs mls r v w => lv_l2i C.1 C.2.1 d rfl (k.2 a b n H locs mls r v w)⟩
  · exact k.elim
theorem sm_i2d (C : jCx p l e R s m args meth c cc own D dA lo cs0 nL z0 w0 zF wF dd) (d : decode cc pc = .ok (.i2d, 1)) : ∀ ls st h, oi2d (pc + 1) (jSim p l e R s m args below meth c D dA lo cs0 nL z0 w0 zF wF Q) Rf ls st h → jSim p l e R s m args below meth c D dA lo cs0 nL z0 w0 zF wF Q pc ls st h := by
  intro ls st h k
  unfold oi2d at k
  split at k
  · exact ⟨k.1, fun a b n H locs mls r v w => lv_i2d C.1 C.2.1 d (k.2 a b n H locs mls r v w)⟩
  · exact k.elim
theorem sm_i2f (C : jCx p l e R s m args meth c cc own D dA lo cs0 nL z0 w0 zF wF dd) (d : decode cc pc = .ok (.i2f, 1)) : ∀ ls st h, oi2f (pc + 1) (jSim p l e R s m args below meth c D dA lo cs0 nL z0 w0 zF wF Q) Rf ls st h → jSim p l e R s m args below meth c D dA lo cs0 nL z0 w0 zF wF Q pc ls st h := by
  intro ls st h k
  unfold oi2f at k
  split at k
  · exact ⟨k.1, fun a b n H locs mls r v w => lv_i2f C.1 C.2.1 d (k.2 a b n H locs mls r v w)⟩
  · exact k.elim
theorem sm_ddiv (C : jCx p l e R s m args meth c cc own D dA lo cs0 nL z0 w0 zF wF dd) (d : decode cc pc = .ok (.ddiv, 1)) : ∀ ls st h, oddiv (pc + 1) (jSim p l e R s m args below meth c D dA lo cs0 nL z0 w0 zF wF Q) Rf ls st h → jSim p l e R s m args below meth c D dA lo cs0 nL z0 w0 zF wF Q pc ls st h := by
  intro ls st h k
  unfold oddiv at k
  split at k
  · exact ⟨k.2.1, fun a b n H locs mls r v w => lv_ddiv C.1 C.2.1 d k.1 (k.2.2 a b n H locs mls r v w)⟩
  · exact k.elim
theorem sm_fdiv (C : jCx p l e R s m args meth c cc own D dA lo cs0 nL z0 w0 zF wF dd) (d : decode cc pc = .ok (.fdiv, 1)) : ∀ ls st h, ofdiv (pc + 1) (jSim p l e R s m args below meth c D dA lo cs0 nL z0 w0 zF wF Q) Rf ls st h → jSim p l e R s m args below meth c D dA lo cs0 nL z0 w0 zF wF Q pc ls st h := by
  intro ls st h k
  unfold ofdiv at k
  split at k
  · exact ⟨k.2.1, fun a b n H locs mls r v w => lv_fdiv C.1 C.2.1 d k.1 (k.2.2 a b n H locs mls r v w)⟩
  · exact k.elim
theorem sm_f2d (C : jCx p l e R s m args meth c cc own D dA lo cs0 nL z0 w0 zF wF dd) (d : decode cc pc = .ok (.f2d, 1)) : ∀ ls st h, of2d (pc + 1) (jSim p l e R s m args below meth c D dA lo cs0 nL z0 w0 zF wF Q) Rf ls st h → jSim p l e R s m args below meth c D dA lo cs0 nL z0 w0 zF wF Q pc ls st h := by
  intro ls st h k
  unfold of2d at k
  split at k
  · exact ⟨k.2.1, fun a b n H locs mls r v w => lv_f2d C.1 C.2.1 d k.1 (k.2.2 a b n H locs mls r v w)⟩
  · exact k.elim
theorem sm_dcmp {op : CmpOp} (C : jCx p l e R s m args meth c cc own D dA lo cs0 nL z0 w0 zF wF dd) (d : decode cc pc = .ok (.dcmp op, 1)) : ∀ ls st h, odcmp op (pc + 1) (jSim p l e R s m args below meth c D dA lo cs0 nL z0 w0 zF wF Q) Rf ls st h → jSim p l e R s m args below meth c D dA lo cs0 nL z0 w0 zF wF Q pc ls st h := by
  intro ls st h k
  unfold odcmp at k
  split at k
  · exact ⟨k.1, fun a b n H locs mls r v w => lv_dcmp C.1 C.2.1 d (k.2 a b n H locs mls r v w)⟩
  · exact k.elim
theorem sm_fcmp {op : CmpOp} (C : jCx p l e R s m args meth c cc own D dA lo cs0 nL z0 w0 zF wF dd) (d : decode cc pc = .ok (.fcmp op, 1)) : ∀ ls st h, ofcmp op (pc + 1) (jSim p l e R s m args below meth c D dA lo cs0 nL z0 w0 zF wF Q) Rf ls st h → jSim p l e R s m args below meth c D dA lo cs0 nL z0 w0 zF wF Q pc ls st h := by
  intro ls st h k
  unfold ofcmp at k
  split at k
  · exact ⟨k.1, fun a b n H locs mls r v w => lv_fcmp C.1 C.2.1 d (k.2 a b n H locs mls r v w)⟩
  · exact k.elim
theorem sm_dup (C : jCx p l e R s m args meth c cc own D dA lo cs0 nL z0 w0 zF wF dd) (d : decode cc pc = .ok (.dup, 1)) : ∀ ls st h, odup (pc + 1) (jSim p l e R s m args below meth c D dA lo cs0 nL z0 w0 zF wF Q) Rf ls st h → jSim p l e R s m args below meth c D dA lo cs0 nL z0 w0 zF wF Q pc ls st h := by
  intro ls st h k
  unfold odup at k
  split at k
  · rename_i v0 r0
    cases hw : jwide v0 <;> rw [hw] at k
    · exact ⟨k.1, fun a b n H locs mls r v w => lv_dup C.1 C.2.1 d (by rw [jtv_cat, hw]; rfl) (k.2 a b n H locs mls r v w)⟩
    · exact k.elim
  · exact k.elim
theorem sm_pop (C : jCx p l e R s m args meth c cc own D dA lo cs0 nL z0 w0 zF wF dd) (d : decode cc pc = .ok (.pop, 1)) : ∀ ls st h, opop (pc + 1) (jSim p l e R s m args below meth c D dA lo cs0 nL z0 w0 zF wF Q) Rf ls st h → jSim p l e R s m args below meth c D dA lo cs0 nL z0 w0 zF wF Q pc ls st h := by
  intro ls st h k
  unfold opop at k
  split at k
  · rename_i v0 r0
    cases hw : jwide v0 <;> rw [hw] at k
    · exact ⟨k.1, fun a b n H locs mls r v w => lv_pop C.1 C.2.1 d (by rw [jtv_cat, hw]; rfl) (k.2 a b n H locs mls r v w)⟩
    · exact k.elim
  · exact k.elim
theorem sm_dup_x1 (C : jCx p l e R s m args meth c cc own D dA lo cs0 nL z0 w0 zF wF dd) (d : decode cc pc = .ok (.dup_x1, 1)) : ∀ ls st h, odupx1 (pc + 1) (jSim p l e R s m args below meth c D dA lo cs0 nL z0 w0 zF wF Q) Rf ls st h → jSim p l e R s m args below meth c D dA lo cs0 nL z0 w0 zF wF Q pc ls st h := by
  intro ls st h k
  unfold odupx1 at k
  split at k
  · rename_i v0 v1 r0
    cases hw : jwide v0 <;> rw [hw] at k
    · cases hz : jwide v1 <;> rw [hz] at k
      · exact ⟨k.1, fun a b n H locs mls r v w => lv_dup_x1 C.1 C.2.1 d (by rw [jtv_cat, hw]; rfl) (by rw [jtv_cat, hz]; rfl) (k.2 a b n H locs mls r v w)⟩
      · exact k.elim
    · exact k.elim
  · exact k.elim
theorem sm_dup2 (C : jCx p l e R s m args meth c cc own D dA lo cs0 nL z0 w0 zF wF dd) (d : decode cc pc = .ok (.dup2, 1)) : ∀ ls st h, odup2 (pc + 1) (jSim p l e R s m args below meth c D dA lo cs0 nL z0 w0 zF wF Q) Rf ls st h → jSim p l e R s m args below meth c D dA lo cs0 nL z0 w0 zF wF Q pc ls st h := by
  intro ls st h k
  unfold odup2 at k
  split at k
  · rename_i v0 v1 r0
    cases hw : jwide v0 <;> rw [hw] at k
    · cases hz : jwide v1 <;> rw [hz] at k
      · exact ⟨k.1, fun a b n H locs mls r v w => lv_dup2_11 C.1 C.2.1 d (by rw [jtv_cat, hw]; rfl) (by rw [jtv_cat, hz]; rfl) (k.2 a b n H locs mls r v w)⟩
      · exact k.elim
    · exact k.elim
  · exact k.elim
theorem sm_dup2w (C : jCx p l e R s m args meth c cc own D dA lo cs0 nL z0 w0 zF wF dd) (d : decode cc pc = .ok (.dup2, 1)) : ∀ ls st h, odup2w (pc + 1) (jSim p l e R s m args below meth c D dA lo cs0 nL z0 w0 zF wF Q) Rf ls st h → jSim p l e R s m args below meth c D dA lo cs0 nL z0 w0 zF wF Q pc ls st h := by
  intro ls st h k
  unfold odup2w at k
  split at k
  · rename_i v0 r0
    cases hw : jwide v0 <;> rw [hw] at k
    · exact k.elim
    · exact ⟨k.1, fun a b n H locs mls r v w => lv_dup2_2 C.1 C.2.1 d (by rw [jtv_cat, hw]; rfl) (k.2 a b n H locs mls r v w)⟩
  · exact k.elim
theorem sm_goto {off : Int} {t : Nat} (ht : (pc : Int) + off = (t : Int)) (C : jCx p l e R s m args meth c cc own D dA lo cs0 nL z0 w0 zF wF dd) (d : decode cc pc = .ok (.goto off, 3)) : ∀ ls st h, ogo t (jSim p l e R s m args below meth c D dA lo cs0 nL z0 w0 zF wF Q) Rf ls st h → jSim p l e R s m args below meth c D dA lo cs0 nL z0 w0 zF wF Q pc ls st h := by
  intro ls st h k
  exact ⟨k.1, fun a b n H locs mls r v w => lv_goto C.1 C.2.1 d ht (k.2 a b n H locs mls r v w)⟩
theorem sm_ifeq {off : Int} {t : Nat} (ht : (pc : Int) + off = (t : Int)) (C : jCx p l e R s m args meth c cc own D dA lo cs0 nL z0 w0 zF wF dd) (d : decode cc pc = .ok (.ifCond .eq off, 3)) : ∀ ls st h, oif1 (fun x => x = 0) t (pc + 3) (jSim p l e R s m args below meth c D dA lo cs0 nL z0 w0 zF wF Q) Rf ls st h → jSim p l e R s m args below meth c D dA lo cs0 nL z0 w0 zF wF Q pc ls st h := by
  intro ls st h k
  unfold oif1 at k
  split at k
  · exact ⟨jbr_s k (fun q => q.1) (fun q => q.1), fun a b n H locs mls r v w => lv_if_eq C.1 C.2.1 d ht (fun q => (k.1 q).2 a b n H locs mls r v w) (fun q => (k.2 q).2 a b n H locs mls r v w)⟩
  · exact k.elim
theorem sm_ifne {off : Int} {t : Nat} (ht : (pc : Int) + off = (t : Int)) (C : jCx p l e R s m args meth c cc own D dA lo cs0 nL z0 w0 zF wF dd) (d : decode cc pc = .ok (.ifCond .ne off, 3)) : ∀ ls st h, oif1 (fun x => x = 0) (pc + 3) t (jSim p l e R s m args below meth c D dA lo cs0 nL z0 w0 zF wF Q) Rf ls st h → jSim p l e R s m args below meth c D dA lo cs0 nL z0 w0 zF wF Q pc ls st h := by
  intro ls st h k
  unfold oif1 at k
  split at k
  · exact ⟨jbr_s k (fun q => q.1) (fun q => q.1), fun a b n H locs mls r v w => lv_if_ne C.1 C.2.1 d ht (fun q => (k.2 q).2 a b n H locs mls r v w) (fun q => (k.1 q).2 a b n H locs mls r v w)⟩
  · exact k.elim
theorem sm_iflt {off : Int} {t : Nat} (ht : (pc : Int) + off = (t : Int)) (C : jCx p l e R s m args meth c cc own D dA lo cs0 nL z0 w0 zF wF dd) (d : decode cc pc = .ok (.ifCond .lt off, 3)) : ∀ ls st h, oif1 (fun x => x < 0) t (pc + 3) (jSim p l e R s m args below meth c D dA lo cs0 nL z0 w0 zF wF Q) Rf ls st h → jSim p l e R s m args below meth c D dA lo cs0 nL z0 w0 zF wF Q pc ls st h := by
  intro ls st h k
  unfold oif1 at k
  split at k
  · exact ⟨jbr_s k (fun q => q.1) (fun q => q.1), fun a b n H locs mls r v w => lv_if_lt C.1 C.2.1 d ht (fun q => (k.1 q).2 a b n H locs mls r v w) (fun q => (k.2 q).2 a b n H locs mls r v w)⟩
  · exact k.elim
theorem sm_ifge {off : Int} {t : Nat} (ht : (pc : Int) + off = (t : Int)) (C : jCx p l e R s m args meth c cc own D dA lo cs0 nL z0 w0 zF wF dd) (d : decode cc pc = .ok (.ifCond .ge off, 3)) : ∀ ls st h, oif1 (fun x => 0 ≤ x) t (pc + 3) (jSim p l e R s m args below meth c D dA lo cs0 nL z0 w0 zF wF Q) Rf ls st h → jSim p l e R s m args below meth c D dA lo cs0 nL z0 w0 zF wF Q pc ls st h := by
  intro ls st h k
  unfold oif1 at k
  split at k
  · exact ⟨jbr_s k (fun q => q.1) (fun q => q.1), fun a b n H locs mls r v w => lv_if_ge C.1 C.2.1 d ht (fun q => (k.1 q).2 a b n H locs mls r v w) (fun q => (k.2 q).2 a b n H locs mls r v w)⟩
  · exact k.elim
theorem sm_ifgt {off : Int} {t : Nat} (ht : (pc : Int) + off = (t : Int)) (C : jCx p l e R s m args meth c cc own D dA lo cs0 nL z0 w0 zF wF dd) (d : decode cc pc = .ok (.ifCond .gt off, 3)) : ∀ ls st h, oif1 (fun x => 0 < x) t (pc + 3) (jSim p l e R s m args below meth c D dA lo cs0 nL z0 w0 zF wF Q) Rf ls st h → jSim p l e R s m args below meth c D dA lo cs0 nL z0 w0 zF wF Q pc ls st h := by
  intro ls st h k
  unfold oif1 at k
  split at k
  · exact ⟨jbr_s k (fun q => q.1) (fun q => q.1), fun a b n H locs mls r v w => lv_if_gt C.1 C.2.1 d ht (fun q => (k.1 q).2 a b n H locs mls r v w) (fun q => (k.2 q).2 a b n H locs mls r v w)⟩
  · exact k.elim
theorem sm_ifle {off : Int} {t : Nat} (ht : (pc : Int) + off = (t : Int)) (C : jCx p l e R s m args meth c cc own D dA lo cs0 nL z0 w0 zF wF dd) (d : decode cc pc = .ok (.ifCond .le off, 3)) : ∀ ls st h, oif1 (fun x => x ≤ 0) t (pc + 3) (jSim p l e R s m args below meth c D dA lo cs0 nL z0 w0 zF wF Q) Rf ls st h → jSim p l e R s m args below meth c D dA lo cs0 nL z0 w0 zF wF Q pc ls st h := by
  intro ls st h k
  unfold oif1 at k
  split at k
  · exact ⟨jbr_s k (fun q => q.1) (fun q => q.1), fun a b n H locs mls r v w => lv_if_le C.1 C.2.1 d ht (fun q => (k.1 q).2 a b n H locs mls r v w) (fun q => (k.2 q).2 a b n H locs mls r v w)⟩
  · exact k.elim
theorem sm_icmpeq {off : Int} {t : Nat} (ht : (pc : Int) + off = (t : Int)) (C : jCx p l e R s m args meth c cc own D dA lo cs0 nL z0 w0 zF wF dd) (d : decode cc pc = .ok (.if_icmp .eq off, 3)) : ∀ ls st h, oif2 (fun x y => x = y) t (pc + 3) (jSim p l e R s m args below meth c D dA lo cs0 nL z0 w0 zF wF Q) Rf ls st h → jSim p l e R s m args below meth c D dA lo cs0 nL z0 w0 zF wF Q pc ls st h := by
  intro ls st h k
  unfold oif2 at k
  split at k
  · exact ⟨jbr_s k (fun q => q.1) (fun q => q.1), fun a b n H locs mls r v w => lv_icmp_eq C.1 C.2.1 d ht (fun q => (k.1 q).2 a b n H locs mls r v w) (fun q => (k.2 q).2 a b n H locs mls r v w)⟩
  · exact k.elim
theorem sm_icmpne {off : Int} {t : Nat} (ht : (pc : Int) + off = (t : Int)) (C : jCx p l e R s m args meth c cc own D dA lo cs0 nL z0 w0 zF wF dd) (d : decode cc pc = .ok (.if_icmp .ne off, 3)) : ∀ ls st h, oif2 (fun x y => x = y) (pc + 3) t (jSim p l e R s m args below meth c D dA lo cs0 nL z0 w0 zF wF Q) Rf ls st h → jSim p l e R s m args below meth c D dA lo cs0 nL z0 w0 zF wF Q pc ls st h := by
  intro ls st h k
  unfold oif2 at k
  split at k
  · exact ⟨jbr_s k (fun q => q.1) (fun q => q.1), fun a b n H locs mls r v w => lv_icmp_ne C.1 C.2.1 d ht (fun q => (k.2 q).2 a b n H locs mls r v w) (fun q => (k.1 q).2 a b n H locs mls r v w)⟩
  · exact k.elim
theorem sm_icmplt {off : Int} {t : Nat} (ht : (pc : Int) + off = (t : Int)) (C : jCx p l e R s m args meth c cc own D dA lo cs0 nL z0 w0 zF wF dd) (d : decode cc pc = .ok (.if_icmp .lt off, 3)) : ∀ ls st h, oif2 (fun x y => x < y) t (pc + 3) (jSim p l e R s m args below meth c D dA lo cs0 nL z0 w0 zF wF Q) Rf ls st h → jSim p l e R s m args below meth c D dA lo cs0 nL z0 w0 zF wF Q pc ls st h := by
  intro ls st h k
  unfold oif2 at k
  split at k
  · exact ⟨jbr_s k (fun q => q.1) (fun q => q.1), fun a b n H locs mls r v w => lv_icmp_lt C.1 C.2.1 d ht (fun q => (k.1 q).2 a b n H locs mls r v w) (fun q => (k.2 q).2 a b n H locs mls r v w)⟩
  · exact k.elim
theorem sm_icmpge {off : Int} {t : Nat} (ht : (pc : Int) + off = (t : Int)) (C : jCx p l e R s m args meth c cc own D dA lo cs0 nL z0 w0 zF wF dd) (d : decode cc pc = .ok (.if_icmp .ge off, 3)) : ∀ ls st h, oif2 (fun x y => y ≤ x) t (pc + 3) (jSim p l e R s m args below meth c D dA lo cs0 nL z0 w0 zF wF Q) Rf ls st h → jSim p l e R s m args below meth c D dA lo cs0 nL z0 w0 zF wF Q pc ls st h := by
  intro ls st h k
  unfold oif2 at k
  split at k
  · exact ⟨jbr_s k (fun q => q.1) (fun q => q.1), fun a b n H locs mls r v w => lv_icmp_ge C.1 C.2.1 d ht (fun q => (k.1 q).2 a b n H locs mls r v w) (fun q => (k.2 q).2 a b n H locs mls r v w)⟩
  · exact k.elim
theorem sm_icmpgt {off : Int} {t : Nat} (ht : (pc : Int) + off = (t : Int)) (C : jCx p l e R s m args meth c cc own D dA lo cs0 nL z0 w0 zF wF dd) (d : decode cc pc = .ok (.if_icmp .gt off, 3)) : ∀ ls st h, oif2 (fun x y => y < x) t (pc + 3) (jSim p l e R s m args below meth c D dA lo cs0 nL z0 w0 zF wF Q) Rf ls st h → jSim p l e R s m args below meth c D dA lo cs0 nL z0 w0 zF wF Q pc ls st h := by
  intro ls st h k
  unfold oif2 at k
  split at k
  · exact ⟨jbr_s k (fun q => q.1) (fun q => q.1), fun a b n H locs mls r v w => lv_icmp_gt C.1 C.2.1 d ht (fun q => (k.1 q).2 a b n H locs mls r v w) (fun q => (k.2 q).2 a b n H locs mls r v w)⟩
  · exact k.elim
theorem sm_icmple {off : Int} {t : Nat} (ht : (pc : Int) + off = (t : Int)) (C : jCx p l e R s m args meth c cc own D dA lo cs0 nL z0 w0 zF wF dd) (d : decode cc pc = .ok (.if_icmp .le off, 3)) : ∀ ls st h, oif2 (fun x y => x ≤ y) t (pc + 3) (jSim p l e R s m args below meth c D dA lo cs0 nL z0 w0 zF wF Q) Rf ls st h → jSim p l e R s m args below meth c D dA lo cs0 nL z0 w0 zF wF Q pc ls st h := by
  intro ls st h k
  unfold oif2 at k
  split at k
  · exact ⟨jbr_s k (fun q => q.1) (fun q => q.1), fun a b n H locs mls r v w => lv_icmp_le C.1 C.2.1 d ht (fun q => (k.1 q).2 a b n H locs mls r v w) (fun q => (k.2 q).2 a b n H locs mls r v w)⟩
  · exact k.elim
theorem sm_acmpeq {off : Int} {t : Nat} (ht : (pc : Int) + off = (t : Int)) (C : jCx p l e R s m args meth c cc own D dA lo cs0 nL z0 w0 zF wF dd) (d : decode cc pc = .ok (.if_acmp .eq off, 3)) : ∀ ls st h, oacmp (fun x y => x = y) t (pc + 3) (jSim p l e R s m args below meth c D dA lo cs0 nL z0 w0 zF wF Q) Rf ls st h → jSim p l e R s m args below meth c D dA lo cs0 nL z0 w0 zF wF Q pc ls st h := by
  intro ls st h k
  unfold oacmp at k
  split at k
  · exact ⟨jbr_s k (fun q => q.1) (fun q => q.1), fun a b n H locs mls r v w => lv_acmp_eq C.1 C.2.1 d ht (fun q => (k.1 q).2 a b n H locs mls r v w) (fun q => (k.2 q).2 a b n H locs mls r v w)⟩
  · exact k.elim
theorem sm_acmpne {off : Int} {t : Nat} (ht : (pc : Int) + off = (t : Int)) (C : jCx p l e R s m args meth c cc own D dA lo cs0 nL z0 w0 zF wF dd) (d : decode cc pc = .ok (.if_acmp .ne off, 3)) : ∀ ls st h, oacmp (fun x y => x = y) (pc + 3) t (jSim p l e R s m args below meth c D dA lo cs0 nL z0 w0 zF wF Q) Rf ls st h → jSim p l e R s m args below meth c D dA lo cs0 nL z0 w0 zF wF Q pc ls st h := by
  intro ls st h k
  unfold oacmp at k
  split at k
  · exact ⟨jbr_s k (fun q => q.1) (fun q => q.1), fun a b n H locs mls r v w => lv_acmp_ne C.1 C.2.1 d ht (fun q => (k.2 q).2 a b n H locs mls r v w) (fun q => (k.1 q).2 a b n H locs mls r v w)⟩
  · exact k.elim
theorem sm_ifnull {off : Int} {t : Nat} (ht : (pc : Int) + off = (t : Int)) (C : jCx p l e R s m args meth c cc own D dA lo cs0 nL z0 w0 zF wF dd) (d : decode cc pc = .ok (.ifnull off, 3)) : ∀ ls st h, onull t (pc + 3) (jSim p l e R s m args below meth c D dA lo cs0 nL z0 w0 zF wF Q) Rf ls st h → jSim p l e R s m args below meth c D dA lo cs0 nL z0 w0 zF wF Q pc ls st h := by
  intro ls st h k
  unfold onull at k
  split at k
  · rename_i v0 r0
    cases v0 with
    | none => exact ⟨(k.1 rfl).1, fun a b n H locs mls r v w => lv_ifnullN C.1 C.2.1 d ht ((k.1 rfl).2 a b n H locs mls r v w)⟩
    | some x => exact ⟨(k.2 (fun q => by cases q)).1, fun a b n H locs mls r v w => lv_ifnull C.1 C.2.1 d ((k.2 (fun q => by cases q)).2 a b n H locs mls r v w)⟩
  · exact k.elim
theorem sm_ifnonnull {off : Int} {t : Nat} (ht : (pc : Int) + off = (t : Int)) (C : jCx p l e R s m args meth c cc own D dA lo cs0 nL z0 w0 zF wF dd) (d : decode cc pc = .ok (.ifnonnull off, 3)) : ∀ ls st h, onull (pc + 3) t (jSim p l e R s m args below meth c D dA lo cs0 nL z0 w0 zF wF Q) Rf ls st h → jSim p l e R s m args below meth c D dA lo cs0 nL z0 w0 zF wF Q pc ls st h := by
  intro ls st h k
  unfold onull at k
  split at k
  · rename_i v0 r0
    cases v0 with
    | none => exact ⟨(k.1 rfl).1, fun a b n H locs mls r v w => lv_ifnonnullN C.1 C.2.1 d ((k.1 rfl).2 a b n H locs mls r v w)⟩
    | some x => exact ⟨(k.2 (fun q => by cases q)).1, fun a b n H locs mls r v w => lv_ifnonnull C.1 C.2.1 d ht ((k.2 (fun q => by cases q)).2 a b n H locs mls r v w)⟩
  · exact k.elim
end JS
