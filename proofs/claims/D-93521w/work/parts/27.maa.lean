/-! TWO DIMENSIONS OF INTS (own work) -/
section MAA0
/-- the outer array when i of its rows are made; a row; the state then -/
def jOut (cO : ClassId) (n z i : Nat) : Cell := arrV cO n fun j => if j < i then .ref (z + 1 + j) else .null
def jInn (cI : ClassId) (k : Nat) : Cell := arrV cI k fun _ => .int 0
def jG (s : State) (cO cI : ClassId) (n k : Nat) : Nat → State
  | 0 => s.pushCell (jOut cO n s.heap.size 0)
  | i + 1 => ((jG s cO cI n k i).pushCell (jInn cI k)).setCell s.heap.size (jOut cO n s.heap.size (i + 1))
theorem jOut_set (cO : ClassId) (n z i : Nat) : (jOut cO n z i).setSlot i (.ref (z + 1 + i)) = jOut cO n z (i + 1) := by
  unfold jOut
  rw [arrV_store]
  congr 1
  funext j
  unfold updV
  by_cases e : j = i
  · subst e
    rw [if_pos rfl]
    show Value.ref (z + 1 + j) = if j < j + 1 then Value.ref (z + 1 + j) else .null
    rw [if_pos (Nat.lt_succ_self j)]
  · rw [if_neg e]
    show (if j < i then Value.ref (z + 1 + j) else .null) = if j < i + 1 then Value.ref (z + 1 + j) else .null
    by_cases hj : j < i
    · rw [if_pos hj, if_pos (by omega)]
    · rw [if_neg hj, if_neg (by omega)]
theorem jG_f (s : State) (cO cI : ClassId) (n k : Nat) : ∀ i, (jG s cO cI n k i).heap.size = s.heap.size + 1 + i ∧ (jG s cO cI n k i).heap[s.heap.size]? = some (jOut cO n s.heap.size i) ∧ (jG s cO cI n k i).vm = s.vm ∧ (jG s cO cI n k i).slotsUsed = s.slotsUsed + n + i * k
  | 0 => ⟨by simp [jG], by simp [jG], rfl, by simp [jG, jOut, arrV_size]⟩
  | i + 1 => by
    obtain ⟨a, b, d, u⟩ := jG_f s cO cI n k i
    have hlt : s.heap.size < (jG s cO cI n k i).heap.size := by omega
    have hb' : ((jG s cO cI n k i).pushCell (jInn cI k)).heap[s.heap.size]? = some (jOut cO n s.heap.size i) := by rw [State.heap_pushCell_of_lt (h := hlt)]; exact b
    refine ⟨?_, State.heap_setCell_self hb', by simp [jG, d], ?_⟩
    · simp [jG, State.setCell, a]; omega
    · simp [jG, u, jInn, arrV_size, Nat.succ_mul]; omega
theorem jG_top (s : State) (f : JFrame) (cO cI : ClassId) (n k : Nat) : ∀ i, jG (s.setTop f) cO cI n k i = (jG s cO cI n k i).setTop f
  | 0 => rfl
  | i + 1 => by simp only [jG, jG_top s f cO cI n k i, State.heap_setTop, State.pushCell_setTop, State.setCell_setTop]
theorem jG_old (s : State) (cO cI : ClassId) (n k : Nat) {a : Addr} (ha : a < s.heap.size) : ∀ i, (jG s cO cI n k i).heap[a]? = s.heap[a]?
  | 0 => State.heap_pushCell_of_lt _ _ ha
  | i + 1 => by
    have f1 := (jG_f s cO cI n k i).1
    have hlt : a < (jG s cO cI n k i).heap.size := Nat.lt_of_lt_of_le ha (by rw [f1]; omega)
    show (((jG s cO cI n k i).pushCell (jInn cI k)).setCell s.heap.size _).heap[a]? = _
    rw [State.heap_setCell_other (Nat.ne_of_gt ha), State.heap_pushCell_of_lt (h := hlt)]
    exact jG_old s cO cI n k ha i
theorem jG_in (s : State) (cO cI : ClassId) (n k : Nat) : ∀ i j, j < i → (jG s cO cI n k i).heap[s.heap.size + 1 + j]? = some (jInn cI k)
  | 0, _, h => absurd h (Nat.not_lt_zero _)
  | i + 1, j, h => by
    have f1 := (jG_f s cO cI n k i).1
    show (((jG s cO cI n k i).pushCell (jInn cI k)).setCell s.heap.size _).heap[s.heap.size + 1 + j]? = _
    rw [State.heap_setCell_other (show s.heap.size ≠ s.heap.size + 1 + j by omega)]
    by_cases hj : j < i
    · have hlt : s.heap.size + 1 + j < (jG s cO cI n k i).heap.size := by rw [f1]; omega
      rw [State.heap_pushCell_of_lt (h := hlt)]
      exact jG_in s cO cI n k i j hj
    · have e : j = i := by omega
      subst e
      rw [← f1]
      exact State.heap_pushCell_size _ _
section
variable {E : CtlPost} {e : Env} {d : Bool} {acts : List Action} {s : State}
theorem jmk1 {cI cc : ClassId} {kc : Class} {m : Int32} (hkc : s.vm.classes[cI]? = some kc) (hkindc : kc.kind = .array cc .int) (hm : ¬ m < 0)
    (hl2 : ¬ m.toNatClampNeg > e.platform.arrayLengthLimit) (hh2 : ¬ m.toNatClampNeg * componentBytes .int > e.platform.maxHeapBytes)
    (h1 : s.heap.size < e.platform.maxCells) (h2 : s.slotsUsed + m.toNatClampNeg ≤ e.platform.maxSlots)
    {Q : Addr → Pre} (hq : ∀ acts', Q s.heap.size d acts' (s.pushCell (jInn cI m.toNatClampNeg))) : wp (multianewarray.make cI [m]) Q E e d acts s := by
  rw [multianewarray.make]
  simp only [wp_bind', W.ite, hm, if_false, wp_pure', W.theClass, hkc, hkindc, Option.some.injEq, exists_eq_left']
  refine W.newArray_of hkc hkindc hl2 hh2 h1 h2 rfl fun acts' => ?_
  have := hq acts'
  unfold jInn at this
  rw [← arrV_new] at this
  exact this
theorem jmk2 {cO cI cc : ClassId} {k kc : Class} {n m : Int32} (hk : s.vm.classes[cO]? = some k) (hkind : k.kind = .array cI (.array .int)) (hkc : s.vm.classes[cI]? = some kc) (hkindc : kc.kind = .array cc .int) (hn : ¬ n < 0) (hm : ¬ m < 0)
    (hl1 : ¬ n.toNatClampNeg > e.platform.arrayLengthLimit) (hh1 : ¬ n.toNatClampNeg * componentBytes (.array .int) > e.platform.maxHeapBytes)
    (hl2 : ¬ m.toNatClampNeg > e.platform.arrayLengthLimit) (hh2 : ¬ m.toNatClampNeg * componentBytes .int > e.platform.maxHeapBytes)
    (hc : s.heap.size + 1 + n.toNatClampNeg ≤ e.platform.maxCells) (hs : s.slotsUsed + n.toNatClampNeg + n.toNatClampNeg * m.toNatClampNeg ≤ e.platform.maxSlots)
    {Q : Addr → Pre} (hq : ∀ d' acts', Q s.heap.size d' acts' (jG s cO cI n.toNatClampNeg m.toNatClampNeg n.toNatClampNeg)) : wp (multianewarray.make cO [n, m]) Q E e d acts s := by
  have hfind : ([m].find? (· < 0)) = none := by simp [hm]
  rw [multianewarray.make]
  simp only [wp_bind', W.ite, hn, if_false, wp_pure', W.theClass, hk, hkind, Option.some.injEq, exists_eq_left']
  refine W.newArray_of hk hkind hl1 hh1 (by omega) (by have := Nat.zero_le (n.toNatClampNeg * m.toNatClampNeg); omega) rfl fun acts0 => ?_
  have e0 : s.pushCell { cls := cO, slots := Array.replicate n.toNatClampNeg .null } = jG s cO cI n.toNatClampNeg m.toNatClampNeg 0 := by
    show s.pushCell _ = s.pushCell (jOut _ _ _ _)
    congr 1
    have h9 := arrV_new cO n.toNatClampNeg .null
    refine h9.trans ?_
    unfold jOut
    congr 1
    all_goals (funext j; rw [if_neg (Nat.not_lt_zero j)])
  rw [e0]
  simp only [hfind]
  rw [ite_self, wp_bind', Std.Legacy.Range.forIn_eq_forIn_range']
  have hsz : ([:n.toNatClampNeg] : Std.Legacy.Range).size = n.toNatClampNeg := by simp [Std.Legacy.Range.size]
  rw [hsz]
  show wp (forIn (List.range' 0 n.toNatClampNeg 1) PUnit.unit _) _ E e d _ _
  refine wp_forIn_inv (fun rest s' => ∃ i, i ≤ n.toNatClampNeg ∧ rest = List.range' i (n.toNatClampNeg - i) ∧ s' = jG s cO cI n.toNatClampNeg m.toNatClampNeg i) _ _ ⟨0, Nat.zero_le _, rfl, rfl⟩ ?_ ?_
  · rintro x rest s' d' acts' Q' ⟨i, hi, hl, rfl⟩ hnext
    have hlt : i < n.toNatClampNeg := by
      rcases Nat.lt_or_ge i n.toNatClampNeg with h | h
      · exact h
      · rw [show n.toNatClampNeg - i = 0 from by omega] at hl
        simp at hl
    obtain ⟨rfl, hrest⟩ : x = i ∧ rest = List.range' (i + 1) (n.toNatClampNeg - (i + 1)) := by
      rw [show n.toNatClampNeg - i = (n.toNatClampNeg - (i + 1)) + 1 from by omega, List.range'_succ] at hl
      exact ⟨(List.cons.inj hl).1, (List.cons.inj hl).2⟩
    obtain ⟨f1, f2, f3, f4⟩ := jG_f s cO cI n.toNatClampNeg m.toNatClampNeg x
    have hmul : x * m.toNatClampNeg + m.toNatClampNeg ≤ n.toNatClampNeg * m.toNatClampNeg := by
      have := Nat.mul_le_mul_right m.toNatClampNeg (show x + 1 ≤ n.toNatClampNeg from hlt)
      rw [Nat.succ_mul] at this
      exact this
    simp only [wp_bind']
    refine jmk1 (by rw [f3]; exact hkc) hkindc hm hl2 hh2 (by rw [f1]; omega) (by rw [f4]; omega) fun acts2 => ?_
    have hlt0 : s.heap.size < (jG s cO cI n.toNatClampNeg m.toNatClampNeg x).heap.size := by rw [f1]; omega
    simp only [wp_bind', W.writeLoc, wp_pure']
    refine ⟨jOut cO n.toNatClampNeg s.heap.size x, by rw [State.heap_pushCell_of_lt (h := hlt0)]; exact f2, by simp [jOut, arrV], by rw [jOut, arrV_size]; exact hlt, ?_, hnext _ _ _ ⟨x + 1, hlt, hrest, ?_⟩⟩
    · show State.fitsSlot _ cO .none x _ = true
      simp [State.fitsSlot, State.slotType?, f3, hk, hkind, fits]
    · rw [f1, jOut_set]
      rfl
  · rintro s' d' acts' ⟨i, hi, hl, rfl⟩
    have hiN : i = n.toNatClampNeg := by
      rcases Nat.lt_or_ge i n.toNatClampNeg with h | h
      · rw [show n.toNatClampNeg - i = (n.toNatClampNeg - (i + 1)) + 1 from by omega, List.range'_succ] at hl
        cases hl
      · omega
    subst hiN
    simp only [wp_pure']
    exact hq _ _
end
theorem jAO_spec {s : State} {t : FieldType} (h : (Cond.arrayOver (.array t)).before #[] s = true) : ∃ comp c k, s.vm.findClass (FieldType.array t).toString = some comp ∧ s.vm.classes[c]? = some k ∧ k.kind = .array comp (.array t) ∧ s.vm.findClass ("[" ++ (FieldType.array t).toString) = some c := by
  unfold Cond.before Cond.holds at h
  simp only [Cond.value, beq_iff_eq] at h
  cases hc : s.vm.findClass (FieldType.array t).toString with
  | none => simp [hc] at h
  | some comp =>
    simp only [hc, Option.bind_some, Option.bind_eq_some_iff, Option.map_eq_some_iff] at h
    obtain ⟨c, hi, k, hk, hb⟩ := h
    obtain ⟨hlt, hp, -⟩ := Array.findIdx?_eq_some_iff_getElem.mp hi
    have hkk : s.vm.classes[c] = k := (Array.getElem?_eq_some_iff.mp hk).2
    rw [hkk] at hp
    cases hkind : k.kind with
    | array component ty =>
      rw [hkind] at hb hp
      simp at hb hp
      exact ⟨comp, c, k, rfl, hk, by rw [hkind, hp, hb.1], hb.2⟩
    | _ => rw [hkind] at hb; simp at hb
section
variable {p : Program} {l : Launch} {e : Env} {R : Room} {s : State} {m : MethodId} {args : Array Value} {below : List Frame} {meth : Method} {c : Code} {D : va_G} {dA : Nat → ClassId} {lo nL z0 w0 zF wF dd : Nat} {cs0 : Nat → Option Nat} {Q : State → Prop} {cc : ByteArray} {own : String} {pc : Nat} {Rf : jR} {H : Heap} {locs : List Loc} {cells slots : Nat} {mls : Array Slot} {rest : List Value} {rF : jA} {hF : jH}
theorem jG_X {T : State} (X : Stand p l e R s m args below meth c T locs cells slots) (cO cI : ClassId) (n k : Nat) :
    ∀ i, Stand p l e R s m args below meth c (jG T cO cI n k i) (locs ++ (List.range i).map fun j => ⟨T.heap.size, j⟩) (cells + 1 + i) (slots + n + i * k)
  | 0 => by
    have h := X.pushed (jOut cO n T.heap.size 0)
    rw [show (jOut cO n T.heap.size 0).slots.size = n from arrV_size _ _ _] at h
    simpa [jG] using h
  | i + 1 => by
    have Xi := jG_X X cO cI n k i
    obtain ⟨f1, f2, f3, f4⟩ := jG_f T cO cI n k i
    have hlt0 : T.heap.size < (jG T cO cI n k i).heap.size := by rw [f1]; omega
    have hcell : ((jG T cO cI n k i).pushCell (jInn cI k)).heap[T.heap.size]? = some (jOut cO n T.heap.size i) := by rw [State.heap_pushCell_of_lt (h := hlt0)]; exact f2
    have h := (Xi.pushed (jInn cI k)).stored hcell i (.ref (T.heap.size + 1 + i))
    rw [show (jInn cI k).slots.size = k from arrV_size _ _ _, jOut_set] at h
    have e2 : (locs ++ (List.range (i + 1)).map fun j => (⟨T.heap.size, j⟩ : Loc)) = (locs ++ (List.range i).map fun j => (⟨T.heap.size, j⟩ : Loc)) ++ [⟨T.heap.size, i⟩] := by simp [List.range_succ, List.append_assoc]
    have e3 : slots + n + (i + 1) * k = slots + n + i * k + k := by rw [Nat.succ_mul]; omega
    rw [e2, e3]
    exact h
/-- several cells come -/
theorem jRep_many {h g : jH} {H H1 : Heap} (r : jRep D dA lo h H) (hlo : lo ≤ jsz h) (hz : H1.size = jsz g) (ho : ∀ q : Nat, q < H.size → H1[q]? = H[q]?) (gk : ∀ b, b < jsz h → jkd g b = jkd h b) (gl : ∀ b, b < jsz h → jln g b = jln h b)
    (gc : ∀ b, b < jsz h → ∀ k, jcell dA k g b = jcell dA k h b) (ga : ∀ b, jsz h ≤ b → jkd g b ≠ 0 → va_at D jcls (b, jcell dA (jkd g b) g b) H1 ∧ jkd g b ≠ 36) : jRep D dA lo g H1 := by
  refine ⟨hz, fun b hb => ?_⟩
  by_cases e : b < jsz h
  · rw [gk b e] at hb ⊢
    have hr := r.2 b hb
    refine ⟨?_, ?_, ?_⟩
    · rw [gc b e]
      exact ⟨hr.1.1.kept (ho b (by rw [r.1]; exact e)), fun hlo9 => (hr.1.2 hlo9).kept (ho b (by rw [r.1]; exact e))⟩
    · rcases hr.2.1 with q | q | q
      · exact Or.inl q
      · exact Or.inr (Or.inl (by rw [gk b e]; exact q))
      · exact Or.inr (Or.inr (by rw [gk b e, gl b e]; exact q))
    · intro h36
      obtain ⟨c9, w1, w2⟩ := hr.2.2 h36
      exact ⟨c9, (ho b (by rw [r.1]; exact e)).trans w1, w2⟩
  · obtain ⟨g1, g2⟩ := ga b (Nat.not_lt.mp e) hb
    exact ⟨⟨jwe_of g1, fun _ => g1⟩, Or.inl (by omega), fun h36 => absurd h36 g2⟩
theorem sm_maa (C : jCx p l e R s m args meth c cc own D dA lo cs0 nL z0 w0 zF wF dd) {ix : Nat} (q1 : Cond.classLink own ix "[[I" ∈ lw_all) (q2 : Cond.arrayOver (.array .int) ∈ lw_tbl) (q3 : Cond.arrayClass .int ∈ lw_all) (hn1 : "[" ++ (FieldType.array .int).toString = "[[I") (hn2 : "[" ++ FieldType.int.toString = "[I") (hn3 : (FieldType.array .int).toString = "[I") (hlo : lo ≤ z0) (hlz : z0 ≤ zF) (hlw : w0 ≤ wF) (d : decode cc pc = .ok (.multianewarray ix 2, 4)) : ∀ ls st h, onewAA (pc + 4) (jSim p l e R s m args below meth c D dA lo cs0 nL z0 w0 zF wF Q) Rf ls st h → jSim p l e R s m args below meth c D dA lo cs0 nL z0 w0 zF wF Q pc ls st h := by
  intro ls st h kz
  unfold onewAA at kz
  split at kz
  · rename_i y9 x9 r9
    obtain ⟨hx, hy, hx1, hy1, kt⟩ := kz
    have kt := kt _ rfl
    have hz1 : jsz h + 1 + x9.toNatClampNeg ≤ zF := kt.1.1
    have hz2 : jsl h + x9.toNatClampNeg + x9.toNatClampNeg * y9.toNatClampNeg ≤ wF := kt.1.2
    refine ⟨⟨by omega, by omega⟩, fun a1 b1 n1 H locs mls r v w => ?_⟩
    have hRc := C.2.2.2.2.2.2.1
    have hRs := C.2.2.2.2.2.2.2.1
    have hts : ∀ w ∈ lw_all, w.before args s = true := C.2.2.2.1
    have hK := C.2.2.2.2.2.2.2.2.1.1
    obtain ⟨comp, cO, kO, c1, c2, c3, c4⟩ := jAO_spec (C.2.2.2.2.2.2.2.2.2.1.1 _ q2 rfl)
    have w111 : s.vm.findClass ("[" ++ (FieldType.array .int).toString) = some (dA 111) := (hK.2 10 (dA 111, .array .int) rfl).2
    have w101 : s.vm.findClass ("[" ++ FieldType.int.toString) = some (dA 101) := (hK.2 0 (dA 101, .int) rfl).2
    cases c4.symm.trans w111
    rw [hn3, ← hn2] at c1
    cases c1.symm.trans w101
    obtain ⟨-, kC, hkC, cc9, hkindC⟩ := (hK.2 0 (dA 101, .int) rfl).1 0 (fun _ => .null)
    have hkC' : s.vm.classes[dA 101]? = some kC := hkC
    generalize hn : x9.toNatClampNeg = n at *
    generalize hk : y9.toNatClampNeg = k at *
    intro T hT X
    subst hT
    have hpl : e.platform.magicAccessors = ({} : Platform).magicAccessors := by rw [X.admits.platform]
    obtain ⟨c0, hfc0, hcl⟩ := Cond.classLink_spec C.2.2.1 (hts _ q1) e.platform hpl
    rw [hn1] at w111
    cases w111.symm.trans hfc0
    obtain ⟨hg₁, hwarm₁, hready₁⟩ := State.classEntry (e := e) X.warmed hcl
    generalize T.vm.noted m.cls ix (.cls (dA 111)) = vm₁ at hg₁ hwarm₁ hready₁
    have hal : s.vm.Alike vm₁ := hwarm₁.alike
    obtain ⟨kO₁, hkO₁, heO⟩ := hal.2.2 _ _ c2
    obtain ⟨kC₁, hkC₁, heC⟩ := hal.2.2 _ _ hkC'
    have hkindO₁ : kO₁.kind = .array (dA 101) (.array .int) := by rw [heO]; exact c3
    have hkindC₁ : kC₁.kind = .array cc9 .int := by rw [heC]; exact hkindC
    have X₁ := X.noted hwarm₁
    have hcells : jsz h - z0 + (1 + n) ≤ R.cells := by omega
    have hslots : jsl h - w0 + (n + n * k) ≤ R.slots := by omega
    obtain ⟨hr1, hr2⟩ := X.roomAbove hcells hslots
    have XF := jG_X X₁ (dA 111) (dA 101) n k n
    obtain ⟨f1, f2, f3, f4⟩ := jG_f (T.setVm vm₁) (dA 111) (dA 101) n k n
    have hTz : (T.setVm vm₁).heap.size = jsz h := r.1
    have stepC : ∀ target, Steps p.tables e below ((jG (T.setVm vm₁) (dA 111) (dA 101) n k n).setTop (F0 m (pc + 4) mls (.ref T.heap.size :: r9.map jtv))) target → Steps p.tables e below (T.setTop (F0 m pc mls (.int y9 :: .int x9 :: r9.map jtv))) target := by
      intro target hrest
      have hl1 : ¬ n > e.platform.arrayLengthLimit := by rw [Launch.admits_arrayLengthLimit X.admits]; omega
      have hh1 : ¬ n * componentBytes (.array .int) > e.platform.maxHeapBytes := by
        rw [Launch.admits_maxHeapBytes X.admits]; show ¬ n * 4 > 536870912; omega
      have hl2 : ¬ k > e.platform.arrayLengthLimit := by rw [Launch.admits_arrayLengthLimit X.admits]; omega
      have hh2 : ¬ k * componentBytes .int > e.platform.maxHeapBytes := by
        rw [Launch.admits_maxHeapBytes X.admits]; show ¬ k * 4 > 536870912; omega
      have hdg : decode c.code pc = .ok (.multianewarray ix 2, 4) := by rw [C.2.1]; exact d
      jvm_step X.here [C.1, hdg]
      simp only [multianewarray.sem, wp_bind', W.resolveClassAt_links (State.method?_setTop (F0 m pc mls (.int y9 :: .int x9 :: r9.map jtv)) X.here.top) hg₁]
      rw [W.popN, if_neg (by decide)]
      refine ⟨F0 m pc mls (.int y9 :: .int x9 :: r9.map jtv), State.topJava?_setTop' (s := T.setVm vm₁) (F0 m pc mls (.int y9 :: .int x9 :: r9.map jtv)) X.here.top, [.int x9, .int y9], r9.map jtv, rfl, rfl, ?_⟩
      simp only [List.mapM_cons, List.mapM_nil, wp_bind', wp_pure']
      refine jmk2 (k := kO₁) (kc := kC₁) (cI := dA 101) (cc := cc9) hkO₁ hkindO₁ hkC₁ hkindC₁ hx hy (by rw [hn]; exact hl1) (by rw [hn]; exact hh1) (by rw [hk]; exact hl2) (by rw [hk]; exact hh2) (by rw [hn]; show T.heap.size + 1 + _ ≤ _; omega) (by rw [hn, hk]; show T.slotsUsed + _ + _ ≤ _; omega) (fun d' acts' => ?_)
      rw [hn, hk]
      have eS : ((T.setTop (F0 m pc mls (.int y9 :: .int x9 :: r9.map jtv))).setVm vm₁).setTop (F0 m pc mls (r9.map jtv)) = (T.setVm vm₁).setTop (F0 m pc mls (r9.map jtv)) := by
        show ((T.setVm vm₁).setTop _).setTop _ = _
        rw [State.setTop_setTop]
      have eF : ({ F0 m pc mls (.int y9 :: .int x9 :: r9.map jtv) with stack := r9.map jtv } : JFrame) = F0 m pc mls (r9.map jtv) := rfl
      rw [eF, eS, jG_top]
      simp only [wp_bind', W.mark, W.pushRef, State.topJava?_setTop' _ XF.here.top, Option.some.injEq, exists_eq_left', State.setTop_setTop, State.heap_setTop]
      intro acts
      simp [jvm, XF.here.top]
      exact hrest
    have hnk : jsl h - w0 + n + n * k = jsl (jnewAA h n k) - w0 := by show _ = jsl h + n + n * k - w0; omega
    have hcz : jsz h - z0 + 1 + n = jsz (jnewAA h n k) - z0 := by show _ = jsz h + 1 + n - z0; omega
    have hrep : jRep D dA lo (jnewAA h n k) (jG (T.setVm vm₁) (dA 111) (dA 101) n k n).heap := by
      have hlt : ∀ b, b < jsz h → ¬ b = jsz h ∧ ¬ (jsz h < b ∧ b ≤ jsz h + n) ∧ ¬ (jsz h ≤ b ∧ b ≤ jsz h + n) := fun b hb => ⟨by omega, by omega, by omega⟩
      refine jRep_many r (by omega) (by rw [f1, hTz]; rfl) (fun q hq => jG_old (T.setVm vm₁) (dA 111) (dA 101) n k hq n) (fun b hb => ?_) (fun b hb => ?_) (fun b hb k2 => ?_) (fun b hb hb0 => ?_)
      · show (if b = jsz h then 111 else if jsz h < b ∧ b ≤ jsz h + n then 101 else jkd h b) = jkd h b
        rw [if_neg (hlt b hb).1, if_neg (hlt b hb).2.1]
      · show (if b = jsz h then n else if jsz h < b ∧ b ≤ jsz h + n then k else jln h b) = jln h b
        rw [if_neg (hlt b hb).1, if_neg (hlt b hb).2.1]
      · have hl := hlt b hb
        apply jcell_wA
        · intro f; rfl
        · intro f; rfl
        · intro u
          funext j
          show (if jsz h ≤ b ∧ b ≤ jsz h + n then (0 : Int32) else jAI h u b j) = jAI h u b j
          rw [if_neg hl.2.2]
        · funext j
          show (if jsz h ≤ b ∧ b ≤ jsz h + n then (0 : Int64) else jAL h b j) = jAL h b j
          rw [if_neg hl.2.2]
        · funext j
          show (if jsz h ≤ b ∧ b ≤ jsz h + n then (0 : UInt64) else jAD h b j) = jAD h b j
          rw [if_neg hl.2.2]
        · intro u
          funext j
          show (if b = jsz h then (if j < n then some (jsz h + 1 + j) else none) else if jsz h < b ∧ b ≤ jsz h + n then none else jAP h u b j) = jAP h u b j
          rw [if_neg hl.1, if_neg hl.2.1]
        · show (if b = jsz h then n else if jsz h < b ∧ b ≤ jsz h + n then k else jln h b) = jln h b
          rw [if_neg hl.1, if_neg hl.2.1]
      · by_cases e1 : b = jsz h
        · subst e1
          have hkd : jkd (jnewAA h n k) (jsz h) = 111 := if_pos rfl
          have hln : jln (jnewAA h n k) (jsz h) = n := if_pos rfl
          rw [hkd, jcell_arr (by decide)]
          refine ⟨?_, by decide⟩
          show (jG (T.setVm vm₁) (dA 111) (dA 101) n k n).heap[jsz h]? = some (arrV (dA 111) (jln (jnewAA h n k) (jsz h)) fun j => va_rf (jAP (jnewAA h n k) 111 (jsz h) j))
          rw [hln, ← hTz, f2, hTz]
          refine congrArg some (congrArg (arrV (dA 111) n) (funext fun j => ?_))
          show (if j < n then Value.ref (jsz h + 1 + j) else .null) = va_rf (if jsz h = jsz h then (if j < n then some (jsz h + 1 + j) else none) else if jsz h < jsz h ∧ jsz h ≤ jsz h + n then none else jAP h 111 (jsz h) j)
          rw [if_pos rfl]
          by_cases hj : j < n
          · rw [if_pos hj, if_pos hj]; rfl
          · rw [if_neg hj, if_neg hj]; rfl
        · by_cases e2 : jsz h < b ∧ b ≤ jsz h + n
          · have hkd : jkd (jnewAA h n k) b = 101 := by
              show (if b = jsz h then 111 else if jsz h < b ∧ b ≤ jsz h + n then 101 else jkd h b) = 101
              rw [if_neg e1, if_pos e2]
            have hln : jln (jnewAA h n k) b = k := by
              show (if b = jsz h then n else if jsz h < b ∧ b ≤ jsz h + n then k else jln h b) = k
              rw [if_neg e1, if_pos e2]
            rw [hkd, jcell_arr (by decide)]
            refine ⟨?_, by decide⟩
            show (jG (T.setVm vm₁) (dA 111) (dA 101) n k n).heap[b]? = some (arrV (dA 101) (jln (jnewAA h n k) b) fun j => .int (jAI (jnewAA h n k) 101 b j))
            have hb9 : b = (T.setVm vm₁).heap.size + 1 + (b - jsz h - 1) := by rw [hTz]; omega
            rw [hln, hb9, jG_in (T.setVm vm₁) (dA 111) (dA 101) n k n (b - jsz h - 1) (by omega), ← hb9]
            refine congrArg some (congrArg (arrV (dA 101) k) (funext fun j => ?_))
            show Value.int 0 = .int (if jsz h ≤ b ∧ b ≤ jsz h + n then (0 : Int32) else jAI h 101 b j)
            rw [if_pos ⟨hb, e2.2⟩]
          · exfalso
            apply hb0
            show (if b = jsz h then 111 else if jsz h < b ∧ b ≤ jsz h + n then 101 else jkd h b) = 0
            rw [if_neg e1, if_neg e2]
            by_cases h0 : jkd h b = 0
            · exact h0
            · exact absurd (jRep_lt r h0) (Nat.not_lt.mpr hb)
    have kk := kt.2 (by show z0 ≤ jsz h + 1 + n; omega) (by show w0 ≤ jsl h + n + n * k; omega) n1 _ (locs ++ (List.range n).map fun j => (⟨(T.setVm vm₁).heap.size, j⟩ : Loc)) mls hrep ⟨by rw [f1]; have := v.1; show s.heap.size ≤ T.heap.size + 1 + n; omega, fun q h1 h2 => (jG_old (T.setVm vm₁) (dA 111) (dA 101) n k (Nat.lt_of_lt_of_le h1 v.1) n).trans (v.2.1 q h1 h2), fun z hz => by
      rcases List.mem_append.mp hz with hz | hz
      · exact v.2.2 z hz
      · obtain ⟨j, -, hj⟩ := List.mem_map.mp hz
        rw [← hj]
        show lo ≤ (T.setVm vm₁).heap.size
        rw [hTz]
        omega⟩ w
    rw [← hnk, ← hcz] at kk
    obtain ⟨t, b1, b2⟩ := kk _ rfl XF
    refine ⟨t, stepC _ ?_, b2⟩
    have es : T.heap.size = jsz h := r.1
    rw [es]
    exact b1
  · exact kz.elim
end
end MAA0
