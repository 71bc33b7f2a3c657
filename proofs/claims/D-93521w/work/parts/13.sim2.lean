/-! THE GIVEN MACHINE ANSWERS TO THE SMALL ONE: heaps (own work) -/
theorem jone {D : va_G} {a : Nat} {e : va_E} {H : Heap} (h : va_at D jcls (a, e) H) : va_P D jcls [(a, e)] H := fun k q hq => by
  cases k with
  | zero => cases hq; exact h
  | succ k => cases hq
theorem jat_lt {D : va_G} {a : Nat} {e : va_E} {H : Heap} (h : va_at D jcls (a, e) H) : a < H.size := by
  cases e with
  | inl x => exact (Array.getElem?_eq_some_iff.mp h).1
  | inr x =>
    obtain ⟨r, -, cell, h1, -⟩ := h
    exact (Array.getElem?_eq_some_iff.mp h1).1
theorem jRep_lt {D : va_G} {dA : Nat → ClassId} {lo : Nat} {h : jH} {H : Heap} (r : jRep D dA lo h H) {a : Nat} (ha : jkd h a ≠ 0) : a < jsz h := by
  rw [← r.1]
  exact jwe_lt (r.2 a ha).1.1
theorem jfs_at {lay : List (Nat × Bool)} {h : jH} {a k : Nat} {q : Nat × Bool} (hl : lay[k]? = some q) : (jfs lay h a)[k]? = some (jfv h a q) := by
  unfold jfs
  rw [List.getElem?_map, hl]
  rfl
theorem jfs_len {lay : List (Nat × Bool)} {h : jH} {a : Nat} : (jfs lay h a).length = lay.length := List.length_map _
theorem jcell_obj {dA : Nat → ClassId} {k : Nat} {h : jH} {a : Nat} (hk : k < 100) : jcell dA k h a = .inr (k, jfs (jlay k) h a) := if_pos hk
theorem jcell_arr {dA : Nat → ClassId} {k : Nat} {h : jH} {a : Nat} (hk : ¬ k < 100) : jcell dA k h a = .inl (dA k, jarr k h a) := if_neg hk
/-- an object of kind c at a -/
theorem jRep_obj {D : va_G} {dA : Nat → ClassId} {lo : Nat} {h : jH} {H : Heap} (r : jRep D dA lo h H) {a c : Nat} (ha : jkd h a = c) (h0 : c ≠ 0) (h9 : c < 100) : jwe D (a, .inr (c, jfs (jlay c) h a)) H := by
  have h1 := (r.2 a (by rw [ha]; exact h0)).1.1
  rw [ha, jcell_obj h9] at h1
  exact h1
theorem jRep_objO {D : va_G} {dA : Nat → ClassId} {lo : Nat} {h : jH} {H : Heap} (r : jRep D dA lo h H) {a c : Nat} (ha : jkd h a = c) (h0 : c ≠ 0) (h9 : c < 100) (hlo : lo ≤ a) : va_at D jcls (a, .inr (c, jfs (jlay c) h a)) H := by
  have h1 := (r.2 a (by rw [ha]; exact h0)).1.2 hlo
  rw [ha, jcell_obj h9] at h1
  exact h1
theorem jRep_arr {D : va_G} {dA : Nat → ClassId} {lo : Nat} {h : jH} {H : Heap} (r : jRep D dA lo h H) {a c : Nat} (ha : jkd h a = c) (h9 : 100 ≤ c) : jwe D (a, .inl (dA c, jarr c h a)) H := by
  have h1 := (r.2 a (by rw [ha]; omega)).1.1
  rw [ha, jcell_arr (by omega)] at h1
  exact h1
theorem jRep_arrO {D : va_G} {dA : Nat → ClassId} {lo : Nat} {h : jH} {H : Heap} (r : jRep D dA lo h H) {a c : Nat} (ha : jkd h a = c) (h9 : 100 ≤ c) (hlo : lo ≤ a) : va_at D jcls (a, .inl (dA c, jarr c h a)) H := by
  have h1 := (r.2 a (by rw [ha]; omega)).1.2 hlo
  rw [ha, jcell_arr (by omega)] at h1
  exact h1
theorem jarrOf {s : State} {cA : ClassId} {ty : FieldType} {cell : Cell} (hK : ArrOfT s cA ty) (hc : cell.cls = cA) (hv : jvm0 cell) : s.isArrayOf cell ty := by
  refine ⟨hv.1, ?_⟩
  rw [hc]
  exact (hK 0 (fun _ => .null)).2
theorem jRep_own {D : va_G} {dA : Nat → ClassId} {lo : Nat} {h : jH} {H : Heap} (r : jRep D dA lo h H) {a c : Nat} (ha : jkd h a = c) (h0 : c ≠ 0) (hn : c ∉ [22, 23, 37, 38, 100, 104, 112]) (h7 : c = 107 → jln h a ≠ 0) : lo ≤ a := by
  rcases (r.2 a (by rw [ha]; exact h0)).2.1 with h1 | h1 | h1
  · exact h1
  · rw [ha] at h1
    exact absurd h1 hn
  · rw [ha] at h1
    exact absurd h1.2 (h7 h1.1)
/-- a cell changes: the others are as they were -/
theorem jRep_upd {D : va_G} {dA : Nat → ClassId} {lo : Nat} {h g : jH} {H H1 : Heap} (r : jRep D dA lo h H) {a : Nat} (hz : H1.size = H.size) (ho : ∀ q : Nat, q ≠ a → H1[q]? = H[q]?) (gz : jsz g = jsz h) (gk : ∀ b, jkd g b = jkd h b) (gl : ∀ b, jln g b = jln h b)
    (gc : ∀ b, b ≠ a → ∀ k, jcell dA k g b = jcell dA k h b) (ga : jkd h a ≠ 0 → va_at D jcls (a, jcell dA (jkd h a) g a) H1) (gs : jkd h a = 36 → jSz3 a H1) : jRep D dA lo g H1 := by
  refine ⟨by rw [hz, gz]; exact r.1, fun b hb => ?_⟩
  rw [gk] at hb
  have hr := r.2 b hb
  refine ⟨?_, ?_, ?_⟩
  · rw [gk]
    by_cases e : b = a
    · subst e
      exact ⟨jwe_of (ga hb), fun _ => ga hb⟩
    · rw [gc b e]
      exact ⟨hr.1.1.kept (ho b e), fun hlo => (hr.1.2 hlo).kept (ho b e)⟩
  · rcases hr.2.1 with q | q | q
    · exact Or.inl q
    · exact Or.inr (Or.inl (by rw [gk]; exact q))
    · exact Or.inr (Or.inr (by rw [gk, gl]; exact q))
  · intro h36
    rw [gk] at h36
    by_cases e : b = a
    · subst e
      exact gs h36
    · obtain ⟨c9, w1, w2⟩ := hr.2.2 h36
      exact ⟨c9, (ho b e).trans w1, w2⟩
theorem jfs_setI {lay : List (Nat × Bool)} {h : jH} {a k f : Nat} {x : Int32} (hl : lay[k]? = some (f, false)) (hn : ∀ i q, lay[i]? = some q → q.1 = f → i = k) : jfs lay (jwI h f a x) a = (jfs lay h a).set k (.int x) := by
  refine List.ext_getElem? fun i => ?_
  rw [List.getElem?_set]
  by_cases e : k = i
  · subst e
    rw [if_pos rfl, if_pos (by rw [jfs_len]; exact (List.getElem?_eq_some_iff.mp hl).1), jfs_at hl]
    simp [jfv, jwI_OI]
  · rw [if_neg e]
    unfold jfs
    rw [List.getElem?_map, List.getElem?_map]
    cases hq : lay[i]? with
    | none => rfl
    | some q =>
      have hne : q.1 ≠ f := fun z => e (hn i q hq z).symm
      simp [jfv, jwI_OI, jwI_OP, hne]
theorem jfs_setP {lay : List (Nat × Bool)} {h : jH} {a k f : Nat} {x : Option Nat} (hl : lay[k]? = some (f, true)) (hn : ∀ i q, lay[i]? = some q → q.1 = f → i = k) : jfs lay (jwP h f a x) a = (jfs lay h a).set k (va_rf x) := by
  refine List.ext_getElem? fun i => ?_
  rw [List.getElem?_set]
  by_cases e : k = i
  · subst e
    rw [if_pos rfl, if_pos (by rw [jfs_len]; exact (List.getElem?_eq_some_iff.mp hl).1), jfs_at hl]
    simp [jfv, jwP_OP]
  · rw [if_neg e]
    unfold jfs
    rw [List.getElem?_map, List.getElem?_map]
    cases hq : lay[i]? with
    | none => rfl
    | some q =>
      have hne : q.1 ≠ f := fun z => e (hn i q hq z).symm
      simp [jfv, jwP_OI, jwP_OP, hne]
theorem jRep_wI {D : va_G} {dA : Nat → ClassId} {lo : Nat} {h : jH} {H H1 : Heap} (r : jRep D dA lo h H) {a c k f : Nat} {x : Int32} (hc : jkd h a = c) (h9 : c < 100) (hl : (jlay c)[k]? = some (f, false)) (hn : ∀ i q, (jlay c)[i]? = some q → q.1 = f → i = k) (hz : H1.size = H.size) (ho : ∀ q : Nat, q ≠ a → H1[q]? = H[q]?) (ga : va_at D jcls (a, .inr (c, (jfs (jlay c) h a).set k (.int x))) H1) (hs9 : ∀ c9 : Cell, H[a]? = some c9 → ∃ c8 : Cell, H1[a]? = some c8 ∧ c8.slots.size = c9.slots.size) : jRep D dA lo (jwI h f a x) H1 := by
  refine jRep_upd r hz ho rfl (fun _ => rfl) (fun _ => rfl) (fun b hb k2 => ?_) (fun _ => ?_) (fun h36 => by
    obtain ⟨c9, w1, w2⟩ := (r.2 a (by rw [h36]; decide)).2.2 h36
    obtain ⟨c8, w3, w4⟩ := hs9 c9 w1
    exact ⟨c8, w3, w4.trans w2⟩)
  · unfold jcell
    have : jfs (jlay k2) (jwI h f a x) b = jfs (jlay k2) h b := by
      unfold jfs
      refine List.map_congr_left fun q _ => ?_
      simp [jfv, jwI_OI, jwI_OP, hb]
    rw [this]
    rfl
  · rw [hc, jcell_obj h9, jfs_setI hl hn]
    exact ga
theorem jRep_wP {D : va_G} {dA : Nat → ClassId} {lo : Nat} {h : jH} {H H1 : Heap} (r : jRep D dA lo h H) {a c k f : Nat} {x : Option Nat} (hc : jkd h a = c) (h9 : c < 100) (hl : (jlay c)[k]? = some (f, true)) (hn : ∀ i q, (jlay c)[i]? = some q → q.1 = f → i = k) (hz : H1.size = H.size) (ho : ∀ q : Nat, q ≠ a → H1[q]? = H[q]?) (ga : va_at D jcls (a, .inr (c, (jfs (jlay c) h a).set k (va_rf x))) H1) (hs9 : ∀ c9 : Cell, H[a]? = some c9 → ∃ c8 : Cell, H1[a]? = some c8 ∧ c8.slots.size = c9.slots.size) : jRep D dA lo (jwP h f a x) H1 := by
  refine jRep_upd r hz ho rfl (fun _ => rfl) (fun _ => rfl) (fun b hb k2 => ?_) (fun _ => ?_) (fun h36 => by
    obtain ⟨c9, w1, w2⟩ := (r.2 a (by rw [h36]; decide)).2.2 h36
    obtain ⟨c8, w3, w4⟩ := hs9 c9 w1
    exact ⟨c8, w3, w4.trans w2⟩)
  · unfold jcell
    have : jfs (jlay k2) (jwP h f a x) b = jfs (jlay k2) h b := by
      unfold jfs
      refine List.map_congr_left fun q _ => ?_
      simp [jfv, jwP_OI, jwP_OP, hb]
    rw [this]
    rfl
  · rw [hc, jcell_obj h9, jfs_setP hl hn]
    exact ga
/-- a cell comes -/
theorem jRep_new {D : va_G} {dA : Nat → ClassId} {lo : Nat} {h g : jH} {H H1 : Heap} (r : jRep D dA lo h H) (hlo : lo ≤ jsz h) (hz : H1.size = H.size + 1) (ho : ∀ q : Nat, q < H.size → H1[q]? = H[q]?) (gz : jsz g = jsz h + 1) (gk : ∀ b, b ≠ jsz h → jkd g b = jkd h b) (gl : ∀ b, b ≠ jsz h → jln g b = jln h b)
    (gc : ∀ b, b ≠ jsz h → ∀ k, jcell dA k g b = jcell dA k h b) (ga : va_at D jcls (jsz h, jcell dA (jkd g (jsz h)) g (jsz h)) H1) (gs : jkd g (jsz h) = 36 → jSz3 (jsz h) H1) : jRep D dA lo g H1 := by
  refine ⟨by rw [hz, gz, r.1], fun b hb => ?_⟩
  by_cases e : b = jsz h
  · subst e
    exact ⟨⟨jwe_of ga, fun _ => ga⟩, Or.inl hlo, gs⟩
  · rw [gk b e] at hb ⊢
    have hr := r.2 b hb
    refine ⟨?_, ?_, ?_⟩
    · rw [gc b e]
      exact ⟨hr.1.1.kept (ho b (by rw [r.1]; exact jRep_lt r hb)), fun hlo9 => (hr.1.2 hlo9).kept (ho b (by rw [r.1]; exact jRep_lt r hb))⟩
    · rcases hr.2.1 with q | q | q
      · exact Or.inl q
      · exact Or.inr (Or.inl (by rw [gk b e]; exact q))
      · exact Or.inr (Or.inr (by rw [gk b e, gl b e]; exact q))
    · intro h36
      obtain ⟨c9, w1, w2⟩ := hr.2.2 h36
      exact ⟨c9, (ho b (by rw [r.1]; exact jRep_lt r hb)).trans w1, w2⟩
def jdef (lay : List (Nat × Bool)) : List Value := lay.map fun q => if q.2 = true then .null else .int 0
theorem jfs_new {lay : List (Nat × Bool)} {h : jH} {c n : Nat} : jfs lay (jnew h c n) (jsz h) = jdef lay := by
  unfold jfs jdef
  refine List.map_congr_left fun q _ => ?_
  simp [jfv, jnew_OI, jnew_OP, va_rf]
theorem jcell_new {dA : Nat → ClassId} {h : jH} {c n b k : Nat} (hb : b ≠ jsz h) : jcell dA k (jnew h c n) b = jcell dA k h b := by
  unfold jcell
  have : jfs (jlay k) (jnew h c n) b = jfs (jlay k) h b := by
    unfold jfs
    refine List.map_congr_left fun q _ => ?_
    simp [jfv, jnew_OI, jnew_OP, hb]
  rw [this]
  rfl
theorem jcell_newA {dA : Nat → ClassId} {h : jH} {t n b k : Nat} (hb : b ≠ jsz h) : jcell dA k (jnewA h t n) b = jcell dA k h b := by
  unfold jcell
  have h1 : jfs (jlay k) (jnewA h t n) b = jfs (jlay k) h b := rfl
  have h2 : jarr k (jnewA h t n) b = jarr k h b := by
    have e1 : jAI (jnewA h t n) k b = jAI h k b := funext fun j => by simp [jnewA_AI, hb]
    have e2 : jAL (jnewA h t n) b = jAL h b := funext fun j => by simp [jnewA_AL, hb]
    have e3 : jAD (jnewA h t n) b = jAD h b := funext fun j => by simp [jnewA_AD, hb]
    have e4 : jAP (jnewA h t n) k b = jAP h k b := funext fun j => by simp [jnewA_AP, hb]
    have e5 : jln (jnewA h t n) b = jln h b := by simp [jnewA_ln, hb]
    unfold jarr
    rw [e1, e2, e3, e4, e5]
  rw [h1, h2]
theorem jcell_wA {dA : Nat → ClassId} {h g : jH} {b : Nat} (e0 : ∀ f, jOI g f b = jOI h f b) (e6 : ∀ f, jOP g f b = jOP h f b) (e1 : ∀ k, jAI g k b = jAI h k b) (e2 : jAL g b = jAL h b) (e3 : jAD g b = jAD h b) (e4 : ∀ k, jAP g k b = jAP h k b) (e5 : jln g b = jln h b) (k : Nat) : jcell dA k g b = jcell dA k h b := by
  unfold jcell
  have h1 : jfs (jlay k) g b = jfs (jlay k) h b := by
    unfold jfs
    refine List.map_congr_left fun q _ => ?_
    simp [jfv, e0, e6]
  have h2 : jarr k g b = jarr k h b := by
    unfold jarr
    rw [e1, e2, e3, e4, e5]
  rw [h1, h2]
section JS2
variable {p : Program} {l : Launch} {e : Env} {R : Room} {s : State} {m : MethodId} {args : Array Value} {below : List Frame} {meth : Method} {c : Code} {D : va_G} {dA : Nat → ClassId} {lo nL z0 w0 zF wF dd : Nat} {cs0 : Nat → Option Nat} {Q : State → Prop} {cc : ByteArray} {own : String} {pc : Nat} {Rf : jR} {H : Heap} {locs : List Loc} {cells slots : Nat} {mls : Array Slot} {rest : List Value}
/-- putfield, with what the heap is behind it -/
theorem z_put (C : jCx p l e R s m args meth c cc own D dA lo cs0 nL z0 w0 zF wF dd) {ref CN : String} {T : u_T} {N ci index a : Nat} (hin : ∀ w ∈ u_ws CN T N, w ∈ lw_all) (ty0 : Nat → FieldType) (hty : ∀ k, k < N → parseFieldDescriptor (T k).2.2.1 = some (ty0 k)) (hnm : ∀ a, a < N → ∀ b, b < N → a ≠ b → (T a).2.1 ≠ (T b).2.1) {fs : List Value} (he : va_at D jcls (a, .inr (ci, fs)) H) (hc : jcls[ci]? = some (CN, T, N)) (k : Nat) (hk : k < N) (hlink : (Cond.fieldLink own index ref (T k).2.1 (T k).2.2.1).before args s = true) (hsame : ∀ x, s.fieldFound? (T k).1 (T k).2.1 (T k).2.2.1 = some x → s.fieldFound? ref (T k).2.1 (T k).2.2.1 = some x) (hfin : (T k).2.2.2 = false ∨ ((T k).2.2.2 = true ∧ meth.name = "<init>" ∧ (T k).1 = own)) {ty : FieldType} {v : Value} (hd : parseFieldDescriptor (T k).2.2.1 = some ty) (hn : narrow ty v = v) (hfit : fits ty v = true) (hl : k < fs.length) (hdg : decode cc pc = .ok (.putfield index, 3))
    (kk : ∀ (H1 : Heap) (i : Nat), va_at D jcls (a, .inr (ci, fs.set k v)) H1 → H1.size = H.size → (∀ q : Nat, q ≠ a → H1[q]? = H[q]?) → (∀ c9 : Cell, H[a]? = some c9 → ∃ c8 : Cell, H1[a]? = some c8 ∧ c8.slots.size = c9.slots.size) → W p l e R s m args below meth c H1 (locs ++ [⟨a, i⟩]) cells slots Q (F0 m (pc + 3) mls rest)) : W p l e R s m args below meth c H locs cells slots Q (F0 m pc mls (v :: .ref a :: rest)) := by
  have hts : ∀ w ∈ lw_all, w.before args s = true := C.2.2.2.1
  have hK := C.2.2.2.2.2.2.2.2.1.1
  have hap := va_apart (own := own) hts hin ty0 hty hnm hK hc
  obtain ⟨r, h1, cell, q1, q2, q3, q4⟩ := he
  have hr : r = (CN, T, N) := Option.some.inj (h1.symm.trans hc)
  subst hr
  obtain ⟨hS, hfc, kC, hkC, hkind⟩ := hK.1 ci _ hc
  obtain ⟨cf, kf, fi, f, hi, hsl⟩ := hS k hk
  have hlay := hts _ (hin _ (u_in_lay hk))
  have hst := (u_facts hfc hkC (u_lays hts hin hk) hi).1
  rcases hfin with hfin | ⟨hfin, hin2, hdecl⟩
  · unfold u_lay at hlay
    rw [if_neg (by rw [hfin]; decide)] at hlay
    have h6 := u_store hfc hkC hkind hlay hi hd hn hfit
    refine W.putK C.1 C.2.1 (f := f) ⟨C.2.2.1, hlink, ⟨_, _, _, hsame _ hi⟩, hst⟩ (by rw [q2]; exact h6) q1 q3 (by rw [hsl]; exact k2_hasslot (q4 k hk)) rfl rfl hdg fun H' e1 e2 e3 => ?_
    rw [hsl] at e1 ⊢
    exact kk H' _ ⟨_, hc, t_OB.to (V := updV (vp_V fs) k v) ⟨_, e1, q2, q3, t_set q4 hap hk v⟩ (fun j _ => vp_updV_set hl v j)⟩ e2 e3 (fun c9 hc9 => ⟨_, e1, by cases Option.some.inj (q1.symm.trans hc9); simp [Cell.setSlot]⟩)
  · unfold u_lay at hlay
    rw [if_pos hfin] at hlay
    have hcf : m.cls = cf := by
      obtain ⟨_, _, c', _, _, _, -, -, hf', -, -, -, hown2, -⟩ := Cond.laysFinal_spec hlay
      have e1 : c' = cf := by have := hi.symm.trans hf'; simp at this; exact this.1.symm
      rw [hdecl] at hown2
      rw [← e1]; exact Option.some.inj (C.2.2.1.symm.trans hown2)
    have h6 := u_fits hfc hkC hkind (Or.inr hlay) hi hd hn hfit
    refine W.putFinK C.1 C.2.1 C.2.2.1 hlink (hsame _ hi) hst hcf hin2 (by rw [q2]; exact h6) q1 q3 (by rw [hsl]; exact k2_hasslot (q4 k hk)) rfl rfl hdg fun H' e1 e2 e3 => ?_
    rw [hsl] at e1 ⊢
    exact kk H' _ ⟨_, hc, t_OB.to (V := updV (vp_V fs) k v) ⟨_, e1, q2, q3, t_set q4 hap hk v⟩ (fun j _ => vp_updV_set hl v j)⟩ e2 e3 (fun c9 hc9 => ⟨_, e1, by cases Option.some.inj (q1.symm.trans hc9); simp [Cell.setSlot]⟩)
/-- the words of a field: kind, place, number -/
def jFld (s : State) (own ref CN : String) (T : u_T) (N ci k f : Nat) (b : Bool) (ix : Nat) : Prop := jcls[ci]? = some (CN, T, N) ∧ ci ≠ 0 ∧ ci < 100 ∧ k < N ∧ (jlay ci)[k]? = some (f, b) ∧ (∀ w ∈ u_ws CN T N, w ∈ lw_all) ∧ Cond.fieldLink own ix ref (T k).2.1 (T k).2.2.1 ∈ lw_all ∧ (∀ x, s.fieldFound? (T k).1 (T k).2.1 (T k).2.2.1 = some x → s.fieldFound? ref (T k).2.1 (T k).2.2.1 = some x)
/-- a field is read, of a cell that may be a constant -/
theorem z_getw (C : jCx p l e R s m args meth c cc own D dA lo cs0 nL z0 w0 zF wF dd) {ref CN : String} {T : u_T} {N ci k ix a : Nat} {vs : List Value} {v : Value} {H : Heap} {locs : List Loc} {cells slots : Nat} {mls : Array Slot} {rest : List Value} (hin : ∀ w ∈ u_ws CN T N, w ∈ lw_all) (hat : jwe D (a, .inr (ci, vs)) H) (hc : jcls[ci]? = some (CN, T, N)) (hk : k < N) (hlink : (Cond.fieldLink own ix ref (T k).2.1 (T k).2.2.1).before args s = true) (hsame : ∀ x, s.fieldFound? (T k).1 (T k).2.1 (T k).2.2.1 = some x → s.fieldFound? ref (T k).2.1 (T k).2.2.1 = some x) (hv : vs[k]? = some v) (d : decode cc pc = .ok (.getfield ix, 3))
    (kk : W p l e R s m args below meth c H locs cells slots Q (F0 m (pc + 3) mls (v :: rest))) : W p l e R s m args below meth c H locs cells slots Q (F0 m pc mls (.ref a :: rest)) := by
  obtain ⟨r, cell, h1, q1, q2, q3, q4⟩ := hat
  have hr : r = (CN, T, N) := Option.some.inj (h1.symm.trans hc)
  subst hr
  obtain ⟨hS, hfc, kC, hkC, hkind⟩ := C.2.2.2.2.2.2.2.2.1.1.1 ci _ hc
  obtain ⟨cf, kf, fi, f, hi, hsl⟩ := hS k hk
  refine W.getf C.1 C.2.1 C.2.2.1 hlink (hsame _ hi) (u_facts hfc hkC (u_lays C.2.2.2.1 hin hk) hi).1 q1 q3.2 (v := v) ?_ rfl rfl d kk
  rw [hsl, q4 k hk]
  simp [vp_V, hv]
theorem z_getNw (C : jCx p l e R s m args meth c cc own D dA lo cs0 nL z0 w0 zF wF dd) {ref CN host : String} {T : u_T} {N ci k ix a : Nat} {vs : List Value} {v : Value} {H : Heap} {locs : List Loc} {cells slots : Nat} {mls : Array Slot} {rest : List Value} (hin : ∀ w ∈ u_ws CN T N, w ∈ lw_all) (hat : jwe D (a, .inr (ci, vs)) H) (hc : jcls[ci]? = some (CN, T, N)) (hk : k < N) (hlink : (Cond.fieldLinkNest own ix ref (T k).2.1 (T k).2.2.1 host).before args s = true) (hsame : ∀ x, s.fieldFound? (T k).1 (T k).2.1 (T k).2.2.1 = some x → s.fieldFound? ref (T k).2.1 (T k).2.2.1 = some x) (hv : vs[k]? = some v) (d : decode cc pc = .ok (.getfield ix, 3))
    (kk : W p l e R s m args below meth c H locs cells slots Q (F0 m (pc + 3) mls (v :: rest))) : W p l e R s m args below meth c H locs cells slots Q (F0 m pc mls (.ref a :: rest)) := by
  obtain ⟨r, cell, h1, q1, q2, q3, q4⟩ := hat
  have hr : r = (CN, T, N) := Option.some.inj (h1.symm.trans hc)
  subst hr
  obtain ⟨hS, hfc, kC, hkC, hkind⟩ := C.2.2.2.2.2.2.2.2.1.1.1 ci _ hc
  obtain ⟨cf, kf, fi, f, hi, hsl⟩ := hS k hk
  refine va_Wgetf C.1 C.2.1 C.2.2.1 hlink (hsame _ hi) (u_facts hfc hkC (u_lays C.2.2.2.1 hin hk) hi).1 q1 q3.2 (v := v) ?_ rfl rfl d kk
  rw [hsl, q4 k hk]
  simp [vp_V, hv]
theorem sm_getI (C : jCx p l e R s m args meth c cc own D dA lo cs0 nL z0 w0 zF wF dd) {ref CN : String} {T : u_T} {N ci k f ix : Nat} (F : jFld s own ref CN T N ci k f false ix) (d : decode cc pc = .ok (.getfield ix, 3)) : ∀ ls st h, ogetI ci f (pc + 3) (jSim p l e R s m args below meth c D dA lo cs0 nL z0 w0 zF wF Q) Rf ls st h → jSim p l e R s m args below meth c D dA lo cs0 nL z0 w0 zF wF Q pc ls st h := by
  intro ls st h kz
  obtain ⟨f1, f2, f3, f4, f5, f6, f7, f8⟩ := F
  unfold ogetI at kz
  split at kz
  · obtain ⟨a, ea, hk, kt⟩ := onr_ex kz
    subst ea
    exact ⟨kt.1, fun a1 b1 n1 H locs mls r v w => z_getw C f6 (jRep_obj r hk f2 f3) f1 f4 (C.2.2.2.1 _ f7) f8 (jfs_at f5) d (kt.2 a1 b1 n1 H locs mls r v w)⟩
  · exact kz.elim
theorem sm_getP (C : jCx p l e R s m args meth c cc own D dA lo cs0 nL z0 w0 zF wF dd) {ref CN : String} {T : u_T} {N ci k f ix : Nat} (F : jFld s own ref CN T N ci k f true ix) (d : decode cc pc = .ok (.getfield ix, 3)) : ∀ ls st h, ogetP ci f (pc + 3) (jSim p l e R s m args below meth c D dA lo cs0 nL z0 w0 zF wF Q) Rf ls st h → jSim p l e R s m args below meth c D dA lo cs0 nL z0 w0 zF wF Q pc ls st h := by
  intro ls st h kz
  obtain ⟨f1, f2, f3, f4, f5, f6, f7, f8⟩ := F
  unfold ogetP at kz
  split at kz
  · obtain ⟨a, ea, hk, kt⟩ := onr_ex kz
    subst ea
    exact ⟨kt.1, fun a1 b1 n1 H locs mls r v w => z_getw C f6 (jRep_obj r hk f2 f3) f1 f4 (C.2.2.2.1 _ f7) f8 (jfs_at f5) d (kt.2 a1 b1 n1 H locs mls r v w)⟩
  · exact kz.elim
/-- the field f stands at place k alone -/
def jU (lay : List (Nat × Bool)) (f k : Nat) : Bool := (List.range lay.length).all fun i => (lay[i]?.map (·.1)) != some f || i == k
theorem jU_spec {lay : List (Nat × Bool)} {f k : Nat} (h : jU lay f k = true) : ∀ i q, lay[i]? = some q → q.1 = f → i = k := by
  intro i q hq e
  have h1 := List.all_eq_true.mp h i (List.mem_range.mpr (List.getElem?_eq_some_iff.mp hq).1)
  rw [hq] at h1
  simp [e] at h1
  exact h1
theorem jnar {ty : FieldType} (h : refKind ty = true) (o : Option Nat) : narrow ty (va_rf o) = va_rf o := by
  cases o <;> cases ty <;> rfl
theorem jfit {ty : FieldType} (h : refKind ty = true) (o : Option Nat) : fits ty (va_rf o) = true := by
  cases o <;> cases ty <;> first | rfl | cases h
theorem sm_putI (C : jCx p l e R s m args meth c cc own D dA lo cs0 nL z0 w0 zF wF dd) {ref CN : String} {T : u_T} {N ci k f ix : Nat} (F : jFld s own ref CN T N ci k f false ix) (ty0 : Nat → FieldType) (hty : ∀ k, k < N → parseFieldDescriptor (T k).2.2.1 = some (ty0 k)) (hnm : ∀ a, a < N → ∀ b, b < N → a ≠ b → (T a).2.1 ≠ (T b).2.1) (hfin : (T k).2.2.2 = false ∨ ((T k).2.2.2 = true ∧ meth.name = "<init>" ∧ (T k).1 = own)) (hd : parseFieldDescriptor (T k).2.2.1 = some .int) (hu : jU (jlay ci) f k = true) (hcon : ci ∉ [22, 23, 37, 38, 100, 104, 112]) (d : decode cc pc = .ok (.putfield ix, 3)) : ∀ ls st h, oputI ci f (pc + 3) (jSim p l e R s m args below meth c D dA lo cs0 nL z0 w0 zF wF Q) Rf ls st h → jSim p l e R s m args below meth c D dA lo cs0 nL z0 w0 zF wF Q pc ls st h := by
  intro ls st h kz
  obtain ⟨f1, f2, f3, f4, f5, f6, f7, f8⟩ := F
  unfold oputI at kz
  split at kz
  · obtain ⟨a, ea, hk, kt⟩ := onr_ex kz
    subst ea
    rename_i v0 _ _
    have kt := kt _ rfl
    refine ⟨kt.1, fun a1 b1 n1 H locs mls r v w => ?_⟩
    refine z_put C f6 ty0 hty hnm (jRep_objO r hk f2 f3 (jRep_own r hk f2 hcon (fun e => absurd e (by omega)))) f1 k f4 (C.2.2.2.1 _ f7) f8 hfin hd rfl rfl (by rw [jfs_len]; exact (List.getElem?_eq_some_iff.mp f5).1) d fun H1 i g1 g2 g3 g4 => ?_
    exact kt.2 a1 b1 n1 H1 _ mls (jRep_wI r hk f3 f5 (jU_spec hu) g2 g3 g1 g4) (v.put g2 g3 (jRep_own r hk f2 hcon (fun e => absurd e (by omega)))) w
  · exact kz.elim
theorem sm_putZ (C : jCx p l e R s m args meth c cc own D dA lo cs0 nL z0 w0 zF wF dd) {ref CN : String} {T : u_T} {N ci k f ix : Nat} (F : jFld s own ref CN T N ci k f false ix) (ty0 : Nat → FieldType) (hty : ∀ k, k < N → parseFieldDescriptor (T k).2.2.1 = some (ty0 k)) (hnm : ∀ a, a < N → ∀ b, b < N → a ≠ b → (T a).2.1 ≠ (T b).2.1) (hfin : (T k).2.2.2 = false ∨ ((T k).2.2.2 = true ∧ meth.name = "<init>" ∧ (T k).1 = own)) (hd : parseFieldDescriptor (T k).2.2.1 = some .boolean) (hu : jU (jlay ci) f k = true) (hcon : ci ∉ [22, 23, 37, 38, 100, 104, 112]) (d : decode cc pc = .ok (.putfield ix, 3)) : ∀ ls st h, oputZ ci f (pc + 3) (jSim p l e R s m args below meth c D dA lo cs0 nL z0 w0 zF wF Q) Rf ls st h → jSim p l e R s m args below meth c D dA lo cs0 nL z0 w0 zF wF Q pc ls st h := by
  intro ls st h kz
  obtain ⟨f1, f2, f3, f4, f5, f6, f7, f8⟩ := F
  unfold oputZ at kz
  split at kz
  · obtain ⟨a, ea, hk, kt⟩ := onr_ex kz
    subst ea
    rename_i v0 _ _
    obtain ⟨hz, kt⟩ := kt
    have kt := kt _ rfl
    refine ⟨kt.1, fun a1 b1 n1 H locs mls r v w => ?_⟩
    refine z_put C f6 ty0 hty hnm (jRep_objO r hk f2 f3 (jRep_own r hk f2 hcon (fun e => absurd e (by omega)))) f1 k f4 (C.2.2.2.1 _ f7) f8 hfin hd (by rcases hz with rfl | rfl <;> rfl) (by rcases hz with rfl | rfl <;> rfl) (by rw [jfs_len]; exact (List.getElem?_eq_some_iff.mp f5).1) d fun H1 i g1 g2 g3 g4 => ?_
    exact kt.2 a1 b1 n1 H1 _ mls (jRep_wI r hk f3 f5 (jU_spec hu) g2 g3 g1 g4) (v.put g2 g3 (jRep_own r hk f2 hcon (fun e => absurd e (by omega)))) w
  · exact kz.elim
theorem sm_putP (C : jCx p l e R s m args meth c cc own D dA lo cs0 nL z0 w0 zF wF dd) {ref CN : String} {T : u_T} {N ci k f ix : Nat} (F : jFld s own ref CN T N ci k f true ix) (ty0 : Nat → FieldType) (hty : ∀ k, k < N → parseFieldDescriptor (T k).2.2.1 = some (ty0 k)) (hnm : ∀ a, a < N → ∀ b, b < N → a ≠ b → (T a).2.1 ≠ (T b).2.1) (hfin : (T k).2.2.2 = false ∨ ((T k).2.2.2 = true ∧ meth.name = "<init>" ∧ (T k).1 = own)) {ty : FieldType} (hty9 : refKind ty = true) (hd : parseFieldDescriptor (T k).2.2.1 = some ty) (hu : jU (jlay ci) f k = true) (hcon : ci ∉ [22, 23, 37, 38, 100, 104, 112]) (d : decode cc pc = .ok (.putfield ix, 3)) : ∀ ls st h, oputP ci f (pc + 3) (jSim p l e R s m args below meth c D dA lo cs0 nL z0 w0 zF wF Q) Rf ls st h → jSim p l e R s m args below meth c D dA lo cs0 nL z0 w0 zF wF Q pc ls st h := by
  intro ls st h kz
  obtain ⟨f1, f2, f3, f4, f5, f6, f7, f8⟩ := F
  unfold oputP at kz
  split at kz
  · obtain ⟨a, ea, hk, kt⟩ := onr_ex kz
    subst ea
    rename_i v0 _ _
    have kt := kt _ rfl
    refine ⟨kt.1, fun a1 b1 n1 H locs mls r v w => ?_⟩
    refine z_put C f6 ty0 hty hnm (jRep_objO r hk f2 f3 (jRep_own r hk f2 hcon (fun e => absurd e (by omega)))) f1 k f4 (C.2.2.2.1 _ f7) f8 hfin hd (jnar hty9 _) (jfit hty9 _) (by rw [jfs_len]; exact (List.getElem?_eq_some_iff.mp f5).1) d fun H1 i g1 g2 g3 g4 => ?_
    exact kt.2 a1 b1 n1 H1 _ mls (jRep_wP r hk f3 f5 (jU_spec hu) g2 g3 g1 g4) (v.put g2 g3 (jRep_own r hk f2 hcon (fun e => absurd e (by omega)))) w
  · exact kz.elim
theorem sm_new (C : jCx p l e R s m args meth c cc own D dA lo cs0 nL z0 w0 zF wF dd) {CN : String} {T : u_T} {N ci ix : Nat} (hc : jcls[ci]? = some (CN, T, N)) (h0 : ci ≠ 0) (h9 : ci < 100) (hin : ∀ w ∈ u_ws CN T N, w ∈ lw_all) (ty0 : Nat → FieldType) (hty : ∀ k, k < N → parseFieldDescriptor (T k).2.2.1 = some (ty0 k)) (hdf : ∀ j, j < N → defaultValue (ty0 j) = vp_V (jdef (jlay ci)) j) (q1 : Cond.classLink own ix CN ∈ lw_all) (q2 : Cond.instantiable CN N ∈ lw_all) (q3 : Cond.initialized CN ∈ lw_all) (hlo : lo ≤ z0) (hlz : z0 ≤ zF) (hlw : w0 ≤ wF) (d : decode cc pc = .ok (.new ix, 3)) : ∀ ls st h, onew ci N (pc + 3) (jSim p l e R s m args below meth c D dA lo cs0 nL z0 w0 zF wF Q) Rf ls st h → jSim p l e R s m args below meth c D dA lo cs0 nL z0 w0 zF wF Q pc ls st h := by
  intro ls st h kz
  unfold onew at kz
  have kz := kz _ rfl
  have hz1 : jsz h + 1 ≤ zF := kz.1.1
  have hz2 : jsl h + N ≤ wF := kz.1.2
  refine ⟨⟨by omega, by omega⟩, fun a1 b1 n1 H locs mls r v w => ?_⟩
  have hts : ∀ w ∈ lw_all, w.before args s = true := C.2.2.2.1
  have hKn := C.2.2.2.2.2.2.2.2.1.1.1 ci _ hc
  have hRc := C.2.2.2.2.2.2.1
  have hRs := C.2.2.2.2.2.2.2.1
  refine W.newcK C.1 C.2.1 C.2.2.1 (hts _ q1) (hts _ q2) (hts _ q3) rfl d (by omega) (by omega) hKn.2.1 r.1 fun H1 kC hkC e1 z1 o1 => ?_
  have kk := kz.2 (by show z0 ≤ jsz h + 1; omega) (by show w0 ≤ jsl h + N; omega) n1 H1 locs mls ?_ ⟨Nat.le_trans v.1 (by rw [z1, r.1]; omega), fun q h1 h2 => (o1 q (by have := v.1; rw [r.1] at this; omega)).trans (v.2.1 q h1 h2), v.2.2⟩ w
  · have t1 : jsz (jnew h ci N) - z0 = jsz h - z0 + 1 := by show jsz h + 1 - z0 = _; omega
    have t2 : jsl (jnew h ci N) - w0 = jsl h - w0 + N := by show jsl h + N - w0 = _; omega
    rw [t1, t2] at kk
    exact kk
  · have hkd : jkd (jnew h ci N) (jsz h) = ci := by simp [jnew_kd]
    refine jRep_new r (by omega) (by rw [z1, r.1]) (fun q hq => o1 q (by rw [← r.1]; exact hq)) rfl (fun b hb => by simp [jnew_kd, hb]) (fun b hb => rfl) (fun b hb k => jcell_new hb) ?_ (fun h36 => ?_)
    · rw [hkd, jcell_obj h9, jfs_new]
      exact ⟨_, hc, (u_born ty0 hts hin hKn hkC e1 hty).to hdf⟩
    · rw [hkd] at h36
      subst h36
      have h3 : N = 3 := by
        have e9 := Option.some.inj ((show jcls[36]? = some (RJ40, TJ40, 3) from rfl).symm.trans hc)
        injection e9 with e9 e8
        injection e8 with e8 e7
        exact e7.symm
      obtain ⟨c8, k8, w1, w2, -, -, -, w3⟩ := Cond.instantiable_spec (hts _ q2)
      cases hKn.2.1.symm.trans w1
      cases hkC.symm.trans w2
      exact ⟨_, e1, by simp [blank, freshCell, w3, h3]⟩
theorem jarr_len {t : Nat} {h : jH} {a : Nat} : (jarr t h a).1 = jln h a := rfl
theorem sm_iald (C : jCx p l e R s m args meth c cc own D dA lo cs0 nL z0 w0 zF wF dd) (d : decode cc pc = .ok (.iaload, 1)) : ∀ ls st h, oaldI 101 (pc + 1) (jSim p l e R s m args below meth c D dA lo cs0 nL z0 w0 zF wF Q) Rf ls st h → jSim p l e R s m args below meth c D dA lo cs0 nL z0 w0 zF wF Q pc ls st h := by
  intro ls st h kz
  unfold oaldI at kz
  split at kz
  · obtain ⟨a, ea, hk, hi, kt⟩ := onr_ex kz
    subst ea
    exact ⟨kt.1, fun a1 b1 n1 H locs mls r v w => va_iald C.1 C.2.1 C.2.2.2.2.2.2.2.2.1.1 (jone (jRep_arrO r hk (by decide) (jRep_own r hk (by decide) (by decide) (fun e => absurd e (by decide))))) 0 0 rfl rfl hi d (kt.2 a1 b1 n1 H locs mls r v w)⟩
  · exact kz.elim
theorem sm_iald0 (C : jCx p l e R s m args meth c cc own D dA lo cs0 nL z0 w0 zF wF dd) (d : decode cc pc = .ok (.iaload, 1)) : ∀ ls st h, oaldI 100 (pc + 1) (jSim p l e R s m args below meth c D dA lo cs0 nL z0 w0 zF wF Q) Rf ls st h → jSim p l e R s m args below meth c D dA lo cs0 nL z0 w0 zF wF Q pc ls st h := by
  intro ls st h kz
  unfold oaldI at kz
  split at kz
  · obtain ⟨a, ea, hk, hi, kt⟩ := onr_ex kz
    subst ea
    exact ⟨kt.1, fun a1 b1 n1 H locs mls r v w => by
      obtain ⟨cell, q1, q2, q3, q4⟩ := jRep_arr r hk (by decide)
      have hlt : (_ : Int32).toNatClampNeg < jln h a := Nat.not_le.mp fun q => hi (Or.inr q)
      have hAr : s.isArrayOf cell .int := jarrOf C.2.2.2.2.2.2.2.2.1.2.1 q2 q3
      exact W.iald C.1 C.2.1 q1 hAr q3.2 (fun q => q.elim (fun q => hi (Or.inl q)) (fun q => hi (Or.inr (Nat.le_trans q4.1 q)))) ((q4.2.2 _ hlt).trans (arrV_read _ _ hlt)) rfl rfl d (kt.2 a1 b1 n1 H locs mls r v w)⟩
  · exact kz.elim
theorem sm_alen0 (C : jCx p l e R s m args meth c cc own D dA lo cs0 nL z0 w0 zF wF dd) {t : Nat} {ty : FieldType} (ht : 100 ≤ t) (hA : jK3 dA s → ArrOfT s (dA t) ty) (d : decode cc pc = .ok (.arraylength, 1)) : ∀ ls st h, oalen t (pc + 1) (jSim p l e R s m args below meth c D dA lo cs0 nL z0 w0 zF wF Q) Rf ls st h → jSim p l e R s m args below meth c D dA lo cs0 nL z0 w0 zF wF Q pc ls st h := by
  intro ls st h kz
  unfold oalen at kz
  split at kz
  · obtain ⟨a, ea, hk, kt⟩ := onr_ex kz
    subst ea
    exact ⟨kt.1, fun a1 b1 n1 H locs mls r v w => by
      obtain ⟨cell, q1, q2, q3, q4⟩ := jRep_arr r hk ht
      have hAr : s.isArrayOf cell ty := jarrOf (hA C.2.2.2.2.2.2.2.2.1.2) q2 q3
      exact W.alen C.1 C.2.1 q1 hAr q4.2.1 rfl rfl d (kt.2 a1 b1 n1 H locs mls r v w)⟩
  · exact kz.elim
theorem sm_cald (C : jCx p l e R s m args meth c cc own D dA lo cs0 nL z0 w0 zF wF dd) (d : decode cc pc = .ok (.caload, 1)) : ∀ ls st h, oaldI 102 (pc + 1) (jSim p l e R s m args below meth c D dA lo cs0 nL z0 w0 zF wF Q) Rf ls st h → jSim p l e R s m args below meth c D dA lo cs0 nL z0 w0 zF wF Q pc ls st h := by
  intro ls st h kz
  unfold oaldI at kz
  split at kz
  · obtain ⟨a, ea, hk, hi, kt⟩ := onr_ex kz
    subst ea
    exact ⟨kt.1, fun a1 b1 n1 H locs mls r v w => va_cald C.1 C.2.1 C.2.2.2.2.2.2.2.2.1.1 (jone (jRep_arrO r hk (by decide) (jRep_own r hk (by decide) (by decide) (fun e => absurd e (by decide))))) 0 1 rfl rfl hi d (kt.2 a1 b1 n1 H locs mls r v w)⟩
  · exact kz.elim
theorem sm_zald (C : jCx p l e R s m args meth c cc own D dA lo cs0 nL z0 w0 zF wF dd) (d : decode cc pc = .ok (.baload, 1)) : ∀ ls st h, oaldI 103 (pc + 1) (jSim p l e R s m args below meth c D dA lo cs0 nL z0 w0 zF wF Q) Rf ls st h → jSim p l e R s m args below meth c D dA lo cs0 nL z0 w0 zF wF Q pc ls st h := by
  intro ls st h kz
  unfold oaldI at kz
  split at kz
  · obtain ⟨a, ea, hk, hi, kt⟩ := onr_ex kz
    subst ea
    exact ⟨kt.1, fun a1 b1 n1 H locs mls r v w => va_zald C.1 C.2.1 C.2.2.2.2.2.2.2.2.1.1 (jone (jRep_arrO r hk (by decide) (jRep_own r hk (by decide) (by decide) (fun e => absurd e (by decide))))) 0 2 rfl rfl hi d (kt.2 a1 b1 n1 H locs mls r v w)⟩
  · exact kz.elim
theorem sm_bald (C : jCx p l e R s m args meth c cc own D dA lo cs0 nL z0 w0 zF wF dd) (d : decode cc pc = .ok (.baload, 1)) : ∀ ls st h, oaldI 104 (pc + 1) (jSim p l e R s m args below meth c D dA lo cs0 nL z0 w0 zF wF Q) Rf ls st h → jSim p l e R s m args below meth c D dA lo cs0 nL z0 w0 zF wF Q pc ls st h := by
  intro ls st h kz
  unfold oaldI at kz
  split at kz
  · obtain ⟨a, ea, hk, hi, kt⟩ := onr_ex kz
    subst ea
    exact ⟨kt.1, fun a1 b1 n1 H locs mls r v w => by
      obtain ⟨cell, q1, q2, q3, q4⟩ := jRep_arr r hk (by decide)
      have hlt : (_ : Int32).toNatClampNeg < jln h a := Nat.not_le.mp fun q => hi (Or.inr q)
      have hAr : s.isArrayOf cell .byte := jarrOf C.2.2.2.2.2.2.2.2.1.2.2.1 q2 q3
      exact W.bald C.1 C.2.1 q1 hAr q3.2 (fun q => q.elim (fun q => hi (Or.inl q)) (fun q => hi (Or.inr (Nat.le_trans q4.1 q)))) ((q4.2.2 _ hlt).trans (arrV_read _ _ hlt)) rfl rfl d (kt.2 a1 b1 n1 H locs mls r v w)⟩
  · exact kz.elim
theorem sm_lald (C : jCx p l e R s m args meth c cc own D dA lo cs0 nL z0 w0 zF wF dd) (d : decode cc pc = .ok (.laload, 1)) : ∀ ls st h, oaldL 105 (pc + 1) (jSim p l e R s m args below meth c D dA lo cs0 nL z0 w0 zF wF Q) Rf ls st h → jSim p l e R s m args below meth c D dA lo cs0 nL z0 w0 zF wF Q pc ls st h := by
  intro ls st h kz
  unfold oaldL at kz
  split at kz
  · obtain ⟨a, ea, hk, hi, kt⟩ := onr_ex kz
    subst ea
    exact ⟨kt.1, fun a1 b1 n1 H locs mls r v w => va_lald C.1 C.2.1 C.2.2.2.2.2.2.2.2.1.1 (jone (jRep_arrO r hk (by decide) (jRep_own r hk (by decide) (by decide) (fun e => absurd e (by decide))))) 0 4 rfl rfl hi d (kt.2 a1 b1 n1 H locs mls r v w)⟩
  · exact kz.elim
theorem sm_dald (C : jCx p l e R s m args meth c cc own D dA lo cs0 nL z0 w0 zF wF dd) (d : decode cc pc = .ok (.daload, 1)) : ∀ ls st h, oaldD 106 (pc + 1) (jSim p l e R s m args below meth c D dA lo cs0 nL z0 w0 zF wF Q) Rf ls st h → jSim p l e R s m args below meth c D dA lo cs0 nL z0 w0 zF wF Q pc ls st h := by
  intro ls st h kz
  unfold oaldD at kz
  split at kz
  · obtain ⟨a, ea, hk, hi, kt⟩ := onr_ex kz
    subst ea
    exact ⟨kt.1, fun a1 b1 n1 H locs mls r v w => va_dald C.1 C.2.1 C.2.2.2.2.2.2.2.2.1.1 (jone (jRep_arrO r hk (by decide) (jRep_own r hk (by decide) (by decide) (fun e => absurd e (by decide))))) 0 5 rfl rfl hi d (kt.2 a1 b1 n1 H locs mls r v w)⟩
  · exact kz.elim
theorem jarr_q {t : Nat} {h : jH} {a : Nat} (ht : 107 ≤ t) : jarr t h a = (jln h a, .inr (.inr (.inr (.inr (jAP h t a))))) := by
  unfold jarr
  rw [if_neg (by omega), if_neg (by omega), if_neg (by omega)]
theorem sm_aald (C : jCx p l e R s m args meth c cc own D dA lo cs0 nL z0 w0 zF wF dd) {t : Nat} {CN : String} (ht : 107 ≤ t) (hy : (jtys dA)[t - 101]? = some (dA t, .object CN)) (d : decode cc pc = .ok (.aaload, 1)) : ∀ ls st h, oaldP t (pc + 1) (jSim p l e R s m args below meth c D dA lo cs0 nL z0 w0 zF wF Q) Rf ls st h → jSim p l e R s m args below meth c D dA lo cs0 nL z0 w0 zF wF Q pc ls st h := by
  intro ls st h kz
  unfold oaldP at kz
  split at kz
  · obtain ⟨a, ea, hk, hi, kt⟩ := onr_ex kz
    subst ea
    refine ⟨kt.1, fun a1 b1 n1 H locs mls r v w => ?_⟩
    have hr := jRep_arr r hk (by omega)
    rw [jarr_q ht] at hr
    obtain ⟨cell, q1, q2, q3, q4⟩ := hr
    have hlt : (_ : Int32).toNatClampNeg < jln h a := Nat.not_le.mp fun q => hi (Or.inr q)
    exact W.aald C.1 C.2.1 q1 (jarrOf (C.2.2.2.2.2.2.2.2.1.1.2 (t - 101) _ hy).1 q2 q3) rfl q3.2 (fun q => q.elim (fun q => hi (Or.inl q)) (fun q => hi (Or.inr (Nat.le_trans q4.1 q)))) ((q4.2.2 _ hlt).trans (arrV_read _ _ hlt)) rfl rfl d (kt.2 a1 b1 n1 H locs mls r v w)
  · exact kz.elim
theorem sm_aald12 (C : jCx p l e R s m args meth c cc own D dA lo cs0 nL z0 w0 zF wF dd) (d : decode cc pc = .ok (.aaload, 1)) : ∀ ls st h, oaldP 112 (pc + 1) (jSim p l e R s m args below meth c D dA lo cs0 nL z0 w0 zF wF Q) Rf ls st h → jSim p l e R s m args below meth c D dA lo cs0 nL z0 w0 zF wF Q pc ls st h := by
  intro ls st h kz
  unfold oaldP at kz
  split at kz
  · obtain ⟨a, ea, hk, hi, kt⟩ := onr_ex kz
    subst ea
    refine ⟨kt.1, fun a1 b1 n1 H locs mls r v w => ?_⟩
    have hr := jRep_arr r hk (by decide)
    rw [jarr_q (by decide)] at hr
    obtain ⟨cell, q1, q2, q3, q4⟩ := hr
    have hlt : (_ : Int32).toNatClampNeg < jln h a := Nat.not_le.mp fun q => hi (Or.inr q)
    exact W.aald C.1 C.2.1 q1 (jarrOf C.2.2.2.2.2.2.2.2.1.2.2.2 q2 q3) rfl q3.2 (fun q => q.elim (fun q => hi (Or.inl q)) (fun q => hi (Or.inr (Nat.le_trans q4.1 q)))) ((q4.2.2 _ hlt).trans (arrV_read _ _ hlt)) rfl rfl d (kt.2 a1 b1 n1 H locs mls r v w)
  · exact kz.elim
theorem sm_aaldA (C : jCx p l e R s m args meth c cc own D dA lo cs0 nL z0 w0 zF wF dd) (d : decode cc pc = .ok (.aaload, 1)) : ∀ ls st h, oaldP 111 (pc + 1) (jSim p l e R s m args below meth c D dA lo cs0 nL z0 w0 zF wF Q) Rf ls st h → jSim p l e R s m args below meth c D dA lo cs0 nL z0 w0 zF wF Q pc ls st h := by
  intro ls st h kz
  unfold oaldP at kz
  split at kz
  · obtain ⟨a, ea, hk, hi, kt⟩ := onr_ex kz
    subst ea
    refine ⟨kt.1, fun a1 b1 n1 H locs mls r v w => ?_⟩
    have hr := jRep_arrO r hk (by decide) (jRep_own r hk (by decide) (by decide) (fun e => absurd e (by decide)))
    rw [jarr_q (by decide)] at hr
    have hlt : (_ : Int32).toNatClampNeg < jln h a := Nat.not_le.mp fun q => hi (Or.inr q)
    exact W.aald C.1 C.2.1 hr ((C.2.2.2.2.2.2.2.2.1.1.2 10 (dA 111, .array .int) rfl).1 (jln h a) (fun j => va_rf (jAP h 111 a j))) rfl (fun q => by cases q) (by show ¬ (_ < 0 ∨ (arrV _ _ _).slots.size ≤ _); rw [arrV_size]; exact hi) (by show (arrV _ _ _).slots[_]? = _; rw [arrV_read _ _ hlt]; rfl) rfl rfl d (kt.2 a1 b1 n1 H locs mls r v w)
  · exact kz.elim
theorem sm_alen (C : jCx p l e R s m args meth c cc own D dA lo cs0 nL z0 w0 zF wF dd) {t : Nat} {ty : FieldType} (ht : 101 ≤ t) (hy : (jtys dA)[t - 101]? = some (dA t, ty)) (d : decode cc pc = .ok (.arraylength, 1)) : ∀ ls st h, oalen t (pc + 1) (jSim p l e R s m args below meth c D dA lo cs0 nL z0 w0 zF wF Q) Rf ls st h → jSim p l e R s m args below meth c D dA lo cs0 nL z0 w0 zF wF Q pc ls st h := by
  intro ls st h kz
  unfold oalen at kz
  split at kz
  · obtain ⟨a, ea, hk, kt⟩ := onr_ex kz
    subst ea
    exact ⟨kt.1, fun a1 b1 n1 H locs mls r v w => by
      obtain ⟨cell, q1, q2, q3, q4⟩ := jRep_arr r hk (by omega)
      have hAr : s.isArrayOf cell _ := jarrOf (C.2.2.2.2.2.2.2.2.1.1.2 (t - 101) _ hy).1 q2 q3
      exact W.alen C.1 C.2.1 q1 hAr q4.2.1 rfl rfl d (kt.2 a1 b1 n1 H locs mls r v w)⟩
  · exact kz.elim
end JS2
