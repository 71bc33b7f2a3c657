/-! THE LAW'S OWN WALK OUT OF THE SMALL MACHINE'S RUN (own work) -/
set_option maxRecDepth 100000
def R_law : String := "PointerAnalyzerLaw"
def lw_P (b : Addr) (xs : List Int32) (args : Array Value) (s : State) : Prop := args = #[.ref b] ∧ s.IntsAt b xs ∧ xs.length ≤ 96 ∧ (Jvm.Cond.and given_1 narrow_1).before args s = true
def lw_Q (_ : Array Value) (s : State) (o : Outcome) (t : State) : Prop := o = .returned (some (.int 1)) ∧ Framed s o t [] 1200144 5494906
def lw_Z (below : List Frame) (a : Array Value) (s : State) : State → Prop := fun t => ∃ o, t.status = .running ∧ Ended t below o ∧ lw_Q a s o t
theorem z_room {s : State} {pl : Platform} {r r' : Room} (h : s.hasRoom pl r = true) (h1 : r'.frames ≤ r.frames) (h2 : r'.cells ≤ r.cells) (h3 : r'.slots ≤ r.slots) (h4 : r'.locals ≤ r.locals) : s.hasRoom pl r' = true := by
  unfold State.hasRoom at h ⊢
  simp only [Bool.and_eq_true, decide_eq_true_eq] at h ⊢
  obtain ⟨⟨⟨⟨c1, c2, c3, c4, c5, c6⟩, c7⟩, c8⟩, c9⟩ := h
  exact ⟨⟨⟨⟨by omega, by omega, by omega, by omega, by omega, c6⟩, by omega⟩, by omega⟩, c9⟩
section LAW
variable {p : Program} {l : Launch} {e : Env} {R R' : Room} {s : State} {m : MethodId} {args : Array Value} {below : List Frame} {meth : Method} {c : Code} {D : va_G} {dA : Nat → ClassId} {lo : Nat} {cs0 : Nat → Option Nat} {Q Q' : State → Prop} {H : Heap} {locs : List Loc} {cells slots : Nat} {g : JFrame}
theorem W_room (h1 : R'.frames ≤ R.frames) (h2 : R'.cells ≤ R.cells) (h3 : R'.slots ≤ R.slots) (h4 : R'.locals ≤ R.locals) (k : W p l e R' s m args below meth c H locs cells slots Q g) : W p l e R s m args below meth c H locs cells slots Q g := fun T hT X =>
  k T hT ⟨X.admits, X.cas, X.clock, X.frames, z_room X.room h1 h2 h3 h4, X.hears, X.method, X.code, X.here, X.tail, X.warmed, X.limits, X.bytes, X.same⟩
theorem W_Q (h : ∀ t, Q t → Q' t) (k : W p l e R s m args below meth c H locs cells slots Q g) : W p l e R s m args below meth c H locs cells slots Q' g := fun T hT X => by
  obtain ⟨t, a1, a2⟩ := k T hT X
  exact ⟨t, a1, h t a2⟩
theorem z_lawQ {hF : jH} {mc ms : Nat} (hc : mc ≤ 1200144) (hs : ms ≤ 5494906) (hlo : lo = s.heap.size) (t : State) (h : zx_MQ below (jQn D dA lo cs0 (.inl (some (jI 1))) hF) (jXC D dA lo cs0 (.inl (some (jI 1))) hF) args s mc ms (fun q => lo ≤ q) t) : lw_Z below args s t := by
  obtain ⟨o, h1, h2, h3⟩ := h
  refine ⟨o, h1, h2, ?_⟩
  rcases h3 with ⟨⟨q1, q2⟩, L, ⟨f1, f2, f3⟩, hL⟩ | ⟨q, -, E, ce, L, hX, -⟩
  · exact ⟨q1, f1, f2, (State.sameButNew.drop_fresh (L := []) (J := L) f3 (fun z hz => by rw [← hlo]; exact hL z hz)).mono hc hs⟩
  · cases hX.1
theorem z_law {b d : Nat} {h h1 : jH} {r : jA} (hb : jRows l D dA lo cs0 d 9 (tb_L_law (EV d)) x code ret []) (hzz : jsz h ≤ jsz h1 ∧ jsl h ≤ jsl h1) (hrun : jWX (tb_L_law (EV d)) (fun r2 h2 => r2 = r ∧ h2 = h1) 0 (jlocs [jP (some b)] 9) [] h)
    (hx : p.tables.exec = Jvm.exec) (hbytes : c.code = code) (hret : meth.sig.returnType = ret) (hnm : meth.name = x.name) (hml : c.maxLocals = 9) (hown : s.vm.findClass x.cls = some m.cls) (hts : ∀ w ∈ lw_all, w.before #[Value.ref b] s = true) (hlk : meth.locks = false) (ht : c.exceptionTable.toList = []) (hPc : jPc D dA lo cs0 [jP (some b)] h #[Value.ref b] s) :
    W p l e (jrmo (d + 1) h h1) s m #[Value.ref b] below meth c s.heap [] 0 0 (zx_MQ below (jQn D dA lo cs0 r h1) (jXC D dA lo cs0 r h1) #[Value.ref b] s (jsz h1 - jsz h) (jsl h1 - jsl h) (fun q => lo ≤ q)) (entryFrame m ([Value.ref b] : List Value).toArray 9) := by
  obtain ⟨-, hrep, hcs, hK, hNw, hFs, hSt, hlo⟩ := hPc
  have hC : jCx p l e (jrmo (d + 1) h h1) s m #[Value.ref b] meth c code x.cls D dA lo cs0 9 (jsz h) (jsl h) (jsz h1) (jsl h1) d :=
    ⟨hx, hbytes, hown, hts, hlk, hml, rfl, rfl, hK, ⟨hNw, hFs⟩, hSt, Nat.le_refl _, Nat.le_refl _⟩
  have k0 := hrun _ ⟨fun pc f ls st h9 hf k => hb p e (jrmo (d + 1) h h1) s m _ below meth c (jsz h) (jsl h) (jsz h1) (jsl h1) _ r h1 ⟨hC, ⟨rfl, rfl, rfl⟩, ht, hlo⟩ hzz.1 hzz.2 hret hnm pc f hf ls st h9 k, fun pc l1 l2 st h hs k => jSim_fg hs k⟩
  have hv := lv_entry (([jP (some b)] : List jV).map jtv) (n := 9) (Nat.le_of_ble_eq_true rfl)
  have k1 := k0.2 (Nat.le_refl _) (Nat.le_refl _) ⟨rfl, hcs⟩ s.heap [] _ hrep ⟨Nat.le_refl _, fun _ _ _ => rfl, fun z hz => by cases hz⟩ (jlv_sub hv fun q hq => jlv_ent [jP (some b)] _ 0 q hq)
  rw [Nat.sub_self, Nat.sub_self] at k1
  rw [lg_entry_eq]
  exact k1
end LAW
/-- the bytes of "abcdprxy" -/
def jtxt (k : Nat) : Int32 := nI ([97, 98, 99, 100, 112, 114, 120, 121].getD k 0)
/-- the heap at the law's start, as far as it is told -/
def jInit (h : jH) (b : Nat) (xs : List Int32) : Prop :=
  (jkd h b = 100 ∧ jln h b = xs.length ∧ (∀ k, k < xs.length → jAI h 100 b k = xs.getD k 0) ∧ xs.length ≤ 96) ∧
  (∀ a, jsz h ≤ a → jkd h a = 0) ∧
  (∃ e0 e1, jcs h 0 = some e0 ∧ jcs h 1 = some e1 ∧ e0 ≠ e1 ∧ jkd h e0 = 107 ∧ jkd h e1 = 107 ∧ jln h e0 = 0 ∧ jln h e1 = 0) ∧
  (∃ kk : Nat → Nat, (∀ i, i < 7 → jcs h (3 + i) = some (kk i)) ∧ ∀ i j, i < 7 → j < 7 → kk i = kk j → i = j) ∧
  (∃ (c : Nat) (I : Nat → Nat), jcs h 10 = some c ∧ jkd h c = 112 ∧ jln h c = 256 ∧ ∀ k, k < 256 → jAP h 112 c k = some (I k) ∧ jkd h (I k) = 22 ∧ jOI h 126 (I k) = nI k - 128) ∧
  (∃ tx bt, jcs h 11 = some tx ∧ jkd h tx = 23 ∧ jOI h 128 tx = 0 ∧ jOP h 127 tx = some bt ∧ jkd h bt = 104 ∧ jln h bt = 8 ∧ ∀ k, k < 8 → jAI h 104 bt k = jtxt k) ∧
  (∃ m0 m1 m2, jcs h 12 = some m0 ∧ jcs h 13 = some m1 ∧ jcs h 14 = some m2 ∧ m0 ≠ m1)
/-- what the small machine's run of the law owes -/
def jLaw (d : Nat) : Prop := ∀ (h : jH) (b : Nat) (xs : List Int32), jInit h b xs → ∃ h1, jWX (tb_L_law (EV d)) (fun r2 h2 => r2 = .inl (some (jI 1)) ∧ h2 = h1) 0 (jlocs [jP (some b)] 9) [] h ∧ jsz h1 ≤ jsz h + 1200144 ∧ jsl h1 ≤ jsl h + 5494906
