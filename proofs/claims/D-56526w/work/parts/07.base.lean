/-! the abstract machine state: an abstract heap, the room left (cells, slots), constants; its tie to the machine -/
set_option maxRecDepth 100000
abbrev cJ1 : Nat := 0
abbrev cJ10 : Nat := 1
abbrev cJ16 : Nat := 2
abbrev cJ17 : Nat := 3
abbrev cJ18 : Nat := 4
abbrev cJ19 : Nat := 5
abbrev cJ2 : Nat := 6
abbrev cJ20 : Nat := 7
abbrev cJ23 : Nat := 8
abbrev cJ24 : Nat := 9
abbrev cJ25 : Nat := 10
abbrev cJ26 : Nat := 11
abbrev cJ6 : Nat := 12
abbrev cJ7 : Nat := 13
abbrev cX1 : Nat := 14
abbrev cX10 : Nat := 15
abbrev cX11 : Nat := 16
abbrev cX12 : Nat := 17
abbrev cX13 : Nat := 18
abbrev cX14 : Nat := 19
abbrev cX15 : Nat := 20
abbrev cX16 : Nat := 21
abbrev cX17 : Nat := 22
abbrev cX18 : Nat := 23
abbrev cX19 : Nat := 24
abbrev cX2 : Nat := 25
abbrev cX20 : Nat := 26
abbrev cX3 : Nat := 27
abbrev cX4 : Nat := 28
abbrev cX5 : Nat := 29
abbrev cX6 : Nat := 30
abbrev cX7 : Nat := 31
abbrev cX8 : Nat := 32
abbrev cX9 : Nat := 33
abbrev tw_cl : List vw_C := [(RJ1, TJ1, 4), (RJ10, TJ10, 6), (RJ16, TJ16, 6), (RJ17, TJ17, 6), (RJ18, TJ18, 4), (RJ19, TJ19, 6), (RJ2, TJ2, 4), (RJ20, TJ20, 3), (RJ23, TJ23, 6), (RJ24, TJ24, 6), (RJ25, TJ25, 6), (RJ26, TJ26, 6), (RJ6, TJ6, 3), (RJ7, TJ7, 5), (RX1, TX1, 6), (RX10, TX10, 3), (RX11, TX11, 1), (RX12, TX12, 3), (RX13, TX13, 2), (RX14, TX14, 1), (RX15, TX15, 6), (RX16, TX16, 6), (RX17, TX17, 6), (RX18, TX18, 6), (RX19, TX19, 7), (RX2, TX2, 1), (RX20, TX20, 6), (RX3, TX3, 7), (RX4, TX4, 31), (RX5, TX5, 5), (RX6, TX6, 3), (RX7, TX7, 7), (RX8, TX8, 2), (RX9, TX9, 4)]
abbrev Tfv : Type := Int32 ⊕ Option Nat
abbrev Tce : Type := (Nat × vp_A) ⊕ (Nat × List Tfv)
/-- heap, cells left, slots left, constants (addresses of constant objects) -/
abbrev Tst : Type := (Nat → Option Tce) × Nat × Nat × (Nat → Option Nat)
/-- classes and slots, array classes, base, total cells, total slots, constants -/
abbrev Tgl : Type := va_G × (Nat → ClassId) × Nat × Nat × Nat × (Nat → Option Nat)
def tw_v (x : Tfv) : Value := match x with
  | .inl i => .int i
  | .inr r => va_rf r
def tw_e (G : Tgl) (e : Tce) : va_E := match e with
  | .inl a => .inl (G.2.1 a.1, a.2)
  | .inr o => .inr (o.1, o.2.map tw_v)
def st_up (σ : Tst) (a : Nat) (e : Tce) : Tst := (va_up σ.1 a (some e), σ.2)
def st_al (σ : Tst) (a : Nat) (e : Tce) (n : Nat) : Tst := (va_up σ.1 a (some e), σ.2.1 - 1, σ.2.2.1 - n, σ.2.2.2)
/-- old cells that nobody writes: empty arrays, the digits' tables, a String -/
def tw_ro (e : Tce) : Prop := match e with
  | .inl a => a.2.1 = 0 ∨ a.1 = 10
  | .inr o => o.1 = cJ2
def tw_tot (H : Heap) : Nat := (H.toList.map (fun c => c.slots.size)).sum
def tw_tys (G : Tgl) : List (ClassId × FieldType) := [(G.2.1 0, .int), (G.2.1 1, .char), (G.2.1 2, .byte), (G.2.1 3, .long), (G.2.1 4, .double), (G.2.1 5, .object "java/lang/Object"), (G.2.1 6, .object "TreeDiffer$Tree"), (G.2.1 7, .object "TreeDifferModel$Tree"), (G.2.1 8, .array .int), (G.2.1 9, .object "TreeDifferModel$Item"), (G.2.1 10, .byte)]
def tw_m (H : Heap) (a : Nat) : Prop := ∃ c : Cell, H[a]? = some c ∧ c.monitor = {}
/-- what is known of a cell, old or new -/
def tw_wk (G : Tgl) (a : Nat) (e : Tce) (H : Heap) : Prop := match e with
  | .inl x => ∃ cell : Cell, H[a]? = some cell ∧ cell.cls = G.2.1 x.1 ∧ cell.vm ≠ .unknown ∧ cell.vm.isStatics = false ∧ Int32.ofNat cell.slots.size = Int32.ofNat x.2.1 ∧ ∀ (j : Nat) (v : Value), (vp_cell (G.2.1 x.1) x.2).slots[j]? = some v → cell.slots[j]? = some v
  | .inr o => ∃ (r : vw_C) (cell : Cell), tw_cl[o.1]? = some r ∧ H[a]? = some cell ∧ cell.cls = G.1.1 o.1 ∧ cell.vm ≠ .unknown ∧ cell.vm.isStatics = false ∧ ∀ k, k < r.2.2 → cell.slots[G.1.2 o.1 k]? = some (vp_V (o.2.map tw_v) k)
theorem tw_wk.kept {G : Tgl} {a : Nat} {e : Tce} {H H' : Heap} (h : tw_wk G a e H) (hq : H'[a]? = H[a]?) : tw_wk G a e H' := by
  cases e with
  | inl x => obtain ⟨c, h1, h2⟩ := h; exact ⟨c, by rw [hq]; exact h1, h2⟩
  | inr o => obtain ⟨r, c, h0, h1, h2⟩ := h; exact ⟨r, c, h0, by rw [hq]; exact h1, h2⟩
theorem tw_wk.lt {G : Tgl} {a : Nat} {e : Tce} {H : Heap} (h : tw_wk G a e H) : a < H.size := by
  cases e with
  | inl x => obtain ⟨c, h1, h2⟩ := h; exact (Array.getElem?_eq_some_iff.mp h1).1
  | inr o => obtain ⟨r, c, h0, h1, h2⟩ := h; exact (Array.getElem?_eq_some_iff.mp h1).1
theorem tw_wk_of {G : Tgl} {a : Nat} {e : Tce} {H : Heap} (h : va_at G.1 tw_cl (a, tw_e G e) H) : tw_wk G a e H := by
  cases e with
  | inl x =>
    obtain ⟨t, n, d⟩ := x
    refine ⟨_, h, ?_, ?_, ?_, ?_, fun j v hv => hv⟩ <;> rcases d with d | d | d | d | d <;> first | rfl | (intro q; cases q) | exact congrArg Int32.ofNat (arrV_size _ _ _)
  | inr o =>
    obtain ⟨r, h1, c, q1, q2, q3, q4⟩ := h
    exact ⟨r, c, h1, q1, q2, (by rw [q3]; intro q; cases q), (by rw [q3]; rfl), q4⟩
def tw_R (G : Tgl) (σ : Tst) (H : Heap) : Prop :=
  (∀ (a : Nat) (e : Tce), σ.1 a = some e → tw_wk G a e H ∧ (G.2.2.1 ≤ a → va_at G.1 tw_cl (a, tw_e G e) H ∧ tw_m H a)) ∧ (∀ (a : Nat) (e : Tce), σ.1 a = some e → G.2.2.1 ≤ a ∨ tw_ro e) ∧
  H.size + σ.2.1 = G.2.2.2.1 ∧ tw_tot H + σ.2.2.1 = G.2.2.2.2.1 ∧ σ.2.2.2 = G.2.2.2.2.2
abbrev tw_A (G : Tgl) : Nat → Prop := fun q => G.2.2.1 ≤ q
theorem tw_tot_push (H : Heap) (c : Cell) : tw_tot (H.push c) = tw_tot H + c.slots.size := by
  simp [tw_tot]
theorem tw_tot_set {H H' : Heap} {a : Nat} {c c' : Cell} (h : H[a]? = some c) (h' : H'[a]? = some c') (hs : c'.slots.size = c.slots.size) (hz : H'.size = H.size) (ho : ∀ q, q ≠ a → H'[q]? = H[q]?) : tw_tot H' = tw_tot H := by
  unfold tw_tot
  congr 1
  apply List.ext_getElem?
  intro i
  simp only [List.getElem?_map, Array.getElem?_toList]
  by_cases hi : i = a
  · subst hi
    rw [h, h']
    simp [hs]
  · rw [ho i hi]
theorem tw_push_eq {H H' : Heap} {c : Cell} (hz : H'.size = H.size + 1) (ho : ∀ q, q < H.size → H'[q]? = H[q]?) (hn : H'[H.size]? = some c) : H' = H.push c := by
  apply Array.ext_getElem?
  intro i
  rcases Nat.lt_trichotomy i H.size with q | q | q
  · rw [ho i q, Array.getElem?_push_lt q]
    exact Array.getElem?_eq_getElem q
  · subst q
    rw [hn, Array.getElem?_push_size]
  · rw [Array.getElem?_eq_none (by omega), Array.getElem?_eq_none (by simp; omega)]
theorem tw_fold (l : List Cell) (n : Nat) : l.foldl (fun n c => n + c.slots.size) n = n + (l.map (fun c => c.slots.size)).sum := by
  induction l generalizing n with
  | nil => simp
  | cons x t ih => simp [ih]; omega
theorem tw_true {s : State} (h : s.slotsTrue = true) : s.slotsUsed = tw_tot s.heap := by
  have h1 : s.slotsUsed = s.heap.foldl (fun n c => n + c.slots.size) 0 := by simpa [State.slotsTrue] using h
  rw [h1, ← Array.foldl_toList, tw_fold]
  simp [tw_tot]
section TW
variable {p : Program} {l : Launch} {e : Env} {R : Room} {s : State} {m : MethodId} {args : Array Value} {below : List Frame} {meth : Method} {c : Code} {H : Heap} {locs : List Loc} {cells slots : Nat} {Q : State → Prop}
/-- the counters brought back to what is really used -/
theorem tw_tight {g : JFrame} {x y : Nat} (h1 : H.size + x = s.heap.size + R.cells) (h2 : tw_tot H + y = tw_tot s.heap + R.slots) (kk : W p l e R s m args below meth c H locs (R.cells - x) (R.slots - y) Q g) : W p l e R s m args below meth c H locs cells slots Q g := by
  intro T hT X
  refine kk T hT { X with same := ?_ }
  obtain ⟨x1, x2, x3, x4, x5, x6⟩ := X.same
  have h0 : s.slotsTrue = true := by
    have h := X.room
    simp only [State.hasRoom, Bool.and_eq_true] at h
    exact h.2
  have hb := tw_true X.book
  have hs := tw_true h0
  rw [hT] at hb
  have hz : (T.setVm s.vm).heap.size = H.size := by rw [← hT]; rfl
  have x4' : T.slotsUsed = s.slotsUsed + (((T.setVm s.vm).heap.toList.drop s.heap.size).map (·.slots.size)).sum := x4
  exact ⟨x1, x2, by omega, x4, by omega, x6⟩
end TW
theorem tw_R.lt {G : Tgl} {σ : Tst} {H : Heap} (h : tw_R G σ H) {a : Nat} {e : Tce} (ha : σ.1 a = some e) : a < H.size := (h.1 a e ha).1.lt
theorem tw_R.st {G : Tgl} {σ : Tst} {H : Heap} (h : tw_R G σ H) {a : Nat} {e : Tce} (ha : σ.1 a = some e) (hb : G.2.2.1 ≤ a) : va_at G.1 tw_cl (a, tw_e G e) H ∧ tw_m H a := (h.1 a e ha).2 hb
theorem tw_R.wk {G : Tgl} {σ : Tst} {H : Heap} (h : tw_R G σ H) {a : Nat} {e : Tce} (ha : σ.1 a = some e) : tw_wk G a e H := (h.1 a e ha).1
theorem tw_R.set {G : Tgl} {σ : Tst} {H H' : Heap} (h : tw_R G σ H) {a : Nat} {e : Tce} {c c' : Cell} (hb : G.2.2.1 ≤ a) (h1 : H[a]? = some c) (h2 : H'[a]? = some c') (hs : c'.slots.size = c.slots.size) (hmo : c.monitor = {} → c'.monitor = {}) (hz : H'.size = H.size) (ho : ∀ q, q ≠ a → H'[q]? = H[q]?) (he : va_at G.1 tw_cl (a, tw_e G e) H') (hm : tw_m H a) : tw_R G (st_up σ a e) H' := by
  obtain ⟨r1, r2, r3, r4, r5⟩ := h
  refine ⟨fun b x hx => ?_, fun b x hx => ?_, by rw [hz]; exact r3, by rw [tw_tot_set h1 h2 hs hz ho]; exact r4, r5⟩
  · by_cases hq : b = a
    · subst hq
      simp only [st_up, va_up, if_pos] at hx
      cases hx
      obtain ⟨c0, g1, g2⟩ := hm
      cases h1.symm.trans g1
      exact ⟨tw_wk_of he, fun _ => ⟨he, c', h2, hmo g2⟩⟩
    · simp only [st_up, va_up, if_neg hq] at hx
      obtain ⟨g0, g9⟩ := r1 b x hx
      refine ⟨g0.kept (ho b hq), fun hb9 => ?_⟩
      obtain ⟨g1, c0, g2, g3⟩ := g9 hb9
      exact ⟨g1.kept (ho b hq), c0, by rw [ho b hq]; exact g2, g3⟩
  · by_cases hq : b = a
    · subst hq; exact Or.inl hb
    · simp only [st_up, va_up, if_neg hq] at hx
      exact r2 b x hx
theorem tw_R.push {G : Tgl} {σ : Tst} {H H' : Heap} (h : tw_R G σ H) {e : Tce} {c : Cell} {n : Nat} (hb : G.2.2.1 ≤ H.size) (hz : H'.size = H.size + 1) (ho : ∀ q, q < H.size → H'[q]? = H[q]?) (hc : H'[H.size]? = some c) (hn : c.slots.size = n) (hmo : c.monitor = {}) (he : va_at G.1 tw_cl (H.size, tw_e G e) H') (h1 : 1 ≤ σ.2.1) (h2 : n ≤ σ.2.2.1) : tw_R G (st_al σ H.size e n) H' := by
  have hp := tw_push_eq hz ho hc
  have ht : tw_tot H' = tw_tot H + n := by rw [hp, tw_tot_push, hn]
  have hlt := @tw_R.lt _ _ _ h
  obtain ⟨r1, r2, r3, r4, r5⟩ := h
  refine ⟨fun b x hx => ?_, fun b x hx => ?_, ?_, ?_, r5⟩
  · by_cases hq : b = H.size
    · subst hq
      simp only [st_al, va_up, if_pos] at hx
      cases hx
      exact ⟨tw_wk_of he, fun _ => ⟨he, c, hc, hmo⟩⟩
    · simp only [st_al, va_up, if_neg hq] at hx
      have hl := hlt hx
      obtain ⟨g0, g9⟩ := r1 b x hx
      refine ⟨g0.kept (ho b hl), fun hb9 => ?_⟩
      obtain ⟨g1, c0, g2, g3⟩ := g9 hb9
      exact ⟨g1.kept (ho b hl), c0, by rw [ho b hl]; exact g2, g3⟩
  · by_cases hq : b = H.size
    · subst hq; exact Or.inl hb
    · simp only [st_al, va_up, if_neg hq] at hx
      exact r2 b x hx
  · show H'.size + (σ.2.1 - 1) = _
    omega
  · show tw_tot H' + (σ.2.2.1 - n) = _
    omega
/-- words that move from the method's start to a call's -/
def tw_ok (w : Cond) : Bool := match w with
  | .fieldLinkNest .. => true
  | .methodLinkNest .. => true
  | .declares _ => true
  | .castable .. => true
  | _ => false
def tw_nw : List Cond := lw_tbl.filter tw_ok
theorem tw_nwm {s U : State} (hW : s.WarmedH U.vm) {w : Cond} (hw : w ∈ tw_nw) (h : va_Nw w s) : va_Nw w U := by
  have h1 := (List.mem_filter.mp hw).2
  cases w <;> simp only [tw_ok] at h1 <;> first | cases h1 | skip
  all_goals first | exact va_Nw.warmF hW h | exact va_Nw.warmM hW h | exact va_Nw.warmD hW h | exact va_Nw.warmC hW h

def tw_sl (k : Nat → Option Nat) : List (String × String × String × Tfv) := [("java/util/ArrayList", "DEFAULTCAPACITY_EMPTY_ELEMENTDATA", "[Ljava/lang/Object;", .inr (k 0)), ("java/lang/Integer", "DigitOnes", "[B", .inr (k 1)), ("java/lang/Integer", "DigitTens", "[B", .inr (k 2)), ("java/lang/String", "COMPACT_STRINGS", "Z", .inl 1), ("java/lang/StringUTF16", "$assertionsDisabled", "Z", .inl 1), ("java/lang/StringUTF16", "HI_BYTE_SHIFT", "I", .inl 0), ("java/lang/StringUTF16", "LO_BYTE_SHIFT", "I", .inl 8), ("jdk/internal/util/Preconditions", "SIOOBE_FORMATTER", "Ljava/util/function/BiFunction;", .inr (k 4)), ("java/lang/Throwable", "UNASSIGNED_STACK", "[Ljava/lang/StackTraceElement;", .inr (k 5)), ("java/lang/Throwable", "SUPPRESSED_SENTINEL", "Ljava/util/List;", .inr (k 6))]
def tw_Z (G : Tgl) (U : State) (H : Heap) : Prop := ∀ q ∈ tw_sl G.2.2.2.2.2, va_Z q.1 q.2.1 q.2.2.1 (tw_v q.2.2.2) (tw_A G) U H
def tw_fw : List (String × MethodName × MethodName) := [("java/util/ArrayList$Itr", (⟨"java/util/Iterator", "hasNext", "()Z"⟩ : MethodName), (⟨"java/util/ArrayList$Itr", "hasNext", "()Z"⟩ : MethodName)), ("java/util/ArrayList$Itr", (⟨"java/util/Iterator", "next", "()Ljava/lang/Object;"⟩ : MethodName), (⟨"java/util/ArrayList$Itr", "next", "()Ljava/lang/Object;"⟩ : MethodName)), ("java/util/ArrayList$Itr", (⟨"java/util/Iterator", "remove", "()V"⟩ : MethodName), (⟨"java/util/ArrayList$Itr", "remove", "()V"⟩ : MethodName)), ("java/util/ArrayList", (⟨"java/util/List", "isEmpty", "()Z"⟩ : MethodName), (⟨"java/util/ArrayList", "isEmpty", "()Z"⟩ : MethodName)), ("java/util/ArrayList", (⟨"java/util/List", "iterator", "()Ljava/util/Iterator;"⟩ : MethodName), (⟨"java/util/ArrayList", "iterator", "()Ljava/util/Iterator;"⟩ : MethodName)), ("java/util/ArrayList", (⟨"java/util/List", "size", "()I"⟩ : MethodName), (⟨"java/util/ArrayList", "size", "()I"⟩ : MethodName)), ("java/util/ArrayList", (⟨"java/util/List", "get", "(I)Ljava/lang/Object;"⟩ : MethodName), (⟨"java/util/ArrayList", "get", "(I)Ljava/lang/Object;"⟩ : MethodName)), ("java/util/ArrayList", (⟨"java/util/List", "add", "(ILjava/lang/Object;)V"⟩ : MethodName), (⟨"java/util/ArrayList", "add", "(ILjava/lang/Object;)V"⟩ : MethodName)), ("java/util/ArrayList", (⟨"java/util/List", "add", "(Ljava/lang/Object;)Z"⟩ : MethodName), (⟨"java/util/ArrayList", "add", "(Ljava/lang/Object;)Z"⟩ : MethodName)), ("java/util/ArrayList", (⟨"java/util/List", "remove", "(I)Ljava/lang/Object;"⟩ : MethodName), (⟨"java/util/ArrayList", "remove", "(I)Ljava/lang/Object;"⟩ : MethodName)), ("TreeDiffer$Script$1", (⟨"TreeDiffer$Visitor", "pair", "(LTreeDiffer$Node;LTreeDiffer$Node;)V"⟩ : MethodName), (⟨"TreeDiffer$Script$1", "pair", "(LTreeDiffer$Node;LTreeDiffer$Node;)V"⟩ : MethodName)), ("TreeDiffer$Script$1", (⟨"TreeDiffer$Visitor", "deletion", "(LTreeDiffer$Node;)V"⟩ : MethodName), (⟨"TreeDiffer$Script$1", "deletion", "(LTreeDiffer$Node;)V"⟩ : MethodName)), ("TreeDiffer$Script$1", (⟨"TreeDiffer$Visitor", "insertion", "(LTreeDiffer$Node;)V"⟩ : MethodName), (⟨"TreeDiffer$Script$1", "insertion", "(LTreeDiffer$Node;)V"⟩ : MethodName)), ("TreeDiffer$Patch$1", (⟨"TreeDiffer$Visitor", "pair", "(LTreeDiffer$Node;LTreeDiffer$Node;)V"⟩ : MethodName), (⟨"TreeDiffer$Patch$1", "pair", "(LTreeDiffer$Node;LTreeDiffer$Node;)V"⟩ : MethodName)), ("TreeDiffer$Patch$1", (⟨"TreeDiffer$Visitor", "deletion", "(LTreeDiffer$Node;)V"⟩ : MethodName), (⟨"TreeDiffer$Patch$1", "deletion", "(LTreeDiffer$Node;)V"⟩ : MethodName)), ("TreeDiffer$Patch$1", (⟨"TreeDiffer$Visitor", "insertion", "(LTreeDiffer$Node;)V"⟩ : MethodName), (⟨"TreeDiffer$Patch$1", "insertion", "(LTreeDiffer$Node;)V"⟩ : MethodName)), ("TreeDiffer$Tree$1", (⟨"java/util/Iterator", "hasNext", "()Z"⟩ : MethodName), (⟨"TreeDiffer$Tree$1", "hasNext", "()Z"⟩ : MethodName)), ("TreeDiffer$Tree$1", (⟨"java/util/Iterator", "next", "()Ljava/lang/Object;"⟩ : MethodName), (⟨"TreeDiffer$Tree$1", "next", "()Ljava/lang/Object;"⟩ : MethodName))]
def tw_may : List (Nat × Nat) := [(5, cJ1), (5, cJ10), (5, cJ16), (5, cJ17), (5, cJ18), (5, cJ19), (5, cJ2), (5, cJ20), (5, cJ23), (5, cJ24), (5, cJ25), (5, cJ26), (5, cJ6), (5, cJ7), (5, cX1), (5, cX10), (5, cX11), (5, cX12), (5, cX13), (5, cX14), (5, cX15), (5, cX16), (5, cX17), (5, cX18), (5, cX19), (5, cX2), (5, cX20), (5, cX3), (5, cX4), (5, cX5), (5, cX6), (5, cX7), (5, cX8), (5, cX9), (6, cX2), (7, cX5), (9, cX20)]
def tw_nc : List (String × String) := [("java/lang/IndexOutOfBoundsException", "java/lang/IllegalArgumentException"), ("java/lang/IndexOutOfBoundsException", "java/lang/IllegalStateException"), ("java/lang/IndexOutOfBoundsException", "java/util/NoSuchElementException"), ("java/lang/IndexOutOfBoundsException", "java/lang/UnsupportedOperationException"), ("java/lang/IndexOutOfBoundsException", "TreeDiffer$WrongText"), ("java/lang/IndexOutOfBoundsException", "TreeDiffer$Missing"), ("java/lang/IndexOutOfBoundsException", "TreeDiffer$Changed"), ("java/lang/IndexOutOfBoundsException", "TreeDiffer$Clash"), ("java/lang/IndexOutOfBoundsException", "TreeDiffer$Full"), ("java/lang/IndexOutOfBoundsException", "TreeDiffer$Conflict"), ("java/lang/IllegalArgumentException", "java/lang/IndexOutOfBoundsException"), ("java/lang/IllegalArgumentException", "java/lang/IllegalStateException"), ("java/lang/IllegalArgumentException", "java/util/NoSuchElementException"), ("java/lang/IllegalArgumentException", "java/lang/UnsupportedOperationException"), ("java/lang/IllegalArgumentException", "TreeDiffer$WrongText"), ("java/lang/IllegalArgumentException", "TreeDiffer$Missing"), ("java/lang/IllegalArgumentException", "TreeDiffer$Changed"), ("java/lang/IllegalArgumentException", "TreeDiffer$Clash"), ("java/lang/IllegalArgumentException", "TreeDiffer$Full"), ("java/lang/IllegalArgumentException", "TreeDiffer$Conflict"), ("java/lang/IllegalStateException", "java/lang/IndexOutOfBoundsException"), ("java/lang/IllegalStateException", "java/lang/IllegalArgumentException"), ("java/lang/IllegalStateException", "java/util/NoSuchElementException"), ("java/lang/IllegalStateException", "java/lang/UnsupportedOperationException"), ("java/lang/IllegalStateException", "TreeDiffer$WrongText"), ("java/lang/IllegalStateException", "TreeDiffer$Missing"), ("java/lang/IllegalStateException", "TreeDiffer$Changed"), ("java/lang/IllegalStateException", "TreeDiffer$Clash"), ("java/lang/IllegalStateException", "TreeDiffer$Full"), ("java/lang/IllegalStateException", "TreeDiffer$Conflict"), ("java/util/NoSuchElementException", "java/lang/IndexOutOfBoundsException"), ("java/util/NoSuchElementException", "java/lang/IllegalArgumentException"), ("java/util/NoSuchElementException", "java/lang/IllegalStateException"), ("java/util/NoSuchElementException", "java/lang/UnsupportedOperationException"), ("java/util/NoSuchElementException", "TreeDiffer$WrongText"), ("java/util/NoSuchElementException", "TreeDiffer$Missing"), ("java/util/NoSuchElementException", "TreeDiffer$Changed"), ("java/util/NoSuchElementException", "TreeDiffer$Clash"), ("java/util/NoSuchElementException", "TreeDiffer$Full"), ("java/util/NoSuchElementException", "TreeDiffer$Conflict"), ("java/lang/UnsupportedOperationException", "java/lang/IndexOutOfBoundsException"), ("java/lang/UnsupportedOperationException", "java/lang/IllegalArgumentException"), ("java/lang/UnsupportedOperationException", "java/lang/IllegalStateException"), ("java/lang/UnsupportedOperationException", "java/util/NoSuchElementException"), ("java/lang/UnsupportedOperationException", "TreeDiffer$WrongText"), ("java/lang/UnsupportedOperationException", "TreeDiffer$Missing"), ("java/lang/UnsupportedOperationException", "TreeDiffer$Changed"), ("java/lang/UnsupportedOperationException", "TreeDiffer$Clash"), ("java/lang/UnsupportedOperationException", "TreeDiffer$Full"), ("java/lang/UnsupportedOperationException", "TreeDiffer$Conflict"), ("TreeDiffer$WrongText", "java/lang/IndexOutOfBoundsException"), ("TreeDiffer$WrongText", "java/lang/IllegalArgumentException"), ("TreeDiffer$WrongText", "java/lang/IllegalStateException"), ("TreeDiffer$WrongText", "java/util/NoSuchElementException"), ("TreeDiffer$WrongText", "java/lang/UnsupportedOperationException"), ("TreeDiffer$WrongText", "TreeDiffer$Missing"), ("TreeDiffer$WrongText", "TreeDiffer$Changed"), ("TreeDiffer$WrongText", "TreeDiffer$Clash"), ("TreeDiffer$WrongText", "TreeDiffer$Full"), ("TreeDiffer$WrongText", "TreeDiffer$Conflict"), ("TreeDiffer$Missing", "java/lang/IndexOutOfBoundsException"), ("TreeDiffer$Missing", "java/lang/IllegalArgumentException"), ("TreeDiffer$Missing", "java/lang/IllegalStateException"), ("TreeDiffer$Missing", "java/util/NoSuchElementException"), ("TreeDiffer$Missing", "java/lang/UnsupportedOperationException"), ("TreeDiffer$Missing", "TreeDiffer$WrongText"), ("TreeDiffer$Missing", "TreeDiffer$Changed"), ("TreeDiffer$Missing", "TreeDiffer$Clash"), ("TreeDiffer$Missing", "TreeDiffer$Full"), ("TreeDiffer$Missing", "TreeDiffer$Conflict"), ("TreeDiffer$Changed", "java/lang/IndexOutOfBoundsException"), ("TreeDiffer$Changed", "java/lang/IllegalArgumentException"), ("TreeDiffer$Changed", "java/lang/IllegalStateException"), ("TreeDiffer$Changed", "java/util/NoSuchElementException"), ("TreeDiffer$Changed", "java/lang/UnsupportedOperationException"), ("TreeDiffer$Changed", "TreeDiffer$WrongText"), ("TreeDiffer$Changed", "TreeDiffer$Missing"), ("TreeDiffer$Changed", "TreeDiffer$Clash"), ("TreeDiffer$Changed", "TreeDiffer$Full"), ("TreeDiffer$Changed", "TreeDiffer$Conflict"), ("TreeDiffer$Clash", "java/lang/IndexOutOfBoundsException"), ("TreeDiffer$Clash", "java/lang/IllegalArgumentException"), ("TreeDiffer$Clash", "java/lang/IllegalStateException"), ("TreeDiffer$Clash", "java/util/NoSuchElementException"), ("TreeDiffer$Clash", "java/lang/UnsupportedOperationException"), ("TreeDiffer$Clash", "TreeDiffer$WrongText"), ("TreeDiffer$Clash", "TreeDiffer$Missing"), ("TreeDiffer$Clash", "TreeDiffer$Changed"), ("TreeDiffer$Clash", "TreeDiffer$Full"), ("TreeDiffer$Clash", "TreeDiffer$Conflict"), ("TreeDiffer$Full", "java/lang/IndexOutOfBoundsException"), ("TreeDiffer$Full", "java/lang/IllegalArgumentException"), ("TreeDiffer$Full", "java/lang/IllegalStateException"), ("TreeDiffer$Full", "java/util/NoSuchElementException"), ("TreeDiffer$Full", "java/lang/UnsupportedOperationException"), ("TreeDiffer$Full", "TreeDiffer$WrongText"), ("TreeDiffer$Full", "TreeDiffer$Missing"), ("TreeDiffer$Full", "TreeDiffer$Changed"), ("TreeDiffer$Full", "TreeDiffer$Clash"), ("TreeDiffer$Full", "TreeDiffer$Conflict"), ("TreeDiffer$Conflict", "java/lang/IndexOutOfBoundsException"), ("TreeDiffer$Conflict", "java/lang/IllegalArgumentException"), ("TreeDiffer$Conflict", "java/lang/IllegalStateException"), ("TreeDiffer$Conflict", "java/util/NoSuchElementException"), ("TreeDiffer$Conflict", "java/lang/UnsupportedOperationException"), ("TreeDiffer$Conflict", "TreeDiffer$WrongText"), ("TreeDiffer$Conflict", "TreeDiffer$Missing"), ("TreeDiffer$Conflict", "TreeDiffer$Changed"), ("TreeDiffer$Conflict", "TreeDiffer$Clash"), ("TreeDiffer$Conflict", "TreeDiffer$Full")]
def tw_ao : List String := ["java/lang/Object", "TreeDiffer$Tree", "TreeDifferModel$Tree", "TreeDifferModel$Item"]
def tw_mP (n d : String) : MethodName := ⟨"java/lang/AbstractStringBuilder", n, d⟩
def tw_sel : List Cond := [.selects "java/lang/StringBuilder" (tw_mP "ensureCapacityInternal" "(I)V") (tw_mP "ensureCapacityInternal" "(I)V"), .selects "java/lang/StringBuilder" (tw_mP "inflate" "()V") (tw_mP "inflate" "()V"), .selects "java/lang/StringBuilder" (tw_mP "newCapacity" "(I)I") (tw_mP "newCapacity" "(I)I"), .selects "java/lang/StringBuilder" (tw_mP "putStringAt" "(ILjava/lang/String;)V") (tw_mP "putStringAt" "(ILjava/lang/String;)V"), .selects "java/lang/StringBuilder" (tw_mP "appendNull" "()Ljava/lang/AbstractStringBuilder;") (tw_mP "appendNull" "()Ljava/lang/AbstractStringBuilder;"), .selects "java/lang/StringBuilder" (tw_mP "inflateIfNeededFor" "(Ljava/lang/String;)V") (tw_mP "inflateIfNeededFor" "(Ljava/lang/String;)V")]
def tw_AOi (U : State) : Prop := (Cond.arrayOver (.array .int)).before #[] U = true
theorem tw_AOi_spec {args : Array Value} {first s : State} {o : Option Outcome} {idx : List Nat} (h : (Cond.arrayOver (.array .int)).holds args first o s idx = true) :
    ∃ comp c k, s.vm.findClass (FieldType.array .int).toString = some comp ∧ (s.vm.classes.findIdx? fun (x : Class) => match x.kind with | .array component _ => component == comp | _ => false) = some c ∧ s.vm.classes[c]? = some k ∧ k.kind = .array comp (.array .int) ∧
      s.vm.findClass ("[" ++ (FieldType.array .int).toString) = some c := by
  simp only [Cond.holds, Cond.value, beq_iff_eq] at h
  cases hc : s.vm.findClass (FieldType.array .int).toString with
  | none => simp [hc] at h
  | some comp =>
    simp only [hc, Option.bind_some, Option.bind_eq_some_iff, Option.map_eq_some_iff] at h
    obtain ⟨c, hi, k, hk, hb⟩ := h
    obtain ⟨hlt, hp, -⟩ := Array.findIdx?_eq_some_iff_getElem.mp hi
    have hkk : s.vm.classes[c] = k := (Array.getElem?_eq_some_iff.mp hk).2
    rw [hkk] at hp
    cases hkind : k.kind with
    | array component ty =>
      simp only [hkind, beq_iff_eq] at hp
      subst hp
      simp only [hkind, Bool.and_eq_true, decide_eq_true_eq] at hb
      exact ⟨_, c, k, rfl, hi, hk, by rw [hkind, hb.1], hb.2⟩
    | _ => simp [hkind] at hp
theorem tw_AOi.moved {u U : State} (hvm : u.vm.Alike U.vm) (h : tw_AOi u) : tw_AOi U := by
  obtain ⟨comp, c, k, h1, h2, h3, h4, h5⟩ := tw_AOi_spec h
  obtain ⟨k', hk', he⟩ := hvm.2.2 _ _ h3
  have hi : (U.vm.classes.findIdx? fun (x : Class) => match x.kind with | .array component _ => component == comp | _ => false) = some c := by
    refine (va_idx_bare U.vm comp).symm.trans ?_
    first | rw [hvm.bare_eq] | rw [← hvm.bare_eq]
    exact (va_idx_bare u.vm comp).trans h2
  have hkind : k'.kind = .array comp (.array .int) := by rw [he]; exact h4
  have f1 : U.vm.findClass (FieldType.array .int).toString = some comp := by rw [hvm.findClass]; exact h1
  have f2 : U.vm.findClass ("[" ++ (FieldType.array .int).toString) = some c := by rw [hvm.findClass]; exact h5
  unfold tw_AOi Cond.before Cond.holds
  simp only [Cond.value]
  rw [f1, Option.bind_some]
  refine (congrArg (fun o : Option Nat => (o.bind (fun c => (U.vm.classes[c]?).map fun (k : Class) => match k.kind with | .array _ ty => decide (ty = FieldType.array .int) && decide (U.vm.findClass ("[" ++ (FieldType.array .int).toString) = some c) | _ => false) == some true)) hi).trans ?_
  simp [hk', hkind, f2]
/-- two statics of Throwable, as laid out -/
def tw_Lz (G : Tgl) (U : State) : Prop := vx_L "java/lang/Throwable" "UNASSIGNED_STACK" "[Ljava/lang/StackTraceElement;" (tw_A G) U U.heap ∧ vx_L "java/lang/Throwable" "SUPPRESSED_SENTINEL" "Ljava/util/List;" (tw_A G) U U.heap
/-- what the tables and the statics say, all through a run -/
def tw_T (G : Tgl) (U : State) : Prop := va_K G.1 tw_cl (tw_tys G) U ∧ (∀ w ∈ tw_nw, va_Nw w U) ∧ (∀ q ∈ tw_fw, va_Fw q.1 q.2.1 q.2.2 U) ∧ (∀ q ∈ tw_nc, va_Nc q.1 q.2 U) ∧ tw_Z G U U.heap ∧ G.2.2.1 ≤ U.heap.size ∧ (∀ C ∈ tw_ao, va_AO C U) ∧ G.2.2.2.2.2 99 = some G.2.2.1 ∧ (∃ mi, G.2.2.2.2.2 7 = some mi ∧ va_Mi "[Ljava/lang/Object;" mi U) ∧ (∃ a, G.2.2.2.2.2 3 = some a ∧ vk_R "TreeDifferModel" 41 "" a U) ∧ (∀ w ∈ tw_sel, w.before #[] U = true) ∧ tw_AOi U ∧ tw_Lz G U
