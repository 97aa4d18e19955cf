-- contracts, calls, ends
def tw_lv (i : Nat) (As : List Tfv) : List (Nat × Value) := match As with
  | [] => []
  | x :: t => (i, tw_v x) :: tw_lv (i + 1) t
theorem tw_lv_eq (As : List Tfv) (i : Nat) : lv_args i (As.map tw_v) = tw_lv i As := by
  induction As generalizing i with
  | nil => rfl
  | cons x t ih =>
    show (i, tw_v x) :: lv_args (if (tw_v x).category = 2 then i + 2 else i + 1) (t.map tw_v) = _
    rw [tw_catv, if_neg (by decide), ih]
    rfl
theorem tw_sl_len (As : List Tfv) : (lg_sl (As.map tw_v)).length = As.length := by
  induction As with
  | nil => rfl
  | cons x t ih =>
    simp only [lg_sl, List.map_cons, List.flatMap_cons, tw_catv] at ih ⊢
    simp [ih]
abbrev tw_Qi (G : Tgl) (Q : Int32 → Tst → Prop) : Array Value → State → Outcome → State → Prop := va_Qi Q (fun σ t => tw_R G σ t.heap) (tw_A G)
abbrev tw_Qv (G : Tgl) (Q : Tst → Prop) : Array Value → State → Outcome → State → Prop := va_Qv Q (fun σ t => tw_R G σ t.heap) (tw_A G)
abbrev tw_Qq (G : Tgl) (Q : Option Nat → Tst → Prop) : Array Value → State → Outcome → State → Prop := va_Qq Q (fun σ t => tw_R G σ t.heap) (tw_A G)
abbrev tw_Qd (G : Tgl) (Q : UInt64 → Tst → Prop) : Array Value → State → Outcome → State → Prop := va_Qd Q (fun σ t => tw_R G σ t.heap) (tw_A G)
abbrev tw_X (G : Tgl) (X : String → Nat → Tst → Prop) : String → Nat → State → State → Prop := vx_X X (fun _ σ t => tw_R G σ t.heap) (tw_A G)
abbrev tw_rm (σ : Tst) (fr lo : Nat) : Room := { frames := fr, cells := σ.2.1, slots := σ.2.2.1, locals := lo }
abbrev tw_M (l : Launch) (y : MethodName) (ws : List Cond) (fr lo : Nat) (G : Tgl) (σ : Tst) (As : List Tfv) (Qc : Array Value → State → Outcome → State → Prop) (X : String → Nat → Tst → Prop) : Prop :=
  vx_Met l y ws (tw_rm σ fr lo) (va_Pc (As.map tw_v) (fun U => tw_R G σ U.heap ∧ tw_T G U)) Qc (tw_X G X) σ.2.1 σ.2.2.1 (tw_A G)
abbrev tw_E (below : List Frame) (G : Tgl) (Qc : Array Value → State → Outcome → State → Prop) (X : String → Nat → Tst → Prop) (args : Array Value) (s : State) (R : Room) : State → Prop := vx_MQ below Qc (tw_X G X) args s R.cells R.slots (tw_A G)
theorem tw_selg : ∀ w ∈ tw_sel, (w.onTables && w.keeps) = true ∨ ∃ ty, w = .arrayClass ty := by
  intro w hw
  simp only [tw_sel, List.mem_cons, List.not_mem_nil, or_false] at hw
  rcases hw with h | h | h | h | h | h <;> subst h <;> exact Or.inl rfl
theorem tw_selt : ∀ w ∈ tw_sel, w.onTables = true := by
  intro w hw
  simp only [tw_sel, List.mem_cons, List.not_mem_nil, or_false] at hw
  rcases hw with h | h | h | h | h | h <;> subst h <;> rfl
theorem tw_fwx : ∀ q ∈ tw_fw, q.2.1.cls ≠ "java/lang/invoke/MethodHandle" ∧ q.2.1.cls ≠ "java/lang/invoke/VarHandle" := by decide +kernel
theorem tw_T.call {G : Tgl} {s U : State} {H : Heap} {locs : List Loc} (h : tw_T G s) (hS : va_S (tw_A G) s.heap H locs) (hU : U.heap = H) (hW : s.WarmedH U.vm) : tw_T G U := by
  obtain ⟨h1, h2, h3, h4, h5, h6, h7, h8, ⟨mi, hm1, hm2⟩, ⟨sa, hs1, hs2⟩, h11, h12, h13⟩ := h
  refine ⟨va_K.moved hW.alike h1, fun w hw => tw_nwm hW hw (h2 w hw), fun q hq => (h3 q hq).moved (tw_fwx q hq) hW.alike, fun q hq => (h4 q hq).moved hW.alike, fun q hq => ?_, by rw [hU]; exact Nat.le_trans h6 hS.1, fun C hC => (h7 C hC).moved hW.alike, h8, ⟨mi, hm1, hm2.moved hW.alike⟩, ⟨sa, hs1, hs2.warm hW⟩, fun w hw => word_at hW (tw_selg w hw) (h11 w hw), h12.moved hW.alike, ?_⟩
  · rw [hU]
    exact ((h5 q hq).kept hS.2.1).moved hW.alike
  · unfold tw_Lz
    rw [hU]
    exact ⟨(h13.1.kept hS.2.1).moved hW.alike, (h13.2.kept hS.2.1).moved hW.alike⟩
theorem tw_T.same {G : Tgl} {U V : State} (h : tw_T G U) (hv : U.vm = V.vm) (hh : U.heap = V.heap) : tw_T G V := by
  have ha : U.vm.Alike V.vm := hv ▸ Vm.Alike.refl U.vm
  obtain ⟨h1, h2, h3, h4, h5, h6, h7, h8, ⟨mi, hm1, hm2⟩, ⟨sa, hs1, hs2⟩, h11, h12, h13⟩ := h
  refine ⟨va_K.moved ha h1, fun w hw => va_Nw.same ?_ hv (h2 w hw), fun q hq => (h3 q hq).moved (tw_fwx q hq) ha, fun q hq => (h4 q hq).moved ha, fun q hq => ?_, by rw [← hh]; exact h6, fun C hC => (h7 C hC).moved ha, h8, ⟨mi, hm1, hm2.moved ha⟩, ⟨sa, hs1, hs2.same hv.symm⟩, fun w hw => va_tabs (tw_selt w hw) hv (h11 w hw), h12.moved ha, ?_⟩
  · have h1 := (List.mem_filter.mp hw).2
    cases w <;> first | rfl | (simp [tw_ok] at h1)
  · rw [← hh]
    exact (h5 q hq).moved ha
  · unfold tw_Lz
    rw [← hh]
    exact ⟨h13.1.moved ha, h13.2.moved ha⟩
theorem tw_blind {G : Tgl} {σ : Tst} {As : List Value} : FrameBlind (va_Pc As (fun U => tw_R G σ U.heap ∧ tw_T G U)) := by
  intro a U g mk h
  exact ⟨h.1, h.2.1, h.2.2.same rfl rfl⟩
theorem tw_of {l : Launch} {y : MethodName} {cc : ByteArray} {nL fr lo : Nat} {ret : Option FieldType} {G : Tgl} {σ : Tst} {As : List Tfv} {Qc : Array Value → State → Outcome → State → Prop} {X : String → Nat → Tst → Prop} (hl : l.stackTraces = false) (hy : plainName y.cls = true) (hln : As.length ≤ nL)
    (body : ∀ p e R s m args below meth c, R.frames = fr → R.locals = lo → tw_C p l R s m args meth c G cc nL y.cls → meth.sig.returnType = ret → meth.name = y.name → (∀ x ∈ c.exceptionTable.toList, False) → tw_R G σ s.heap → va_S (tw_A G) s.heap s.heap [] → ∀ ls : Array Slot, lv_has ls nL (tw_lv 0 As) → tw_W p l e R s m args below meth c σ s.heap [] (tw_E below G Qc X args s R) (F0 m 0 ls [])) : tw_M l y (ws_ y cc nL ret) fr lo G σ As Qc X := by
  refine vx_ofW (cc := cc) (maxL := nL) (ret := ret) hy rfl ?_
  intro p e s m args below meth c s₁ B hml hnx hv
  obtain ⟨rfl, hR, hT⟩ := hv
  have hts := atoms_spec (ws := ws_ y cc nL ret) B.pre
  have hts : ∀ w ∈ lw_all, w.before _ s = true := fun w h => hts w (List.mem_cons_of_mem _ h)
  have hown : s.vm.findClass y.cls = some m.cls := findClass_of_methodNamed B.named
  have hC : tw_C p l (tw_rm σ fr lo) s m (As.map tw_v).toArray meth c G cc nL y.cls := ⟨B.exec, B.bytes, hml, hown, hts, B.notSynchronized, hT, hR.2.2.1, hR.2.2.2.1, hl⟩
  have h := body p e (tw_rm σ fr lo) s m _ below meth c rfl rfl hC B.returns (name_of_methodNamed B.named B.method).1 hnx hR va_S.rf
  have hlv := lv_entry (As.map tw_v) (n := nL) (by rw [tw_sl_len]; exact hln)
  rw [tw_lv_eq] at hlv
  have h2 := h _ hlv
  rw [lg_entry_eq]
  simp only [tw_W, Nat.sub_self] at h2
  exact h2
section TWE
variable {p : Program} {l : Launch} {e : Env} {R : Room} {s : State} {m : MethodId} {args : Array Value} {below : List Frame} {meth : Method} {c : Code} {H : Heap} {locs : List Loc} {cells slots : Nat} {Q : State → Prop} {G : Tgl} {cc : ByteArray} {nL : Nat} {own : String} {pc : Nat} {ls : Array Slot} {rest : List Value} {σ : Tst} {a n j : Nat} {Qc : Array Value → State → Outcome → State → Prop} {X : String → Nat → Tst → Prop}
-- ends
theorem tw_iret (C : tw_C p l R s m args meth c G cc nL own) (hR : tw_R G σ H) (hS : va_S (tw_A G) s.heap H locs) {Q1 : Int32 → Tst → Prop} {v : Int32} {ty : FieldType} (hr : meth.sig.returnType = some ty) (hn : narrow ty (.int v) = .int v) (hdg : decode cc pc = .ok (.ireturn, 1)) (hq : Q1 v σ) : tw_W p l e R s m args below meth c σ H locs (tw_E below G (tw_Qi G Q1) X args s R) (F0 m pc ls [.int v]) := by
  refine vx_ret (W.widen (k := R.cells) (n := R.slots) (Nat.sub_le _ _) (Nat.sub_le _ _) ?_)
  exact W.zret (v := v) C.hx C.hb hr hn (fun t ht hW => ⟨⟨v, σ, rfl, hq, by show tw_R G _ t.heap; rw [ht]; exact hR⟩, hS.F ht⟩) hS.2.2 hdg C.hlk
theorem tw_vret (C : tw_C p l R s m args meth c G cc nL own) (hR : tw_R G σ H) (hS : va_S (tw_A G) s.heap H locs) {Q1 : Tst → Prop} (hr : meth.sig.returnType = none) (hdg : decode cc pc = .ok (.return_, 1)) (hq : Q1 σ) : tw_W p l e R s m args below meth c σ H locs (tw_E below G (tw_Qv G Q1) X args s R) (F0 m pc ls []) := by
  refine vx_ret (W.widen (k := R.cells) (n := R.slots) (Nat.sub_le _ _) (Nat.sub_le _ _) ?_)
  exact W.vret C.hx C.hb hr (fun t ht hW => ⟨⟨σ, rfl, hq, by show tw_R G _ t.heap; rw [ht]; exact hR⟩, hS.F ht⟩) hS.2.2 hdg C.hlk
theorem tw_aret (C : tw_C p l R s m args meth c G cc nL own) (hR : tw_R G σ H) (hS : va_S (tw_A G) s.heap H locs) {Q1 : Option Nat → Tst → Prop} {r : Option Nat} {rt : FieldType} (hr : meth.sig.returnType = some rt) (hrt : (∃ n, rt = .object n) ∨ ∃ t, rt = .array t) (hdg : decode cc pc = .ok (.areturn, 1)) (hq : Q1 r σ) : tw_W p l e R s m args below meth c σ H locs (tw_E below G (tw_Qq G Q1) X args s R) (F0 m pc ls [va_rf r]) := by
  refine vx_ret (W.widen (k := R.cells) (n := R.slots) (Nat.sub_le _ _) (Nat.sub_le _ _) ?_)
  exact W.aret (v := va_rf r) C.hx C.hb hr hrt (by cases r; exact Or.inl rfl; exact Or.inr ⟨_, rfl⟩) (fun t ht hW => ⟨⟨r, σ, rfl, hq, by show tw_R G _ t.heap; rw [ht]; exact hR⟩, hS.F ht⟩) hS.2.2 hdg C.hlk
theorem tw_dret (C : tw_C p l R s m args meth c G cc nL own) (hR : tw_R G σ H) (hS : va_S (tw_A G) s.heap H locs) {Q1 : UInt64 → Tst → Prop} {v : UInt64} (hr : meth.sig.returnType = some .double) (hdg : decode cc pc = .ok (.dreturn, 1)) (hq : Q1 v σ) : tw_W p l e R s m args below meth c σ H locs (tw_E below G (tw_Qd G Q1) X args s R) (F0 m pc ls [.double v]) := by
  refine vx_ret (W.widen (k := R.cells) (n := R.slots) (Nat.sub_le _ _) (Nat.sub_le _ _) ?_)
  exact W.dret (v := v) C.hx C.hb hr (fun t ht hW => ⟨⟨v, σ, rfl, hq, by show tw_R G _ t.heap; rw [ht]; exact hR⟩, hS.F ht⟩) hS.2.2 hdg C.hlk
-- an exception on its way
abbrev tw_VW (p : Program) (l : Launch) (e : Env) (R : Room) (s : State) (m : MethodId) (args : Array Value) (below : List Frame) (meth : Method) (c : Code) (σ : Tst) (H : Heap) (locs : List Loc) (Q : State → Prop) (g : JFrame) (q : Addr) : Prop := vx_W p l e R s m args below meth c H locs (R.cells - σ.2.1) (R.slots - σ.2.2.1) Q g q
def tw_is (s : State) (H : Heap) (E : String) (q : Nat) : Prop := ∃ ce : Cell, H[q]? = some ce ∧ ce.vm = .none ∧ s.vm.findClass E = some ce.cls
theorem tw_reX (C : tw_C p l R s m args meth c G cc nL own) (hR : tw_R G σ H) {g : JFrame} {q : Addr} (kk : tw_VW p l e R s m args below meth c σ H locs Q g q) : vx_W p l e R s m args below meth c H locs cells slots Q g q := by
  have h1 : H.size + σ.2.1 = s.heap.size + R.cells := by rw [C.hc]; exact hR.2.2.1
  have h2 : tw_tot H + σ.2.2.1 = tw_tot s.heap + R.slots := by rw [C.hs]; exact hR.2.2.2.1
  intro T hT X
  refine kk T hT { X with same := ?_ }
  obtain ⟨x1, x2, x3, x4, x5, x6⟩ := X.same
  have h0 : s.slotsTrue = true := by
    have h := X.room
    simp only [State.hasRoom, Bool.and_eq_true] at h
    exact h.2
  have hb := tw_true X.book
  have hs := tw_true h0
  rw [hT] at hb
  have hz : (T.setVm s.vm).heap.size = H.size := by rw [← hT]; rfl
  have x4' : T.slotsUsed = s.slotsUsed + (((T.setVm s.vm).heap.toList.drop s.heap.size).map (·.slots.size)).sum := x4
  exact ⟨x1, x2, by omega, x4, by omega, x6⟩
theorem tw_out (C : tw_C p l R s m args meth c G cc nL own) (hR : tw_R G σ H) (hS : va_S (tw_A G) s.heap H locs) {E : String} {q : Nat} (hout : ∀ x ∈ c.exceptionTable.toList, covers x pc = false) (hi : tw_is s H E q) (hX : X E q σ) : tw_VW p l e R s m args below meth c σ H locs (tw_E below G Qc X args s R) (F0 m pc ls rest) q := by
  obtain ⟨ce, h1, h2, h3⟩ := hi
  exact vx_out hout C.hlk h1 h2 h3 (fun t ht hv => ⟨σ, hX, by show tw_R G _ t.heap; rw [ht]; exact hR, hS.F ht⟩) hS.2.2 (Nat.sub_le _ _) (Nat.sub_le _ _)
theorem tw_athrow (C : tw_C p l R s m args meth c G cc nL own) (hR : tw_R G σ H) {q : Nat} {ci : Nat} {fs : List Tfv} (ha : σ.1 q = some (.inr (ci, fs))) {Cn : String} {Tn : u_T} {N : Nat} (hc : tw_cl[ci]? = some (Cn, Tn, N)) (hns : ci ≠ cJ2) (hdg : decode cc pc = .ok (.athrow, 1)) (kk : tw_is s H Cn q → tw_VW p l e R s m args below meth c σ H locs Q (F0 m pc ls rest) q) : tw_W p l e R s m args below meth c σ H locs Q (F0 m pc ls (va_rf (some q) :: rest)) :=
  vx_athrow C.hx C.hb hdg (kk (tw_cellof C hR ha hc (by
    rcases hR.2.1 _ _ ha with h | h
    · exact h
    · exact absurd h hns)))
-- behind a call
abbrev tw_Rn (p : Program) (l : Launch) (e : Env) (R : Room) (s : State) (m : MethodId) (args : Array Value) (below : List Frame) (meth : Method) (c : Code) (G : Tgl) (σ : Tst) (H : Heap) (locs : List Loc) (g : JFrame) (rest : List Value) (Qa : State → Outcome → State → Prop) (X : String → Nat → Tst → Prop) : Prop :=
  vx_Run p l e R s m args below meth c H locs (R.cells - σ.2.1) (R.slots - σ.2.2.1) σ.2.1 σ.2.2.1 g rest Qa (tw_X G X) (tw_A G)
abbrev tw_Rn5 (p : Program) (l : Launch) (e : Env) (R : Room) (s : State) (m : MethodId) (args : Array Value) (below : List Frame) (meth : Method) (c : Code) (G : Tgl) (σ : Tst) (H : Heap) (locs : List Loc) (g : JFrame) (rest : List Value) (Qa : State → Outcome → State → Prop) (X : String → Nat → Tst → Prop) : Prop :=
  vx_Run5 p l e R s m args below meth c H locs (R.cells - σ.2.1) (R.slots - σ.2.2.1) σ.2.1 σ.2.2.1 g rest Qa (tw_X G X) (tw_A G)
variable {st0 : List Value} {av : Array Value} {X1 : String → Nat → Tst → Prop}
theorem tw_cbi (C : tw_C p l R s m args meth c G cc nL own) (hS : va_S (tw_A G) s.heap H locs) {Q1 : Int32 → Tst → Prop} (hr : tw_Rn p l e R s m args below meth c G σ H locs (F0 m pc ls st0) rest (tw_Qi G Q1 av) X1)
    (kx : ∀ (E : String) (q : Nat) (σ : Tst) (H : Heap) (locs : List Loc), X1 E q σ → tw_R G σ H → va_S (tw_A G) s.heap H locs → tw_is s H E q → tw_VW p l e R s m args below meth c σ H locs Q (F0 m pc ls rest) q)
    (kk : ∀ (r : Int32) (σ : Tst) (H : Heap) (locs : List Loc), Q1 r σ → tw_R G σ H → va_S (tw_A G) s.heap H locs → tw_W p l e R s m args below meth c σ H locs Q (F0 m (pc + 3) ls (.int r :: rest))) : tw_W p l e R s m args below meth c σ H locs Q (F0 m pc ls st0) :=
  vx_calli hr hS (fun _ _ h => h) (fun _ h => h) (fun _ _ h => h) (fun E ce q u t H1 locs1 ht _ hX hB _ _ hS1 g1 g2 g3 => by have hB : tw_R G u t.heap := hB; rw [ht] at hB; exact tw_reX C hB (kx E q u H1 locs1 hX hB hS1 ⟨ce, g1, g2, g3⟩)) (fun r u t H1 locs1 ht _ hQ hB _ _ hS1 => by have hB : tw_R G u t.heap := hB; rw [ht] at hB; exact tw_re C hB (kk r u H1 locs1 hQ hB hS1))
theorem tw_cbq (C : tw_C p l R s m args meth c G cc nL own) (hS : va_S (tw_A G) s.heap H locs) {Q1 : Option Nat → Tst → Prop} (hr : tw_Rn p l e R s m args below meth c G σ H locs (F0 m pc ls st0) rest (tw_Qq G Q1 av) X1)
    (kx : ∀ (E : String) (q : Nat) (σ : Tst) (H : Heap) (locs : List Loc), X1 E q σ → tw_R G σ H → va_S (tw_A G) s.heap H locs → tw_is s H E q → tw_VW p l e R s m args below meth c σ H locs Q (F0 m pc ls rest) q)
    (kk : ∀ (r : Option Nat) (σ : Tst) (H : Heap) (locs : List Loc), Q1 r σ → tw_R G σ H → va_S (tw_A G) s.heap H locs → tw_W p l e R s m args below meth c σ H locs Q (F0 m (pc + 3) ls (va_rf r :: rest))) : tw_W p l e R s m args below meth c σ H locs Q (F0 m pc ls st0) :=
  vx_callq hr hS (fun _ _ h => h) (fun _ h => h) (fun _ _ h => h) (fun E ce q u t H1 locs1 ht _ hX hB _ _ hS1 g1 g2 g3 => by have hB : tw_R G u t.heap := hB; rw [ht] at hB; exact tw_reX C hB (kx E q u H1 locs1 hX hB hS1 ⟨ce, g1, g2, g3⟩)) (fun r u t H1 locs1 ht _ hQ hB _ _ hS1 => by have hB : tw_R G u t.heap := hB; rw [ht] at hB; exact tw_re C hB (kk r u H1 locs1 hQ hB hS1))
theorem tw_cbd (C : tw_C p l R s m args meth c G cc nL own) (hS : va_S (tw_A G) s.heap H locs) {Q1 : UInt64 → Tst → Prop} (hr : tw_Rn p l e R s m args below meth c G σ H locs (F0 m pc ls st0) rest (tw_Qd G Q1 av) X1)
    (kx : ∀ (E : String) (q : Nat) (σ : Tst) (H : Heap) (locs : List Loc), X1 E q σ → tw_R G σ H → va_S (tw_A G) s.heap H locs → tw_is s H E q → tw_VW p l e R s m args below meth c σ H locs Q (F0 m pc ls rest) q)
    (kk : ∀ (r : UInt64) (σ : Tst) (H : Heap) (locs : List Loc), Q1 r σ → tw_R G σ H → va_S (tw_A G) s.heap H locs → tw_W p l e R s m args below meth c σ H locs Q (F0 m (pc + 3) ls (.double r :: rest))) : tw_W p l e R s m args below meth c σ H locs Q (F0 m pc ls st0) :=
  vx_calld hr hS (fun _ _ h => h) (fun _ h => h) (fun _ _ h => h) (fun E ce q u t H1 locs1 ht _ hX hB _ _ hS1 g1 g2 g3 => by have hB : tw_R G u t.heap := hB; rw [ht] at hB; exact tw_reX C hB (kx E q u H1 locs1 hX hB hS1 ⟨ce, g1, g2, g3⟩)) (fun r u t H1 locs1 ht _ hQ hB _ _ hS1 => by have hB : tw_R G u t.heap := hB; rw [ht] at hB; exact tw_re C hB (kk r u H1 locs1 hQ hB hS1))
theorem tw_cbv (C : tw_C p l R s m args meth c G cc nL own) (hS : va_S (tw_A G) s.heap H locs) {Q1 : Tst → Prop} (hr : tw_Rn p l e R s m args below meth c G σ H locs (F0 m pc ls st0) rest (tw_Qv G Q1 av) X1)
    (kx : ∀ (E : String) (q : Nat) (σ : Tst) (H : Heap) (locs : List Loc), X1 E q σ → tw_R G σ H → va_S (tw_A G) s.heap H locs → tw_is s H E q → tw_VW p l e R s m args below meth c σ H locs Q (F0 m pc ls rest) q)
    (kk : ∀ (σ : Tst) (H : Heap) (locs : List Loc), Q1 σ → tw_R G σ H → va_S (tw_A G) s.heap H locs → tw_W p l e R s m args below meth c σ H locs Q (F0 m (pc + 3) ls rest)) : tw_W p l e R s m args below meth c σ H locs Q (F0 m pc ls st0) :=
  vx_callv hr hS (fun _ _ h => h) (fun _ h => h) (fun _ _ h => h) (fun E ce q u t H1 locs1 ht _ hX hB _ _ hS1 g1 g2 g3 => by have hB : tw_R G u t.heap := hB; rw [ht] at hB; exact tw_reX C hB (kx E q u H1 locs1 hX hB hS1 ⟨ce, g1, g2, g3⟩)) (fun u t H1 locs1 ht _ hQ hB _ _ hS1 => by have hB : tw_R G u t.heap := hB; rw [ht] at hB; exact tw_re C hB (kk u H1 locs1 hQ hB hS1))
theorem tw_cbi5 (C : tw_C p l R s m args meth c G cc nL own) (hS : va_S (tw_A G) s.heap H locs) {Q1 : Int32 → Tst → Prop} (hr : tw_Rn5 p l e R s m args below meth c G σ H locs (F0 m pc ls st0) rest (tw_Qi G Q1 av) X1)
    (kx : ∀ (E : String) (q : Nat) (σ : Tst) (H : Heap) (locs : List Loc), X1 E q σ → tw_R G σ H → va_S (tw_A G) s.heap H locs → tw_is s H E q → tw_VW p l e R s m args below meth c σ H locs Q (F0 m pc ls rest) q)
    (kk : ∀ (r : Int32) (σ : Tst) (H : Heap) (locs : List Loc), Q1 r σ → tw_R G σ H → va_S (tw_A G) s.heap H locs → tw_W p l e R s m args below meth c σ H locs Q (F0 m (pc + 5) ls (.int r :: rest))) : tw_W p l e R s m args below meth c σ H locs Q (F0 m pc ls st0) :=
  vx_callFi hr hS (fun _ _ h => h) (fun _ h => h) (fun _ _ h => h) (fun E ce q u t H1 locs1 ht _ hX hB _ _ hS1 g1 g2 g3 => by have hB : tw_R G u t.heap := hB; rw [ht] at hB; exact tw_reX C hB (kx E q u H1 locs1 hX hB hS1 ⟨ce, g1, g2, g3⟩)) (fun r u t H1 locs1 ht _ hQ hB _ _ hS1 => by have hB : tw_R G u t.heap := hB; rw [ht] at hB; exact tw_re C hB (kk r u H1 locs1 hQ hB hS1))
theorem tw_cbq5 (C : tw_C p l R s m args meth c G cc nL own) (hS : va_S (tw_A G) s.heap H locs) {Q1 : Option Nat → Tst → Prop} (hr : tw_Rn5 p l e R s m args below meth c G σ H locs (F0 m pc ls st0) rest (tw_Qq G Q1 av) X1)
    (kx : ∀ (E : String) (q : Nat) (σ : Tst) (H : Heap) (locs : List Loc), X1 E q σ → tw_R G σ H → va_S (tw_A G) s.heap H locs → tw_is s H E q → tw_VW p l e R s m args below meth c σ H locs Q (F0 m pc ls rest) q)
    (kk : ∀ (r : Option Nat) (σ : Tst) (H : Heap) (locs : List Loc), Q1 r σ → tw_R G σ H → va_S (tw_A G) s.heap H locs → tw_W p l e R s m args below meth c σ H locs Q (F0 m (pc + 5) ls (va_rf r :: rest))) : tw_W p l e R s m args below meth c σ H locs Q (F0 m pc ls st0) :=
  vx_callFq hr hS (fun _ _ h => h) (fun _ h => h) (fun _ _ h => h) (fun E ce q u t H1 locs1 ht _ hX hB _ _ hS1 g1 g2 g3 => by have hB : tw_R G u t.heap := hB; rw [ht] at hB; exact tw_reX C hB (kx E q u H1 locs1 hX hB hS1 ⟨ce, g1, g2, g3⟩)) (fun r u t H1 locs1 ht _ hQ hB _ _ hS1 => by have hB : tw_R G u t.heap := hB; rw [ht] at hB; exact tw_re C hB (kk r u H1 locs1 hQ hB hS1))
theorem tw_cbv5 (C : tw_C p l R s m args meth c G cc nL own) (hS : va_S (tw_A G) s.heap H locs) {Q1 : Tst → Prop} (hr : tw_Rn5 p l e R s m args below meth c G σ H locs (F0 m pc ls st0) rest (tw_Qv G Q1 av) X1)
    (kx : ∀ (E : String) (q : Nat) (σ : Tst) (H : Heap) (locs : List Loc), X1 E q σ → tw_R G σ H → va_S (tw_A G) s.heap H locs → tw_is s H E q → tw_VW p l e R s m args below meth c σ H locs Q (F0 m pc ls rest) q)
    (kk : ∀ (σ : Tst) (H : Heap) (locs : List Loc), Q1 σ → tw_R G σ H → va_S (tw_A G) s.heap H locs → tw_W p l e R s m args below meth c σ H locs Q (F0 m (pc + 5) ls rest)) : tw_W p l e R s m args below meth c σ H locs Q (F0 m pc ls st0) :=
  vx_callFv hr hS (fun _ _ h => h) (fun _ h => h) (fun _ _ h => h) (fun E ce q u t H1 locs1 ht _ hX hB _ _ hS1 g1 g2 g3 => by have hB : tw_R G u t.heap := hB; rw [ht] at hB; exact tw_reX C hB (kx E q u H1 locs1 hX hB hS1 ⟨ce, g1, g2, g3⟩)) (fun u t H1 locs1 ht _ hQ hB _ _ hS1 => by have hB : tw_R G u t.heap := hB; rw [ht] at hB; exact tw_re C hB (kk u H1 locs1 hQ hB hS1))
end TWE
