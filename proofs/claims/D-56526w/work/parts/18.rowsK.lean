-- handlers
section TQ
variable {p : Program} {l : Launch} {e : Env} {R : Room} {s : State} {m : MethodId} {args : Array Value} {below : List Frame} {meth : Method} {c : Code} {H : Heap} {locs : List Loc} {cells slots : Nat} {Q : State → Prop} {G : Tgl} {cc : ByteArray} {nL : Nat} {own : String} {pc : Nat} {ls : Array Slot} {rest : List Value} {σ : Tst} {v : Option Nat} {i : Int32}
abbrev tw_row (z : Nat × Nat × Nat × Nat) : ExceptionTableEntry := ⟨z.1, z.2.1, z.2.2.1, z.2.2.2⟩
theorem tw_tbl (hh : List (Nat × Nat × Nat × Nat)) : tableOf hh = hh.map tw_row := rfl
theorem tw_catch (C : tw_C p l R s m args meth c G cc nL own) {E name : String} {q : Nat} {hh : List (Nat × Nat × Nat × Nat)} (hnx : c.exceptionTable.toList = tableOf hh) (pre : List (Nat × Nat × Nat × Nat)) (x : Nat × Nat × Nat × Nat) (suf : List (Nat × Nat × Nat × Nat)) (hsplit : hh = pre ++ x :: suf)
    (hpass : ∀ z ∈ pre, covers (tw_row z) pc = false ∨ (z.2.2.2 ≠ 0 ∧ ∃ nm : String, Cond.classLink own z.2.2.2 nm ∈ lw_all ∧ (E, nm) ∈ tw_nc)) (hx : covers (tw_row x) pc = true) (h0 : x.2.2.2 ≠ 0) (hlink : Cond.classLink own x.2.2.2 name ∈ lw_all) (hcast : Cond.castable E name ∈ lw_tbl) (hi : tw_is s H E q)
    (kk : tw_W p l e R s m args below meth c σ H locs Q (F0 m x.2.2.1 ls [va_rf (some q)])) : tw_VW p l e R s m args below meth c σ H locs Q (F0 m pc ls rest) q := by
  obtain ⟨ce, h1, h2, h3⟩ := hi
  refine vx_catch C.ho (pre.map tw_row) (tw_row x) (suf.map tw_row) (by rw [hnx, hsplit, tw_tbl, List.map_append, List.map_cons]) (fun z hz => ?_) hx h0 (C.hts _ hlink) (va_Nw.use (A := args) rfl (C.nw hcast rfl)) h1 h2 h3 kk
  obtain ⟨y, hy, rfl⟩ := List.mem_map.mp hz
  rcases hpass y hy with h | ⟨g0, nm, g1, g2⟩
  · exact Or.inl h
  · exact Or.inr ⟨g0, nm, C.hts _ g1, C.hT.2.2.2.1 _ g2⟩
theorem tw_any (C : tw_C p l R s m args meth c G cc nL own) {E : String} {q : Nat} {hh : List (Nat × Nat × Nat × Nat)} (hnx : c.exceptionTable.toList = tableOf hh) (pre : List (Nat × Nat × Nat × Nat)) (x : Nat × Nat × Nat × Nat) (suf : List (Nat × Nat × Nat × Nat)) (hsplit : hh = pre ++ x :: suf)
    (hpass : ∀ z ∈ pre, covers (tw_row z) pc = false ∨ (z.2.2.2 ≠ 0 ∧ ∃ nm : String, Cond.classLink own z.2.2.2 nm ∈ lw_all ∧ (E, nm) ∈ tw_nc)) (hx : covers (tw_row x) pc = true) (h0 : x.2.2.2 = 0) (hi : tw_is s H E q)
    (kk : tw_W p l e R s m args below meth c σ H locs Q (F0 m x.2.2.1 ls [va_rf (some q)])) : tw_VW p l e R s m args below meth c σ H locs Q (F0 m pc ls rest) q := by
  obtain ⟨ce, h1, h2, h3⟩ := hi
  intro T hT X
  have hpl : e.platform.magicAccessors = ({} : Platform).magicAccessors := by rw [X.admits.platform]
  obtain ⟨vm', X', st⟩ := X.thenCaughtThrough q (g := F0 m pc ls rest) rfl (Steps.refl _) (by rw [hT]; exact h1) (by rw [h2]; rfl) (by obtain ⟨k9, h9, -⟩ := Vm.findClass_spec h3; exact ⟨k9, h9⟩) (pre.map tw_row) (tw_row x) (suf.map tw_row) (by rw [hnx, hsplit, tw_tbl, List.map_append, List.map_cons])
    (fun z hz => by
      obtain ⟨y, hy, rfl⟩ := List.mem_map.mp hz
      rcases hpass y hy with h | ⟨g0, nm, g1, g2⟩
      · exact Or.inl h
      · obtain ⟨c6, hc6, hcl6⟩ := Cond.classLink_spec C.ho (C.hts _ g1) e.platform hpl
        obtain ⟨a8, b8, k1, k2, k3⟩ := C.hT.2.2.2.1 _ g2
        cases Option.some.inj (k1.symm.trans h3)
        cases Option.some.inj (k2.symm.trans hc6)
        exact Or.inr ⟨g0, _, hcl6, k3⟩) hx (Or.inl h0)
  obtain ⟨t, a1, b1⟩ := kk (T.setVm vm') hT X'
  exact ⟨t, st.trans a1, b1⟩
theorem tw_ofW {l : Launch} {y : MethodName} {cc : ByteArray} {nL fr lo : Nat} {ret : Option FieldType} {hh : List (Nat × Nat × Nat × Nat)} {G : Tgl} {σ : Tst} {As : List Tfv} {Qc : Array Value → State → Outcome → State → Prop} {X : String → Nat → Tst → Prop} (hl : l.stackTraces = false) (hy : plainName y.cls = true) (hln : As.length ≤ nL)
    (body : ∀ p e R s m args below meth c, R.frames = fr → R.locals = lo → tw_C p l R s m args meth c G cc nL y.cls → meth.sig.returnType = ret → meth.name = y.name → c.exceptionTable.toList = tableOf hh → tw_R G σ s.heap → va_S (tw_A G) s.heap s.heap [] → ∀ ls : Array Slot, lv_has ls nL (tw_lv 0 As) → tw_W p l e R s m args below meth c σ s.heap [] (tw_E below G Qc X args s R) (F0 m 0 ls [])) : tw_M l y (wsW_ y cc nL ret hh) fr lo G σ As Qc X := by
  refine vx_ofWH (cc := cc) (maxL := nL) (ret := ret) (hh := hh) hy rfl ?_
  intro p e s m args below meth c s₁ B hml hv
  obtain ⟨rfl, hR, hT⟩ := hv
  have hts := atoms_spec (ws := wsW_ y cc nL ret hh) B.pre
  have hnx := vx_table (x := y) B (hts _ List.mem_cons_self)
  have hts : ∀ w ∈ lw_all, w.before _ s = true := fun w h => hts w (List.mem_cons_of_mem _ h)
  have hown : s.vm.findClass y.cls = some m.cls := findClass_of_methodNamed B.named
  have hC : tw_C p l (tw_rm σ fr lo) s m (As.map tw_v).toArray meth c G cc nL y.cls := ⟨B.exec, B.bytes, hml, hown, hts, B.notSynchronized, hT, hR.2.2.1, hR.2.2.2.1, hl⟩
  have h := body p e (tw_rm σ fr lo) s m _ below meth c rfl rfl hC B.returns (name_of_methodNamed B.named B.method).1 hnx hR va_S.rf
  have hlv := lv_entry (As.map tw_v) (n := nL) (by rw [tw_sl_len]; exact hln)
  rw [tw_lv_eq] at hlv
  have h2 := h _ hlv
  rw [lg_entry_eq]
  simp only [tw_W, Nat.sub_self] at h2
  exact h2
theorem tk_thH (C : tw_C p l R s m args meth c G cc nL own) (hR : tw_R G σ H) (hS : va_S (tw_A G) s.heap H locs) {X : String → Nat → Tst → Prop} (hw : w_th σ v X) (hdg : decode cc pc = .ok (.athrow, 1))
    (kx : ∀ (E : String) (q : Nat) (σ : Tst) (H : Heap) (locs : List Loc), X E q σ → tw_R G σ H → va_S (tw_A G) s.heap H locs → tw_is s H E q → tw_VW p l e R s m args below meth c σ H locs Q (F0 m pc ls rest) q) : tw_W p l e R s m args below meth c σ H locs Q (F0 m pc ls (va_rf v :: rest)) := by
  obtain ⟨a, ci, fs, Cn, Tn, N, rfl, ha, hc, hns, hX⟩ := hw
  exact tw_athrow C hR ha hc hns hdg (fun hi => kx Cn a σ H locs hX hR hS hi)
end TQ
