-- exceptions: Throwable's constructor
section TP
variable {p : Program} {l : Launch} {e : Env} {R : Room} {s : State} {m : MethodId} {args : Array Value} {below : List Frame} {meth : Method} {c : Code} {H : Heap} {locs : List Loc} {cells slots : Nat} {Q : State → Prop} {G : Tgl} {cc : ByteArray} {nL : Nat} {own : String} {pc : Nat} {ls : Array Slot} {rest : List Value} {σ : Tst} {v : Option Nat} {i : Int32}
def tw_thr : List (String × String × String × Bool) := [("java/lang/Throwable", "cause", "Ljava/lang/Throwable;", false), ("java/lang/Throwable", "stackTrace", "[Ljava/lang/StackTraceElement;", false), ("java/lang/Throwable", "suppressedExceptions", "Ljava/util/List;", false), ("java/lang/Throwable", "detailMessage", "Ljava/lang/String;", false), ("java/lang/Throwable", "backtrace", "Ljava/lang/Object;", false), ("java/lang/Throwable", "depth", "I", false)]
def tw_xk (ci : Nat) : Prop := ∃ (Cn : String) (Tn : u_T) (N : Nat) (ty0 : Nat → FieldType), tw_cl[ci]? = some (Cn, Tn, N) ∧ (∀ w ∈ u_ws Cn Tn N, w ∈ lw_all) ∧ (∀ k, k < N → parseFieldDescriptor (Tn k).2.2.1 = some (ty0 k)) ∧ (∀ a, a < N → ∀ b, b < N → a ≠ b → (Tn a).2.1 ≠ (Tn b).2.1) ∧ 6 ≤ N ∧ Tn 0 = ("java/lang/Throwable", "cause", "Ljava/lang/Throwable;", false) ∧ Tn 1 = ("java/lang/Throwable", "stackTrace", "[Ljava/lang/StackTraceElement;", false) ∧ Tn 2 = ("java/lang/Throwable", "suppressedExceptions", "Ljava/util/List;", false) ∧ Tn 4 = ("java/lang/Throwable", "backtrace", "Ljava/lang/Object;", false) ∧ Cond.selects Cn Bundle.tFill0 Bundle.tFill0 ∈ lw_all ∧ Cond.selects Cn Bundle.tFill Bundle.tFill ∈ lw_all ∧ ci ≠ cJ2
def tw_xc : List Nat := [cJ10, cJ16, cJ19, cJ23, cJ25, cJ26, cX15, cX16, cX17, cX18, cX19, cX7]
theorem tw_xk_of : ∀ ci ∈ tw_xc, tw_xk ci := by
  intro ci h
  simp only [tw_xc, List.mem_cons, List.not_mem_nil, or_false] at h
  rcases h with rfl | rfl | rfl | rfl | rfl | rfl | rfl | rfl | rfl | rfl | rfl | rfl
  · exact ⟨_, _, _, tyJ10, rfl, in_J10, tyJ10_ok, nmJ10, by decide, rfl, rfl, rfl, rfl, q491, q392, by decide⟩
  · exact ⟨_, _, _, tyJ16, rfl, in_J16, tyJ16_ok, nmJ16, by decide, rfl, rfl, rfl, rfl, q688, q393, by decide⟩
  · exact ⟨_, _, _, tyJ19, rfl, in_J19, tyJ19_ok, nmJ19, by decide, rfl, rfl, rfl, rfl, q360, q361, by decide⟩
  · exact ⟨_, _, _, tyJ23, rfl, in_J23, tyJ23_ok, nmJ23, by decide, rfl, rfl, rfl, rfl, q880, q391, by decide⟩
  · exact ⟨_, _, _, tyJ25, rfl, in_J25, tyJ25_ok, nmJ25, by decide, rfl, rfl, rfl, rfl, q1668, q395, by decide⟩
  · exact ⟨_, _, _, tyJ26, rfl, in_J26, tyJ26_ok, nmJ26, by decide, rfl, rfl, rfl, rfl, q1878, q396, by decide⟩
  · exact ⟨_, _, _, tyX15, rfl, in_X15, tyX15_ok, nmX15, by decide, rfl, rfl, rfl, rfl, q1117, q384, by decide⟩
  · exact ⟨_, _, _, tyX16, rfl, in_X16, tyX16_ok, nmX16, by decide, rfl, rfl, rfl, rfl, q1155, q388, by decide⟩
  · exact ⟨_, _, _, tyX17, rfl, in_X17, tyX17_ok, nmX17, by decide, rfl, rfl, rfl, rfl, q1177, q385, by decide⟩
  · exact ⟨_, _, _, tyX18, rfl, in_X18, tyX18_ok, nmX18, by decide, rfl, rfl, rfl, rfl, q1192, q387, by decide⟩
  · exact ⟨_, _, _, tyX19, rfl, in_X19, tyX19_ok, nmX19, by decide, rfl, rfl, rfl, rfl, q1213, q386, by decide⟩
  · exact ⟨_, _, _, tyX7, rfl, in_X7, tyX7_ok, nmX7, by decide, rfl, rfl, rfl, rfl, q1472, q389, by decide⟩
theorem tw_tat (C : tw_C p l R s m args meth c G cc nL own) : ∀ w ∈ Bundle.throwableAtoms, w.before args s = true := by
  intro w h
  simp only [Bundle.throwableAtoms, List.mem_cons, List.not_mem_nil, or_false] at h
  rcases h with rfl | rfl | rfl | rfl | rfl | rfl | rfl | rfl | rfl | rfl | rfl | rfl | rfl | rfl | rfl | rfl | rfl | rfl | rfl | rfl | rfl | rfl | rfl | rfl
  · exact C.hts _ q76
  · exact C.hts _ q373
  · exact C.hts _ q382
  · exact C.hts _ q397
  · exact C.hts _ q400
  · exact C.hts _ q402
  · exact C.hts _ q374
  · exact C.hts _ q375
  · exact C.hts _ q119
  · exact C.hts _ q120
  · exact C.hts _ q376
  · exact C.hts _ q381
  · exact C.hts _ q398
  · exact C.hts _ q415
  · exact C.hts _ q363
  · exact C.hts _ q416
  · exact C.hts _ q365
  · exact C.hts _ q417
  · exact C.hts _ q367
  · exact C.hts _ q377
  · exact C.hT.2.2.2.2.2.2.2.2.2.2.2.2.1.word
  · exact C.hts _ q379
  · exact C.hT.2.2.2.2.2.2.2.2.2.2.2.2.2.word
  · exact C.hts _ q369
theorem tw_rfr (r : Option Nat) : (va_rf r).isRef = true := by cases r <;> rfl
/-- Throwable.<init>() of an exception just made -/
def w_ti (σ : Tst) (v : Option Nat) (K : Tst → Prop) : Prop := ∃ (a ci : Nat) (fs : List Tfv), v = some a ∧ ci ∈ tw_xc ∧ σ.1 a = some (.inr (ci, .inr none :: .inr none :: .inr none :: .inr none :: .inr none :: .inl 0 :: fs)) ∧ K (st_up σ a (.inr (ci, .inr (some a) :: .inr (σ.2.2.2 5) :: .inr (σ.2.2.2 6) :: .inr none :: .inr none :: .inl 0 :: fs)))
theorem tw_updl {fs : List Value} {k : Nat} (hk : k < fs.length) (v : Value) : updV (vp_V fs) k v = vp_V (fs.set k v) := funext fun j => vp_updV_set hk v j
set_option maxHeartbeats 2000000 in
theorem tk_ti (C : tw_C p l R s m args meth c G cc nL own) (hR : tw_R G σ H) (hS : va_S (tw_A G) s.heap H locs) {K : Tst → Prop} (hw : w_ti σ v K) {index : Nat} (g1 : Cond.methodLink own index Bundle.tInit0 ∈ lw_all) (hsz : ls.size = nL) (hf : 3 ≤ R.frames) (hlo : R.locals = 40 * R.frames) (hW : (rest.map fun v => v.category).sum ≤ 8) (hdg : decode cc pc = .ok (.invokespecial index, 3))
    (kk : ∀ (σ : Tst) (H : Heap) (locs : List Loc), K σ → tw_R G σ H → va_S (tw_A G) s.heap H locs → tw_W p l e R s m args below meth c σ H locs Q (F0 m (pc + 3) ls rest)) : tw_W p l e R s m args below meth c σ H locs Q (F0 m pc ls (va_rf v :: rest)) := by
  obtain ⟨a, ci, fs, rfl, hx, ha, hw⟩ := hw
  obtain ⟨Cn, Tn, N, ty0, hc, hin, hty, hnm, h6, t0, t1, t2, t4, hs0, hsF, hns⟩ := tw_xk_of ci hx
  have hap := va_apart (own := own) C.hts hin ty0 hty hnm C.hK hc
  have hba : G.2.2.1 ≤ a := by
    rcases hR.2.1 a _ ha with h | h
    · exact h
    · exact absurd h hns
  obtain ⟨hat, cm, hcm1, hcm2⟩ := hR.st ha hba
  obtain ⟨r, h1, cell, q1, q2, q3, q4⟩ := hat
  have hr : r = (Cn, Tn, N) := Option.some.inj (h1.symm.trans hc)
  subst hr
  cases hcm1.symm.trans q1
  obtain ⟨hSl, hfc, kC, hkC, hkind⟩ := C.hK.1 ci _ hc
  have q4 : ∀ k, k < N → cm.slots[G.1.2 ci k]? = some (vp_V (.null :: .null :: .null :: .null :: .null :: .int 0 :: fs.map tw_v) k) := q4
  have eU : (tw_sl G.2.2.2.2.2)[8]? = some ("java/lang/Throwable", "UNASSIGNED_STACK", "[Ljava/lang/StackTraceElement;", .inr (G.2.2.2.2.2 5)) := rfl
  have eN : (tw_sl G.2.2.2.2.2)[9]? = some ("java/lang/Throwable", "SUPPRESSED_SENTINEL", "Ljava/util/List;", .inr (G.2.2.2.2.2 6)) := rfl
  obtain ⟨_, _, _, _, aS, cellS, z1, z2, z3, z4, z5, z6, z7, z8⟩ := va_Z.kept (C.hT.2.2.2.2.1 _ (List.mem_of_getElem? eU)) hS.2.1
  obtain ⟨_, _, _, _, aN, cellN, y1, y2, y3, y4, y5, y6, y7, y8⟩ := va_Z.kept (C.hT.2.2.2.2.1 _ (List.mem_of_getElem? eN)) hS.2.1
  intro T hT X
  subst hT
  have htr : e.platform.stackTraces = false := (show e.platform.stackTraces = l.stackTraces by rw [X.admits.platform]).trans C.hst
  have howns : e.platform.frameOwnsMonitors = true := by rw [X.admits.platform]
  have hfin : e.platform.finalization = false := by rw [X.admits.platform]
  have hpl : e.platform.magicAccessors = ({} : Platform).magicAccessors := by rw [X.admits.platform]
  obtain ⟨TT, Z, L, LZ, Y⟩ := ThrowableC.of_atoms (args := args) howns hfin hpl (tw_tat C)
  have hSl : ∀ k, k < N → SlotIs s (Tn k).1 (Tn k).2.1 (Tn k).2.2.1 (G.1.2 ci k) := hSl
  obtain ⟨_, _, _, f0, i0, e0⟩ := hSl 0 (by omega)
  obtain ⟨_, _, _, f1, i1, e1⟩ := hSl 1 (by omega)
  obtain ⟨_, _, _, f2, i2, e2⟩ := hSl 2 (by omega)
  obtain ⟨_, _, fi4, f4, i4, e4⟩ := hSl 4 (by omega)
  have l0 := u_facts hfc hkC (u_lays C.hts hin (k := 0) (by omega)) i0
  have l1 := u_facts hfc hkC (u_lays C.hts hin (k := 1) (by omega)) i1
  have l2 := u_facts hfc hkC (u_lays C.hts hin (k := 2) (by omega)) i2
  simp only [t0, t1, t2, t4] at i0 i1 i2 i4 l0 l1 l2
  cases i0.symm.trans Y.cause
  cases i1.symm.trans Y.stack
  cases i2.symm.trans Y.supp
  cases z1.symm.trans Y.unassigned
  cases y1.symm.trans Y.sentinel
  cases z4.symm.trans L.statics
  cases y4.symm.trans L.statics
  cases z5.symm.trans y5
  obtain ⟨ci198, i198, fB, hk198, hg198, ha198, hsB, -, hnB, htB, hffB⟩ := Cond.ownField (t := .object "java/lang/Object") Y.found L.cls (by decide +kernel) (C.hts _ q413) (C.hts _ q371) e.platform hpl
  cases i4.symm.trans hffB
  have hneS : TT.aS ≠ a := by
    intro h
    rw [h] at z5
    cases z5.symm.trans q1
    rw [q3] at z6
    cases z6
  obtain ⟨tm, methC, cdC, kC', vm₁, hnC, -, -, -, -, -, -, -, hW₁, st1⟩ := Steps.initCold (tb := p.tables) (e := e) (below := below) (s := s) (U := T) X.here C.hx X.warmed hpl C.ho (t := Bundle.tInit0) rfl rfl ⟨by decide, by decide⟩
    (C.hts _ g1) (C.hts _ q374) (C.hts _ q375) (f := F0 m pc ls (.ref a :: rest)) rfl (a := a) (rest := rest) rfl (by rw [C.hb]; exact hdg)
  cases Option.some.inj (hnC.symm.trans Y.init0)
  have X₁ := X.noted hW₁
  have hu : ∀ r : Option Nat, fits (.array (.object "java/lang/StackTraceElement")) (va_rf r) = true := fun r => by cases r <;> rfl
  have hu2 : ∀ (n : String) (r : Option Nat), fits (.object n) (va_rf r) = true := fun n r => by cases r <;> rfl
  have hk : ∀ (f : Field) (w : Value), kC.instanceTypes[f.slot]? = some f.type → (∃ w0, cm.slots[f.slot]? = some w0) → fits f.type w = true → Takes s cm f w := by
    intro f w g1 g2 g3
    obtain ⟨w0, g2⟩ := g2
    refine ⟨(Array.getElem?_eq_some_iff.mp g2).1, ?_⟩
    rw [q2, q3]
    simp [State.fitsSlot, State.slotType?, hkC, hkind, g1, g3]
  obtain ⟨vm₂, X₂, st2⟩ := X₁.ctorPlainOffV C.hx (g := F0 m pc ls rest) rfl (by rw [C.hml]; exact hsz) TT L Z LZ [] (fun P hP => nomatch hP) trivial (u0 := ⟨va_rf (G.2.2.2.2.2 5), tw_rfr _⟩) (sen := ⟨va_rf (G.2.2.2.2.2 6), tw_rfr _⟩) (self := a) (cell := cm) (cellS := cellS)
    q1 (fun k h => by rw [q3] at h; cases h) (fun h => by rw [q3] at h; cases h) (by rw [hcm2]) (by rw [hcm2])
    (by
      rw [q2]
      obtain ⟨c2, r2, m2, p1, p2, p3, p4, -⟩ := Cond.selects_spec (C.hts _ hs0)
      cases Option.some.inj (p1.symm.trans hfc)
      cases Option.some.inj (p2.symm.trans (State.methodFound?_of_named Y.fill0 (by decide)))
      cases Option.some.inj (p3.symm.trans Y.fill0)
      rw [Launch.admits_selectMethod X.admits]; exact p4)
    (by
      rw [q2]
      obtain ⟨c2, r2, m2, p1, p2, p3, p4, -⟩ := Cond.selects_spec (C.hts _ hsF)
      cases Option.some.inj (p1.symm.trans hfc)
      cases Option.some.inj (p2.symm.trans (State.methodFound?_of_named Y.fill (by decide)))
      cases Option.some.inj (p3.symm.trans Y.fill)
      rw [Launch.admits_selectMethod X.admits]; exact p4)
    z5 hneS (fun h => by rw [h] at z6; cases z6) z7 y7
    (hk _ _ l0.2.2 ⟨_, by rw [e0]; exact q4 0 (by omega)⟩ (by rw [Y.causeType]; rfl)) (hk _ _ l1.2.2 ⟨_, by rw [e1]; exact q4 1 (by omega)⟩ (by rw [Y.stackType]; exact hu _)) (hk _ _ l2.2.2 ⟨_, by rw [e2]; exact q4 2 (by omega)⟩ (by rw [Y.suppType]; exact hu2 _ _)) Y.objLocals
    ⟨{ ci198 := ci198, i198 := fi4, fBack := f4 }, ⟨hk198, hg198, ha198, hsB⟩, by
      show (((cm.setSlot _ _).setSlot _ _).setSlot _ _).slots[f4.slot]? = _
      rw [e0, e1, e2, e4]
      have s3 := t_set (t_set (t_set q4 hap (k := 0) (by omega) (.ref a)) hap (k := 1) (by omega) (va_rf (G.2.2.2.2.2 5))) hap (k := 2) (by omega) (va_rf (G.2.2.2.2.2 6)) 4 (by omega)
      rw [s3]
      rfl, fun _ _ => rfl⟩ htr [] (by rw [C.hb]; exact hdg) (by show 0 + 2 < _; omega) (by show 2 * 0 + (rest.map fun v => v.category).sum + (13 * 0 + 41) ≤ _; omega)
  have hpc : ((preparedCellV TT.toThrowableT cm a ⟨va_rf (G.2.2.2.2.2 5), tw_rfr _⟩ ⟨va_rf (G.2.2.2.2.2 6), tw_rfr _⟩).setSlot TT.fStack.slot (va_rf (G.2.2.2.2.2 5))) = (((cm.setSlot (G.1.2 ci 0) (.ref a)).setSlot (G.1.2 ci 1) (va_rf (G.2.2.2.2.2 5))).setSlot (G.1.2 ci 2) (va_rf (G.2.2.2.2.2 6))).setSlot (G.1.2 ci 1) (va_rf (G.2.2.2.2.2 5)) := by
    rw [← e0, ← e1, ← e2]
  have s4 := t_set (t_set (t_set (t_set q4 hap (k := 0) (by omega) (.ref a)) hap (k := 1) (by omega) (va_rf (G.2.2.2.2.2 5))) hap (k := 2) (by omega) (va_rf (G.2.2.2.2.2 6))) hap (k := 1) (by omega) (va_rf (G.2.2.2.2.2 5))
  rw [← hpc] at s4
  rw [tw_updl (by simp), tw_updl (by simp), tw_updl (by simp), tw_updl (by simp)] at s4
  have hst := hR.2.2.2.2
  rw [hst] at hw
  generalize hce : (preparedCellV TT.toThrowableT cm a ⟨va_rf (G.2.2.2.2.2 5), tw_rfr _⟩ ⟨va_rf (G.2.2.2.2.2 6), tw_rfr _⟩).setSlot TT.fStack.slot (va_rf (G.2.2.2.2.2 5)) = ce at X₂ st2 s4
  have hcls : ce.cls = cm.cls := by rw [← hce]; rfl
  have hcvm : ce.vm = cm.vm := by rw [← hce]; rfl
  have hcmo : ce.monitor = cm.monitor := by rw [← hce]; rfl
  have hcsz : ce.slots.size = cm.slots.size := by rw [← hce]; simp [preparedCellV, Cell.setSlot]
  have hl : a < T.heap.size := (Array.getElem?_eq_some_iff.mp q1).1
  have hheap : (((T.setVm vm₁).setVm vm₂).setCell a ce).heap = T.heap.setIfInBounds a ce := rfl
  have oq : ∀ q : Nat, q ≠ a → (T.heap.setIfInBounds a ce)[q]? = T.heap[q]? := fun q hq => by simp [Array.getElem?_setIfInBounds, Ne.symm hq]
  have hat2 : (T.heap.setIfInBounds a ce)[a]? = some ce := by simp [Array.getElem?_setIfInBounds, hl]
  have hR1 := hR.set (e := .inr (ci, .inr (some a) :: .inr (G.2.2.2.2.2 5) :: .inr (G.2.2.2.2.2 6) :: .inr none :: .inr none :: .inl 0 :: fs)) hba q1 hat2 hcsz (fun h => by rw [hcmo]; exact h) (by simp) oq
    ⟨_, hc, ce, hat2, by rw [hcls]; exact q2, by rw [hcvm]; exact q3, s4⟩ ⟨cm, q1, hcm2⟩
  obtain ⟨t, b1, b2⟩ := tw_re C hR1 (kk _ _ _ hw hR1 ⟨by simp; exact hS.1, fun q g1 g2 => by
      rw [oq q (fun e => g2 (by rw [e]; exact hba))]
      exact hS.2.1 q g1 g2, fun q hq => by
      rcases List.mem_append.mp hq with h | h
      · exact hS.2.2 q h
      · simp only [List.mem_cons, List.not_mem_nil, or_false] at h
        rcases h with rfl | rfl | rfl | rfl <;> exact hba⟩) _ hheap X₂
  refine ⟨t, st1 _ (fun acts => ?_), b2⟩
  rw [doInvoke_state]
  exact st2 _ b1
end TP
