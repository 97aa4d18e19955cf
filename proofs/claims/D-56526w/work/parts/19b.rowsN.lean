-- getCause() and initCause(..) of a Conflict
section SZ
variable {p : Program} {l : Launch} {e : Env} {R : Room} {s : State} {m : MethodId} {args : Array Value} {below : List Frame} {meth : Method} {c : Code} {H : Heap} {locs : List Loc} {cells slots : Nat} {Q : State → Prop} {G : Tgl} {cc : ByteArray} {nL : Nat} {own : String} {pc : Nat} {ls : Array Slot} {rest : List Value} {σ : Tst} {v : Option Nat} {i : Int32}
abbrev sy_xg : MethodName := ⟨"TreeDiffer$Conflict", "getCause", "()Ljava/lang/Throwable;"⟩
abbrev sy_xi : MethodName := ⟨"TreeDiffer$Conflict", "initCause", "(Ljava/lang/Throwable;)Ljava/lang/Throwable;"⟩
theorem tk_gca (C : tw_C p l R s m args meth c G cc nL "TreeDiffer$Conflict") (hR : tw_R G σ H) (hS : va_S (tw_A G) s.heap H locs) {K : Option Nat → Prop} (hw : w_gca σ v K) (hsz : ls.size = nL) (hf : 1 ≤ R.frames) (hlo : R.locals = 40 * R.frames) (hW : (rest.map fun v => v.category).sum ≤ 8) (hdg : decode cc pc = .ok (.invokevirtual 13, 3))
    (kk : ∀ x : Option Nat, K x → tw_W p l e R s m args below meth c σ H locs Q (F0 m (pc + 3) ls (va_rf x :: rest))) : tw_W p l e R s m args below meth c σ H locs Q (F0 m pc ls (va_rf v :: rest)) := by
  obtain ⟨a, cz, fs, rfl, ha, hw⟩ := hw
  obtain ⟨Cn, Tn, N, ty0, hc, hin, hty, hnm, h6, t0, t1, t2, t4, hs0, hsF, hns⟩ := tw_xk_of cX19 (by decide +kernel)
  have hba : G.2.2.1 ≤ a := by
    rcases hR.2.1 a _ ha with h | h
    · exact h
    · exact absurd h hns
  have hCn : Cn = "TreeDiffer$Conflict" := by
    have h : tw_cl[cX19]? = some ("TreeDiffer$Conflict", TX19, 7) := rfl
    cases hc.symm.trans h
    rfl
  obtain ⟨hat, cm, hcm1, hcm2⟩ := hR.st ha hba
  obtain ⟨r, h1, cell, q1, q2, q3, q4⟩ := hat
  have hr : r = (Cn, Tn, N) := Option.some.inj (h1.symm.trans hc)
  subst hr
  cases hcm1.symm.trans q1
  obtain ⟨hSl, hfc, kC, hkC, hkind⟩ := C.hK.1 cX19 _ hc
  have hSl : ∀ k, k < N → SlotIs s (Tn k).1 (Tn k).2.1 (Tn k).2.2.1 (G.1.2 cX19 k) := hSl
  obtain ⟨_, _, _, f0, i0, e0⟩ := hSl 0 (by omega)
  simp only [t0] at i0
  have hcs := q4 0 (show 0 < N by omega)
  intro T hT X
  subst hT
  have howns : e.platform.frameOwnsMonitors = true := by rw [X.admits.platform]
  have hpl : e.platform.magicAccessors = ({} : Platform).magicAccessors := by rw [X.admits.platform]
  obtain ⟨mk, methM, hnamed, hmethM, hstM, habM⟩ := Cond.instanceMethod_spec (C.hts _ q2000)
  obtain ⟨m2, cd, hm2, hcd, hbytes, hmaxl, hretS, hlocksS, -, hsig⟩ := Cond.codeSync_spec hnamed (C.hts _ q2001)
  cases hmethM.symm.trans hm2
  obtain ⟨cn, ck, r1, hcn, hck, hni, hfo, hn1⟩ := Cond.sameMethod_found (C.hts _ q1997)
  cases hnamed.symm.trans hn1
  obtain ⟨c2, r2, m3, p1, p2, p3, p4, kP, hkP, hkPi⟩ := Cond.selects_spec (C.hts _ q1999)
  have hfc' : s.vm.findClass "TreeDiffer$Conflict" = some (G.1.1 cX19) := by rw [← hCn]; exact hfc
  cases Option.some.inj (p1.symm.trans hfc')
  cases Option.some.inj (p2.symm.trans hfo)
  cases Option.some.inj (p3.symm.trans hnamed)
  have hpar : methM.sig.parameters.length = 0 := by
    have h : (parseMethodDescriptor "()Ljava/lang/Throwable;").map (fun d => d.parameters.length) = some 0 := by decide +kernel
    have hsig : parseMethodDescriptor "()Ljava/lang/Throwable;" = some methM.sig := hsig
    rw [hsig] at h
    exact Option.some.inj h
  obtain ⟨vm₁, X₁, hstep₁⟩ := X.invokevirtualUp C.hx (owner := "java/lang/Throwable") C.ho (C.hts _ q1996) (C.hts _ q1997) ⟨by decide, by decide⟩ hnamed hmethM hstM (a := a) (cell := cm) q1 (fun z h => by rw [q3] at h; cases h) (by rw [q2, Launch.admits_selectMethod X.admits]; exact p4) hmethM habM hkP hkPi (g := F0 m pc ls (.ref a :: rest)) rfl (argsL := []) (rest := rest) hpar.symm rfl (by rw [C.hb]; exact hdg)
  have hcT := findClass_of_methodNamed hnamed
  obtain ⟨kT, hkT, hkTn⟩ := className_of_methodNamed hnamed
  obtain ⟨ci7, i7, f7, hk7, hg7, ha7, hs7, hfin7, hn7, ht7, hff7⟩ := Cond.ownField (t := .object "java/lang/Throwable") hcT hkT (by decide +kernel) (C.hts _ q415) (C.hts _ q363) e.platform hpl
  cases i0.symm.trans hff7
  obtain ⟨vm', hW', st⟩ := sy_gc (s := s) (V := T.setVm vm₁) (g := F0 m pc ls rest) (a := a) (cell := cm) (cz := cz) X₁.here C.hx howns X₁.warmed [] hmethM hcd hbytes hmaxl hlocksS hstM hretS (fun k hk => by cases hkT.symm.trans hk; rw [hkTn]; decide)
    hk7 hg7 hkT ha7 hs7 q1 (fun h => by rw [q3] at h; cases h) (by rw [hcm2]) (by rw [hcm2]) (by rw [e0]; exact hcs) (by rw [C.hb]; exact hdg) (X₁.notFull (g := F0 m pc ls rest) (by rw [C.hml]; exact hsz) hf (by show 2 * 0 + (rest.map fun v => v.category).sum + _ ≤ _; omega))
  obtain ⟨t, b1, b2⟩ := kk _ hw ((T.setVm vm₁).setVm vm') rfl (X₁.noted hW')
  refine ⟨t, hstep₁ _ (fun acts => ?_), b2⟩
  rw [doInvoke_state]
  exact st _ b1
theorem tk_ica (C : tw_C p l R s m args meth c G cc nL "TreeDiffer$Patch") (hR : tw_R G σ H) (hS : va_S (tw_A G) s.heap H locs) {w : Option Nat} {K : Option Nat → Tst → Prop} (hw : w_ica σ v w K) (hsz : ls.size = nL) (hf : 1 ≤ R.frames) (hlo : R.locals = 40 * R.frames) (hW : (rest.map fun v => v.category).sum ≤ 8) (hdg : decode cc pc = .ok (.invokevirtual 94, 3))
    (kk : ∀ (x : Option Nat) (σ : Tst) (H : Heap) (locs : List Loc), K x σ → tw_R G σ H → va_S (tw_A G) s.heap H locs → tw_W p l e R s m args below meth c σ H locs Q (F0 m (pc + 3) ls (va_rf x :: rest))) : tw_W p l e R s m args below meth c σ H locs Q (F0 m pc ls (va_rf w :: va_rf v :: rest)) := by
  obtain ⟨a, fs, rfl, ha, hwa, hw⟩ := hw
  obtain ⟨Cn, Tn, N, ty0, hc, hin, hty, hnm, h6, t0, t1, t2, t4, hs0, hsF, hns⟩ := tw_xk_of cX19 (by decide +kernel)
  have hap := va_apart (own := "TreeDiffer$Patch") C.hts hin ty0 hty hnm C.hK hc
  have hba : G.2.2.1 ≤ a := by
    rcases hR.2.1 a _ ha with h | h
    · exact h
    · exact absurd h hns
  have hCn : Cn = "TreeDiffer$Conflict" := by
    have h : tw_cl[cX19]? = some ("TreeDiffer$Conflict", TX19, 7) := rfl
    cases hc.symm.trans h
    rfl
  obtain ⟨hat, cm, hcm1, hcm2⟩ := hR.st ha hba
  obtain ⟨r, h1, cell, q1, q2, q3, q4⟩ := hat
  have hr : r = (Cn, Tn, N) := Option.some.inj (h1.symm.trans hc)
  subst hr
  cases hcm1.symm.trans q1
  obtain ⟨hSl, hfc, kC, hkC, hkind⟩ := C.hK.1 cX19 _ hc
  have hSl : ∀ k, k < N → SlotIs s (Tn k).1 (Tn k).2.1 (Tn k).2.2.1 (G.1.2 cX19 k) := hSl
  have q4 : ∀ k, k < N → cm.slots[G.1.2 cX19 k]? = some (vp_V (.ref a :: fs.map tw_v) k) := q4
  obtain ⟨_, _, _, f0, i0, e0⟩ := hSl 0 (by omega)
  have l0 := u_facts hfc hkC (u_lays C.hts hin (k := 0) (by omega)) i0
  simp only [t0] at i0 l0
  intro T hT X
  subst hT
  have howns : e.platform.frameOwnsMonitors = true := by rw [X.admits.platform]
  have hpl : e.platform.magicAccessors = ({} : Platform).magicAccessors := by rw [X.admits.platform]
  obtain ⟨mk, methM, hnamed, hmethM, hstM, habM⟩ := Cond.instanceMethod_spec (C.hts _ q1233)
  obtain ⟨m2, cd, hm2, hcd, hbytes, hmaxl, hretS, hlocksS, -, hsig⟩ := Cond.codeSync_spec hnamed (C.hts _ q1234)
  cases hmethM.symm.trans hm2
  obtain ⟨cn, ck, r1, hcn, hck, hni, hfo, hn1⟩ := Cond.sameMethod_found (C.hts _ q1230)
  cases hnamed.symm.trans hn1
  obtain ⟨c2, r2, m3, p1, p2, p3, p4, kP, hkP, hkPi⟩ := Cond.selects_spec (C.hts _ q1232)
  have hfc' : s.vm.findClass "TreeDiffer$Conflict" = some (G.1.1 cX19) := by rw [← hCn]; exact hfc
  cases Option.some.inj (p1.symm.trans hfc')
  cases Option.some.inj (p2.symm.trans hfo)
  cases Option.some.inj (p3.symm.trans hnamed)
  have hpar : methM.sig.parameters.length = 1 := by
    have h : (parseMethodDescriptor "(Ljava/lang/Throwable;)Ljava/lang/Throwable;").map (fun d => d.parameters.length) = some 1 := by decide +kernel
    have hsig : parseMethodDescriptor "(Ljava/lang/Throwable;)Ljava/lang/Throwable;" = some methM.sig := hsig
    rw [hsig] at h
    exact Option.some.inj h
  obtain ⟨vm₁, X₁, hstep₁⟩ := X.invokevirtualUp C.hx (owner := "java/lang/Throwable") C.ho (C.hts _ q1229) (C.hts _ q1230) ⟨by decide, by decide⟩ hnamed hmethM hstM (a := a) (cell := cm) q1 (fun z h => by rw [q3] at h; cases h) (by rw [q2, Launch.admits_selectMethod X.admits]; exact p4) hmethM habM hkP hkPi (g := F0 m pc ls (va_rf w :: .ref a :: rest)) rfl (argsL := [va_rf w]) (rest := rest) hpar.symm rfl (by rw [C.hb]; exact hdg)
  have hcT := findClass_of_methodNamed hnamed
  obtain ⟨kT, hkT, hkTn⟩ := className_of_methodNamed hnamed
  obtain ⟨ci7, i7, f7, hk7, hg7, ha7, hs7, hfin7, hn7, ht7, hff7⟩ := Cond.ownField (t := .object "java/lang/Throwable") hcT hkT (by decide +kernel) (C.hts _ q415) (C.hts _ q363) e.platform hpl
  cases i0.symm.trans hff7
  have hfit : s.fitsSlot cm.cls cm.vm f0.slot (va_rf w) = true := by
    rw [q2, q3]
    have h2 : fits (.object "java/lang/Throwable") (va_rf w) = true := by cases w <;> rfl
    simp [State.fitsSlot, State.slotType?, hkC, hkind, l0.2.2, ht7, h2]
  have hcs : cm.slots[f0.slot]? = some (.ref a) := by rw [e0]; exact q4 0 (by omega)
  obtain ⟨vm', hW', st⟩ := sy_ic (s := s) (V := T.setVm vm₁) (g := F0 m pc ls rest) (a := a) (cell := cm) (w := w) X₁.here C.hx howns X₁.warmed [] hmethM hcd hbytes hmaxl hlocksS hstM hretS (fun k hk => by cases hkT.symm.trans hk; rw [hkTn]; decide)
    hk7 hg7 hkT ha7 hs7 hfin7 q1 (fun h => by rw [q3] at h; cases h) (by rw [hcm2]) (by rw [hcm2]) hcs hwa (narrow_isRef _ (tw_rfr w)) hfit (by rw [C.hb]; exact hdg) (X₁.notFull (g := F0 m pc ls rest) (by rw [C.hml]; exact hsz) hf (by show 2 * 0 + (rest.map fun v => v.category).sum + _ ≤ _; omega))
  have X₂ := (X₁.noted hW').stored (a := a) (cell := cm) q1 f0.slot (va_rf w)
  have s4 := t_set q4 hap (k := 0) (by omega) (va_rf w)
  rw [tw_updl (by simp), ← e0] at s4
  generalize hce : cm.setSlot f0.slot (va_rf w) = ce at X₂ st s4
  have hcls : ce.cls = cm.cls := by rw [← hce]; rfl
  have hcvm : ce.vm = cm.vm := by rw [← hce]; rfl
  have hcmo : ce.monitor = cm.monitor := by rw [← hce]; rfl
  have hcsz : ce.slots.size = cm.slots.size := by rw [← hce]; simp [Cell.setSlot]
  have hl : a < T.heap.size := (Array.getElem?_eq_some_iff.mp q1).1
  have oq : ∀ q : Nat, q ≠ a → (T.heap.setIfInBounds a ce)[q]? = T.heap[q]? := fun q hq => by simp [Array.getElem?_setIfInBounds, Ne.symm hq]
  have hat2 : (T.heap.setIfInBounds a ce)[a]? = some ce := by simp [Array.getElem?_setIfInBounds, hl]
  have hR1 := hR.set (e := .inr (cX19, .inr w :: fs)) hba q1 hat2 hcsz (fun h => by rw [hcmo]; exact h) (by simp) oq
    ⟨_, hc, ce, hat2, by rw [hcls]; exact q2, by rw [hcvm]; exact q3, s4⟩ ⟨cm, q1, hcm2⟩
  obtain ⟨t, b1, b2⟩ := tw_re C hR1 (kk _ _ _ _ hw hR1 ⟨by simp; exact hS.1, fun q g1 g2 => by
      rw [oq q (fun e => g2 (by rw [e]; exact hba))]
      exact hS.2.1 q g1 g2, fun q hq => by
      rcases List.mem_append.mp hq with h | h
      · exact hS.2.2 q h
      · simp only [List.mem_cons, List.not_mem_nil, or_false] at h
        rw [h]
        exact hba⟩) (((T.setVm vm₁).setVm vm').setCell a ce) rfl X₂
  refine ⟨t, hstep₁ _ (fun acts => ?_), b2⟩
  rw [doInvoke_state]
  exact st _ b1
end SZ
