-- native methods and other single rows
section TM
variable {p : Program} {l : Launch} {e : Env} {R : Room} {s : State} {m : MethodId} {args : Array Value} {below : List Frame} {meth : Method} {c : Code} {H : Heap} {locs : List Loc} {cells slots : Nat} {Q : State → Prop} {G : Tgl} {cc : ByteArray} {nL : Nat} {own : String} {pc : Nat} {ls : Array Slot} {rest : List Value} {σ : Tst} {v : Option Nat} {i : Int32}
/-- a private method of the superclass of the receiver's class -/
theorem tk_runP {Qc : Array Value → State → Outcome → State → Prop} {X1 : String → Nat → Tst → Prop} {st0 : List Value} {y : MethodName} {bytes : ByteArray} {maxL fr lo index : Nat} {ret : Option FieldType} {As : List Tfv} {ci : Nat} {Cn : String} {Tn : u_T} {N : Nat} (C : tw_C p l R s m args meth c G cc nL own) (hR : tw_R G σ H) (hS : va_S (tw_A G) s.heap H locs) (hM : tw_M l y (ws_ y bytes maxL ret) fr lo G σ (.inr v :: As) Qc X1) (hv : ∃ (b : Nat) (fs : List Tfv), v = some b ∧ σ.1 b = some (.inr (ci, fs))) (hc : tw_cl[ci]? = some (Cn, Tn, N)) (q1 : Cond.methodLink own index y ∈ lw_all) (q2 : Cond.instanceMethod y ∈ lw_all) (q3 : Cond.selects Cn y y ∈ tw_sel) (q4 : Cond.initialized y.cls ∈ lw_all) (q5 : Cond.code y bytes maxL ret ∈ lw_all) (hd : tw_pd y As.length) (hr : fr + 1 ≤ R.frames ∧ 8 + (maxL + 11) + lo ≤ R.locals) (hsz : ls.size = nL) (hst : st0 = (As.map tw_v).reverse ++ va_rf v :: rest) (hW : (rest.map fun v => v.category).sum ≤ 8) (hdg : decode cc pc = .ok (.invokevirtual index, 3)) : tw_Rn p l e R s m args below meth c G σ H locs (F0 m pc ls st0) rest (Qc (va_rf v :: As.map tw_v).toArray) X1 := by
  obtain ⟨b, fs, rfl, ha⟩ := hv
  intro T hT X
  have hse : (Cond.selects Cn y y).before args s = true := va_tabs (tw_selt _ q3) rfl (C.hT.2.2.2.2.2.2.2.2.2.2.1 _ q3)
  have cw : CallW R s args own Cn index y bytes maxL ret (ws_ y bytes maxL ret) (tw_rm σ fr lo) σ.2.1 σ.2.2.1 As.length := ⟨callB_of As.length C.hts (lw_meth q5) rfl rfl rfl (C.hts _ q4) (C.hts _ q1) hd hr, C.hts _ q2, hse⟩
  exact (vx_runV (tw_fix C) hM cw ⟨tw_blind, tw_recv C hR ha hc, tw_pre C hR hS⟩ rfl (List.length_map ..) hsz hst (tw_rest hW) hdg (tw_fit C hR hS hT X)) T hT X
theorem tw_noC : ∀ q ∈ tw_cl, q.1 ≠ "java/lang/Object" := by decide +kernel
theorem tw_noO {t cl : Nat} (_ : (t, cl) ∈ tw_may) {Cn : String} {Tn : u_T} {N : Nat} (hc : tw_cl[cl]? = some (Cn, Tn, N)) : Cn ≠ "java/lang/Object" := tw_noC _ (List.mem_of_getElem? hc)
theorem tw_nn (z : Nat) (h : z < 2147483648) : (nI z).toInt = ((nI z).toNatClampNeg : Int) := by
  rw [nI_clamp h]
  exact nI_toInt h
theorem tw_nfw : nativeFrameWords "java/lang/System" "arraycopy" 5 ≤ 12 := by decide +kernel
/-- System.arraycopy over bytes -/
def w_cpb (σ : Tst) (v : Option Nat) (sp : Int32) (w : Option Nat) (dp n : Int32) (K : Tst → Prop) : Prop :=
  ∃ (a0 n0 : Nat) (f : Nat → Int32) (a1 n1 : Nat) (g : Nat → Int32) (s d k : Nat), v = some a0 ∧ σ.1 a0 = some (.inl (2, n0, .inl f)) ∧ w = some a1 ∧ σ.1 a1 = some (.inl (2, n1, .inl g)) ∧ sp = nI s ∧ dp = nI d ∧ n = nI k ∧ s + k ≤ n0 ∧ d + k ≤ n1 ∧ n0 < 2147483648 ∧ n1 < 2147483648 ∧ (0 < n0 ∨ tw_nbs σ v) ∧ (0 < n1 ∨ tw_nbs σ w) ∧ (∀ j, j < k → fits .byte (.int (f (s + j))) = true) ∧ K (st_up σ a1 (.inl (2, n1, .inl (va_cpy f g s d k))))
theorem tk_cpb (C : tw_C p l R s m args meth c G cc nL own) (hR : tw_R G σ H) (hS : va_S (tw_A G) s.heap H locs) {v w : Option Nat} {sp dp n : Int32} {K : Tst → Prop} (hw : w_cpb σ v sp w dp n K) {index : Nat} (q1 : Cond.methodLink own index arraycopyName ∈ lw_all) (q2 : Cond.native arraycopyName ∈ lw_all) (q3 : Cond.static arraycopyName ∈ lw_all) (q4 : Cond.initialized "java/lang/System" ∈ lw_all) (hsz : ls.size = nL) (hf : 1 ≤ R.frames) (hlo : R.locals = 40 * R.frames) (hW : (rest.map fun v => v.category).sum ≤ 8) (hdg : decode cc pc = .ok (.invokestatic index, 3))
    (kk : ∀ (σ : Tst) (H : Heap) (locs : List Loc), K σ → tw_R G σ H → va_S (tw_A G) s.heap H locs → tw_W p l e R s m args below meth c σ H locs Q (F0 m (pc + 3) ls rest)) : tw_W p l e R s m args below meth c σ H locs Q (F0 m pc ls (.int n :: .int dp :: va_rf w :: .int sp :: va_rf v :: rest)) := by
  obtain ⟨a0, n0, f, a1, n1, g, s', d, k, rfl, h0, rfl, h1, rfl, rfl, rfl, hs, hd, hn0, hn1, hn0p, hn1p, hfit, hw⟩ := hw
  have ls' : s' < 2147483648 := by omega
  have ld : d < 2147483648 := by omega
  have lk : k < 2147483648 := by omega
  have hba0 : G.2.2.1 ≤ a0 := by
    rcases hn0p with hn0p | hnb
    · exact tw_baseA hR h0 (by decide) hn0p
    · exact tw_nbu C hR hnb a0 rfl
  have hba : G.2.2.1 ≤ a1 := by
    rcases hn1p with hn1p | hnb
    · exact tw_baseA hR h1 (by decide) hn1p
    · exact tw_nbu C hR hnb a1 rfl
  intro T hT X
  have hc0 : H[a0]? = some (vp_cell (G.2.1 2) (n0, .inl f)) := (hR.st h0 hba0).1
  have hc1 : H[a1]? = some (vp_cell (G.2.1 2) (n1, .inl g)) := (hR.st h1 hba).1
  obtain ⟨-, k0, hk0, cm0, hkk0⟩ := (C.hK.2 2 _ rfl).1 n0 (fun j => .int (f j))
  have hk1 := hk0
  have hkk1 := hkk0
  obtain ⟨vm', X', step⟩ := X.arraycopy C.hx C.ho (C.hts _ q1) (C.hts _ q2) (C.hts _ q3) (C.hts _ q4) (src := a0) (dst := a1) (cs := vp_cell (G.2.1 2) (n0, .inl f)) (cd := vp_cell (G.2.1 2) (n1, .inl g)) (srcPos := nI s') (destPos := nI d) (n := nI k) (by rw [hT]; exact hc0) (by rw [hT]; exact hc1)
    (fun _ h => by cases h) (fun _ h => by cases h) (fun h => by cases h) (fun h => by cases h) hk0 hk1 hkk0 hkk1 (by simp [refKind]) (nI_pos ls') (nI_pos ld) (nI_pos lk)
    (by rw [nI_toInt ls', nI_toInt lk, tw_vsize]; omega)
    (by rw [nI_toInt ld, nI_toInt lk, tw_vsize]; omega)
    (fun vm₁ _ i hi => by
      rw [nI_clamp lk] at hi
      rw [nI_clamp ls']
      have e : (vp_cell (G.2.1 2) (n0, .inl f)).slots.getD (s' + i) .null = .int (f (s' + i)) := by
        show (arrV _ n0 (fun j => .int (f j))).slots.getD _ _ = _
        rw [Array.getD_eq_getD_getElem?, arrV_read _ _ (by omega)]
        rfl
      rw [e]
      exact ⟨hfit i hi, trivial⟩)
    (g := F0 m pc ls (.int (nI k) :: .int (nI d) :: .ref a1 :: .int (nI s') :: .ref a0 :: rest)) rfl (by rw [C.hml]; exact hsz) (rest := rest) rfl (by rw [C.hb]; exact hdg) hf (by have hw5 := tw_nfw; show 2 * 0 + _ + _ ≤ _; omega)
  have e1 : copied (vp_cell (G.2.1 2) (n0, .inl f)) (vp_cell (G.2.1 2) (n1, .inl g)) (nI s') (nI d) (nI k) = vp_cell (G.2.1 2) (n1, .inl (va_cpy f g s' d k)) := by
    show (arrV _ n1 (fun j => .int (g j))).storeRun (nI d).toNatClampNeg ((arrV _ n0 (fun j => .int (f j))).stretch (nI s').toNatClampNeg (nI k).toNatClampNeg) = _
    rw [nI_clamp ls', nI_clamp ld, nI_clamp lk]
    exact va_copied (fun z => .int z) _ _ f g hs
  rw [e1] at X' step
  have hl : a1 < H.size := (Array.getElem?_eq_some_iff.mp hc1).1
  generalize hcl : vp_cell (G.2.1 2) (n1, .inl (va_cpy f g s' d k)) = cl at X' step
  have hheap : ((T.setVm vm').setCell a1 cl).heap = H.setIfInBounds a1 cl := by rw [← hT]; rfl
  have oq : ∀ q : Nat, q ≠ a1 → (H.setIfInBounds a1 cl)[q]? = H[q]? := fun q hq => by simp [Array.getElem?_setIfInBounds, Ne.symm hq]
  have hat : (H.setIfInBounds a1 cl)[a1]? = some (vp_cell (G.2.1 2) (n1, .inl (va_cpy f g s' d k))) := by rw [hcl]; simp [Array.getElem?_setIfInBounds, hl]
  have hR1 := tw_aset hR h1 hba hat (by simp) oq
  obtain ⟨t, b1, b2⟩ := kk _ _ _ hw hR1 ⟨by simp; exact hS.1, fun q g1 g2 => by
      rw [oq q (fun e => g2 (by rw [e]; exact hba))]
      exact hS.2.1 q g1 g2, fun q hq => by
      rcases List.mem_append.mp hq with h | h
      · exact hS.2.2 q h
      · obtain ⟨z, -, hz⟩ := List.mem_map.mp h
        rw [← hz]
        exact hba⟩ _ hheap X'
  exact ⟨t, step t b1, b2⟩
/-- System.arraycopy over references (arrays of Object) -/
def w_cpr (σ : Tst) (v : Option Nat) (sp : Int32) (w : Option Nat) (dp n : Int32) (K : Tst → Prop) : Prop :=
  ∃ (a0 n0 : Nat) (f : Nat → Option Nat) (a1 n1 : Nat) (g : Nat → Option Nat) (s d k : Nat), v = some a0 ∧ σ.1 a0 = some (.inl (5, n0, .inr (.inr (.inr (.inr f))))) ∧ w = some a1 ∧ σ.1 a1 = some (.inl (5, n1, .inr (.inr (.inr (.inr g))))) ∧ sp = nI s ∧ dp = nI d ∧ n = nI k ∧ s + k ≤ n0 ∧ d + k ≤ n1 ∧ n0 < 2147483648 ∧ n1 < 2147483648 ∧ (0 < n0 ∨ tw_nbs σ v) ∧ (0 < n1 ∨ tw_nbs σ w) ∧ (∀ j, j < k → w_may σ 5 (f (s + j))) ∧ K (st_up σ a1 (.inl (5, n1, .inr (.inr (.inr (.inr (va_cpy f g s d k)))))))
theorem tk_cpr (C : tw_C p l R s m args meth c G cc nL own) (hR : tw_R G σ H) (hS : va_S (tw_A G) s.heap H locs) {v w : Option Nat} {sp dp n : Int32} {K : Tst → Prop} (hw : w_cpr σ v sp w dp n K) {index : Nat} (q1 : Cond.methodLink own index arraycopyName ∈ lw_all) (q2 : Cond.native arraycopyName ∈ lw_all) (q3 : Cond.static arraycopyName ∈ lw_all) (q4 : Cond.initialized "java/lang/System" ∈ lw_all) (hsz : ls.size = nL) (hf : 1 ≤ R.frames) (hlo : R.locals = 40 * R.frames) (hW : (rest.map fun v => v.category).sum ≤ 8) (hdg : decode cc pc = .ok (.invokestatic index, 3))
    (kk : ∀ (σ : Tst) (H : Heap) (locs : List Loc), K σ → tw_R G σ H → va_S (tw_A G) s.heap H locs → tw_W p l e R s m args below meth c σ H locs Q (F0 m (pc + 3) ls rest)) : tw_W p l e R s m args below meth c σ H locs Q (F0 m pc ls (.int n :: .int dp :: va_rf w :: .int sp :: va_rf v :: rest)) := by
  obtain ⟨a0, n0, f, a1, n1, g, s', d, k, rfl, h0, rfl, h1, rfl, rfl, rfl, hs, hd, hn0, hn1, hn0p, hn1p, hfit, hw⟩ := hw
  have ls' : s' < 2147483648 := by omega
  have ld : d < 2147483648 := by omega
  have lk : k < 2147483648 := by omega
  have hba0 : G.2.2.1 ≤ a0 := by
    rcases hn0p with hn0p | hnb
    · exact tw_baseA hR h0 (by decide) hn0p
    · exact tw_nbu C hR hnb a0 rfl
  have hba : G.2.2.1 ≤ a1 := by
    rcases hn1p with hn1p | hnb
    · exact tw_baseA hR h1 (by decide) hn1p
    · exact tw_nbu C hR hnb a1 rfl
  intro T hT X
  have hc0 : H[a0]? = some (vp_cell (G.2.1 5) (n0, .inr (.inr (.inr (.inr f))))) := (hR.st h0 hba0).1
  have hc1 : H[a1]? = some (vp_cell (G.2.1 5) (n1, .inr (.inr (.inr (.inr g))))) := (hR.st h1 hba).1
  obtain ⟨-, k0, hk0, cm0, hkk0⟩ := (C.hK.2 5 _ rfl).1 n0 (fun j => va_rf (f j))
  have hk1 := hk0
  have hkk1 := hkk0
  obtain ⟨vm', X', step⟩ := X.arraycopy C.hx C.ho (C.hts _ q1) (C.hts _ q2) (C.hts _ q3) (C.hts _ q4) (src := a0) (dst := a1) (cs := vp_cell (G.2.1 5) (n0, .inr (.inr (.inr (.inr f))))) (cd := vp_cell (G.2.1 5) (n1, .inr (.inr (.inr (.inr g))))) (srcPos := nI s') (destPos := nI d) (n := nI k) (by rw [hT]; exact hc0) (by rw [hT]; exact hc1)
    (fun _ h => by cases h) (fun _ h => by cases h) (fun h => by cases h) (fun h => by cases h) hk0 hk1 hkk0 hkk1 rfl (nI_pos ls') (nI_pos ld) (nI_pos lk)
    (by rw [nI_toInt ls', nI_toInt lk, tw_vsize]; omega)
    (by rw [nI_toInt ld, nI_toInt lk, tw_vsize]; omega)
    (fun vm₁ hal i hi => by
      rw [nI_clamp lk] at hi
      rw [nI_clamp ls']
      have e : (vp_cell (G.2.1 5) (n0, .inr (.inr (.inr (.inr f))))).slots.getD (s' + i) .null = va_rf (f (s' + i)) := by
        show (arrV _ n0 (fun j => va_rf (f j))).slots.getD _ _ = _
        rw [Array.getD_eq_getD_getElem?, arrV_read _ _ (by omega)]
        rfl
      rw [e]
      rcases hfit i hi with hy | ⟨y, ci, vs, hy, hcy, hm⟩
      · rw [hy]; exact ⟨rfl, trivial⟩
      · rw [hy]
        obtain ⟨Cn, Tn, N, hc, hca⟩ := tw_mayx hm (E := "java/lang/Object") ⟨fun _ => rfl, fun h => absurd h (by decide), fun h => absurd h (by decide), fun h => absurd h (by decide)⟩
        obtain ⟨cellV, g1, g2, g3⟩ := tw_recv C hR hcy hc
        obtain ⟨kA, comp, r1, r2, r3, -⟩ := (C.hK.2 5 _ rfl).2
        cases hk1.symm.trans r1
        cases hkk1.symm.trans r2
        obtain ⟨kC, hkC, -⟩ := Vm.findClass_spec g3
        obtain ⟨kE, hkE, -⟩ := Vm.findClass_spec r3
        obtain ⟨kC', hkC', -⟩ := hal.2.2 _ _ hkC
        obtain ⟨kE', hkE', -⟩ := hal.2.2 _ _ hkE
        refine ⟨rfl, cellV, (show T.heap[y]? = some cellV by rw [hT]; exact g1), (fun q h => by rw [h] at g2; cases g2), ⟨kC', hkC'⟩, ?_, ?_⟩
        · exact ⟨kE', hkE'⟩
        · show vm₁.assignable _ _ = true
          rw [hal.assignable]
          rcases hca with hq | hq
          · exact absurd hq (tw_noO hm hc)
          · obtain ⟨c0, t0, f1, f2, f3⟩ := Cond.castable_spec (va_Nw.use (A := args) rfl (C.nw hq rfl))
            cases f1.symm.trans g3
            cases f2.symm.trans r3
            exact f3)
    (g := F0 m pc ls (.int (nI k) :: .int (nI d) :: .ref a1 :: .int (nI s') :: .ref a0 :: rest)) rfl (by rw [C.hml]; exact hsz) (rest := rest) rfl (by rw [C.hb]; exact hdg) hf (by have hw5 := tw_nfw; show 2 * 0 + _ + _ ≤ _; omega)
  have e1 : copied (vp_cell (G.2.1 5) (n0, .inr (.inr (.inr (.inr f))))) (vp_cell (G.2.1 5) (n1, .inr (.inr (.inr (.inr g))))) (nI s') (nI d) (nI k) = vp_cell (G.2.1 5) (n1, .inr (.inr (.inr (.inr (va_cpy f g s' d k))))) := by
    show (arrV _ n1 (fun j => va_rf (g j))).storeRun (nI d).toNatClampNeg ((arrV _ n0 (fun j => va_rf (f j))).stretch (nI s').toNatClampNeg (nI k).toNatClampNeg) = _
    rw [nI_clamp ls', nI_clamp ld, nI_clamp lk]
    exact va_copied (fun z => va_rf z) _ _ f g hs
  rw [e1] at X' step
  have hl : a1 < H.size := (Array.getElem?_eq_some_iff.mp hc1).1
  generalize hcl : vp_cell (G.2.1 5) (n1, .inr (.inr (.inr (.inr (va_cpy f g s' d k))))) = cl at X' step
  have hheap : ((T.setVm vm').setCell a1 cl).heap = H.setIfInBounds a1 cl := by rw [← hT]; rfl
  have oq : ∀ q : Nat, q ≠ a1 → (H.setIfInBounds a1 cl)[q]? = H[q]? := fun q hq => by simp [Array.getElem?_setIfInBounds, Ne.symm hq]
  have hat : (H.setIfInBounds a1 cl)[a1]? = some (vp_cell (G.2.1 5) (n1, .inr (.inr (.inr (.inr (va_cpy f g s' d k)))))) := by rw [hcl]; simp [Array.getElem?_setIfInBounds, hl]
  have hR1 := tw_aset hR h1 hba hat (by simp) oq
  obtain ⟨t, b1, b2⟩ := kk _ _ _ hw hR1 ⟨by simp; exact hS.1, fun q g1 g2 => by
      rw [oq q (fun e => g2 (by rw [e]; exact hba))]
      exact hS.2.1 q g1 g2, fun q hq => by
      rcases List.mem_append.mp hq with h | h
      · exact hS.2.2 q h
      · obtain ⟨z, -, hz⟩ := List.mem_map.mp h
        rw [← hz]
        exact hba⟩ _ hheap X'
  exact ⟨t, step t b1, b2⟩
end TM
