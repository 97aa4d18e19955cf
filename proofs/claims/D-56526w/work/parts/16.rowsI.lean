-- int[][], comparisons, switches
section TO
variable {p : Program} {l : Launch} {e : Env} {R : Room} {s : State} {m : MethodId} {args : Array Value} {below : List Frame} {meth : Method} {c : Code} {H : Heap} {locs : List Loc} {cells slots : Nat} {Q : State → Prop} {G : Tgl} {cc : ByteArray} {nL : Nat} {own : String} {pc : Nat} {ls : Array Slot} {rest : List Value} {σ : Tst} {v : Option Nat} {i : Int32}
theorem tw_cellx {c d : Cell} (h1 : c.cls = d.cls) (h2 : c.slots = d.slots) (h3 : c.monitor = d.monitor) (h4 : c.hash = d.hash) (h5 : c.vm = d.vm) : c = d := by
  obtain ⟨a1, a2, a3, a4, a5⟩ := c
  obtain ⟨b1, b2, b3, b4, b5⟩ := d
  simp only at h1 h2 h3 h4 h5
  subst h1 h2 h3 h4 h5
  rfl
theorem tw_outp (c : ClassId) (N h0 : Nat) : ∀ i, (Jvm.Free.Multi.outerC c N h0 i).monitor = {} ∧ (Jvm.Free.Multi.outerC c N h0 i).hash = none
  | 0 => ⟨rfl, rfl⟩
  | i + 1 => by
    obtain ⟨a, b⟩ := tw_outp c N h0 i
    exact ⟨by simp [Jvm.Free.Multi.outerC, Cell.setSlot, a], by simp [Jvm.Free.Multi.outerC, Cell.setSlot, b]⟩
theorem tw_outc (c : ClassId) (n h0 : Nat) : Jvm.Free.Multi.outerC c n h0 n = vp_cell c (n, .inr (.inr (.inr (.inr fun j => some (h0 + 1 + j))))) := by
  obtain ⟨o1, o2, o3⟩ := Jvm.Free.Multi.outerC_facts c n h0 n
  obtain ⟨o4, o5⟩ := tw_outp c n h0 n
  refine tw_cellx o1 ?_ o4 o5 o2
  apply Array.ext_getElem?
  intro j
  show _ = (arrV c n (fun j => va_rf (some (h0 + 1 + j)))).slots[j]?
  by_cases hj : j < n
  · rw [Jvm.Free.Multi.outerC_slot c n h0 n j hj, if_pos hj, arrV_read _ _ hj]
    rfl
  · rw [Array.getElem?_eq_none (by rw [o3]; omega), Array.getElem?_eq_none (by rw [arrV_size]; omega)]
theorem tw_innc (c : ClassId) (k : Nat) : Jvm.Free.Multi.innerC c k (.int 0) = vp_cell c (k, .inl fun _ => 0) := by
  show _ = arrV c k (fun _ => .int 0)
  rw [← arrV_new]
  rfl
def tw_ma (σ : Tst) (q n k : Nat) : Tst := (fun a => if a = q then some (.inl (8, n, .inr (.inr (.inr (.inr fun j => some (q + 1 + j)))))) else if q < a ∧ a ≤ q + n then some (.inl (0, k, .inl fun _ => 0)) else σ.1 a, σ.2.1 - (1 + n), σ.2.2.1 - (n + n * k), σ.2.2.2)
/-- new int[n][k] -/
def w_ma (σ : Tst) (i j : Int32) (K : Option Nat → Tst → Prop) : Prop := ∃ n k : Nat, i = nI n ∧ j = nI k ∧ n < 33554432 ∧ k < 33554432 ∧ 1 + n ≤ σ.2.1 ∧ n + n * k ≤ σ.2.2.1 ∧ ∀ q : Nat, (∀ a, q ≤ a → σ.1 a = none) → w_nb σ q → K (some q) (tw_ma σ q n k)
theorem tk_ma (C : tw_C p l R s m args meth c G cc nL own) (hR : tw_R G σ H) (hS : va_S (tw_A G) s.heap H locs) {j : Int32} {K : Option Nat → Tst → Prop} (hw : w_ma σ i j K) {index : Nat} (q1 : Cond.classLink own index "[[I" ∈ lw_all) (q2 : Cond.arrayClass .int ∈ lw_all) (hdg : decode cc pc = .ok (.multianewarray index 2, 4))
    (kk : ∀ (r : Option Nat) (σ : Tst) (H : Heap), K r σ → tw_R G σ H → va_S (tw_A G) s.heap H locs → tw_W p l e R s m args below meth c σ H locs Q (F0 m (pc + 4) ls (va_rf r :: rest))) : tw_W p l e R s m args below meth c σ H locs Q (F0 m pc ls (.int j :: .int i :: rest)) := by
  obtain ⟨n, k, rfl, rfl, hn, hk, h1, h2, hw⟩ := hw
  have hcr := tw_cr C hR hS
  have hn31 : n < 2147483648 := Nat.lt_trans hn (by decide)
  have hk31 : k < 2147483648 := Nat.lt_trans hk (by decide)
  refine tw_sr C hR (fun hsr => ?_)
  have hnm8 : s.vm.findClass ("[" ++ (FieldType.array .int).toString) = some (G.2.1 8) := (C.hK.2 8 _ rfl).2
  have hnm0 : s.vm.findClass ("[" ++ FieldType.int.toString) = some (G.2.1 0) := (C.hK.2 0 _ rfl).2
  have es : (FieldType.array .int).toString = "[" ++ FieldType.int.toString := by decide +kernel
  have es2 : "[" ++ (FieldType.array .int).toString = "[[I" := by decide +kernel
  intro T hT X
  have hbk := tw_true X.book
  have hcn := nI_clamp hn31
  have hck := nI_clamp hk31
  obtain ⟨vm₁, cA, comp, hW1, hfA, hfC, -, -, X1, step⟩ := X.multianewarray2F C.hx C.ho (by rw [es2]; exact C.hts _ q1) (show (Cond.arrayOver (.array .int)).before args s = true from C.hT.2.2.2.2.2.2.2.2.2.2.2.1) (C.hts _ q2) (g := F0 m pc ls (.int (nI k) :: .int (nI n) :: rest)) rfl (by rw [C.hb]; exact hdg) (n := nI n) (k := nI k) (rest := rest) rfl (nI_pos hn31) (nI_pos hk31)
    (by rw [hcn]; omega) (by rw [hck]; show k * 4 ≤ _; omega) (by rw [hck]; omega) rfl rfl (by rw [hcn]; omega) (by rw [hcn, hck]; omega)
  have hcA : cA = G.2.1 8 := Option.some.inj (hfA.symm.trans hnm8)
  have hcC : comp = G.2.1 0 := by rw [es] at hfC; exact Option.some.inj (hfC.symm.trans hnm0)
  subst hcA hcC
  have hh : (T.setVm vm₁).heap = H := hT
  rw [hcn, hck] at X1 step
  have hbk1 := tw_true X1.book
  obtain ⟨f1, f2, f3, f4⟩ := Jvm.Free.Multi.fill_facts (T.setVm vm₁) (G.2.1 8) (G.2.1 0) n k (defaultValue .int) n
  have fi := fun j (h : j < n) => Jvm.Free.Multi.fill_inner (T.setVm vm₁) (G.2.1 8) (G.2.1 0) n k (defaultValue .int) n j h
  have fo := fun a (h : a < (T.setVm vm₁).heap.size) => Jvm.Free.Multi.fill_old (T.setVm vm₁) (G.2.1 8) (G.2.1 0) n k (defaultValue .int) (a := a) h n
  rw [tw_outc] at f2
  generalize hU : Jvm.Free.Multi.fill (T.setVm vm₁) (G.2.1 8) (G.2.1 0) n k (defaultValue .int) n = U at X1 step hbk1 f1 f2 f3 f4 fi fo
  rw [hh] at f1 f2 fi fo
  have f4 : U.slotsUsed = T.slotsUsed + n + n * k := f4
  generalize hH1 : U.heap = H1 at f1 f2 fi fo hbk1
  have ht : tw_tot H1 = tw_tot H + n + n * k := by rw [← hbk1, f4, hbk, hT]
  have hlt := @tw_R.lt _ _ _ hR
  have hfr : ∀ a, H.size ≤ a → σ.1 a = none := by
    intro a ha
    cases h : σ.1 a with
    | none => rfl
    | some x => have := hlt h; omega
  have hS1 : va_S (tw_A G) s.heap H1 locs := ⟨by rw [f1]; exact Nat.le_trans hS.1 (by omega), fun y y1 y2 => (fo y (Nat.lt_of_lt_of_le y1 hS.1)).trans (hS.2.1 y y1 y2), hS.2.2⟩
  have hba : ∀ q, H.size ≤ q → G.2.2.1 ≤ q := fun q hq => Nat.le_trans (C.hA _ hS.1) hq
  have hR1 : tw_R G (tw_ma σ H.size n k) H1 := by
    obtain ⟨r1, r2, r3, r4, r5⟩ := hR
    refine ⟨fun b x hx => ?_, fun b x hx => ?_, ?_, ?_, r5⟩
    · simp only [tw_ma] at hx
      split at hx
      · cases hx
        rename_i hb
        subst hb
        exact ⟨tw_wk_of f2, fun _ => ⟨f2, _, f2, tw_vmon _ _⟩⟩
      · split at hx
        · cases hx
          rename_i hb1 hb2
          obtain ⟨z, rfl⟩ : ∃ z, b = H.size + 1 + z := ⟨b - (H.size + 1), by omega⟩
          have h := fi z (by omega)
          have h : H1[H.size + 1 + z]? = some (vp_cell (G.2.1 0) (k, .inl fun _ => 0)) := h.trans (by rw [← tw_innc]; rfl)
          exact ⟨tw_wk_of h, fun _ => ⟨h, _, h, tw_vmon _ _⟩⟩
        · obtain ⟨g0, g9⟩ := r1 b x hx
          have hl := hlt hx
          refine ⟨g0.kept (fo b hl), fun hb9 => ?_⟩
          obtain ⟨g1, c0, g2, g3⟩ := g9 hb9
          exact ⟨g1.kept (fo b hl), c0, by rw [fo b hl]; exact g2, g3⟩
    · simp only [tw_ma] at hx
      split at hx
      · rename_i hb
        exact Or.inl (hba _ (by omega))
      · split at hx
        · rename_i hb1 hb2
          exact Or.inl (hba _ (by omega))
        · exact r2 b x hx
    · show H1.size + (σ.2.1 - (1 + n)) = _
      omega
    · show tw_tot H1 + (σ.2.2.1 - (n + n * k)) = _
      omega
  obtain ⟨t, b1, b2⟩ := tw_re C hR1 (kk (some H.size) _ H1 (hw H.size hfr (tw_nb C ⟨hR.1, hR.2.1, hR.2.2.1, hR.2.2.2.1, hR.2.2.2.2⟩ C.hT.2.2.2.2.2.2.2.1 (hba _ (Nat.le_refl _)))) hR1 hS1) U hH1 X1
  refine ⟨t, step t ?_, b2⟩
  rw [hT]
  exact b1
def tw_lcmp (x y : Int64) : Int32 := if y < x then 1 else if x = y then 0 else -1
theorem tk_lcmp (C : tw_C p l R s m args meth c G cc nL own) {x y : Int64} (hdg : decode cc pc = .ok (.lcmp, 1))
    (k : W p l e R s m args below meth c H locs cells slots Q (F0 m (pc + 1) ls (.int (tw_lcmp x y) :: rest))) : W p l e R s m args below meth c H locs cells slots Q (F0 m pc ls (.long y :: .long x :: rest)) := by
  have hexec := C.hx
  have hb := C.hb
  intro T hT X
  obtain ⟨t, a, b⟩ := k T hT X
  refine ⟨t, ?_, b⟩
  by_cases h1 : y < x
  · have e1 : tw_lcmp x y = 1 := by simp [tw_lcmp, h1]
    rw [e1] at a
    jvm_step X.here [X.here.top, hexec, hb, hdg, h1]
    exact a
  · by_cases h2 : x = y
    · subst h2
      have e1 : tw_lcmp x x = 0 := by simp [tw_lcmp]
      rw [e1] at a
      jvm_step X.here [X.here.top, hexec, hb, hdg]
      exact a
    · have e1 : tw_lcmp x y = -1 := by simp [tw_lcmp, h1, h2]
      rw [e1] at a
      jvm_step X.here [X.here.top, hexec, hb, hdg, h1, h2]
      exact a
end TO
section TOO
variable {p : Program} {l : Launch} {e : Env} {R : Room} {s : State} {m : MethodId} {args : Array Value} {below : List Frame} {meth : Method} {c : Code} {H : Heap} {locs : List Loc} {cells slots : Nat} {Q : State → Prop} {G : Tgl} {cc : ByteArray} {nL : Nat} {own : String} {pc : Nat} {ls : Array Slot} {rest : List Value} {σ : Tst} {v : Option Nat} {i : Int32}
/-- an overriding method, called by the name of the overridden one -/
theorem tk_runO {Qc : Array Value → State → Outcome → State → Prop} {X1 : String → Nat → Tst → Prop} {st0 : List Value} {bytes b0 : ByteArray} {maxL m0 fr lo index : Nat} {ret r0 : Option FieldType} {As : List Tfv} {ci : Nat} {Tn : u_T} {N : Nat} {Cn : String} {x y : MethodName} (C : tw_C p l R s m args meth c G cc nL own) (hR : tw_R G σ H) (hS : va_S (tw_A G) s.heap H locs) (hM : tw_M l y (ws_ y bytes maxL ret) fr lo G σ (.inr v :: As) Qc X1) (hv : ∃ (b : Nat) (fs : List Tfv), v = some b ∧ σ.1 b = some (.inr (ci, fs))) (hc : tw_cl[ci]? = some (Cn, Tn, N)) (q1 : Cond.methodLink own index x ∈ lw_all) (q6 : Cond.sameMethod x.cls x.cls x.name x.desc ∈ lw_all) (q7 : Cond.instanceMethod (⟨x.cls, x.name, x.desc⟩ : MethodName) ∈ lw_all) (q3 : Cond.selects Cn x y ∈ lw_all) (q2 : Cond.instanceMethod y ∈ lw_all) (q4 : Cond.initialized y.cls ∈ lw_all) (q5 : Cond.code y bytes maxL ret ∈ lw_all) (q8 : Cond.code (⟨x.cls, x.name, x.desc⟩ : MethodName) b0 m0 r0 ∈ lw_all) (hd : x.cls ≠ "java/lang/invoke/MethodHandle" ∧ x.cls ≠ "java/lang/invoke/VarHandle" ∧ (parseMethodDescriptor x.desc).map (fun d => d.parameters.length) = some As.length) (hr : fr + 1 ≤ R.frames ∧ 8 + (maxL + 11) + lo ≤ R.locals) (hsz : ls.size = nL) (hst : st0 = (As.map tw_v).reverse ++ va_rf v :: rest) (hW : (rest.map fun v => v.category).sum ≤ 8) (hdg : decode cc pc = .ok (.invokevirtual index, 3)) : tw_Rn p l e R s m args below meth c G σ H locs (F0 m pc ls st0) rest (Qc (va_rf v :: As.map tw_v).toArray) X1 := by
  obtain ⟨b, fs, rfl, hb⟩ := hv
  intro T hT X
  exact (vx_runU (tw_fix C) hM (va_cwO (owner := x.cls) As.length C.hts (lw_app (fun w hw => by simp only [List.mem_cons, List.not_mem_nil, or_false] at hw; rcases hw with e | e | e | e | e | e <;> rw [e] <;> assumption) (lw_meth q5)) rfl rfl rfl q8 hd hr) ⟨tw_blind, tw_recv C hR hb hc, tw_pre C hR hS⟩ rfl (List.length_map ..) hsz hst (tw_rest hW) hdg (tw_fit C hR hS hT X)) T hT X
end TOO
section TOM
variable {p : Program} {l : Launch} {e : Env} {R : Room} {s : State} {m : MethodId} {args : Array Value} {below : List Frame} {meth : Method} {c : Code} {H : Heap} {locs : List Loc} {cells slots : Nat} {Q : State → Prop} {G : Tgl} {cc : ByteArray} {nL : Nat} {own : String} {pc : Nat} {ls : Array Slot} {rest : List Value} {σ : Tst} {v : Option Nat} {i : Int32}
theorem tk_max (C : tw_C p l R s m args meth c G cc nL own) {x y : Int32} {index : Nat} (q1 : Cond.methodLink own index Lib.Math.max.name ∈ lw_all) (hsz : ls.size = nL) (hf : 1 ≤ R.frames) (hlo : R.locals = 40 * R.frames) (hW : (rest.map fun v => v.category).sum ≤ 8) (hdg : decode cc pc = .ok (.invokestatic index, 3))
    (kk : tw_W p l e R s m args below meth c σ H locs Q (F0 m (pc + 3) ls (.int (if x < y then y else x) :: rest))) : tw_W p l e R s m args below meth c σ H locs Q (F0 m pc ls (.int y :: .int x :: rest)) :=
  va_mmax C.hx C.hb (C.hml.trans hsz.symm) C.ho (C.hts _ q1) (C.hts _ q724) (C.hts _ q81) (C.hts _ q725) hf (by omega) (Nat.sub_le _ _) (Nat.sub_le _ _) hdg kk
theorem tk_min (C : tw_C p l R s m args meth c G cc nL own) {x y : Int32} {index : Nat} (q1 : Cond.methodLink own index Lib.Math.min.name ∈ lw_all) (hsz : ls.size = nL) (hf : 1 ≤ R.frames) (hlo : R.locals = 40 * R.frames) (hW : (rest.map fun v => v.category).sum ≤ 8) (hdg : decode cc pc = .ok (.invokestatic index, 3))
    (kk : tw_W p l e R s m args below meth c σ H locs Q (F0 m (pc + 3) ls (.int (if y < x then y else x) :: rest))) : tw_W p l e R s m args below meth c σ H locs Q (F0 m pc ls (.int y :: .int x :: rest)) :=
  va_mmin C.hx C.hb (C.hml.trans hsz.symm) C.ho (C.hts _ q1) (C.hts _ q560) (C.hts _ q81) (C.hts _ q561) hf (by omega) (Nat.sub_le _ _) (Nat.sub_le _ _) hdg kk
end TOM
