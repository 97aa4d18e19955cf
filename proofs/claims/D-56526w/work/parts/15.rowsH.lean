-- class objects, clone, string constant, two-dimensional arrays, switches, comparisons
section TN
variable {p : Program} {l : Launch} {e : Env} {R : Room} {s : State} {m : MethodId} {args : Array Value} {below : List Frame} {meth : Method} {c : Code} {H : Heap} {locs : List Loc} {cells slots : Nat} {Q : State → Prop} {G : Tgl} {cc : ByteArray} {nL : Nat} {own : String} {pc : Nat} {ls : Array Slot} {rest : List Value} {σ : Tst} {v : Option Nat} {i : Int32}
abbrev tw_gcn : MethodName := ⟨"java/lang/Object", "getClass", "()Ljava/lang/Class;"⟩
/-- getClass() of an Object[] -/
def w_gc (σ : Tst) (v : Option Nat) (K : Option Nat → Prop) : Prop := ∃ (a n : Nat) (x : Tad), v = some a ∧ σ.1 a = some (.inl (5, n, x)) ∧ K (σ.2.2.2 7)
theorem tw_arrO (C : tw_C p l R s m args meth c G cc nL own) (hR : tw_R G σ H) {a n : Nat} {x : Tad} (ha : σ.1 a = some (.inl (5, n, x))) : ∃ cell : Cell, H[a]? = some cell ∧ cell.vm.isStatics = false ∧ s.vm.findClass "[Ljava/lang/Object;" = some cell.cls := by
  obtain ⟨cell, q1, q2, -, q4, -, -⟩ := hR.wk ha
  exact ⟨cell, q1, q4, by rw [q2]; exact va_nmO (C.hK.2 5 _ rfl).2 (by decide +kernel)⟩
theorem tk_gc (C : tw_C p l R s m args meth c G cc nL own) (hR : tw_R G σ H) {K : Option Nat → Prop} (hw : w_gc σ v K) {index : Nat} (q1 : Cond.methodLink own index tw_gcn ∈ lw_all) (q2 : Cond.declares tw_gcn ∈ lw_tbl) (q3 : Cond.selects "[Ljava/lang/Object;" tw_gcn tw_gcn ∈ lw_all) (q4 : Cond.instanceMethod tw_gcn ∈ lw_all) (q5 : Cond.native tw_gcn ∈ lw_all) (hsz : ls.size = nL) (hf : 1 ≤ R.frames) (hlo : R.locals = 40 * R.frames) (hW : (rest.map fun v => v.category).sum ≤ 8) (hdg : decode cc pc = .ok (.invokevirtual index, 3))
    (kk : ∀ x : Option Nat, K x → tw_W p l e R s m args below meth c σ H locs Q (F0 m (pc + 3) ls (va_rf x :: rest))) : tw_W p l e R s m args below meth c σ H locs Q (F0 m pc ls (va_rf v :: rest)) := by
  obtain ⟨a, n, x, rfl, ha, hw⟩ := hw
  obtain ⟨mi, hm1, hm2⟩ := C.hT.2.2.2.2.2.2.2.2.1
  have e : σ.2.2.2 7 = some mi := by rw [hR.2.2.2.2]; exact hm1
  rw [e] at hw
  exact va_getC C.hx C.hb (C.hml.trans hsz.symm) C.ho (C.hts _ q1) (va_Nw.use (A := args) rfl (C.nw q2 rfl)) (C.hts _ q3) (C.hts _ q4) (C.hts _ q5) hm2 (tw_arrO C hR ha) hf (by omega) hdg (kk (some mi) hw)
theorem tk_ldm (C : tw_C p l R s m args meth c G cc nL own) (hR : tw_R G σ H) {K : Option Nat → Prop} (hw : w_k σ 7 K) {index : Nat} (q1 : Cond.classLink own index "[Ljava/lang/Object;" ∈ lw_all) (hdg : decode cc pc = .ok (.ldc index, 2))
    (kk : ∀ x : Option Nat, K x → tw_W p l e R s m args below meth c σ H locs Q (F0 m (pc + 2) ls (va_rf x :: rest))) : tw_W p l e R s m args below meth c σ H locs Q (F0 m pc ls rest) := by
  obtain ⟨mi, hm1, hm2⟩ := C.hT.2.2.2.2.2.2.2.2.1
  have e : σ.2.2.2 7 = some mi := by rw [hR.2.2.2.2]; exact hm1
  have hw : K (σ.2.2.2 7) := hw
  rw [e] at hw
  exact va_ldcM C.hx C.hb C.ho (C.hts _ q1) hm2 hdg (kk (some mi) hw)
theorem tk_lds (C : tw_C p l R s m args meth c G cc nL "TreeDifferModel") (hR : tw_R G σ H) {K : Option Nat → Prop} (hw : w_k σ 3 K) (hdg : decode cc pc = .ok (.ldc 41, 2))
    (kk : ∀ x : Option Nat, K x → tw_W p l e R s m args below meth c σ H locs Q (F0 m (pc + 2) ls (va_rf x :: rest))) : tw_W p l e R s m args below meth c σ H locs Q (F0 m pc ls rest) := by
  obtain ⟨mi, hm1, hm2⟩ := C.hT.2.2.2.2.2.2.2.2.2.1
  have e : σ.2.2.2 3 = some mi := by rw [hR.2.2.2.2]; exact hm1
  have hw : K (σ.2.2.2 3) := hw
  rw [e] at hw
  exact va_ldcS C.hx C.hb C.ho hm2 hdg (kk (some mi) hw)
/-- a cast of an Object[] to its own class, or of a byte[] -/
def w_ca (σ : Tst) (r : Option Nat) (t : Nat) (P : Prop) : Prop := (r = none ∨ ∃ (a n : Nat) (x : Tad), r = some a ∧ σ.1 a = some (.inl (t, n, x))) ∧ P
theorem tk_ca (C : tw_C p l R s m args meth c G cc nL own) (hR : tw_R G σ H) {t : Nat} {P : Prop} (hw : w_ca σ v t P) {nm : String} {index : Nat} (hnm : s.vm.findClass nm = some (G.2.1 t)) (hlink : Cond.classLink own index nm ∈ lw_all) (hdg : decode cc pc = .ok (.checkcast index, 3))
    (kk : P → W p l e R s m args below meth c H locs cells slots Q (F0 m (pc + 3) ls (va_rf v :: rest))) : W p l e R s m args below meth c H locs cells slots Q (F0 m pc ls (va_rf v :: rest)) := by
  obtain ⟨h | ⟨a, n, x, h, ha⟩, hw⟩ := hw
  · subst h; exact tw_castN C hdg (kk hw)
  · subst h
    obtain ⟨cell, g1, g2, -, g4, -, -⟩ := hR.wk ha
    intro T hT X
    obtain ⟨vm', X', st⟩ := X.checkcastYes C.hx C.ho (C.hts _ hlink) (by rw [hT]; exact g1) g4 hnm (by rw [show cell.cls = G.2.1 t from g2]; exact va_asg _ _) (g := F0 m pc ls (.ref a :: rest)) rfl rfl (by rw [C.hb]; exact hdg)
    obtain ⟨t, a1, b1⟩ := kk hw (T.setVm vm') hT X'
    exact ⟨t, st t a1, b1⟩
theorem tw_nmB (C : tw_C p l R s m args meth c G cc nL own) : s.vm.findClass "[B" = some (G.2.1 2) := (C.hK.2 2 _ rfl).2
/-- byte[].clone() -/
def w_cl (σ : Tst) (v : Option Nat) (K : Option Nat → Tst → Prop) : Prop := ∃ (a n : Nat) (f : Nat → Int32), v = some a ∧ 0 < n ∧ σ.1 a = some (.inl (2, n, .inl f)) ∧ (∀ j, j < n → fits .byte (.int (f j)) = true) ∧ 1 ≤ σ.2.1 ∧ n ≤ σ.2.2.1 ∧ ∀ q : Nat, σ.1 q = none → w_nb σ q → K (some q) (st_al σ q (.inl (2, n, .inl f)) n)
theorem tk_cl (C : tw_C p l R s m args meth c G cc nL own) (hR : tw_R G σ H) (hS : va_S (tw_A G) s.heap H locs) {K : Option Nat → Tst → Prop} (hw : w_cl σ v K) {index : Nat} (q1 : Cond.methodLink own index ⟨"[B", "clone", "()Ljava/lang/Object;"⟩ ∈ lw_all) (q2 : Cond.sameMethod "[B" "java/lang/Object" "clone" "()Ljava/lang/Object;" ∈ lw_all) (q3 : Cond.native ⟨"java/lang/Object", "clone", "()Ljava/lang/Object;"⟩ ∈ lw_all) (q4 : Cond.instanceMethod ⟨"java/lang/Object", "clone", "()Ljava/lang/Object;"⟩ ∈ lw_all) (q5 : Cond.selects "[B" ⟨"[B", "clone", "()Ljava/lang/Object;"⟩ ⟨"java/lang/Object", "clone", "()Ljava/lang/Object;"⟩ ∈ lw_all) (q6 : Cond.castable "[B" "java/lang/Cloneable" ∈ lw_tbl) (hsz : ls.size = nL) (hf : 1 ≤ R.frames) (hlo : R.locals = 40 * R.frames) (hW : (rest.map fun v => v.category).sum ≤ 8) (hdg : decode cc pc = .ok (.invokevirtual index, 3))
    (kk : ∀ (r : Option Nat) (σ : Tst) (H : Heap), K r σ → tw_R G σ H → va_S (tw_A G) s.heap H locs → tw_W p l e R s m args below meth c σ H locs Q (F0 m (pc + 3) ls (va_rf r :: rest))) : tw_W p l e R s m args below meth c σ H locs Q (F0 m pc ls (va_rf v :: rest)) := by
  obtain ⟨a, n, f, rfl, hn0, ha, hfit, h1, h2, hw⟩ := hw
  have hba := tw_baseA hR ha (by decide) hn0
  have hcr := tw_cr C hR hS
  refine tw_sr C hR (fun hsr => ?_)
  have hnm := tw_nmB C
  have hcl := C.nw q6 rfl
  obtain ⟨c0, t0', f1, f2, f3⟩ := Cond.castable_spec (va_Nw.use (A := args) rfl hcl)
  cases hnm.symm.trans f1
  intro T hT X
  have hc0 : H[a]? = some (vp_cell (G.2.1 2) (n, .inl f)) := (hR.st ha hba).1
  have hcellT : T.heap[a]? = some (vp_cell (G.2.1 2) (n, .inl f)) := by rw [hT]; exact hc0
  have hsz0 : (vp_cell (G.2.1 2) (n, .inl f)).slots.size = n := tw_vsize _ _ _
  obtain ⟨-, kA, hkA, comp, hkind⟩ := State.isArrayOf_alike X.warmed.alike ((C.hK.2 2 _ rfl).1 0 (fun _ => .null))
  obtain ⟨-, kS, hkS, compS, hkindS⟩ := (C.hK.2 2 _ rfl).1 0 (fun _ => .null)
  obtain ⟨vm', X', st⟩ := X.cloneArray C.hx C.ho (C.hts _ q1) (C.hts _ q2) (C.hts _ q3) (C.hts _ q4) (C.hts _ q5) (a := a) (cell := vp_cell (G.2.1 2) (n, .inl f)) hcellT (fun k h => by cases h) (fun h => by cases h) hnm f2 f3
    (fun i v hv => by
      have hk' : T.vm.classes[G.2.1 2]? = some kA := hkA
      have hi : i < n := by
        have h := (Array.getElem?_eq_some_iff.mp hv).1
        rw [hsz0] at h
        exact h
      have hv2 : (arrV (G.2.1 2) n (fun j => .int (f j))).slots[i]? = some v := hv
      rw [arrV_read _ _ hi] at hv2
      cases hv2
      have hcls : (vp_cell (G.2.1 2) (n, .inl f)).cls = G.2.1 2 := rfl
      rw [hcls]
      simpa [State.fitsSlot, State.slotType?, hk', hkind] using hfit i hi)
    (g := F0 m pc ls (.ref a :: rest)) rfl (by rw [C.hml]; exact hsz) rfl (by rw [C.hb]; exact hdg) hf (by show 2 * 0 + _ + 14 ≤ _; omega) (by omega) (by rw [hsz0]; omega) (hloader := Vm.clonesLoader_of_array hkS hkindS)
  have hcellE : ({ cls := (vp_cell (G.2.1 2) (n, .inl f)).cls, slots := (vp_cell (G.2.1 2) (n, .inl f)).slots } : Cell) = vp_cell (G.2.1 2) (n, .inl f) := rfl
  rw [hcellE, hsz0] at X'
  rw [hcellE] at st
  generalize hcl : vp_cell (G.2.1 2) (n, .inl f) = cell at X' st hsz0 hc0
  generalize hH1 : H.push cell = H1
  have z1 : H1.size = H.size + 1 := by rw [← hH1, Array.size_push]
  have e1 : H1[H.size]? = some cell := by rw [← hH1, Array.getElem?_push_size]
  have o1 : ∀ q : Nat, q < H.size → H1[q]? = H[q]? := fun q hq => by rw [← hH1, Array.getElem?_push, if_neg (Nat.ne_of_lt hq)]
  have hR1 := hR.push (e := .inl (2, n, .inl f)) (C.hA _ hS.1) z1 o1 e1 hsz0 (by rw [← hcl]; rfl) (by show va_at G.1 tw_cl (H.size, .inl (G.2.1 2, n, .inl f)) H1; show H1[H.size]? = some _; rw [e1, ← hcl]) h1 h2
  obtain ⟨t, b1, b2⟩ := tw_re C hR1 (kk (some H.size) _ H1 (hw H.size (tw_fresh hR) (tw_nb C hR C.hT.2.2.2.2.2.2.2.1 (C.hA _ hS.1))) hR1 (tw_Sp hS z1 o1)) ((T.setVm vm').pushCell cell) (by rw [← hH1, ← hT]; rfl) X'
  refine ⟨t, st t ?_, b2⟩
  rw [hT]
  exact b1
end TN
