-- arrays
section TWD
variable {p : Program} {l : Launch} {e : Env} {R : Room} {s : State} {m : MethodId} {args : Array Value} {below : List Frame} {meth : Method} {c : Code} {H : Heap} {locs : List Loc} {cells slots : Nat} {Q : State → Prop} {G : Tgl} {cc : ByteArray} {nL : Nat} {own : String} {pc : Nat} {ls : Array Slot} {rest : List Value} {σ : Tst} {a n j : Nat}
theorem tw_vsize (cA : ClassId) (n : Nat) (d) : (vp_cell cA (n, d)).slots.size = n := by
  rcases d with d | d | d | d | d <;> exact arrV_size _ _ _
theorem tw_vmon (cA : ClassId) (x : vp_A) : (vp_cell cA x).monitor = {} := by
  obtain ⟨n, d⟩ := x
  rcases d with d | d | d | d | d <;> rfl
theorem tw_vvm (cA : ClassId) (x : vp_A) : (vp_cell cA x).vm = .none := by
  obtain ⟨n, d⟩ := x
  rcases d with d | d | d | d | d <;> rfl
theorem tw_aset {t : Nat} {d d'} (hR : tw_R G σ H) (ha : σ.1 a = some (.inl (t, n, d))) (hba : G.2.2.1 ≤ a) {H1 : Heap} (e1 : H1[a]? = some (vp_cell (G.2.1 t) (n, d'))) (z : H1.size = H.size) (oq : ∀ q, q ≠ a → H1[q]? = H[q]?) : tw_R G (st_up σ a (.inl (t, n, d'))) H1 :=
  hR.set hba (hR.st ha hba).1 e1 (by rw [tw_vsize]; exact (tw_vsize _ _ _).symm) (fun _ => tw_vmon _ _) z oq e1 (hR.st ha hba).2
theorem tw_oa {t : Nat} {x : vp_A} (hR : tw_R G σ H) (ha : σ.1 a = some (.inl (t, x))) (hba : G.2.2.1 ≤ a) : va_P G.1 tw_cl [(a, .inl (G.2.1 t, x))] H := by
  intro k q hk
  cases k with
  | zero => cases hk; exact (hR.st ha hba).1
  | succ k => cases hk
theorem tw_ix (hj : j < n) (h : j < 2147483648) : vp_in (nI j) n := by
  rintro (g | g)
  · exact absurd g (nI_pos h)
  · rw [nI_clamp h] at g
    exact absurd hj (Nat.not_lt.mpr g)
theorem tw_vix {i : Int32} {cA : ClassId} {d} (hin : vp_in i n) : ¬ (i < 0 ∨ (vp_cell cA (n, d)).slots.size ≤ i.toNatClampNeg) := by
  rw [tw_vsize]; exact hin
theorem tw_wia (C : tw_C p l R s m args meth c G cc nL own) {t : Nat} {ty : FieldType} {cell : Cell} (h1 : cell.cls = G.2.1 t) (h2 : cell.vm.isStatics = false) (ht : (tw_tys G)[t]? = some (G.2.1 t, ty)) : s.isArrayOf cell ty := by
  obtain ⟨-, h⟩ := (C.hK.2 t _ ht).1 0 (fun _ => .null)
  exact ⟨VmData.noStatics_of h2, by rw [h1]; exact h⟩
theorem tw_alen (C : tw_C p l R s m args meth c G cc nL own) (hR : tw_R G σ H) {t : Nat} {ty : FieldType} {d} (ht : (tw_tys G)[t]? = some (G.2.1 t, ty)) (ha : σ.1 a = some (.inl (t, n, d))) (hdg : decode cc pc = .ok (.arraylength, 1))
    (kk : W p l e R s m args below meth c H locs cells slots Q (F0 m (pc + 1) ls (.int (nI n) :: rest))) : W p l e R s m args below meth c H locs cells slots Q (F0 m pc ls (va_rf (some a) :: rest)) :=
  by
  obtain ⟨cell, q1, q2, q3, q4, q5, -⟩ := hR.wk ha
  exact W.alen (n := nI n) C.hx C.hb q1 (tw_wia C q2 q4 ht) (by exact q5) rfl rfl hdg kk
theorem tw_iald (C : tw_C p l R s m args meth c G cc nL own) (hR : tw_R G σ H) {f : Nat → Int32} (ha : σ.1 a = some (.inl (0, n, .inl f))) (hj : j < n) (h : j < 2147483648) (hdg : decode cc pc = .ok (.iaload, 1))
    (kk : W p l e R s m args below meth c H locs cells slots Q (F0 m (pc + 1) ls (.int (f j) :: rest))) : W p l e R s m args below meth c H locs cells slots Q (F0 m pc ls (.int (nI j) :: va_rf (some a) :: rest)) :=
  va_iald C.hx C.hb C.hK (tw_oa hR ha (tw_baseA hR ha (by decide) hj)) 0 0 rfl rfl (tw_ix hj h) hdg (by rw [nI_clamp h]; exact kk)
theorem tw_cald (C : tw_C p l R s m args meth c G cc nL own) (hR : tw_R G σ H) {f : Nat → Int32} (ha : σ.1 a = some (.inl (1, n, .inl f))) (hj : j < n) (h : j < 2147483648) (hdg : decode cc pc = .ok (.caload, 1))
    (kk : W p l e R s m args below meth c H locs cells slots Q (F0 m (pc + 1) ls (.int (f j) :: rest))) : W p l e R s m args below meth c H locs cells slots Q (F0 m pc ls (.int (nI j) :: va_rf (some a) :: rest)) :=
  va_cald C.hx C.hb C.hK (tw_oa hR ha (tw_baseA hR ha (by decide) hj)) 0 1 rfl rfl (tw_ix hj h) hdg (by rw [nI_clamp h]; exact kk)
theorem tw_bald (C : tw_C p l R s m args meth c G cc nL own) (hR : tw_R G σ H) {t : Nat} (ht : t = 2 ∨ t = 10) {f : Nat → Int32} (ha : σ.1 a = some (.inl (t, n, .inl f))) (hj : j < n) (h : j < 2147483648) (hdg : decode cc pc = .ok (.baload, 1))
    (kk : W p l e R s m args below meth c H locs cells slots Q (F0 m (pc + 1) ls (.int (f j) :: rest))) : W p l e R s m args below meth c H locs cells slots Q (F0 m pc ls (.int (nI j) :: va_rf (some a) :: rest)) := by
  rcases ht with rfl | rfl
  · exact va_bald C.hx C.hb C.hK (tw_oa hR ha (tw_baseA hR ha (by decide) hj)) 0 2 rfl rfl (tw_ix hj h) hdg (by rw [nI_clamp h]; exact kk)
  · obtain ⟨cell, q1, q2, q3, q4, q5, q6⟩ := hR.wk ha
    have hrd : cell.slots[j]? = some (.int (f j)) := q6 _ _ (by
      show (arrV _ n (fun j => .int (f j))).slots[j]? = _
      rw [arrV_read _ _ hj])
    refine W.bald (v := .int (f j)) C.hx C.hb q1 (tw_wia C q2 q4 (ty := .byte) rfl) q3 (fun hh => ?_) (by rw [nI_clamp h]; exact hrd) rfl rfl hdg kk
    rcases hh with g | g
    · exact absurd g (nI_pos h)
    · rw [nI_clamp h] at g
      have := (Array.getElem?_eq_some_iff.mp hrd).1
      omega
theorem tw_lald (C : tw_C p l R s m args meth c G cc nL own) (hR : tw_R G σ H) {f : Nat → Int64} (ha : σ.1 a = some (.inl (3, n, .inr (.inl f)))) (hj : j < n) (h : j < 2147483648) (hdg : decode cc pc = .ok (.laload, 1))
    (kk : W p l e R s m args below meth c H locs cells slots Q (F0 m (pc + 1) ls (.long (f j) :: rest))) : W p l e R s m args below meth c H locs cells slots Q (F0 m pc ls (.int (nI j) :: va_rf (some a) :: rest)) :=
  va_lald C.hx C.hb C.hK (tw_oa hR ha (tw_baseA hR ha (by decide) hj)) 0 3 rfl rfl (tw_ix hj h) hdg (by rw [nI_clamp h]; exact kk)
theorem tw_dald (C : tw_C p l R s m args meth c G cc nL own) (hR : tw_R G σ H) {f : Nat → UInt64} (ha : σ.1 a = some (.inl (4, n, .inr (.inr (.inr (.inl f)))))) (hj : j < n) (h : j < 2147483648) (hdg : decode cc pc = .ok (.daload, 1))
    (kk : W p l e R s m args below meth c H locs cells slots Q (F0 m (pc + 1) ls (.double (f j) :: rest))) : W p l e R s m args below meth c H locs cells slots Q (F0 m pc ls (.int (nI j) :: va_rf (some a) :: rest)) :=
  va_dald C.hx C.hb C.hK (tw_oa hR ha (tw_baseA hR ha (by decide) hj)) 0 4 rfl rfl (tw_ix hj h) hdg (by rw [nI_clamp h]; exact kk)
theorem tw_aald (C : tw_C p l R s m args meth c G cc nL own) (hR : tw_R G σ H) {t : Nat} {ty : FieldType} (ht : (tw_tys G)[t]? = some (G.2.1 t, ty)) (hty : ty.isReference = true) {f : Nat → Option Nat} (ha : σ.1 a = some (.inl (t, n, .inr (.inr (.inr (.inr f)))))) (hj : j < n) (h : j < 2147483648) (hdg : decode cc pc = .ok (.aaload, 1))
    (kk : W p l e R s m args below meth c H locs cells slots Q (F0 m (pc + 1) ls (va_rf (f j) :: rest))) : W p l e R s m args below meth c H locs cells slots Q (F0 m pc ls (.int (nI j) :: va_rf (some a) :: rest)) := by
  have hba := tw_baseA hR ha (fun e => by subst e; cases ht; cases hty) hj
  refine W.aald (v := va_rf (f j)) (ty := ty) C.hx C.hb (hR.st ha hba).1 ((C.hK.2 t _ ht).1 n (fun j => va_rf (f j))) hty (fun q => by cases q) (tw_vix (tw_ix hj h)) ?_ rfl rfl hdg kk
  rw [nI_clamp h]
  show (arrV _ _ _).slots[j]? = _
  rw [arrV_read _ _ hj]
theorem tw_iast (C : tw_C p l R s m args meth c G cc nL own) (hR : tw_R G σ H) (hS : va_S (tw_A G) s.heap H locs) {f : Nat → Int32} {x : Int32} (ha : σ.1 a = some (.inl (0, n, .inl f))) (hj : j < n) (h : j < 2147483648) (hdg : decode cc pc = .ok (.iastore, 1))
    (kk : ∀ (H : Heap) (locs : List Loc), tw_R G (st_up σ a (.inl (0, n, .inl (upd f j x)))) H → va_S (tw_A G) s.heap H locs → W p l e R s m args below meth c H locs cells slots Q (F0 m (pc + 1) ls rest)) : W p l e R s m args below meth c H locs cells slots Q (F0 m pc ls (.int x :: .int (nI j) :: va_rf (some a) :: rest)) := by
  have hba := tw_baseA hR ha (by decide) hj
  refine W.iast C.hx C.hb (hR.st ha hba).1 ((C.hK.2 0 _ rfl).1 n (fun j => .int (f j))) (fun q => by cases q) (tw_vix (tw_ix hj h)) rfl rfl hdg fun H1 e z oq => ?_
  refine kk H1 _ (tw_aset hR ha hba ?_ z oq) (hS.put z oq hba)
  rw [e, nI_clamp h]
  show some ((vp_cell (G.2.1 0) (n, .inl f)).setSlot j _) = some (vp_cell (G.2.1 0) (n, _))
  rw [vp_cell_i, vp_cell_i]
  rw [arrV_store]
  congr 2
  funext q
  by_cases hq : q = j
  · subst hq; simp [updV, upd]
  · simp [updV, upd, hq]
theorem tw_cast (C : tw_C p l R s m args meth c G cc nL own) (hR : tw_R G σ H) (hS : va_S (tw_A G) s.heap H locs) {f : Nat → Int32} {x : Int32} (ha : σ.1 a = some (.inl (1, n, .inl f))) (hj : j < n) (h : j < 2147483648) (hdg : decode cc pc = .ok (.castore, 1))
    (kk : ∀ (H : Heap) (locs : List Loc), tw_R G (st_up σ a (.inl (1, n, .inl (upd f j (vp_nar .char x))))) H → va_S (tw_A G) s.heap H locs → W p l e R s m args below meth c H locs cells slots Q (F0 m (pc + 1) ls rest)) : W p l e R s m args below meth c H locs cells slots Q (F0 m pc ls (.int x :: .int (nI j) :: va_rf (some a) :: rest)) := by
  have hba := tw_baseA hR ha (by decide) hj
  refine W.cast C.hx C.hb (hR.st ha hba).1 ((C.hK.2 1 _ rfl).1 n (fun j => .int (f j))) (fun q => by cases q) (tw_vix (tw_ix hj h)) rfl rfl hdg fun H1 e z oq => ?_
  refine kk H1 _ (tw_aset hR ha hba ?_ z oq) (hS.put z oq hba)
  rw [e, nI_clamp h]
  show some ((vp_cell (G.2.1 1) (n, .inl f)).setSlot j _) = some (vp_cell (G.2.1 1) (n, _))
  rw [vp_cell_i, vp_cell_i]
  rw [arrV_store]
  congr 2
  funext q
  by_cases hq : q = j
  · subst hq; simp [updV, upd, vp_nar]; try rfl
  · simp [updV, upd, hq]
theorem tw_bast (C : tw_C p l R s m args meth c G cc nL own) (hR : tw_R G σ H) (hS : va_S (tw_A G) s.heap H locs) {f : Nat → Int32} {x : Int32} (ha : σ.1 a = some (.inl (2, n, .inl f))) (hj : j < n) (h : j < 2147483648) (hdg : decode cc pc = .ok (.bastore, 1))
    (kk : ∀ (H : Heap) (locs : List Loc), tw_R G (st_up σ a (.inl (2, n, .inl (upd f j x.toInt8.toInt32)))) H → va_S (tw_A G) s.heap H locs → W p l e R s m args below meth c H locs cells slots Q (F0 m (pc + 1) ls rest)) : W p l e R s m args below meth c H locs cells slots Q (F0 m pc ls (.int x :: .int (nI j) :: va_rf (some a) :: rest)) := by
  have hba := tw_baseA hR ha (by decide) hj
  refine W.bast C.hx C.hb (hR.st ha hba).1 ((C.hK.2 2 _ rfl).1 n (fun j => .int (f j))) (fun q => by cases q) (tw_vix (tw_ix hj h)) rfl rfl hdg fun H1 e z oq => ?_
  refine kk H1 _ (tw_aset hR ha hba ?_ z oq) (hS.put z oq hba)
  rw [e, nI_clamp h, narrow_byte]
  show some ((vp_cell (G.2.1 2) (n, .inl f)).setSlot j _) = some (vp_cell (G.2.1 2) (n, _))
  rw [vp_cell_i, vp_cell_i]
  rw [arrV_store]
  congr 2
  funext q
  by_cases hq : q = j
  · subst hq; simp [updV, upd]
  · simp [updV, upd, hq]
theorem tw_last (C : tw_C p l R s m args meth c G cc nL own) (hR : tw_R G σ H) (hS : va_S (tw_A G) s.heap H locs) {f : Nat → Int64} {x : Int64} (ha : σ.1 a = some (.inl (3, n, .inr (.inl f)))) (hj : j < n) (h : j < 2147483648) (hdg : decode cc pc = .ok (.lastore, 1))
    (kk : ∀ (H : Heap) (locs : List Loc), tw_R G (st_up σ a (.inl (3, n, .inr (.inl (va_up f j x))))) H → va_S (tw_A G) s.heap H locs → W p l e R s m args below meth c H locs cells slots Q (F0 m (pc + 1) ls rest)) : W p l e R s m args below meth c H locs cells slots Q (F0 m pc ls (.long x :: .int (nI j) :: va_rf (some a) :: rest)) := by
  have hba := tw_baseA hR ha (by decide) hj
  refine W.last C.hx C.hb (hR.st ha hba).1 ((C.hK.2 3 _ rfl).1 n (fun j => .long (f j))) (fun q => by cases q) (tw_vix (tw_ix hj h)) rfl rfl hdg fun H1 e z oq => ?_
  refine kk H1 _ (tw_aset hR ha hba ?_ z oq) (hS.put z oq hba)
  rw [e, nI_clamp h]
  show some ((vp_cell (G.2.1 3) (n, .inr (.inl f))).setSlot j _) = some (vp_cell (G.2.1 3) (n, _))
  rw [vp_cell_l, vp_cell_l]
  rw [arrV_store]
  congr 2
  funext q
  by_cases hq : q = j
  · subst hq; simp [updV, va_up]
  · simp [updV, va_up, hq]
theorem tw_dast (C : tw_C p l R s m args meth c G cc nL own) (hR : tw_R G σ H) (hS : va_S (tw_A G) s.heap H locs) {f : Nat → UInt64} {x : UInt64} (ha : σ.1 a = some (.inl (4, n, .inr (.inr (.inr (.inl f)))))) (hj : j < n) (h : j < 2147483648) (hdg : decode cc pc = .ok (.dastore, 1))
    (kk : ∀ (H : Heap) (locs : List Loc), tw_R G (st_up σ a (.inl (4, n, .inr (.inr (.inr (.inl (va_up f j x))))))) H → va_S (tw_A G) s.heap H locs → W p l e R s m args below meth c H locs cells slots Q (F0 m (pc + 1) ls rest)) : W p l e R s m args below meth c H locs cells slots Q (F0 m pc ls (.double x :: .int (nI j) :: va_rf (some a) :: rest)) := by
  have hba := tw_baseA hR ha (by decide) hj
  refine W.dast C.hx C.hb (hR.st ha hba).1 ((C.hK.2 4 _ rfl).1 n (fun j => .double (f j))) (fun q => by cases q) (tw_vix (tw_ix hj h)) rfl rfl hdg fun H1 e z oq => ?_
  refine kk H1 _ (tw_aset hR ha hba ?_ z oq) (hS.put z oq hba)
  rw [e, nI_clamp h]
  show some ((vp_cell (G.2.1 4) (n, .inr (.inr (.inr (.inl f))))).setSlot j _) = some (vp_cell (G.2.1 4) (n, _))
  rw [vp_cell_d, vp_cell_d]
  rw [arrV_store]
  congr 2
  funext q
  by_cases hq : q = j
  · subst hq; simp [updV, va_up]
  · simp [updV, va_up, hq]
/-- what may be stored in an array of references: null, an object of just this class, an object whose class casts to it -/
theorem tw_aastq {t : Nat} {f : Nat → Option Nat} {r : Option Nat} (hR : tw_R G σ H) (ha : σ.1 a = some (.inl (t, n, .inr (.inr (.inr (.inr f)))))) (hba : G.2.2.1 ≤ a) {H1 : Heap} (e1 : H1[a]? = some ((vp_cell (G.2.1 t) (n, .inr (.inr (.inr (.inr f))))).setSlot j (va_rf r))) (z : H1.size = H.size) (oq : ∀ q, q ≠ a → H1[q]? = H[q]?) : tw_R G (st_up σ a (.inl (t, n, .inr (.inr (.inr (.inr (va_up f j r))))))) H1 := by
  refine tw_aset hR ha hba ?_ z oq
  rw [e1]
  show some ((vp_cell (G.2.1 t) (n, .inr (.inr (.inr (.inr f))))).setSlot j _) = some (vp_cell (G.2.1 t) (n, _))
  rw [vp_cell_q, vp_cell_q]
  rw [arrV_store]
  congr 2
  funext q
  by_cases hq : q = j
  · subst hq; simp [updV, va_up]
  · simp [updV, va_up, hq]
theorem tw_aastN (C : tw_C p l R s m args meth c G cc nL own) (hR : tw_R G σ H) (hS : va_S (tw_A G) s.heap H locs) {t : Nat} {E : String} (ht : (tw_tys G)[t]? = some (G.2.1 t, .object E)) (h10 : ¬ t = 10) {f : Nat → Option Nat} (ha : σ.1 a = some (.inl (t, n, .inr (.inr (.inr (.inr f)))))) (hj : j < n) (h : j < 2147483648) (hdg : decode cc pc = .ok (.aastore, 1))
    (kk : ∀ (H : Heap) (locs : List Loc), tw_R G (st_up σ a (.inl (t, n, .inr (.inr (.inr (.inr (va_up f j none))))))) H → va_S (tw_A G) s.heap H locs → W p l e R s m args below meth c H locs cells slots Q (F0 m (pc + 1) ls rest)) : W p l e R s m args below meth c H locs cells slots Q (F0 m pc ls (va_rf none :: .int (nI j) :: va_rf (some a) :: rest)) := by
  have hba := tw_baseA hR ha h10 hj
  refine va_WaastN C.hx C.hb (hR.st ha hba).1 ((C.hK.2 t _ ht).1 n (fun j => va_rf (f j))) (fun q => by cases q) (tw_vix (tw_ix hj h)) rfl rfl hdg fun H1 e z oq => ?_
  rw [nI_clamp h] at e
  exact kk H1 _ (tw_aastq (r := none) hR ha hba e z oq) (hS.put z oq hba)
theorem tw_aast (C : tw_C p l R s m args meth c G cc nL own) (hR : tw_R G σ H) (hS : va_S (tw_A G) s.heap H locs) {t : Nat} {E : String} (ht : (tw_tys G)[t]? = some (G.2.1 t, .object E)) (h10 : ¬ t = 10) {f : Nat → Option Nat} (ha : σ.1 a = some (.inl (t, n, .inr (.inr (.inr (.inr f)))))) (hj : j < n) (h : j < 2147483648) {v ci : Nat} {vs : List Tfv} {Cn : String} {Tn : u_T} {N : Nat} (hv : σ.1 v = some (.inr (ci, vs))) (hc : tw_cl[ci]? = some (Cn, Tn, N)) (hcast : Cn = E ∨ Cond.castable Cn E ∈ lw_tbl) (hdg : decode cc pc = .ok (.aastore, 1))
    (kk : ∀ (H : Heap) (locs : List Loc), tw_R G (st_up σ a (.inl (t, n, .inr (.inr (.inr (.inr (va_up f j (some v)))))))) H → va_S (tw_A G) s.heap H locs → W p l e R s m args below meth c H locs cells slots Q (F0 m (pc + 1) ls rest)) : W p l e R s m args below meth c H locs cells slots Q (F0 m pc ls (va_rf (some v) :: .int (nI j) :: va_rf (some a) :: rest)) := by
  have hba := tw_baseA hR ha h10 hj
  obtain ⟨r', cellV, hr', g1, g2, -, g3, -⟩ := hR.wk hv
  have hr : r' = (Cn, Tn, N) := Option.some.inj (hr'.symm.trans hc)
  subst hr
  have hcls := (C.hK.1 ci _ hc).2
  obtain ⟨kA, comp, k1, k2, k3, -⟩ := (C.hK.2 t _ ht).2
  obtain ⟨kC, hkC, -⟩ := hcls.2
  have hasg : s.vm.assignable (G.1.1 ci) comp = true := by
    rcases hcast with rfl | hq
    · have hcomp : comp = G.1.1 ci := Option.some.inj (k3.symm.trans hcls.1)
      rw [hcomp]
      exact va_assign hcls
    · obtain ⟨c0, t0, f1, f2, f3⟩ := Cond.castable_spec (va_Nw.use (A := args) rfl (C.nw hq rfl))
      cases f1.symm.trans hcls.1
      cases f2.symm.trans k3
      exact f3
  have hcomp : ∃ kcomp, s.vm.classes[comp]? = some kcomp := by
    obtain ⟨k', hk', -⟩ := Vm.findClass_spec k3
    exact ⟨k', hk'⟩
  obtain ⟨kcomp, hkcomp⟩ := hcomp
  have hin := tw_ix hj h
  refine W.aast C.hx C.hb (hR.st ha hba).1 (fun q h => by cases h) (fun h => by cases h) k1 k2 rfl hkcomp ⟨fun q => hin (Or.inl q), by rw [tw_vsize, nI_clamp h]; exact hj⟩ g1 (fun q h => by rw [h] at g3; cases g3) (by rw [g2]; exact hkC) (by rw [g2]; exact hasg) rfl rfl hdg fun H1 e z oq => ?_
  rw [nI_clamp h] at e
  exact kk H1 _ (tw_aastq (r := some v) hR ha hba e z oq) (hS.put z oq hba)
-- new arrays
theorem tw_newa (C : tw_C p l R s m args meth c G cc nL own) (hR : tw_R G σ H) (hS : va_S (tw_A G) s.heap H locs) {atype : ArrayType} {t : Nat} {d} (harr : Cond.arrayClass (newarray.typeOf atype) ∈ lw_all) (ht : (tw_tys G)[t]? = some (G.2.1 t, newarray.typeOf atype)) (hra : va_RA s (G.2.1 t) (newarray.typeOf atype) → s.vm.findClass ("[" ++ (newarray.typeOf atype).toString) = some (G.2.1 t)) (hd : ∀ cA, vp_cell cA (n, d) = arrV cA n (fun _ => defaultValue (newarray.typeOf atype)))
    (hn : n < 33554432) (hbytes : n * componentBytes (newarray.typeOf atype) ≤ 536870912) (h1 : 1 ≤ σ.2.1) (h2 : n ≤ σ.2.2.1) (hdg : decode cc pc = .ok (.newarray atype, 2))
    (kk : ∀ (q : Nat) (H : Heap), σ.1 q = none → G.2.2.1 ≤ q → tw_R G (st_al σ q (.inl (t, n, d)) n) H → va_S (tw_A G) s.heap H locs → tw_W p l e R s m args below meth c (st_al σ q (.inl (t, n, d)) n) H locs Q (F0 m (pc + 2) ls (va_rf (some q) :: rest))) : tw_W p l e R s m args below meth c σ H locs Q (F0 m pc ls (.int (nI n) :: rest)) := by
  have hcr := tw_cr C hR hS
  have hn31 : n < 2147483648 := Nat.lt_trans hn (by decide)
  refine tw_sr C hR (fun hsr => ?_)
  refine va_newaK C.hx C.hb (C.hts _ harr) rfl hdg rfl (nI_pos hn31) (nI_clamp hn31) hbytes (by omega) (by omega) rfl fun H1 cA e1 z1 o1 hAr hNm => ?_
  have hcA : cA = G.2.1 t := Option.some.inj (hNm.symm.trans (hra (C.hK.2 t _ ht).2))
  subst hcA
  rw [← hd] at e1
  have hR1 := hR.push (e := .inl (t, n, d)) (C.hA _ hS.1) z1 o1 e1 (tw_vsize _ _ _) (tw_vmon _ _) e1 h1 h2
  exact tw_re C hR1 (kk H.size H1 (tw_fresh hR) (C.hA _ hS.1) hR1 (tw_Sp hS z1 o1))
theorem tw_anew (C : tw_C p l R s m args meth c G cc nL own) (hR : tw_R G σ H) (hS : va_S (tw_A G) s.heap H locs) {Cn : String} {index t : Nat} (hcl : Cond.classLink own index Cn ∈ lw_all) (hover : (Cond.arrayOver (.object Cn)).before args s = true) (ht : (tw_tys G)[t]? = some (G.2.1 t, .object Cn))
    (hn : n < 33554432) (h1 : 1 ≤ σ.2.1) (h2 : n ≤ σ.2.2.1) (hdg : decode cc pc = .ok (.anewarray index, 3))
    (kk : ∀ (q : Nat) (H : Heap), σ.1 q = none → G.2.2.1 ≤ q → tw_R G (st_al σ q (.inl (t, n, .inr (.inr (.inr (.inr fun _ => none))))) n) H → va_S (tw_A G) s.heap H locs → tw_W p l e R s m args below meth c (st_al σ q (.inl (t, n, .inr (.inr (.inr (.inr fun _ => none))))) n) H locs Q (F0 m (pc + 3) ls (va_rf (some q) :: rest))) : tw_W p l e R s m args below meth c σ H locs Q (F0 m pc ls (.int (nI n) :: rest)) := by
  have hcr := tw_cr C hR hS
  have hn31 : n < 2147483648 := Nat.lt_trans hn (by decide)
  have hcl31 := nI_clamp hn31
  refine tw_sr C hR (fun hsr => ?_)
  refine W.anew C.hx C.hb C.ho (C.hts _ hcl) hover rfl hdg rfl (nI_pos hn31) (by rw [hcl31]; omega) (by omega) (by rw [hcl31]; omega) fun cA kA comp f1 f2 f3 f4 => ?_
  obtain ⟨kA', comp', k1, k2, k3, k4⟩ := (C.hK.2 t _ ht).2
  have hcA : cA = G.2.1 t := Option.some.inj (f1.symm.trans k4)
  subst hcA
  have e1 : (H.push ({ cls := G.2.1 t, slots := Array.replicate (nI n).toNatClampNeg .null, vm := .none } : Cell))[H.size]? = some (vp_cell (G.2.1 t) (n, .inr (.inr (.inr (.inr fun _ => none))))) := by
    rw [Array.getElem?_push_size, hcl31, arrV_new]
    rfl
  have hR1 := hR.push (e := .inl (t, n, .inr (.inr (.inr (.inr fun _ => none))))) (C.hA _ hS.1) (Array.size_push _) (fun q hq => Array.getElem?_push_lt hq ▸ (Array.getElem?_eq_getElem hq).symm) e1 (tw_vsize _ _ _) (tw_vmon _ _) e1 h1 h2
  exact tw_re C hR1 (kk H.size _ (tw_fresh hR) (C.hA _ hS.1) hR1 (tw_Sp hS (Array.size_push _) (fun q hq => Array.getElem?_push_lt hq ▸ (Array.getElem?_eq_getElem hq).symm)))
theorem tw_gets (C : tw_C p l R s m args meth c G cc nL own) (hS : va_S (tw_A G) s.heap H locs) {Cn n d ref : String} {v : Tfv} {index : Nat} (k : Nat) (hZ : (tw_sl G.2.2.2.2.2)[k]? = some (Cn, n, d, v)) (hlink : Cond.fieldLink own index ref n d ∈ lw_all) (hsame : ∀ x, s.fieldFound? Cn n d = some x → s.fieldFound? ref n d = some x) (hdg : decode cc pc = .ok (.getstatic index, 3))
    (kk : W p l e R s m args below meth c H locs cells slots Q (F0 m (pc + 3) ls (tw_v v :: rest))) : W p l e R s m args below meth c H locs cells slots Q (F0 m pc ls rest) :=
  va_gets C.hx C.hb (C.hT.2.2.2.2.1 _ (List.mem_of_getElem? hZ)) hS C.ho (C.hts _ hlink) hsame hdg kk
-- casts
theorem tw_cellof (C : tw_C p l R s m args meth c G cc nL own) (hR : tw_R G σ H) {ci : Nat} {fs : List Tfv} (ha : σ.1 a = some (.inr (ci, fs))) {Cn : String} {Tn : u_T} {N : Nat} (hc : tw_cl[ci]? = some (Cn, Tn, N)) (hba : G.2.2.1 ≤ a) : ∃ cell : Cell, H[a]? = some cell ∧ cell.vm = .none ∧ s.vm.findClass Cn = some cell.cls := by
  obtain ⟨r', hr', cellV, g1, g2, g3, -⟩ := (hR.st ha hba).1
  have hr : r' = (Cn, Tn, N) := Option.some.inj (hr'.symm.trans hc)
  subst hr
  exact ⟨cellV, g1, g3, by rw [g2]; exact (C.hK.1 ci _ hc).2.1⟩
theorem tw_recv (C : tw_C p l R s m args meth c G cc nL own) (hR : tw_R G σ H) {ci : Nat} {fs : List Tfv} (ha : σ.1 a = some (.inr (ci, fs))) {Cn : String} {Tn : u_T} {N : Nat} (hc : tw_cl[ci]? = some (Cn, Tn, N)) : ∃ cell : Cell, H[a]? = some cell ∧ cell.vm.isStatics = false ∧ s.vm.findClass Cn = some cell.cls := by
  obtain ⟨r', cellV, hr', g1, g2, -, g3, -⟩ := hR.wk ha
  have hr : r' = (Cn, Tn, N) := Option.some.inj (hr'.symm.trans hc)
  subst hr
  exact ⟨cellV, g1, g3, by rw [g2]; exact (C.hK.1 ci _ hc).2.1⟩
theorem tw_castS (C : tw_C p l R s m args meth c G cc nL own) (hR : tw_R G σ H) {ci : Nat} {fs : List Tfv} (ha : σ.1 a = some (.inr (ci, fs))) {Cn : String} {Tn : u_T} {N index : Nat} (hc : tw_cl[ci]? = some (Cn, Tn, N)) (hlink : Cond.classLink own index Cn ∈ lw_all) (hdg : decode cc pc = .ok (.checkcast index, 3))
    (kk : W p l e R s m args below meth c H locs cells slots Q (F0 m (pc + 3) ls (va_rf (some a) :: rest))) : W p l e R s m args below meth c H locs cells slots Q (F0 m pc ls (va_rf (some a) :: rest)) :=
  va_castS C.hx C.hb C.ho (C.hts _ hlink) (C.hK.1 ci _ hc).2 (tw_recv C hR ha hc) hdg kk
theorem tw_castY (C : tw_C p l R s m args meth c G cc nL own) (hR : tw_R G σ H) {ci : Nat} {fs : List Tfv} (ha : σ.1 a = some (.inr (ci, fs))) {Cn nm : String} {Tn : u_T} {N index : Nat} (hc : tw_cl[ci]? = some (Cn, Tn, N)) (hlink : Cond.classLink own index nm ∈ lw_all) (hca : Cond.castable Cn nm ∈ lw_tbl) (hdg : decode cc pc = .ok (.checkcast index, 3))
    (kk : W p l e R s m args below meth c H locs cells slots Q (F0 m (pc + 3) ls (va_rf (some a) :: rest))) : W p l e R s m args below meth c H locs cells slots Q (F0 m pc ls (va_rf (some a) :: rest)) :=
  va_castY C.hx C.hb C.ho (C.hts _ hlink) (C.nw hca rfl) (tw_recv C hR ha hc) hdg kk
theorem tw_castN (C : tw_C p l R s m args meth c G cc nL own) {index : Nat} (hdg : decode cc pc = .ok (.checkcast index, 3))
    (kk : W p l e R s m args below meth c H locs cells slots Q (F0 m (pc + 3) ls (va_rf none :: rest))) : W p l e R s m args below meth c H locs cells slots Q (F0 m pc ls (va_rf none :: rest)) := lv_castN C.hx C.hb hdg kk
end TWD
