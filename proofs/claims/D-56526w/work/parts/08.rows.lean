/-! rows over the abstract state -/
set_option maxRecDepth 100000
/-- what holds all through a method: the machine, the code, the words, the tables, the room -/
def tw_C (p : Program) (l : Launch) (R : Room) (s : State) (m : MethodId) (args : Array Value) (meth : Method) (c : Code) (G : Tgl) (cc : ByteArray) (nL : Nat) (own : String) : Prop :=
  p.tables.exec = Jvm.exec ∧ c.code = cc ∧ c.maxLocals = nL ∧ s.vm.findClass own = some m.cls ∧ (∀ w ∈ lw_all, w.before args s = true) ∧ meth.locks = false ∧ tw_T G s ∧ s.heap.size + R.cells = G.2.2.2.1 ∧ tw_tot s.heap + R.slots = G.2.2.2.2.1 ∧ l.stackTraces = false
section TWC
variable {p : Program} {l : Launch} {e : Env} {R : Room} {s : State} {m : MethodId} {args : Array Value} {below : List Frame} {meth : Method} {c : Code} {H : Heap} {locs : List Loc} {cells slots : Nat} {Q : State → Prop} {G : Tgl} {cc : ByteArray} {nL : Nat} {own : String}
theorem tw_C.hx (C : tw_C p l R s m args meth c G cc nL own) : p.tables.exec = Jvm.exec := C.1
theorem tw_C.hb (C : tw_C p l R s m args meth c G cc nL own) : c.code = cc := C.2.1
theorem tw_C.hml (C : tw_C p l R s m args meth c G cc nL own) : c.maxLocals = nL := C.2.2.1
theorem tw_C.ho (C : tw_C p l R s m args meth c G cc nL own) : s.vm.findClass own = some m.cls := C.2.2.2.1
theorem tw_C.hts (C : tw_C p l R s m args meth c G cc nL own) : ∀ w ∈ lw_all, w.before args s = true := C.2.2.2.2.1
theorem tw_C.hlk (C : tw_C p l R s m args meth c G cc nL own) : meth.locks = false := C.2.2.2.2.2.1
theorem tw_C.hT (C : tw_C p l R s m args meth c G cc nL own) : tw_T G s := C.2.2.2.2.2.2.1
theorem tw_C.hc (C : tw_C p l R s m args meth c G cc nL own) : s.heap.size + R.cells = G.2.2.2.1 := C.2.2.2.2.2.2.2.1
theorem tw_C.hs (C : tw_C p l R s m args meth c G cc nL own) : tw_tot s.heap + R.slots = G.2.2.2.2.1 := C.2.2.2.2.2.2.2.2.1
theorem tw_C.hst (C : tw_C p l R s m args meth c G cc nL own) : l.stackTraces = false := C.2.2.2.2.2.2.2.2.2
theorem tw_C.hK (C : tw_C p l R s m args meth c G cc nL own) : va_K G.1 tw_cl (tw_tys G) s := C.hT.1
theorem tw_C.nw (C : tw_C p l R s m args meth c G cc nL own) {w : Cond} (h : w ∈ lw_tbl) (hk : tw_ok w = true) : va_Nw w s := C.hT.2.1 w (List.mem_filter.mpr ⟨h, hk⟩)
theorem tw_C.hA (C : tw_C p l R s m args meth c G cc nL own) : ∀ q, s.heap.size ≤ q → tw_A G q := fun _ h => Nat.le_trans C.hT.2.2.2.2.2.1 h
abbrev tw_W (p : Program) (l : Launch) (e : Env) (R : Room) (s : State) (m : MethodId) (args : Array Value) (below : List Frame) (meth : Method) (c : Code) (σ : Tst) (H : Heap) (locs : List Loc) (Q : State → Prop) (g : JFrame) : Prop := W p l e R s m args below meth c H locs (R.cells - σ.2.1) (R.slots - σ.2.2.1) Q g
theorem tw_re (C : tw_C p l R s m args meth c G cc nL own) {σ : Tst} (hR : tw_R G σ H) {g : JFrame} (kk : tw_W p l e R s m args below meth c σ H locs Q g) : W p l e R s m args below meth c H locs cells slots Q g :=
  tw_tight (x := σ.2.1) (y := σ.2.2.1) (by rw [C.hc]; exact hR.2.2.1) (by rw [C.hs]; exact hR.2.2.2.1) kk
theorem tw_cr (C : tw_C p l R s m args meth c G cc nL own) {σ : Tst} (hR : tw_R G σ H) (hS : va_S (tw_A G) s.heap H locs) : σ.2.1 ≤ R.cells := by
  have h1 := C.hc
  have h2 := hR.2.2.1
  have h3 := hS.1
  omega
theorem tw_cat (r : Option Nat) : (va_rf r).category = 1 := by cases r <;> rfl
theorem tw_catv (x : Tfv) : (tw_v x).category = 1 := by
  cases x with
  | inl i => rfl
  | inr r => exact tw_cat r
variable {pc : Nat} {ls : Array Slot} {rest : List Value}
-- references in the locals and on the stack
theorem tw_aload_n (hexec : p.tables.exec = Jvm.exec) (hb : c.code = cc) {k : Fin 4} {i : Nat} {r : Option Nat} (hdg : decode cc pc = .ok (.aload_n k, 1)) (hi : (k : Nat) = i) (hl : ls[i]? = some (.val (va_rf r))) (kk : W p l e R s m args below meth c H locs cells slots Q (F0 m (pc + 1) ls (va_rf r :: rest))) : W p l e R s m args below meth c H locs cells slots Q (F0 m pc ls rest) := by
  cases r with
  | none => exact lv_aload_nN hexec hb hdg hi hl kk
  | some a => exact lv_aload_n hexec hb hdg hi hl kk
theorem tw_aload (hexec : p.tables.exec = Jvm.exec) (hb : c.code = cc) {i : Nat} {r : Option Nat} (hdg : decode cc pc = .ok (.aload i, 2)) (hl : ls[i]? = some (.val (va_rf r))) (kk : W p l e R s m args below meth c H locs cells slots Q (F0 m (pc + 2) ls (va_rf r :: rest))) : W p l e R s m args below meth c H locs cells slots Q (F0 m pc ls rest) := by
  cases r with
  | none => exact lv_aloadN hexec hb hdg hl kk
  | some a => exact lv_aload hexec hb hdg hl kk
theorem tw_astore_n (hexec : p.tables.exec = Jvm.exec) (hb : c.code = cc) {k : Fin 4} {i nL : Nat} {r : Option Nat} {lv lv' : List (Nat × Value)} (hdg : decode cc pc = .ok (.astore_n k, 1)) (hi : (k : Nat) = i) (h : lv_has ls nL lv) (hn : i < nL) (hl : (i, va_rf r) :: lv.filter (fun q => !(q.1 == i) && !(q.1 + 1 == i && q.2.category == 2)) = lv')
    (kk : ∀ ls' : Array Slot, lv_has ls' nL lv' → W p l e R s m args below meth c H locs cells slots Q (F0 m (pc + 1) ls' rest)) : W p l e R s m args below meth c H locs cells slots Q (F0 m pc ls (va_rf r :: rest)) := by
  cases r with
  | none => exact lv_astore_nN hexec hb hdg hi h hn hl kk
  | some a => exact lv_astore_n hexec hb hdg hi h hn hl kk
theorem tw_astore (hexec : p.tables.exec = Jvm.exec) (hb : c.code = cc) {i nL : Nat} {r : Option Nat} {lv lv' : List (Nat × Value)} (hdg : decode cc pc = .ok (.astore i, 2)) (h : lv_has ls nL lv) (hn : i < nL) (hl : (i, va_rf r) :: lv.filter (fun q => !(q.1 == i) && !(q.1 + 1 == i && q.2.category == 2)) = lv')
    (kk : ∀ ls' : Array Slot, lv_has ls' nL lv' → W p l e R s m args below meth c H locs cells slots Q (F0 m (pc + 2) ls' rest)) : W p l e R s m args below meth c H locs cells slots Q (F0 m pc ls (va_rf r :: rest)) := by
  cases r with
  | none => exact lv_astoreN hexec hb hdg h hn hl kk
  | some a => exact lv_astore hexec hb hdg h hn hl kk
theorem tw_ifnull (hexec : p.tables.exec = Jvm.exec) (hb : c.code = cc) {r : Option Nat} {off : Int} {tgt : Nat} (hdg : decode cc pc = .ok (.ifnull off, 3)) (ht : (pc : Int) + off = (tgt : Int))
    (k1 : r = none → W p l e R s m args below meth c H locs cells slots Q (F0 m tgt ls rest)) (k2 : ¬ r = none → W p l e R s m args below meth c H locs cells slots Q (F0 m (pc + 3) ls rest)) : W p l e R s m args below meth c H locs cells slots Q (F0 m pc ls (va_rf r :: rest)) := by
  cases r with
  | none => exact lv_ifnullN hexec hb hdg ht (k1 rfl)
  | some a => exact lv_ifnull hexec hb hdg (k2 (fun h => by cases h))
theorem tw_ifnonnull (hexec : p.tables.exec = Jvm.exec) (hb : c.code = cc) {r : Option Nat} {off : Int} {tgt : Nat} (hdg : decode cc pc = .ok (.ifnonnull off, 3)) (ht : (pc : Int) + off = (tgt : Int))
    (k1 : ¬ r = none → W p l e R s m args below meth c H locs cells slots Q (F0 m tgt ls rest)) (k2 : r = none → W p l e R s m args below meth c H locs cells slots Q (F0 m (pc + 3) ls rest)) : W p l e R s m args below meth c H locs cells slots Q (F0 m pc ls (va_rf r :: rest)) := by
  cases r with
  | none => exact lv_ifnonnullN hexec hb hdg (k2 rfl)
  | some a => exact lv_ifnonnull hexec hb hdg ht (k1 (fun h => by cases h))
theorem tw_dup (hexec : p.tables.exec = Jvm.exec) (hb : c.code = cc) {x : Tfv} (hdg : decode cc pc = .ok (.dup, 1)) (kk : W p l e R s m args below meth c H locs cells slots Q (F0 m (pc + 1) ls (tw_v x :: tw_v x :: rest))) : W p l e R s m args below meth c H locs cells slots Q (F0 m pc ls (tw_v x :: rest)) := lv_dup hexec hb hdg (tw_catv x) kk
theorem tw_pop (hexec : p.tables.exec = Jvm.exec) (hb : c.code = cc) {x : Tfv} (hdg : decode cc pc = .ok (.pop, 1)) (kk : W p l e R s m args below meth c H locs cells slots Q (F0 m (pc + 1) ls rest)) : W p l e R s m args below meth c H locs cells slots Q (F0 m pc ls (tw_v x :: rest)) := lv_pop hexec hb hdg (tw_catv x) kk
theorem tw_dup_x1 (hexec : p.tables.exec = Jvm.exec) (hb : c.code = cc) {x y : Tfv} (hdg : decode cc pc = .ok (.dup_x1, 1)) (kk : W p l e R s m args below meth c H locs cells slots Q (F0 m (pc + 1) ls (tw_v x :: tw_v y :: tw_v x :: rest))) : W p l e R s m args below meth c H locs cells slots Q (F0 m pc ls (tw_v x :: tw_v y :: rest)) := lv_dup_x1 hexec hb hdg (tw_catv x) (tw_catv y) kk
-- fields
theorem tw_get (C : tw_C p l R s m args meth c G cc nL own) {σ : Tst} (hR : tw_R G σ H) {a ci : Nat} {fs : List Tfv} (ha : σ.1 a = some (.inr (ci, fs))) {Cn ref : String} {Tn : u_T} {N index : Nat} (hc : tw_cl[ci]? = some (Cn, Tn, N)) (hin : ∀ w ∈ u_ws Cn Tn N, w ∈ lw_all) (k : Nat) (hk : k < N)
    (hlink : Cond.fieldLink own index ref (Tn k).2.1 (Tn k).2.2.1 ∈ lw_all) (hsame : ∀ x, s.fieldFound? (Tn k).1 (Tn k).2.1 (Tn k).2.2.1 = some x → s.fieldFound? ref (Tn k).2.1 (Tn k).2.2.1 = some x) {v : Tfv} (hv : fs[k]? = some v) (hdg : decode cc pc = .ok (.getfield index, 3))
    (kk : W p l e R s m args below meth c H locs cells slots Q (F0 m (pc + 3) ls (tw_v v :: rest))) : W p l e R s m args below meth c H locs cells slots Q (F0 m pc ls (va_rf (some a) :: rest)) :=
  by
  obtain ⟨r, cell, h1, q1, q2, q3, -, q4⟩ := hR.wk ha
  have hr : r = (Cn, Tn, N) := Option.some.inj (h1.symm.trans hc)
  subst hr
  obtain ⟨hSl, hfc, kC, hkC, hkind⟩ := C.hK.1 ci _ hc
  obtain ⟨cf, kf, fi, f, hi, hsl⟩ := hSl k hk
  refine W.getf C.hx C.hb C.ho (C.hts _ hlink) (hsame _ hi) (u_facts hfc hkC (u_lays C.hts hin hk) hi).1 q1 q3 (v := tw_v v) ?_ rfl rfl hdg kk
  rw [hsl, q4 k hk]
  simp [vp_V, hv]
theorem tw_getN (C : tw_C p l R s m args meth c G cc nL own) {σ : Tst} (hR : tw_R G σ H) {a ci : Nat} {fs : List Tfv} (ha : σ.1 a = some (.inr (ci, fs))) {Cn ref host : String} {Tn : u_T} {N index : Nat} (hc : tw_cl[ci]? = some (Cn, Tn, N)) (hin : ∀ w ∈ u_ws Cn Tn N, w ∈ lw_all) (k : Nat) (hk : k < N)
    (hlink : Cond.fieldLinkNest own index ref (Tn k).2.1 (Tn k).2.2.1 host ∈ lw_tbl) (hsame : ∀ x, s.fieldFound? (Tn k).1 (Tn k).2.1 (Tn k).2.2.1 = some x → s.fieldFound? ref (Tn k).2.1 (Tn k).2.2.1 = some x) {v : Tfv} (hv : fs[k]? = some v) (hdg : decode cc pc = .ok (.getfield index, 3))
    (kk : W p l e R s m args below meth c H locs cells slots Q (F0 m (pc + 3) ls (tw_v v :: rest))) : W p l e R s m args below meth c H locs cells slots Q (F0 m pc ls (va_rf (some a) :: rest)) :=
  by
  obtain ⟨r, cell, h1, q1, q2, q3, -, q4⟩ := hR.wk ha
  have hr : r = (Cn, Tn, N) := Option.some.inj (h1.symm.trans hc)
  subst hr
  obtain ⟨hSl, hfc, kC, hkC, hkind⟩ := C.hK.1 ci _ hc
  obtain ⟨cf, kf, fi, f, hi, hsl⟩ := hSl k hk
  refine va_Wgetf C.hx C.hb C.ho (va_Nw.use rfl (C.nw hlink rfl)) (hsame _ hi) (u_facts hfc hkC (u_lays C.hts hin hk) hi).1 q1 q3 (v := tw_v v) ?_ rfl rfl hdg kk
  rw [hsl, q4 k hk]
  simp [vp_V, hv]
theorem tw_obw {σ : Tst} {H' : Heap} {a ci : Nat} {fs : List Tfv} {v : Tfv} (hR : tw_R G σ H) (ha : σ.1 a = some (.inr (ci, fs))) {Cn : String} {Tn : u_T} {N : Nat} (hc : tw_cl[ci]? = some (Cn, Tn, N)) {k : Nat} (hk : k < N) (hl : k < fs.length) {cell : Cell} (q1 : H[a]? = some cell) (q2 : cell.cls = G.1.1 ci) (q3 : cell.vm = .none) (q4 : ∀ j, j < N → cell.slots[G.1.2 ci j]? = some (vp_V (fs.map tw_v) j)) (hap : ∀ x y, x < N → y < N → x ≠ y → G.1.2 ci x ≠ G.1.2 ci y)
    (hb : G.2.2.1 ≤ a) (e1 : H'[a]? = some (cell.setSlot (G.1.2 ci k) (tw_v v))) (e2 : H'.size = H.size) (e3 : ∀ q, q ≠ a → H'[q]? = H[q]?) : tw_R G (st_up σ a (.inr (ci, fs.set k v))) H' := by
  refine hR.set hb q1 e1 (by simp [Cell.setSlot]) (fun h => h) e2 e3 ?_ (hR.st ha hb).2
  refine ⟨(Cn, Tn, N), hc, t_OB.to (V := updV (vp_V (fs.map tw_v)) k (tw_v v)) ⟨_, e1, q2, q3, t_set q4 hap hk _⟩ (fun j _ => ?_)⟩
  rw [vp_updV_set (by rw [List.length_map]; exact hl)]
  show vp_V ((fs.map tw_v).set k (tw_v v)) j = vp_V ((fs.set k v).map tw_v) j
  rw [List.map_set]
theorem tw_put (C : tw_C p l R s m args meth c G cc nL own) {σ : Tst} (hR : tw_R G σ H) (hS : va_S (tw_A G) s.heap H locs) {a ci : Nat} {fs : List Tfv} (ha : σ.1 a = some (.inr (ci, fs))) {Cn ref : String} {Tn : u_T} {N index : Nat} (hc : tw_cl[ci]? = some (Cn, Tn, N)) (hin : ∀ w ∈ u_ws Cn Tn N, w ∈ lw_all) (ty0 : Nat → FieldType) (hty : ∀ k, k < N → parseFieldDescriptor (Tn k).2.2.1 = some (ty0 k)) (hnm : ∀ a, a < N → ∀ b, b < N → a ≠ b → (Tn a).2.1 ≠ (Tn b).2.1) (k : Nat) (hk : k < N)
    (hlink : Cond.fieldLink own index ref (Tn k).2.1 (Tn k).2.2.1 ∈ lw_all) (hsame : ∀ x, s.fieldFound? (Tn k).1 (Tn k).2.1 (Tn k).2.2.1 = some x → s.fieldFound? ref (Tn k).2.1 (Tn k).2.2.1 = some x) (hfin : (Tn k).2.2.2 = false) {v : Tfv} (hn : narrow (ty0 k) (tw_v v) = tw_v v) (hfit : fits (ty0 k) (tw_v v) = true) (hl : k < fs.length) (hba : G.2.2.1 ≤ a) (hdg : decode cc pc = .ok (.putfield index, 3))
    (kk : ∀ (H : Heap) (locs : List Loc), tw_R G (st_up σ a (.inr (ci, fs.set k v))) H → va_S (tw_A G) s.heap H locs → W p l e R s m args below meth c H locs cells slots Q (F0 m (pc + 3) ls rest)) : W p l e R s m args below meth c H locs cells slots Q (F0 m pc ls (tw_v v :: va_rf (some a) :: rest)) := by
  have hap := va_apart (own := own) C.hts hin ty0 hty hnm C.hK hc
  obtain ⟨r, h1, cell, q1, q2, q3, q4⟩ := (hR.st ha hba).1
  have hr : r = (Cn, Tn, N) := Option.some.inj (h1.symm.trans hc)
  subst hr
  obtain ⟨hSl, hfc, kC, hkC, hkind⟩ := C.hK.1 ci _ hc
  obtain ⟨cf, kf, fi, f, hi, hsl⟩ := hSl k hk
  have hlay := C.hts _ (hin _ (u_in_lay hk))
  unfold u_lay at hlay
  rw [if_neg (by rw [hfin]; decide)] at hlay
  have hst := (u_facts hfc hkC (u_lays C.hts hin hk) hi).1
  have h6 := u_store hfc hkC hkind hlay hi (hty k hk) hn hfit
  refine W.putK C.hx C.hb (f := f) ⟨C.ho, C.hts _ hlink, ⟨_, _, _, hsame _ hi⟩, hst⟩ (by rw [q2]; exact h6) q1 q3 (by rw [hsl]; exact k2_hasslot (q4 k hk)) rfl rfl hdg fun H' e1 e2 e3 => ?_
  rw [hsl] at e1 ⊢
  exact kk H' _ (tw_obw hR ha hc hk hl q1 q2 q3 q4 hap hba e1 e2 e3) (hS.put e2 e3 hba)
theorem tw_putN (C : tw_C p l R s m args meth c G cc nL own) {σ : Tst} (hR : tw_R G σ H) (hS : va_S (tw_A G) s.heap H locs) {a ci : Nat} {fs : List Tfv} (ha : σ.1 a = some (.inr (ci, fs))) {Cn ref host : String} {Tn : u_T} {N index : Nat} (hc : tw_cl[ci]? = some (Cn, Tn, N)) (hin : ∀ w ∈ u_ws Cn Tn N, w ∈ lw_all) (ty0 : Nat → FieldType) (hty : ∀ k, k < N → parseFieldDescriptor (Tn k).2.2.1 = some (ty0 k)) (hnm : ∀ a, a < N → ∀ b, b < N → a ≠ b → (Tn a).2.1 ≠ (Tn b).2.1) (k : Nat) (hk : k < N)
    (hlink : Cond.fieldLinkNest own index ref (Tn k).2.1 (Tn k).2.2.1 host ∈ lw_tbl) (hsame : ∀ x, s.fieldFound? (Tn k).1 (Tn k).2.1 (Tn k).2.2.1 = some x → s.fieldFound? ref (Tn k).2.1 (Tn k).2.2.1 = some x) (hfin : (Tn k).2.2.2 = false) {v : Tfv} (hn : narrow (ty0 k) (tw_v v) = tw_v v) (hfit : fits (ty0 k) (tw_v v) = true) (hl : k < fs.length) (hba : G.2.2.1 ≤ a) (hdg : decode cc pc = .ok (.putfield index, 3))
    (kk : ∀ (H : Heap) (locs : List Loc), tw_R G (st_up σ a (.inr (ci, fs.set k v))) H → va_S (tw_A G) s.heap H locs → W p l e R s m args below meth c H locs cells slots Q (F0 m (pc + 3) ls rest)) : W p l e R s m args below meth c H locs cells slots Q (F0 m pc ls (tw_v v :: va_rf (some a) :: rest)) := by
  have hap := va_apart (own := own) C.hts hin ty0 hty hnm C.hK hc
  obtain ⟨r, h1, cell, q1, q2, q3, q4⟩ := (hR.st ha hba).1
  have hr : r = (Cn, Tn, N) := Option.some.inj (h1.symm.trans hc)
  subst hr
  obtain ⟨hSl, hfc, kC, hkC, hkind⟩ := C.hK.1 ci _ hc
  obtain ⟨cf, kf, fi, f, hi, hsl⟩ := hSl k hk
  have hlay := C.hts _ (hin _ (u_in_lay hk))
  unfold u_lay at hlay
  rw [if_neg (by rw [hfin]; decide)] at hlay
  have hst := (u_facts hfc hkC (u_lays C.hts hin hk) hi).1
  have h6 := u_store hfc hkC hkind hlay hi (hty k hk) hn hfit
  refine va_WputK C.hx C.hb (f := f) C.ho (va_Nw.use rfl (C.nw hlink rfl)) (hsame _ hi) hst (by rw [q2]; exact h6) q1 q3 (by rw [hsl]; exact k2_hasslot (q4 k hk)) rfl rfl hdg fun H' e1 e2 e3 => ?_
  rw [hsl] at e1 ⊢
  exact kk H' _ (tw_obw hR ha hc hk hl q1 q2 q3 q4 hap hba e1 e2 e3) (hS.put e2 e3 hba)
theorem tw_putF (C : tw_C p l R s m args meth c G cc nL own) {σ : Tst} (hR : tw_R G σ H) (hS : va_S (tw_A G) s.heap H locs) {a ci : Nat} {fs : List Tfv} (ha : σ.1 a = some (.inr (ci, fs))) {Cn ref : String} {Tn : u_T} {N index : Nat} (hc : tw_cl[ci]? = some (Cn, Tn, N)) (hin : ∀ w ∈ u_ws Cn Tn N, w ∈ lw_all) (ty0 : Nat → FieldType) (hty : ∀ k, k < N → parseFieldDescriptor (Tn k).2.2.1 = some (ty0 k)) (hnm : ∀ a, a < N → ∀ b, b < N → a ≠ b → (Tn a).2.1 ≠ (Tn b).2.1) (k : Nat) (hk : k < N)
    (hlink : Cond.fieldLink own index ref (Tn k).2.1 (Tn k).2.2.1 ∈ lw_all) (hsame : ∀ x, s.fieldFound? (Tn k).1 (Tn k).2.1 (Tn k).2.2.1 = some x → s.fieldFound? ref (Tn k).2.1 (Tn k).2.2.1 = some x) (hfin : (Tn k).2.2.2 = true) (hin2 : meth.name = "<init>") (hdecl : (Tn k).1 = own) {v : Tfv} (hn : narrow (ty0 k) (tw_v v) = tw_v v) (hfit : fits (ty0 k) (tw_v v) = true) (hl : k < fs.length) (hba : G.2.2.1 ≤ a) (hdg : decode cc pc = .ok (.putfield index, 3))
    (kk : ∀ (H : Heap) (locs : List Loc), tw_R G (st_up σ a (.inr (ci, fs.set k v))) H → va_S (tw_A G) s.heap H locs → W p l e R s m args below meth c H locs cells slots Q (F0 m (pc + 3) ls rest)) : W p l e R s m args below meth c H locs cells slots Q (F0 m pc ls (tw_v v :: va_rf (some a) :: rest)) := by
  have hap := va_apart (own := own) C.hts hin ty0 hty hnm C.hK hc
  obtain ⟨r, h1, cell, q1, q2, q3, q4⟩ := (hR.st ha hba).1
  have hr : r = (Cn, Tn, N) := Option.some.inj (h1.symm.trans hc)
  subst hr
  obtain ⟨hSl, hfc, kC, hkC, hkind⟩ := C.hK.1 ci _ hc
  obtain ⟨cf, kf, fi, f, hi, hsl⟩ := hSl k hk
  have hlay := C.hts _ (hin _ (u_in_lay hk))
  unfold u_lay at hlay
  rw [if_pos hfin] at hlay
  have hst := (u_facts hfc hkC (u_lays C.hts hin hk) hi).1
  have hcf : m.cls = cf := by
    obtain ⟨_, _, c', _, _, _, -, -, hf', -, -, -, hown2, -⟩ := Cond.laysFinal_spec hlay
    have e1 : c' = cf := by have := hi.symm.trans hf'; simp at this; exact this.1.symm
    rw [hdecl] at hown2
    rw [← e1]; exact Option.some.inj (C.ho.symm.trans hown2)
  have h6 := u_fits hfc hkC hkind (Or.inr hlay) hi (hty k hk) hn hfit
  refine W.putFinK C.hx C.hb C.ho (C.hts _ hlink) (hsame _ hi) hst hcf hin2 (by rw [q2]; exact h6) q1 q3 (by rw [hsl]; exact k2_hasslot (q4 k hk)) rfl rfl hdg fun H' e1 e2 e3 => ?_
  rw [hsl] at e1 ⊢
  exact kk H' _ (tw_obw hR ha hc hk hl q1 q2 q3 q4 hap hba e1 e2 e3) (hS.put e2 e3 hba)
theorem tw_base {σ : Tst} (hR : tw_R G σ H) {a ci : Nat} {fs : List Tfv} (ha : σ.1 a = some (.inr (ci, fs))) (hne : ¬ ci = cJ2) : G.2.2.1 ≤ a := by
  rcases hR.2.1 a _ ha with h | h
  · exact h
  · exact absurd h hne
theorem tw_baseA {σ : Tst} (hR : tw_R G σ H) {a t n : Nat} {d} (ha : σ.1 a = some (.inl (t, n, d))) (hne : ¬ t = 10) {j : Nat} (hj : j < n) : G.2.2.1 ≤ a := by
  rcases hR.2.1 a _ ha with h | h
  · exact h
  · rcases h with h | h
    · exact absurd h (Nat.ne_of_gt (Nat.lt_of_le_of_lt (Nat.zero_le _) hj))
    · exact absurd h hne
theorem tw_sr (C : tw_C p l R s m args meth c G cc nL own) {σ : Tst} (hR : tw_R G σ H) {g : JFrame} (kk : σ.2.2.1 ≤ R.slots → W p l e R s m args below meth c H locs cells slots Q g) : W p l e R s m args below meth c H locs cells slots Q g := by
  have hsr : tw_tot H + σ.2.2.1 = tw_tot s.heap + R.slots := by rw [C.hs]; exact hR.2.2.2.1
  intro T hT X
  refine kk ?_ T hT X
  obtain ⟨x1, x2, x3, x4, x5, x6⟩ := X.same
  have h0 : s.slotsTrue = true := by
    have h := X.room
    simp only [State.hasRoom, Bool.and_eq_true] at h
    exact h.2
  have hb := tw_true X.book
  have hs := tw_true h0
  rw [hT] at hb
  have x4' : T.slotsUsed = s.slotsUsed + (((T.setVm s.vm).heap.toList.drop s.heap.size).map (·.slots.size)).sum := x4
  omega
theorem tw_fresh {σ : Tst} (hR : tw_R G σ H) : σ.1 H.size = none := by
  cases hq : σ.1 H.size with
  | none => rfl
  | some x => exact absurd (hR.lt hq) (Nat.lt_irrefl _)
theorem tw_Sp {H1 : Heap} (hS : va_S (tw_A G) s.heap H locs) (z1 : H1.size = H.size + 1) (o1 : ∀ q, q < H.size → H1[q]? = H[q]?) : va_S (tw_A G) s.heap H1 locs :=
  ⟨Nat.le_trans hS.1 (by omega), fun x g1 g2 => (o1 x (Nat.lt_of_lt_of_le g1 hS.1)).trans (hS.2.1 x g1 g2), hS.2.2⟩
theorem tw_blank {cC : ClassId} {kC : Class} : (blank cC kC).slots.size = kC.instanceTypes.size := by simp [blank]
theorem tw_isz (C : tw_C p l R s m args meth c G cc nL own) {Cn : String} {N : Nat} {cC : ClassId} {kC : Class} (hinst : Cond.instantiable Cn N ∈ lw_all) (h1 : s.vm.findClass Cn = some cC) (h2 : s.vm.classes[cC]? = some kC) : kC.instanceTypes.size = N := by
  obtain ⟨cC', kC', g1, g2, g3, -, -, g4⟩ := Cond.instantiable_spec (C.hts _ hinst)
  cases g1.symm.trans h1
  cases h2.symm.trans g2
  exact g4
-- a new object
theorem tw_new (C : tw_C p l R s m args meth c G cc nL own) {σ : Tst} (hR : tw_R G σ H) (hS : va_S (tw_A G) s.heap H locs) {Cn : String} {Tn : u_T} {N ci index : Nat} (hc : tw_cl[ci]? = some (Cn, Tn, N)) (hin : ∀ w ∈ u_ws Cn Tn N, w ∈ lw_all) (ty0 : Nat → FieldType) (hty : ∀ k, k < N → parseFieldDescriptor (Tn k).2.2.1 = some (ty0 k))
    (hcl : Cond.classLink own index Cn ∈ lw_all) (hinst : Cond.instantiable Cn N ∈ lw_all) (hini : Cond.initialized Cn ∈ lw_all) {fs : List Tfv} (hfs : ∀ j, j < N → defaultValue (ty0 j) = vp_V (fs.map tw_v) j) (h1 : 1 ≤ σ.2.1) (h2 : N ≤ σ.2.2.1) (hdg : decode cc pc = .ok (.new index, 3))
    (kk : ∀ (q : Nat) (H : Heap), σ.1 q = none → G.2.2.1 ≤ q → tw_R G (st_al σ q (.inr (ci, fs)) N) H → va_S (tw_A G) s.heap H locs → tw_W p l e R s m args below meth c (st_al σ q (.inr (ci, fs)) N) H locs Q (F0 m (pc + 3) ls (va_rf (some q) :: rest))) : tw_W p l e R s m args below meth c σ H locs Q (F0 m pc ls rest) := by
  have hKn := C.hK.1 ci _ hc
  have hcr := tw_cr C hR hS
  refine tw_sr C hR (fun hsr => ?_)
  refine W.newcK C.hx C.hb C.ho (C.hts _ hcl) (C.hts _ hinst) (C.hts _ hini) rfl hdg (by omega) (by omega) hKn.2.1 rfl fun H1 kC hkC e1 z1 o1 => ?_
  have hR1 : tw_R G (st_al σ H.size (.inr (ci, fs)) N) H1 := hR.push (c := blank (G.1.1 ci) kC) (C.hA _ hS.1) z1 o1 e1 (tw_blank.trans (tw_isz C hinst hKn.2.1 hkC)) rfl ⟨_, hc, (u_born ty0 C.hts hin hKn hkC e1 hty).to hfs⟩ h1 h2
  exact tw_re C hR1 (kk H.size H1 (tw_fresh hR) (C.hA _ hS.1) hR1 (tw_Sp hS z1 o1))
end TWC
