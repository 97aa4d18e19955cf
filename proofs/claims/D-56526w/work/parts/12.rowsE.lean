-- the pure steps (w_..), and what the machine does at them (tk_..)
abbrev Tad : Type := (Nat → Int32) ⊕ (Nat → Int64) ⊕ (Nat → UInt32) ⊕ (Nat → UInt64) ⊕ (Nat → Option Nat)
def w_gi (σ : Tst) (v : Option Nat) (c k : Nat) (K : Int32 → Prop) : Prop := ∃ (a : Nat) (fs : List Tfv) (x : Int32), v = some a ∧ σ.1 a = some (.inr (c, fs)) ∧ fs[k]? = some (.inl x) ∧ K x
def w_gr (σ : Tst) (v : Option Nat) (c k : Nat) (K : Option Nat → Prop) : Prop := ∃ (a : Nat) (fs : List Tfv) (x : Option Nat), v = some a ∧ σ.1 a = some (.inr (c, fs)) ∧ fs[k]? = some (.inr x) ∧ K x
def w_p (σ : Tst) (v : Option Nat) (c k : Nat) (x : Tfv) (K : Tst → Prop) : Prop := ∃ (a : Nat) (fs : List Tfv), v = some a ∧ σ.1 a = some (.inr (c, fs)) ∧ k < fs.length ∧ K (st_up σ a (.inr (c, fs.set k x)))
def w_ok (ty : FieldType) (x : Int32) : Prop := narrow ty (.int x) = .int x ∧ fits ty (.int x) = true
/-- a branch -/
def w_if (c A B : Prop) : Prop := (c → A) ∧ (¬ c → B)
def w_nb (σ : Tst) (q : Nat) : Prop := ∀ b : Nat, σ.2.2.2 99 = some b → b ≤ q
def w_nw (σ : Tst) (c N : Nat) (fs : List Tfv) (K : Option Nat → Tst → Prop) : Prop := 1 ≤ σ.2.1 ∧ N ≤ σ.2.2.1 ∧ ∀ q : Nat, σ.1 q = none → w_nb σ q → K (some q) (st_al σ q (.inr (c, fs)) N)
def w_al (σ : Tst) (v : Option Nat) (K : Int32 → Prop) : Prop := ∃ (a t n : Nat) (d : Tad), v = some a ∧ σ.1 a = some (.inl (t, n, d)) ∧ t < 11 ∧ K (nI n)
def w_li (σ : Tst) (v : Option Nat) (i : Int32) (K : Int32 → Prop) : Prop := ∃ (a n : Nat) (f : Nat → Int32) (j : Nat), v = some a ∧ σ.1 a = some (.inl (0, n, .inl f)) ∧ i = nI j ∧ j < n ∧ j < 2147483648 ∧ K (f j)
def w_lc (σ : Tst) (v : Option Nat) (i : Int32) (K : Int32 → Prop) : Prop := ∃ (a n : Nat) (f : Nat → Int32) (j : Nat), v = some a ∧ σ.1 a = some (.inl (1, n, .inl f)) ∧ i = nI j ∧ j < n ∧ j < 2147483648 ∧ K (f j)
def w_lb (σ : Tst) (v : Option Nat) (i : Int32) (K : Int32 → Prop) : Prop := ∃ (a t n : Nat) (f : Nat → Int32) (j : Nat), v = some a ∧ σ.1 a = some (.inl (t, n, .inl f)) ∧ (t = 2 ∨ t = 10) ∧ i = nI j ∧ j < n ∧ j < 2147483648 ∧ K (f j)
def w_ll (σ : Tst) (v : Option Nat) (i : Int32) (K : Int64 → Prop) : Prop := ∃ (a n : Nat) (f : Nat → Int64) (j : Nat), v = some a ∧ σ.1 a = some (.inl (3, n, .inr (.inl f))) ∧ i = nI j ∧ j < n ∧ j < 2147483648 ∧ K (f j)
def w_ld (σ : Tst) (v : Option Nat) (i : Int32) (K : UInt64 → Prop) : Prop := ∃ (a n : Nat) (f : Nat → UInt64) (j : Nat), v = some a ∧ σ.1 a = some (.inl (4, n, .inr (.inr (.inr (.inl f))))) ∧ i = nI j ∧ j < n ∧ j < 2147483648 ∧ K (f j)
def w_lr (σ : Tst) (v : Option Nat) (i : Int32) (K : Option Nat → Prop) : Prop := ∃ (a t n : Nat) (f : Nat → Option Nat) (j : Nat), v = some a ∧ σ.1 a = some (.inl (t, n, .inr (.inr (.inr (.inr f))))) ∧ (5 ≤ t ∧ t < 10) ∧ i = nI j ∧ j < n ∧ j < 2147483648 ∧ K (f j)
def w_si (σ : Tst) (v : Option Nat) (i x : Int32) (K : Tst → Prop) : Prop := ∃ (a n : Nat) (f : Nat → Int32) (j : Nat), v = some a ∧ σ.1 a = some (.inl (0, n, .inl f)) ∧ i = nI j ∧ j < n ∧ j < 2147483648 ∧ K (st_up σ a (.inl (0, n, .inl (upd f j x))))
def w_sc (σ : Tst) (v : Option Nat) (i x : Int32) (K : Tst → Prop) : Prop := ∃ (a n : Nat) (f : Nat → Int32) (j : Nat), v = some a ∧ σ.1 a = some (.inl (1, n, .inl f)) ∧ i = nI j ∧ j < n ∧ j < 2147483648 ∧ K (st_up σ a (.inl (1, n, .inl (upd f j (vp_nar .char x)))))
def w_sb (σ : Tst) (v : Option Nat) (i x : Int32) (K : Tst → Prop) : Prop := ∃ (a n : Nat) (f : Nat → Int32) (j : Nat), v = some a ∧ σ.1 a = some (.inl (2, n, .inl f)) ∧ i = nI j ∧ j < n ∧ j < 2147483648 ∧ K (st_up σ a (.inl (2, n, .inl (upd f j x.toInt8.toInt32))))
def w_sl (σ : Tst) (v : Option Nat) (i : Int32) (x : Int64) (K : Tst → Prop) : Prop := ∃ (a n : Nat) (f : Nat → Int64) (j : Nat), v = some a ∧ σ.1 a = some (.inl (3, n, .inr (.inl f))) ∧ i = nI j ∧ j < n ∧ j < 2147483648 ∧ K (st_up σ a (.inl (3, n, .inr (.inl (va_up f j x)))))
def w_sd (σ : Tst) (v : Option Nat) (i : Int32) (x : UInt64) (K : Tst → Prop) : Prop := ∃ (a n : Nat) (f : Nat → UInt64) (j : Nat), v = some a ∧ σ.1 a = some (.inl (4, n, .inr (.inr (.inr (.inl f))))) ∧ i = nI j ∧ j < n ∧ j < 2147483648 ∧ K (st_up σ a (.inl (4, n, .inr (.inr (.inr (.inl (va_up f j x)))))))
def w_may (σ : Tst) (t : Nat) (r : Option Nat) : Prop := r = none ∨ ∃ (b c : Nat) (vs : List Tfv), r = some b ∧ σ.1 b = some (.inr (c, vs)) ∧ (t, c) ∈ tw_may
def w_sr (σ : Tst) (v : Option Nat) (i : Int32) (r : Option Nat) (K : Tst → Prop) : Prop := ∃ (a t n : Nat) (f : Nat → Option Nat) (j : Nat), v = some a ∧ σ.1 a = some (.inl (t, n, .inr (.inr (.inr (.inr f))))) ∧ (5 ≤ t ∧ t < 10 ∧ t ≠ 8) ∧ i = nI j ∧ j < n ∧ j < 2147483648 ∧ w_may σ t r ∧ K (st_up σ a (.inl (t, n, .inr (.inr (.inr (.inr (va_up f j r)))))))
def w_na (σ : Tst) (t : Nat) (i : Int32) (d : Tad) (K : Option Nat → Tst → Prop) : Prop := ∃ n : Nat, i = nI n ∧ n < 33554432 ∧ 1 ≤ σ.2.1 ∧ n ≤ σ.2.2.1 ∧ ∀ q : Nat, σ.1 q = none → w_nb σ q → K (some q) (st_al σ q (.inl (t, n, d)) n)
def w_cc (σ : Tst) (r : Option Nat) (c : Nat) (P : Prop) : Prop := (r = none ∨ ∃ (a : Nat) (fs : List Tfv), r = some a ∧ σ.1 a = some (.inr (c, fs))) ∧ P
def w_rc (σ : Tst) (r : Option Nat) (c : Nat) (P : Prop) : Prop := (∃ (a : Nat) (fs : List Tfv), r = some a ∧ σ.1 a = some (.inr (c, fs))) ∧ P
def w_rf (r : Option Nat) (P : Prop) : Prop := (∃ a : Nat, r = some a) ∧ P
def w_th (σ : Tst) (v : Option Nat) (X : String → Nat → Tst → Prop) : Prop := ∃ (a c : Nat) (fs : List Tfv) (Cn : String) (Tn : u_T) (N : Nat), v = some a ∧ σ.1 a = some (.inr (c, fs)) ∧ tw_cl[c]? = some (Cn, Tn, N) ∧ c ≠ cJ2 ∧ X Cn a σ
def tw_nbs (σ : Tst) (v : Option Nat) : Prop := ∀ (a : Nat), v = some a → ∃ b : Nat, σ.2.2.2 99 = some b ∧ b ≤ a
def w_k (σ : Tst) (k : Nat) (K : Option Nat → Prop) : Prop := K (σ.2.2.2 k)
abbrev tw_l (ls : Array Slot) (nL : Nat) (L : List (Nat × Tfv)) : Prop := lv_has ls nL (L.map (fun q => (q.1, tw_v q.2)))
theorem tw_r8 (xs : List Tfv) (h : xs.length ≤ 8) : ((xs.map tw_v).map fun v => v.category).sum ≤ 8 := by
  have : ((xs.map tw_v).map fun v => v.category).sum = xs.length := by
    clear h
    induction xs with
    | nil => rfl
    | cons x t ih => simp only [List.map_cons, List.sum_cons, tw_catv, ih, List.length_cons]; omega
  omega
section TK
variable {p : Program} {l : Launch} {e : Env} {R : Room} {s : State} {m : MethodId} {args : Array Value} {below : List Frame} {meth : Method} {c : Code} {H : Heap} {locs : List Loc} {cells slots : Nat} {Q : State → Prop} {G : Tgl} {cc : ByteArray} {nL : Nat} {own : String} {pc : Nat} {ls : Array Slot} {rest : List Value} {σ : Tst} {v : Option Nat} {L L' : List (Nat × Tfv)} {i : Nat}
theorem tw_lat (h : tw_l ls nL L) (k : Nat) {x : Tfv} (hk : L[k]? = some (i, x)) : ls[i]? = some (.val (tw_v x)) := lv_at h k (by rw [List.getElem?_map, hk]; rfl)
theorem tw_lvq (As : List Tfv) : ∀ i : Nat, tw_lv i As = ((As.zipIdx i).map (fun q => (q.2, q.1))).map (fun q => (q.1, tw_v q.2)) := by
  induction As with
  | nil => intro i; rfl
  | cons x t ih => intro i; show (i, tw_v x) :: tw_lv (i + 1) t = _; rw [ih]; simp [List.zipIdx_cons]
theorem tk_iload_n (C : tw_C p l R s m args meth c G cc nL own) (hl : tw_l ls nL L) (k : Nat) {x : Int32} {f : Fin 4} (hdg : decode cc pc = .ok (.iload_n f, 1)) (hk : L[k]? = some ((f : Nat), .inl x)) (kk : W p l e R s m args below meth c H locs cells slots Q (F0 m (pc + 1) ls (.int x :: rest))) : W p l e R s m args below meth c H locs cells slots Q (F0 m pc ls rest) := lv_iload_n C.hx C.hb hdg rfl (tw_lat hl k hk) kk
theorem tk_iload (C : tw_C p l R s m args meth c G cc nL own) (hl : tw_l ls nL L) (k : Nat) {x : Int32} (hdg : decode cc pc = .ok (.iload i, 2)) (hk : L[k]? = some (i, .inl x)) (kk : W p l e R s m args below meth c H locs cells slots Q (F0 m (pc + 2) ls (.int x :: rest))) : W p l e R s m args below meth c H locs cells slots Q (F0 m pc ls rest) := lv_iload C.hx C.hb hdg (tw_lat hl k hk) kk
theorem tk_aload_n (C : tw_C p l R s m args meth c G cc nL own) (hl : tw_l ls nL L) (k : Nat) {x : Option Nat} {f : Fin 4} (hdg : decode cc pc = .ok (.aload_n f, 1)) (hk : L[k]? = some ((f : Nat), .inr x)) (kk : W p l e R s m args below meth c H locs cells slots Q (F0 m (pc + 1) ls (va_rf x :: rest))) : W p l e R s m args below meth c H locs cells slots Q (F0 m pc ls rest) := tw_aload_n C.hx C.hb hdg rfl (tw_lat hl k hk) kk
theorem tk_aload (C : tw_C p l R s m args meth c G cc nL own) (hl : tw_l ls nL L) (k : Nat) {x : Option Nat} (hdg : decode cc pc = .ok (.aload i, 2)) (hk : L[k]? = some (i, .inr x)) (kk : W p l e R s m args below meth c H locs cells slots Q (F0 m (pc + 2) ls (va_rf x :: rest))) : W p l e R s m args below meth c H locs cells slots Q (F0 m pc ls rest) := tw_aload C.hx C.hb hdg (tw_lat hl k hk) kk
theorem tw_fil (x : Tfv) (hl : (i, x) :: L.filter (fun q => !(q.1 == i)) = L') : (i, tw_v x) :: (L.map (fun q => (q.1, tw_v q.2))).filter (fun q => !(q.1 == i) && !(q.1 + 1 == i && q.2.category == 2)) = L'.map (fun q => (q.1, tw_v q.2)) := by
  subst hl
  rw [List.map_cons]
  congr 1
  rw [List.filter_map]
  congr 1
  apply List.filter_congr
  intro q _
  simp [tw_catv]
theorem tk_istore_n (C : tw_C p l R s m args meth c G cc nL own) (hl : tw_l ls nL L) {x : Int32} {f : Fin 4} (hdg : decode cc pc = .ok (.istore_n f, 1)) (hn : (f : Nat) < nL) (hq : ((f : Nat), Sum.inl x) :: L.filter (fun q => !(q.1 == (f : Nat))) = L') (kk : ∀ ls : Array Slot, tw_l ls nL L' → W p l e R s m args below meth c H locs cells slots Q (F0 m (pc + 1) ls rest)) : W p l e R s m args below meth c H locs cells slots Q (F0 m pc ls (.int x :: rest)) := lv_istore_n C.hx C.hb hdg rfl hl hn (tw_fil (.inl x) hq) kk
theorem tk_istore (C : tw_C p l R s m args meth c G cc nL own) (hl : tw_l ls nL L) {x : Int32} (hdg : decode cc pc = .ok (.istore i, 2)) (hn : i < nL) (hq : (i, Sum.inl x) :: L.filter (fun q => !(q.1 == i)) = L') (kk : ∀ ls : Array Slot, tw_l ls nL L' → W p l e R s m args below meth c H locs cells slots Q (F0 m (pc + 2) ls rest)) : W p l e R s m args below meth c H locs cells slots Q (F0 m pc ls (.int x :: rest)) := lv_istore C.hx C.hb hdg hl hn (tw_fil (.inl x) hq) kk
theorem tk_astore_n (C : tw_C p l R s m args meth c G cc nL own) (hl : tw_l ls nL L) {x : Option Nat} {f : Fin 4} (hdg : decode cc pc = .ok (.astore_n f, 1)) (hn : (f : Nat) < nL) (hq : ((f : Nat), Sum.inr x) :: L.filter (fun q => !(q.1 == (f : Nat))) = L') (kk : ∀ ls : Array Slot, tw_l ls nL L' → W p l e R s m args below meth c H locs cells slots Q (F0 m (pc + 1) ls rest)) : W p l e R s m args below meth c H locs cells slots Q (F0 m pc ls (va_rf x :: rest)) := tw_astore_n C.hx C.hb hdg rfl hl hn (tw_fil (.inr x) hq) kk
theorem tk_astore (C : tw_C p l R s m args meth c G cc nL own) (hl : tw_l ls nL L) {x : Option Nat} (hdg : decode cc pc = .ok (.astore i, 2)) (hn : i < nL) (hq : (i, Sum.inr x) :: L.filter (fun q => !(q.1 == i)) = L') (kk : ∀ ls : Array Slot, tw_l ls nL L' → W p l e R s m args below meth c H locs cells slots Q (F0 m (pc + 2) ls rest)) : W p l e R s m args below meth c H locs cells slots Q (F0 m pc ls (va_rf x :: rest)) := tw_astore C.hx C.hb hdg hl hn (tw_fil (.inr x) hq) kk
theorem tk_iinc (C : tw_C p l R s m args meth c G cc nL own) (hl : tw_l ls nL L) (k : Nat) {n : Int} {x y : Int32} (hdg : decode cc pc = .ok (.iinc i n, 3)) (hk : L[k]? = some (i, .inl x)) (hv : x + Int32.ofInt n = y) (hn : i < nL) (hq : (i, Sum.inl y) :: L.filter (fun q => !(q.1 == i)) = L') (kk : ∀ ls : Array Slot, tw_l ls nL L' → W p l e R s m args below meth c H locs cells slots Q (F0 m (pc + 3) ls rest)) : W p l e R s m args below meth c H locs cells slots Q (F0 m pc ls rest) := lv_iinc (k := k) C.hx C.hb hdg hl (by rw [List.getElem?_map, hk]; rfl) hv hn (tw_fil (.inl y) hq) kk
theorem tk_sub (hl : tw_l ls nL L) (ks : List Nat) (h : ks.filterMap (fun k => L[k]?) = L') : tw_l ls nL L' := by
  refine lv_sub hl ks ?_
  subst h
  unfold lv_pick
  rw [List.map_filterMap]
  congr 1
  funext k
  rw [List.getElem?_map]
theorem tk_gi (C : tw_C p l R s m args meth c G cc nL own) (hR : tw_R G σ H) {ci k : Nat} {K : Int32 → Prop} (hw : w_gi σ v ci k K) {Cn ref : String} {Tn : u_T} {N index : Nat} (hc : tw_cl[ci]? = some (Cn, Tn, N)) (hin : ∀ w ∈ u_ws Cn Tn N, w ∈ lw_all) (hk : k < N) (hlink : Cond.fieldLink own index ref (Tn k).2.1 (Tn k).2.2.1 ∈ lw_all) (hsame : ∀ x, s.fieldFound? (Tn k).1 (Tn k).2.1 (Tn k).2.2.1 = some x → s.fieldFound? ref (Tn k).2.1 (Tn k).2.2.1 = some x) (hdg : decode cc pc = .ok (.getfield index, 3))
    (kk : ∀ x : Int32, K x → W p l e R s m args below meth c H locs cells slots Q (F0 m (pc + 3) ls (.int x :: rest))) : W p l e R s m args below meth c H locs cells slots Q (F0 m pc ls (va_rf v :: rest)) := by
  obtain ⟨a, fs, x, rfl, ha, hv, hw⟩ := hw
  exact tw_get (v := .inl x) C hR ha hc hin k hk hlink hsame hv hdg (kk x hw)
theorem tk_gr (C : tw_C p l R s m args meth c G cc nL own) (hR : tw_R G σ H) {ci k : Nat} {K : Option Nat → Prop} (hw : w_gr σ v ci k K) {Cn ref : String} {Tn : u_T} {N index : Nat} (hc : tw_cl[ci]? = some (Cn, Tn, N)) (hin : ∀ w ∈ u_ws Cn Tn N, w ∈ lw_all) (hk : k < N) (hlink : Cond.fieldLink own index ref (Tn k).2.1 (Tn k).2.2.1 ∈ lw_all) (hsame : ∀ x, s.fieldFound? (Tn k).1 (Tn k).2.1 (Tn k).2.2.1 = some x → s.fieldFound? ref (Tn k).2.1 (Tn k).2.2.1 = some x) (hdg : decode cc pc = .ok (.getfield index, 3))
    (kk : ∀ x : Option Nat, K x → W p l e R s m args below meth c H locs cells slots Q (F0 m (pc + 3) ls (va_rf x :: rest))) : W p l e R s m args below meth c H locs cells slots Q (F0 m pc ls (va_rf v :: rest)) := by
  obtain ⟨a, fs, x, rfl, ha, hv, hw⟩ := hw
  exact tw_get (v := .inr x) C hR ha hc hin k hk hlink hsame hv hdg (kk x hw)
theorem tk_giN (C : tw_C p l R s m args meth c G cc nL own) (hR : tw_R G σ H) {ci k : Nat} {K : Int32 → Prop} (hw : w_gi σ v ci k K) {Cn ref host : String} {Tn : u_T} {N index : Nat} (hc : tw_cl[ci]? = some (Cn, Tn, N)) (hin : ∀ w ∈ u_ws Cn Tn N, w ∈ lw_all) (hk : k < N) (hlink : Cond.fieldLinkNest own index ref (Tn k).2.1 (Tn k).2.2.1 host ∈ lw_tbl) (hsame : ∀ x, s.fieldFound? (Tn k).1 (Tn k).2.1 (Tn k).2.2.1 = some x → s.fieldFound? ref (Tn k).2.1 (Tn k).2.2.1 = some x) (hdg : decode cc pc = .ok (.getfield index, 3))
    (kk : ∀ x : Int32, K x → W p l e R s m args below meth c H locs cells slots Q (F0 m (pc + 3) ls (.int x :: rest))) : W p l e R s m args below meth c H locs cells slots Q (F0 m pc ls (va_rf v :: rest)) := by
  obtain ⟨a, fs, x, rfl, ha, hv, hw⟩ := hw
  exact tw_getN (v := .inl x) C hR ha hc hin k hk hlink hsame hv hdg (kk x hw)
theorem tk_grN (C : tw_C p l R s m args meth c G cc nL own) (hR : tw_R G σ H) {ci k : Nat} {K : Option Nat → Prop} (hw : w_gr σ v ci k K) {Cn ref host : String} {Tn : u_T} {N index : Nat} (hc : tw_cl[ci]? = some (Cn, Tn, N)) (hin : ∀ w ∈ u_ws Cn Tn N, w ∈ lw_all) (hk : k < N) (hlink : Cond.fieldLinkNest own index ref (Tn k).2.1 (Tn k).2.2.1 host ∈ lw_tbl) (hsame : ∀ x, s.fieldFound? (Tn k).1 (Tn k).2.1 (Tn k).2.2.1 = some x → s.fieldFound? ref (Tn k).2.1 (Tn k).2.2.1 = some x) (hdg : decode cc pc = .ok (.getfield index, 3))
    (kk : ∀ x : Option Nat, K x → W p l e R s m args below meth c H locs cells slots Q (F0 m (pc + 3) ls (va_rf x :: rest))) : W p l e R s m args below meth c H locs cells slots Q (F0 m pc ls (va_rf v :: rest)) := by
  obtain ⟨a, fs, x, rfl, ha, hv, hw⟩ := hw
  exact tw_getN (v := .inr x) C hR ha hc hin k hk hlink hsame hv hdg (kk x hw)
theorem tw_nr (t : String) (r : Option Nat) : narrow (.object t) (tw_v (.inr r)) = tw_v (.inr r) ∧ fits (.object t) (tw_v (.inr r)) = true := by cases r <;> exact ⟨rfl, rfl⟩
theorem tw_nrA (t : FieldType) (r : Option Nat) : narrow (.array t) (tw_v (.inr r)) = tw_v (.inr r) ∧ fits (.array t) (tw_v (.inr r)) = true := by cases r <;> exact ⟨rfl, rfl⟩
theorem tw_ni (x : Int32) : narrow .int (tw_v (.inl x)) = tw_v (.inl x) ∧ fits .int (tw_v (.inl x)) = true := ⟨rfl, rfl⟩
theorem tk_p (C : tw_C p l R s m args meth c G cc nL own) (hR : tw_R G σ H) (hS : va_S (tw_A G) s.heap H locs) {ci k : Nat} {x : Tfv} {K : Tst → Prop} (hw : w_p σ v ci k x K) (hci : ¬ ci = cJ2) {Cn ref : String} {Tn : u_T} {N index : Nat} (hc : tw_cl[ci]? = some (Cn, Tn, N)) (hin : ∀ w ∈ u_ws Cn Tn N, w ∈ lw_all) (ty0 : Nat → FieldType) (hty : ∀ k, k < N → parseFieldDescriptor (Tn k).2.2.1 = some (ty0 k)) (hnm : ∀ a, a < N → ∀ b, b < N → a ≠ b → (Tn a).2.1 ≠ (Tn b).2.1) (hk : k < N)
    (hlink : Cond.fieldLink own index ref (Tn k).2.1 (Tn k).2.2.1 ∈ lw_all) (hsame : ∀ x, s.fieldFound? (Tn k).1 (Tn k).2.1 (Tn k).2.2.1 = some x → s.fieldFound? ref (Tn k).2.1 (Tn k).2.2.1 = some x) (hfin : (Tn k).2.2.2 = false) (hn : narrow (ty0 k) (tw_v x) = tw_v x ∧ fits (ty0 k) (tw_v x) = true) (hdg : decode cc pc = .ok (.putfield index, 3))
    (kk : ∀ (σ : Tst) (H : Heap) (locs : List Loc), K σ → tw_R G σ H → va_S (tw_A G) s.heap H locs → tw_W p l e R s m args below meth c σ H locs Q (F0 m (pc + 3) ls rest)) : tw_W p l e R s m args below meth c σ H locs Q (F0 m pc ls (tw_v x :: va_rf v :: rest)) := by
  obtain ⟨a, fs, rfl, ha, hl, hw⟩ := hw
  exact tw_put C hR hS ha hc hin ty0 hty hnm k hk hlink hsame hfin hn.1 hn.2 hl (tw_base hR ha hci) hdg (fun H locs hR hS => kk (st_up σ a (.inr (ci, fs.set k x))) H locs hw hR hS)
theorem tk_pN (C : tw_C p l R s m args meth c G cc nL own) (hR : tw_R G σ H) (hS : va_S (tw_A G) s.heap H locs) {ci k : Nat} {x : Tfv} {K : Tst → Prop} (hw : w_p σ v ci k x K) (hci : ¬ ci = cJ2) {Cn ref host : String} {Tn : u_T} {N index : Nat} (hc : tw_cl[ci]? = some (Cn, Tn, N)) (hin : ∀ w ∈ u_ws Cn Tn N, w ∈ lw_all) (ty0 : Nat → FieldType) (hty : ∀ k, k < N → parseFieldDescriptor (Tn k).2.2.1 = some (ty0 k)) (hnm : ∀ a, a < N → ∀ b, b < N → a ≠ b → (Tn a).2.1 ≠ (Tn b).2.1) (hk : k < N)
    (hlink : Cond.fieldLinkNest own index ref (Tn k).2.1 (Tn k).2.2.1 host ∈ lw_tbl) (hsame : ∀ x, s.fieldFound? (Tn k).1 (Tn k).2.1 (Tn k).2.2.1 = some x → s.fieldFound? ref (Tn k).2.1 (Tn k).2.2.1 = some x) (hfin : (Tn k).2.2.2 = false) (hn : narrow (ty0 k) (tw_v x) = tw_v x ∧ fits (ty0 k) (tw_v x) = true) (hdg : decode cc pc = .ok (.putfield index, 3))
    (kk : ∀ (σ : Tst) (H : Heap) (locs : List Loc), K σ → tw_R G σ H → va_S (tw_A G) s.heap H locs → tw_W p l e R s m args below meth c σ H locs Q (F0 m (pc + 3) ls rest)) : tw_W p l e R s m args below meth c σ H locs Q (F0 m pc ls (tw_v x :: va_rf v :: rest)) := by
  obtain ⟨a, fs, rfl, ha, hl, hw⟩ := hw
  exact tw_putN C hR hS ha hc hin ty0 hty hnm k hk hlink hsame hfin hn.1 hn.2 hl (tw_base hR ha hci) hdg (fun H locs hR hS => kk (st_up σ a (.inr (ci, fs.set k x))) H locs hw hR hS)
theorem tk_pF (C : tw_C p l R s m args meth c G cc nL own) (hR : tw_R G σ H) (hS : va_S (tw_A G) s.heap H locs) {ci k : Nat} {x : Tfv} {K : Tst → Prop} (hw : w_p σ v ci k x K) (hci : ¬ ci = cJ2 ∨ ∀ a, v = some a → G.2.2.1 ≤ a) {Cn ref : String} {Tn : u_T} {N index : Nat} (hc : tw_cl[ci]? = some (Cn, Tn, N)) (hin : ∀ w ∈ u_ws Cn Tn N, w ∈ lw_all) (ty0 : Nat → FieldType) (hty : ∀ k, k < N → parseFieldDescriptor (Tn k).2.2.1 = some (ty0 k)) (hnm : ∀ a, a < N → ∀ b, b < N → a ≠ b → (Tn a).2.1 ≠ (Tn b).2.1) (hk : k < N)
    (hlink : Cond.fieldLink own index ref (Tn k).2.1 (Tn k).2.2.1 ∈ lw_all) (hsame : ∀ x, s.fieldFound? (Tn k).1 (Tn k).2.1 (Tn k).2.2.1 = some x → s.fieldFound? ref (Tn k).2.1 (Tn k).2.2.1 = some x) (hfin : (Tn k).2.2.2 = true) (hin2 : meth.name = "<init>") (hdecl : (Tn k).1 = own) (hn : narrow (ty0 k) (tw_v x) = tw_v x ∧ fits (ty0 k) (tw_v x) = true) (hdg : decode cc pc = .ok (.putfield index, 3))
    (kk : ∀ (σ : Tst) (H : Heap) (locs : List Loc), K σ → tw_R G σ H → va_S (tw_A G) s.heap H locs → tw_W p l e R s m args below meth c σ H locs Q (F0 m (pc + 3) ls rest)) : tw_W p l e R s m args below meth c σ H locs Q (F0 m pc ls (tw_v x :: va_rf v :: rest)) := by
  obtain ⟨a, fs, rfl, ha, hl, hw⟩ := hw
  exact tw_putF C hR hS ha hc hin ty0 hty hnm k hk hlink hsame hfin hin2 hdecl hn.1 hn.2 hl (hci.elim (fun h => tw_base hR ha h) (fun h => h a rfl)) hdg (fun H locs hR hS => kk (st_up σ a (.inr (ci, fs.set k x))) H locs hw hR hS)
theorem tw_nb (C : tw_C p l R s m args meth c G cc nL own) (hR : tw_R G σ H) (hb : G.2.2.2.2.2 99 = some G.2.2.1) {q : Nat} (h : G.2.2.1 ≤ q) : w_nb σ q := by
  intro b h1
  rw [hR.2.2.2.2, hb] at h1
  cases h1
  exact h
theorem tw_nbu (C : tw_C p l R s m args meth c G cc nL own) (hR : tw_R G σ H) (h : ∀ (a : Nat), v = some a → ∃ b : Nat, σ.2.2.2 99 = some b ∧ b ≤ a) : ∀ a : Nat, v = some a → G.2.2.1 ≤ a := by
  intro a ha
  obtain ⟨b, h1, h2⟩ := h a ha
  rw [hR.2.2.2.2, C.hT.2.2.2.2.2.2.2.1] at h1
  cases h1
  exact h2
end TK
