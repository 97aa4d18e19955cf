-- the component's table of least costs
theorem ni_mul (a b : Nat) : nI a * nI b = nI (a * b) := by
  unfold nI
  rw [Int32.ofNat_mul]
theorem idx_lt {i j p q : Nat} (hi : i ≤ p) (hj : j ≤ q) : i * (q + 1) + j < (p + 1) * (q + 1) := by
  have h := Nat.mul_le_mul_right (q + 1) hi
  rw [Nat.add_mul p 1 (q + 1)]
  omega
theorem idx_inj {i j i' j' q : Nat} (hj : j ≤ q) (hj' : j' ≤ q) (h : i * (q + 1) + j = i' * (q + 1) + j') : i = i' ∧ j = j' := by
  have h1 : (i * (q + 1) + j) / (q + 1) = i := by rw [Nat.mul_comm, Nat.mul_add_div (by omega), Nat.div_eq_of_lt (by omega), Nat.add_zero]
  have h2 : (i' * (q + 1) + j') / (q + 1) = i' := by rw [Nat.mul_comm, Nat.mul_add_div (by omega), Nat.div_eq_of_lt (by omega), Nat.add_zero]
  rw [h, h2] at h1
  subst h1
  exact ⟨rfl, by omega⟩
/-- the table q with its costs e, of the nodes x and y -/
def tbl (σ : Tst) (q e x y p n : Nat) (f : Nat → Int32) : Prop := σ.1 q = some (.inr (cX9, [.inr (some x), .inr (some y), .inl (nI (n + 1)), .inr (some e)])) ∧ σ.1 e = some (.inl (0, (p + 1) * (n + 1), .inl f)) ∧ p ≤ 20 ∧ n ≤ 20
theorem tbl.x {σ σ' : Tst} {c m q e x y p n : Nat} {f : Nat → Int32} (hf : fx σ σ' c m) (h : tbl σ q e x y p n f) : tbl σ' q e x y p n f := ⟨hf.k h.1, hf.k h.2.1, h.2.2⟩
theorem tb_at {σ : Tst} {q e x y p n i j : Nat} {f : Nat → Int32} (h : tbl σ q e x y p n f) (hi : i ≤ p) (hj : j ≤ n) {Q : Int32 → Tst → Prop} {X : String → Nat → Tst → Prop} (k : Q (f (i * (n + 1) + j)) σ) : w_rc σ (some q) cX9 (w_X9_at (some q) (nI i) (nI j) Q X σ) := by
  obtain ⟨h1, h2, h3, h4⟩ := h
  have hlt := idx_lt hi hj
  have hb : (p + 1) * (n + 1) ≤ 21 * 21 := Nat.mul_le_mul (by omega) (by omega)
  unfold w_X9_at
  exact ⟨⟨_, _, rfl, h1⟩, _, _, _, rfl, h1, rfl, _, _, _, rfl, h1, rfl, _, _, _, i * (n + 1) + j, rfl, h2, (by rw [ni_mul, ni_add]), hlt, (by omega), k⟩
theorem rt_some {F : Tfi} {n s : Nat} {w : Nat × Tnw} {u : Unit} {k r : Tfi} (h : g_drop n F = .inner s w u k r) : ((fi_rt F).map some).getD n none = some w.1 ∧ n < ((fi_rt F).map some).length := by
  obtain ⟨h1, h2⟩ := rt_drop_gd h
  rw [List.length_map]
  refine ⟨?_, h1⟩
  rw [List.getD_eq_getElem?_getD, List.getElem?_eq_getElem h1] at h2
  rw [List.getD_eq_getElem?_getD, List.getElem?_map, List.getElem?_eq_getElem h1]
  simp only [Option.map_some, Option.getD_some] at h2 ⊢
  rw [h2]
theorem sz64 {k : Tfi} (h : fi_sz k ≤ 20) : fo_h (fi_er k) < 64 := by
  have := fo_h_le (fi_er k)
  have e : fi_sz k = fo_size (fi_er k) := rfl
  omega
theorem tb_ins {σ : Tst} {q e x y p n i j s v : Nat} {f : Nat → Int32} {wy : Tnw} {KY k r : Tfi} {w : Nat × Tnw} {u : Unit} (h : tbl σ q e x y p n f) (hy : nk σ y wy (fi_rt KY)) (hk : tk σ KY) (hj : g_drop j KY = .inner s w u k r) (hn : (fi_rt KY).length = n) (hi : i ≤ p) (hsz : fi_sz KY ≤ 20) (hv : f (i * (n + 1) + (j + 1)) = nI v) (hc : 1 + fi_sz k ≤ σ.2.1) (hs : 4 * (1 + fi_sz k) ≤ σ.2.2.1) {Q : Int32 → Tst → Prop} {X : String → Nat → Tst → Prop}
    (kk : ∀ σ' : Tst, fx σ σ' (1 + fi_sz k) (4 * (1 + fi_sz k)) → Q (nI (2 * (1 + fi_sz k) + v)) σ') : w_rc σ (some q) cX9 (w_X9_byInsertion (some q) (nI i) (nI j) Q X σ) := by
  obtain ⟨h1, h2, h3, h4⟩ := id h
  obtain ⟨c, d, m, e3, e5, e6, y1, yL⟩ := hy
  obtain ⟨g1, g2⟩ := rt_some hj
  have ht := tk_drop j KY hk
  rw [hj] at ht
  obtain ⟨hw, hkk, -⟩ := ht
  obtain ⟨_, _, _, _, _, _, w1, _⟩ := id hw
  have hds := drop_sz j KY
  rw [hj] at hds
  simp only [gz_i] at hds
  have hds' : 1 + fi_sz k + fi_sz r ≤ fi_sz KY := hds
  rw [List.length_map] at g2
  unfold w_X9_byInsertion
  refine ⟨⟨_, _, rfl, h1⟩, _, _, _, rfl, h1, rfl, _, _, _, rfl, y1, rfl, lo_rc yL, lo_get yL (by rw [List.length_map]; exact g2) ?_⟩
  rw [g1]
  refine ⟨Or.inr ⟨_, _, rfl, w1⟩, ⟨_, _, rfl, w1⟩, tk_size hw hkk (sz64 (by omega)) hc hs (fun σ1 hf1 => ?_)⟩
  rw [ni_1, ni_add]
  refine tb_at (h.x hf1) hi (by omega) ?_
  rw [hv, ni_lit, ni_mul, ni_add]
  exact kk σ1 hf1
theorem tb_del {σ : Tst} {q e x y p n i j s v : Nat} {f : Nat → Int32} {wx : Tnw} {KX k r : Tfi} {w : Nat × Tnw} {u : Unit} (h : tbl σ q e x y p n f) (hx : nk σ x wx (fi_rt KX)) (hk : tk σ KX) (hi : g_drop i KX = .inner s w u k r) (hp : (fi_rt KX).length = p) (hj : j ≤ n) (hsz : fi_sz KX ≤ 20) (hv : f ((i + 1) * (n + 1) + j) = nI v) (hc : 1 + fi_sz k ≤ σ.2.1) (hs : 4 * (1 + fi_sz k) ≤ σ.2.2.1) {Q : Int32 → Tst → Prop} {X : String → Nat → Tst → Prop}
    (kk : ∀ σ' : Tst, fx σ σ' (1 + fi_sz k) (4 * (1 + fi_sz k)) → Q (nI (2 * (1 + fi_sz k) + v)) σ') : w_rc σ (some q) cX9 (w_X9_byDeletion (some q) (nI i) (nI j) Q X σ) := by
  obtain ⟨h1, h2, h3, h4⟩ := id h
  obtain ⟨c, d, m, e3, e5, e6, y1, yL⟩ := hx
  obtain ⟨g1, g2⟩ := rt_some hi
  have ht := tk_drop i KX hk
  rw [hi] at ht
  obtain ⟨hw, hkk, -⟩ := ht
  obtain ⟨_, _, _, _, _, _, w1, _⟩ := id hw
  have hds := drop_sz i KX
  rw [hi] at hds
  simp only [gz_i] at hds
  have hds' : 1 + fi_sz k + fi_sz r ≤ fi_sz KX := hds
  rw [List.length_map] at g2
  unfold w_X9_byDeletion
  refine ⟨⟨_, _, rfl, h1⟩, _, _, _, rfl, h1, rfl, _, _, _, rfl, y1, rfl, lo_rc yL, lo_get yL (by rw [List.length_map]; exact g2) ?_⟩
  rw [g1]
  refine ⟨Or.inr ⟨_, _, rfl, w1⟩, ⟨_, _, rfl, w1⟩, tk_size hw hkk (sz64 (by omega)) hc hs (fun σ1 hf1 => ?_)⟩
  rw [ni_1, ni_add]
  refine tb_at (h.x hf1) (by omega) hj ?_
  rw [hv, ni_lit, ni_mul, ni_add]
  exact kk σ1 hf1
/-- what a cost() of two nodes with these children gives -/
def costS (rf : Option Nat → Option Nat → (Int32 → Tst → Prop) → (String → Nat → Tst → Prop) → Tst → Prop) (k k' : Tfi) : Prop := ∀ (σ : Tst) (a b : Nat) (w w' : Tnw) (Q : Int32 → Tst → Prop) (X : String → Nat → Tst → Prop), nk σ a w (fi_rt k) → nk σ b w' (fi_rt k') → tk σ k → tk σ k' → gC (fi_sz k) (fi_sz k') ≤ σ.2.1 → gS (fi_sz k) (fi_sz k') ≤ σ.2.2.1 → (∀ σ' : Tst, fx σ σ' (gC (fi_sz k) (fi_sz k')) (gS (fi_sz k) (fi_sz k')) → Q (nI (pc w w' + fo_L (fi_er k) (fi_er k'))) σ') → rf (some a) (some b) Q X σ
theorem tb_pair {rf : Option Nat → Option Nat → (Int32 → Tst → Prop) → (String → Nat → Tst → Prop) → Tst → Prop} {σ : Tst} {q e x y p n i j s s' v : Nat} {f : Nat → Int32} {wx wy : Tnw} {KX KY k r k' r' : Tfi} {w w' : Nat × Tnw} {u u' : Unit} (h : tbl σ q e x y p n f) (hx : nk σ x wx (fi_rt KX)) (hkx : tk σ KX) (hy : nk σ y wy (fi_rt KY)) (hky : tk σ KY) (hi : g_drop i KX = .inner s w u k r) (hj : g_drop j KY = .inner s' w' u' k' r') (hp : (fi_rt KX).length = p) (hn : (fi_rt KY).length = n) (hR : costS rf k k') (hv : f ((i + 1) * (n + 1) + (j + 1)) = nI v) (hc : gC (fi_sz k) (fi_sz k') ≤ σ.2.1) (hs : gS (fi_sz k) (fi_sz k') ≤ σ.2.2.1) {Q : Int32 → Tst → Prop} {X : String → Nat → Tst → Prop}
    (kk : ∀ σ' : Tst, fx σ σ' (gC (fi_sz k) (fi_sz k')) (gS (fi_sz k) (fi_sz k')) → Q (nI (pc w.2 w'.2 + fo_L (fi_er k) (fi_er k') + v)) σ') : w_rc σ (some q) cX9 (w_X9_byPair rf (some q) (nI i) (nI j) Q X σ) := by
  obtain ⟨h1, h2, h3, h4⟩ := id h
  obtain ⟨c, d, m, e3, e5, e6, x1, xL⟩ := hx
  obtain ⟨c', d', m', e3', e5', e6', y1, yL⟩ := hy
  obtain ⟨g1, g2⟩ := rt_some hi
  obtain ⟨g1', g2'⟩ := rt_some hj
  have ht := tk_drop i KX hkx
  rw [hi] at ht
  obtain ⟨hw, hkk, -⟩ := ht
  have ht' := tk_drop j KY hky
  rw [hj] at ht'
  obtain ⟨hw', hkk', -⟩ := ht'
  obtain ⟨_, _, _, _, _, _, w1, _⟩ := id hw
  obtain ⟨_, _, _, _, _, _, w1', _⟩ := id hw'
  rw [List.length_map] at g2 g2'
  unfold w_X9_byPair
  refine ⟨⟨_, _, rfl, h1⟩, _, _, _, rfl, h1, rfl, _, _, _, rfl, x1, rfl, lo_rc xL, lo_get xL (by rw [List.length_map]; exact g2) ?_⟩
  rw [g1]
  refine ⟨Or.inr ⟨_, _, rfl, w1⟩, _, _, _, rfl, h1, rfl, _, _, _, rfl, y1, rfl, lo_rc yL, lo_get yL (by rw [List.length_map]; exact g2') ?_⟩
  rw [g1']
  refine ⟨Or.inr ⟨_, _, rfl, w1'⟩, hR σ w.1 w'.1 w.2 w'.2 _ X hw hw' hkk hkk' hc hs (fun σ1 hf1 => ?_)⟩
  rw [ni_1, ni_add, ni_add]
  refine tb_at (h.x hf1) (by omega) (by omega) ?_
  rw [hv, ni_add]
  exact kk σ1 hf1
theorem tb_can {σ : Tst} {q e x y p n i j : Nat} {f : Nat → Int32} {wx wy : Tnw} {KX KY : Tfi} (h : tbl σ q e x y p n f) (hx : nk σ x wx (fi_rt KX)) (hkx : tk σ KX) (hy : nk σ y wy (fi_rt KY)) (hky : tk σ KY) (hp : (fi_rt KX).length = p) (hn : (fi_rt KY).length = n) (hi : i ≤ p) (hj : j ≤ n) {Q : Int32 → Tst → Prop} {X : String → Nat → Tst → Prop}
    (k0 : (i = p ∨ j = n) → Q 0 σ) (k1 : ∀ (s : Nat) (w : Nat × Tnw) (u : Unit) (k r : Tfi) (s' : Nat) (w' : Nat × Tnw) (u' : Unit) (k' r' : Tfi), g_drop i KX = .inner s w u k r → g_drop j KY = .inner s' w' u' k' r' → Q (if w.2.2.1 = w'.2.2.1 then 1 else 0) σ) : w_rc σ (some q) cX9 (w_X9_canPair (some q) (nI i) (nI j) Q X σ) := by
  obtain ⟨h1, h2, h3, h4⟩ := id h
  obtain ⟨c, d, m, e3, e5, e6, x1, xL⟩ := hx
  obtain ⟨c', d', m', e3', e5', e6', y1, yL⟩ := hy
  have b77 : Q 0 σ → w_X9_canPair_b77 Q X σ := fun h => ⟨rfl, h⟩
  unfold w_X9_canPair
  refine ⟨⟨_, _, rfl, h1⟩, _, _, _, rfl, h1, rfl, _, _, _, rfl, x1, rfl, lo_rc xL, lo_size xL ⟨fun ci => b77 (k0 ?_), fun ci => ?_⟩⟩
  · rw [List.length_map, hp] at ci
    have := (ni_le (by omega) (by omega)).mp ci
    omega
  rw [List.length_map, hp] at ci
  have ci : i < p := Nat.lt_of_not_le (fun h => ci ((ni_le (by omega) (by omega)).mpr h))
  refine ⟨_, _, _, rfl, h1, rfl, _, _, _, rfl, y1, rfl, lo_rc yL, lo_size yL ⟨fun cj => b77 (k0 ?_), fun cj => ?_⟩⟩
  · rw [List.length_map, hn] at cj
    have := (ni_le (by omega) (by omega)).mp cj
    omega
  rw [List.length_map, hn] at cj
  have cj : j < n := Nat.lt_of_not_le (fun h => cj ((ni_le (by omega) (by omega)).mpr h))
  have e1 : g_cnt KX = p := by rw [g_cnt_i, ← fi_rt_len]; exact hp
  have e2 : g_cnt KY = n := by rw [g_cnt_i, ← fi_rt_len]; exact hn
  obtain ⟨s, w, u, k, r, d1, -⟩ := drop_in i KX (by omega)
  obtain ⟨s', w', u', k', r', d2, -⟩ := drop_in j KY (by omega)
  obtain ⟨g1, g2⟩ := rt_some d1
  obtain ⟨g1', g2'⟩ := rt_some d2
  have ht := tk_drop i KX hkx
  rw [d1] at ht
  obtain ⟨hw, -, -⟩ := ht
  have ht' := tk_drop j KY hky
  rw [d2] at ht'
  obtain ⟨hw', -, -⟩ := ht'
  obtain ⟨_, _, _, _, _, _, w1, _⟩ := id hw
  obtain ⟨_, _, _, _, _, _, w1', _⟩ := id hw'
  have kk := k1 s w u k r s' w' u' k' r' d1 d2
  refine ⟨_, _, _, rfl, h1, rfl, _, _, _, rfl, x1, rfl, lo_rc xL, lo_get xL g2 ?_⟩
  rw [g1]
  refine ⟨Or.inr ⟨_, _, rfl, w1⟩, _, _, _, rfl, w1, rfl, _, _, _, rfl, h1, rfl, _, _, _, rfl, y1, rfl, lo_rc yL, lo_get yL g2' ?_⟩
  rw [g1']
  refine ⟨Or.inr ⟨_, _, rfl, w1'⟩, _, _, _, rfl, w1', rfl, fun c => ?_, fun c => ?_⟩
  · rw [if_pos c] at kk; exact ⟨rfl, kk⟩
  · rw [if_neg c] at kk; exact b77 kk
-- one entry
def eC : Fo → Fo → Nat
  | .leaf, .leaf => 0
  | .leaf, .inner _ _ _ k _ => 1 + fo_size k
  | .inner _ _ _ k _, .leaf => 1 + fo_size k
  | .inner _ _ _ k _, .inner _ _ _ k' _ => 4 * ((1 + fo_size k) * (1 + fo_size k'))
def eS : Fo → Fo → Nat
  | .leaf, .leaf => 0
  | .leaf, .inner _ _ _ k _ => 4 * (1 + fo_size k)
  | .inner _ _ _ k _, .leaf => 4 * (1 + fo_size k)
  | .inner _ _ _ k _, .inner _ _ _ k' _ => 18 * ((1 + fo_size k) * (1 + fo_size k')) - 1
theorem if_min (a b : Nat) (ha : a < 100000) (hb : b < 100000) : (if nI a < nI b then nI a else nI b) = nI (min b a) := by
  by_cases h : a < b
  · rw [if_pos ((lo_lt (by omega) (by omega)).mpr h), Nat.min_eq_right (by omega)]
  · rw [if_neg (fun c => h ((lo_lt (by omega) (by omega)).mp c)), Nat.min_eq_left (by omega)]
theorem tb_least {rf : Option Nat → Option Nat → (Int32 → Tst → Prop) → (String → Nat → Tst → Prop) → Tst → Prop} {σ : Tst} {q e x y p n i j : Nat} {f : Nat → Int32} {wx wy : Tnw} {KX KY : Tfi} (h : tbl σ q e x y p n f) (hx : nk σ x wx (fi_rt KX)) (hkx : tk σ KX) (hy : nk σ y wy (fi_rt KY)) (hky : tk σ KY) (hp : (fi_rt KX).length = p) (hn : (fi_rt KY).length = n) (hszx : fi_sz KX ≤ 20) (hszy : fi_sz KY ≤ 20) (hi : i ≤ p) (hj : j ≤ n)
    (hR : ∀ (s : Nat) (w : Nat × Tnw) (u : Unit) (k r : Tfi) (s' : Nat) (w' : Nat × Tnw) (u' : Unit) (k' r' : Tfi), g_drop i KX = .inner s w u k r → g_drop j KY = .inner s' w' u' k' r' → costS rf k k')
    (hv : ∀ i' j', i' ≤ p → j' ≤ n → (i < i' ∨ (i' = i ∧ j < j')) → f (i' * (n + 1) + j') = nI (fo_L (fi_er (g_drop i' KX)) (fi_er (g_drop j' KY))))
    (hc : eC (fi_er (g_drop i KX)) (fi_er (g_drop j KY)) ≤ σ.2.1) (hs : eS (fi_er (g_drop i KX)) (fi_er (g_drop j KY)) ≤ σ.2.2.1) {Q : Int32 → Tst → Prop} {X : String → Nat → Tst → Prop}
    (kk : ∀ σ' : Tst, fx σ σ' (eC (fi_er (g_drop i KX)) (fi_er (g_drop j KY))) (eS (fi_er (g_drop i KX)) (fi_er (g_drop j KY))) → Q (nI (fo_L (fi_er (g_drop i KX)) (fi_er (g_drop j KY)))) σ') : w_rc σ (some q) cX9 (w_X9_least rf (some q) (nI i) (nI j) Q X σ) := by
  obtain ⟨h1, h2, h3, h4⟩ := id h
  obtain ⟨c, d, m, e3, e5, e6, x1, xL⟩ := id hx
  obtain ⟨c', d', m', e3', e5', e6', y1, yL⟩ := id hy
  have e1 : g_cnt KX = p := by rw [g_cnt_i, ← fi_rt_len]; exact hp
  have e2 : g_cnt KY = n := by rw [g_cnt_i, ← fi_rt_len]; exact hn
  unfold w_X9_least w_X9_least_b42 w_X9_least_b105
  refine ⟨⟨_, _, rfl, h1⟩, _, _, _, rfl, h1, rfl, _, _, _, rfl, x1, rfl, lo_rc xL, lo_size xL ⟨fun ci => ?_, fun ci => ?_⟩⟩
  · rw [List.length_map, hp] at ci
    have ci := (ni_inj (by omega) (by omega)).mp ci
    have d1 : g_drop i KX = .leaf := drop_end i KX (by omega)
    rw [d1] at kk hc hs
    refine ⟨_, _, _, rfl, h1, rfl, _, _, _, rfl, y1, rfl, lo_rc yL, lo_size yL ⟨fun cj => ?_, fun cj => ?_⟩⟩
    · rw [List.length_map, hn] at cj
      have cj := (ni_inj (by omega) (by omega)).mp cj
      have d2 : g_drop j KY = .leaf := drop_end j KY (by omega)
      rw [d2] at kk
      exact kk σ (fx.rf σ)
    · rw [List.length_map, hn] at cj
      have cj : j < n := by
        have : j ≠ n := fun e => cj (by rw [e])
        omega
      obtain ⟨s', w', u', k', r', d2, d2'⟩ := drop_in j KY (by omega)
      rw [d2] at kk hc hs
      have hv0 := hv i (j + 1) (by omega) (by omega) (Or.inr ⟨rfl, by omega⟩)
      rw [d1, d2'] at hv0
      refine tb_ins h hy hky d2 hn hi hszy hv0 hc hs (fun σ' hf => ?_)
      have := kk σ' hf
      have e : fo_L (fi_er .leaf) (fi_er (.inner s' w' u' k' r')) = 2 * (1 + fi_sz k') + fo_L (fi_er .leaf) (fi_er r') := by
        show 2 * (1 + fo_size (fi_er k') + fo_size (fi_er r')) = 2 * (1 + fo_size (fi_er k')) + 2 * fo_size (fi_er r')
        omega
      rw [e] at this
      exact this
  · rw [List.length_map, hp] at ci
    have ci : i < p := by
      have : i ≠ p := fun e => ci (by rw [e])
      omega
    obtain ⟨s, w, u, k, r, d1, d1'⟩ := drop_in i KX (by omega)
    rw [d1] at kk hc hs
    refine ⟨_, _, _, rfl, h1, rfl, _, _, _, rfl, y1, rfl, lo_rc yL, lo_size yL ⟨fun cj => ?_, fun cj => ?_⟩⟩
    · rw [List.length_map, hn] at cj
      have cj := (ni_inj (by omega) (by omega)).mp cj
      have d2 : g_drop j KY = .leaf := drop_end j KY (by omega)
      rw [d2] at kk hc hs
      have hv0 := hv (i + 1) j (by omega) (by omega) (Or.inl (by omega))
      rw [d1', d2] at hv0
      refine tb_del h hx hkx d1 hp hj hszx hv0 hc hs (fun σ' hf => ?_)
      have := kk σ' hf
      have e : fo_L (fi_er (.inner s w u k r)) (fi_er .leaf) = 2 * (1 + fi_sz k) + fo_L (fi_er r) (fi_er .leaf) := rfl
      rw [e] at this
      exact this
    · rw [List.length_map, hn] at cj
      have cj : j < n := by
        have : j ≠ n := fun e => cj (by rw [e])
        omega
      obtain ⟨s', w', u', k', r', d2, d2'⟩ := drop_in j KY (by omega)
      rw [d2] at kk hc hs
      have hvd := hv (i + 1) j (by omega) (by omega) (Or.inl (by omega))
      have hvi := hv i (j + 1) (by omega) (by omega) (Or.inr ⟨rfl, by omega⟩)
      have hvp := hv (i + 1) (j + 1) (by omega) (by omega) (Or.inl (by omega))
      rw [d1', d2] at hvd
      rw [d1, d2'] at hvi
      rw [d1', d2'] at hvp
      have hds := drop_sz i KX
      rw [d1] at hds
      simp only [gz_i] at hds
      have hds' : 1 + fi_sz k + fi_sz r ≤ fi_sz KX := hds
      have hdt := drop_sz j KY
      rw [d2] at hdt
      simp only [gz_i] at hdt
      have hdt' : 1 + fi_sz k' + fi_sz r' ≤ fi_sz KY := hdt
      have b1 := fo_L_le (fi_er r) (fi_er (.inner s' w' u' k' r'))
      have b2 := fo_L_le (fi_er (.inner s w u k r)) (fi_er r')
      have b3 := fo_L_le (fi_er k) (fi_er k')
      have b4 := fo_L_le (fi_er r) (fi_er r')
      have b5 := pc_le w.2 w'.2
      have s1 : fo_size (fi_er (.inner s' w' u' k' r')) = 1 + fi_sz k' + fi_sz r' := rfl
      have s2 : fo_size (fi_er (.inner s w u k r)) = 1 + fi_sz k + fi_sz r := rfl
      have s3 : fo_size (fi_er r) = fi_sz r := rfl
      have s4 : fo_size (fi_er r') = fi_sz r' := rfl
      have s5 : fo_size (fi_er k) = fi_sz k := rfl
      have s6 : fo_size (fi_er k') = fi_sz k' := rfl
      have hce : eC (fi_er (.inner s w u k r)) (fi_er (.inner s' w' u' k' r')) = 4 * ((1 + fi_sz k) * (1 + fi_sz k')) := rfl
      have hse : eS (fi_er (.inner s w u k r)) (fi_er (.inner s' w' u' k' r')) = 18 * ((1 + fi_sz k) * (1 + fi_sz k')) - 1 := rfl
      have n1 := entC (fi_sz k) (fi_sz k')
      have n2 := entS (fi_sz k) (fi_sz k')
      have e : fo_L (fi_er (.inner s w u k r)) (fi_er (.inner s' w' u' k' r')) = if w.2.2.1 = w'.2.2.1 then min (min (2 * (1 + fi_sz k) + fo_L (fi_er r) (fi_er (.inner s' w' u' k' r'))) (2 * (1 + fi_sz k') + fo_L (fi_er (.inner s w u k r)) (fi_er r'))) (pc w.2 w'.2 + fo_L (fi_er k) (fi_er k') + fo_L (fi_er r) (fi_er r')) else min (2 * (1 + fi_sz k) + fo_L (fi_er r) (fi_er (.inner s' w' u' k' r'))) (2 * (1 + fi_sz k') + fo_L (fi_er (.inner s w u k r)) (fi_er r')) := rfl
      rw [e] at kk
      rw [hce] at kk hc
      rw [hse] at kk hs
      refine tb_del h hx hkx d1 hp hj hszx hvd (by omega) (by omega) (fun σ1 hf1 => ?_)
      have := hf1.c
      have := hf1.s
      refine tb_ins (h.x hf1) (hy.x hf1) (tk.x hf1 _ hky) d2 hn hi hszy hvi (by omega) (by omega) (fun σ2 hf2 => ?_)
      have := hf2.c
      have := hf2.s
      have hf12 := hf1.tr hf2
      refine tb_can (h.x hf12) (hx.x hf12) (tk.x hf12 _ hkx) (hy.x hf12) (tk.x hf12 _ hky) hp hn hi hj (fun hh => by omega) (fun s2 w2 u2 k2 r2 s3 w3 u3 k3 r3 q1 q2 => ?_)
      rw [d1] at q1
      rw [d2] at q2
      cases q1
      cases q2
      rw [if_min _ _ (by omega) (by omega)]
      by_cases hkey : w.2.2.1 = w'.2.2.1
      · rw [if_pos hkey] at kk ⊢
        refine ⟨fun c => absurd c (by decide), fun _ => ?_⟩
        refine tb_pair (h.x hf12) (hx.x hf12) (tk.x hf12 _ hkx) (hy.x hf12) (tk.x hf12 _ hky) d1 d2 hp hn (hR _ _ _ _ _ _ _ _ _ _ d1 d2) hvp (by omega) (by omega) (fun σ3 hf3 => ?_)
        rw [if_min _ _ (by omega) (by omega)]
        exact kk σ3 ((hf12.tr hf3).mo (by omega) (by omega))
      · rw [if_neg hkey] at kk ⊢
        exact ⟨fun _ => kk σ2 (hf12.mo (by omega) (by omega)), fun c => absurd rfl c⟩
