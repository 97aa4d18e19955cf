-- the whole table; cost(x, y)
def remE (e : Fo → Fo → Nat) (X Y : Fo) : Nat → Nat
  | 0 => 0
  | m + 1 => e X (g_drop m Y) + remE e X Y m
def remT (e : Fo → Fo → Nat) (X Y : Fo) : Nat → Nat
  | 0 => 0
  | m + 1 => remE e (g_drop m X) Y (fo_cnt Y + 1) + remT e X Y m
theorem remE_in (e : Fo → Fo → Nat) (X : Fo) (s : Nat) (v : Int32 × Int32 × Int32) (u : Unit) (k r : Fo) : ∀ m, remE e X (.inner s v u k r) (m + 1) = remE e X r m + e X (.inner s v u k r) := by
  intro m
  induction m with
  | zero => simp [remE, g_drop]
  | succ m ih =>
    rw [remE, ih]
    simp only [remE, g_drop]
    omega
theorem remT_in (e : Fo → Fo → Nat) (Y : Fo) (s : Nat) (v : Int32 × Int32 × Int32) (u : Unit) (k r : Fo) : ∀ m, remT e (.inner s v u k r) Y (m + 1) = remT e r Y m + remE e (.inner s v u k r) Y (fo_cnt Y + 1) := by
  intro m
  induction m with
  | zero => simp [remT, g_drop]
  | succ m ih =>
    rw [remT, ih]
    simp only [remT, g_drop]
    omega
theorem remE_C0 : ∀ Y : Fo, remE eC .leaf Y (fo_cnt Y + 1) = fo_size Y ∧ remE eS .leaf Y (fo_cnt Y + 1) = 4 * fo_size Y := by
  intro Y
  induction Y with
  | leaf => exact ⟨rfl, rfl⟩
  | inner s v u k r ih1 ih2 =>
    simp only [fo_cnt]
    rw [remE_in, remE_in, ih2.1, ih2.2]
    simp only [eC, eS, fo_size]
    omega
theorem remE_C1 (s : Nat) (v : Int32 × Int32 × Int32) (u : Unit) (k r : Fo) : ∀ Y : Fo, remE eC (.inner s v u k r) Y (fo_cnt Y + 1) = rC (1 + fo_size k) Y ∧ remE eS (.inner s v u k r) Y (fo_cnt Y + 1) = rS (1 + fo_size k) Y := by
  intro Y
  induction Y with
  | leaf => exact ⟨rfl, rfl⟩
  | inner s' v' u' k' r' ih1 ih2 =>
    simp only [fo_cnt]
    rw [remE_in, remE_in, ih2.1, ih2.2]
    simp only [eC, eS, rC, rS]
    omega
theorem remT_C : ∀ X Y : Fo, remT eC X Y (fo_cnt X + 1) = tC X Y ∧ remT eS X Y (fo_cnt X + 1) = tS X Y := by
  intro X
  induction X with
  | leaf => intro Y; simp only [fo_cnt, remT, g_drop, (remE_C0 Y).1, (remE_C0 Y).2, tC, tS, Nat.add_zero, and_self]
  | inner s v u k r ih1 ih2 =>
    intro Y
    simp only [fo_cnt]
    rw [remT_in, remT_in, (ih2 Y).1, (ih2 Y).2, (remE_C1 s v u k r Y).1, (remE_C1 s v u k r Y).2]
    simp only [tC, tS]
    omega
section TB
variable {rf : Option Nat → Option Nat → (Int32 → Tst → Prop) → (String → Nat → Tst → Prop) → Tst → Prop} {σ0 : Tst} {q e x y p n : Nat} {wx wy : Tnw} {KX KY : Tfi}
theorem tb_row (hx : nk σ0 x wx (fi_rt KX)) (hkx : tk σ0 KX) (hy : nk σ0 y wy (fi_rt KY)) (hky : tk σ0 KY) (hp : (fi_rt KX).length = p) (hn : (fi_rt KY).length = n) (hszx : fi_sz KX ≤ 20) (hszy : fi_sz KY ≤ 20) (hq : σ0.1 q = none) (he : σ0.1 e = none)
    (hR : ∀ (i j s : Nat) (w : Nat × Tnw) (u : Unit) (k r : Tfi) (s' : Nat) (w' : Nat × Tnw) (u' : Unit) (k' r' : Tfi), g_drop i KX = .inner s w u k r → g_drop j KY = .inner s' w' u' k' r' → costS rf k k') {i : Nat} (hi : i ≤ p) {Q : Tst → Prop} {X : String → Nat → Tst → Prop} {k61 : Option Nat → Option Nat → Int32 → Tst → Prop} : ∀ (m : Nat) (σ : Tst) (f : Nat → Int32) (c0 n0 : Nat), m ≤ n + 1 → fx σ0 σ c0 n0 → tbl σ q e x y p n f → (∀ i' j', i' ≤ p → j' ≤ n → (i < i' ∨ (i' = i ∧ m ≤ j')) → f (i' * (n + 1) + j') = nI (fo_L (fi_er (g_drop i' KX)) (fi_er (g_drop j' KY)))) → c0 + remE eC (fi_er (g_drop i KX)) (fi_er KY) m ≤ σ0.2.1 → n0 + remE eS (fi_er (g_drop i KX)) (fi_er KY) m ≤ σ0.2.2.1 →
    (∀ (σ' : Tst) (f' : Nat → Int32), fx σ0 σ' (c0 + remE eC (fi_er (g_drop i KX)) (fi_er KY) m) (n0 + remE eS (fi_er (g_drop i KX)) (fi_er KY) m) → tbl σ' q e x y p n f' → (∀ i' j', i' ≤ p → j' ≤ n → i ≤ i' → f' (i' * (n + 1) + j') = nI (fo_L (fi_er (g_drop i' KX)) (fi_er (g_drop j' KY)))) → k61 (some q) (some y) (nI i + (-1)) σ') → w_X9_init_b76 rf k61 Q X (m + 1) (some q) (some y) (nI i) (nI m + (-1)) σ := by
  intro m
  induction m with
  | zero =>
    intro σ f c0 n0 hm hf ht hv hc hs k
    rw [w_X9_init_b76]
    refine ⟨fun _ => k σ f hf ht (fun i' j' h1 h2 h3 => hv i' j' h1 h2 (by omega)), fun c => absurd (by decide) c⟩
  | succ m ih =>
    intro σ f c0 n0 hm hf ht hv hc hs k
    rw [ni_pred, w_X9_init_b76]
    obtain ⟨h1, h2, h3, h4⟩ := id ht
    simp only [remE, ← er_drop] at hc hs k
    refine ⟨fun c => absurd c (nI_pos (by omega)), fun _ => ⟨_, _, _, rfl, h1, rfl, _, _, _, rfl, h1, rfl, ?_⟩⟩
    have := hf.c
    have := hf.s
    refine tb_least (rf := rf) ht (hx.x hf) (tk.x hf _ hkx) (hy.x hf) (tk.x hf _ hky) hp hn hszx hszy hi (by omega) (hR i m) (fun i' j' q1 q2 q3 => hv i' j' q1 q2 (by omega)) (by omega) (by omega) (fun σ1 hf1 => ?_)
    have ht1 := ht.x hf1
    have hlt := idx_lt hi (show m ≤ n by omega)
    have hb : (p + 1) * (n + 1) ≤ 21 * 21 := Nat.mul_le_mul (by omega) (by omega)
    refine ⟨_, _, _, i * (n + 1) + m, rfl, ht1.2.1, (by rw [ni_mul, ni_add]), hlt, (by omega), ?_⟩
    have hqe : q ≠ e := by intro h; subst h; rw [h1] at h2; cases h2
    refine ih _ (upd f (i * (n + 1) + m) (nI (fo_L (fi_er (g_drop i KX)) (fi_er (g_drop m KY))))) _ _ (by omega) ((hf.tr hf1).up he _) ⟨(up_ne _ _ hqe).trans ht1.1, up_at _ _ _, h3, h4⟩ (fun i' j' q1 q2 q3 => ?_) (by omega) (by omega) (fun σ' f' g1 g2 g3 => k σ' f' (g1.mo (by omega) (by omega)) g2 g3)
    by_cases e0 : i' * (n + 1) + j' = i * (n + 1) + m
    · obtain ⟨r1, r2⟩ := idx_inj q2 (show m ≤ n by omega) e0
      rw [r1, r2]
      simp only [upd, if_true]
    · simp only [upd, if_neg e0]
      refine hv i' j' q1 q2 ?_
      rcases q3 with q3 | ⟨q3, q4⟩
      · exact Or.inl q3
      · refine Or.inr ⟨q3, ?_⟩
        have : j' ≠ m := fun h => e0 (by rw [q3, h])
        omega
theorem tb_rows (hx : nk σ0 x wx (fi_rt KX)) (hkx : tk σ0 KX) (hy : nk σ0 y wy (fi_rt KY)) (hky : tk σ0 KY) (hp : (fi_rt KX).length = p) (hn : (fi_rt KY).length = n) (hszx : fi_sz KX ≤ 20) (hszy : fi_sz KY ≤ 20) (hq : σ0.1 q = none) (he : σ0.1 e = none)
    (hR : ∀ (i j s : Nat) (w : Nat × Tnw) (u : Unit) (k r : Tfi) (s' : Nat) (w' : Nat × Tnw) (u' : Unit) (k' r' : Tfi), g_drop i KX = .inner s w u k r → g_drop j KY = .inner s' w' u' k' r' → costS rf k k') {Q : Tst → Prop} {X : String → Nat → Tst → Prop} : ∀ (m : Nat) (σ : Tst) (f : Nat → Int32) (c0 n0 : Nat), m ≤ p + 1 → fx σ0 σ c0 n0 → tbl σ q e x y p n f → (∀ i' j', i' ≤ p → j' ≤ n → m ≤ i' → f (i' * (n + 1) + j') = nI (fo_L (fi_er (g_drop i' KX)) (fi_er (g_drop j' KY)))) → c0 + remT eC (fi_er KX) (fi_er KY) m ≤ σ0.2.1 → n0 + remT eS (fi_er KX) (fi_er KY) m ≤ σ0.2.2.1 →
    (∀ (σ' : Tst) (f' : Nat → Int32), fx σ0 σ' (c0 + remT eC (fi_er KX) (fi_er KY) m) (n0 + remT eS (fi_er KX) (fi_er KY) m) → tbl σ' q e x y p n f' → (∀ i' j', i' ≤ p → j' ≤ n → f' (i' * (n + 1) + j') = nI (fo_L (fi_er (g_drop i' KX)) (fi_er (g_drop j' KY)))) → Q σ') → w_X9_init_b61 rf Q X (m + 1) (some q) (some y) (nI m + (-1)) σ := by
  intro m
  induction m with
  | zero =>
    intro σ f c0 n0 hm hf ht hv hc hs k
    rw [w_X9_init_b61]
    refine ⟨fun _ => k σ f hf ht (fun i' j' h1 h2 => hv i' j' h1 h2 (Nat.zero_le _)), fun c => absurd (by decide) c⟩
  | succ m ih =>
    intro σ f c0 n0 hm hf ht hv hc hs k
    rw [ni_pred, w_X9_init_b61]
    have hcn : fo_cnt (fi_er KY) = n := by rw [← fi_rt_len]; exact hn
    simp only [remT, ← er_drop, hcn] at hc hs k
    obtain ⟨c, d, mm, e3, e5, e6, y1, yL⟩ := hy.x hf
    obtain ⟨h1, h2, h3, h4⟩ := id ht
    refine ⟨fun c => absurd c (nI_pos (by omega)), fun _ => ⟨_, _, _, rfl, y1, rfl, lo_rc yL, lo_size yL ⟨n + 1 + 1, ?_⟩⟩⟩
    rw [List.length_map, hn]
    have hgo := tb_row (q := q) (e := e) (rf := rf) hx hkx hy hky hp hn hszx hszy hq he hR (i := m) (by omega) (Q := Q) (X := X) (k61 := w_X9_init_b61 rf Q X (m + 1)) (n + 1) σ f c0 n0 (Nat.le_refl _) hf ht (fun i' j' q1 q2 q3 => hv i' j' q1 q2 (by omega)) (by omega) (by omega) (fun σ' f' g1 g2 g3 => ih σ' f' _ _ (by omega) g1 g2 (fun i' j' q1 q2 q3 => g3 i' j' q1 q2 q3) (by omega) (by omega) (fun σ'' f'' r1 r2 r3 => k σ'' f'' (r1.mo (by omega) (by omega)) r2 r3))
    rw [ni_pred] at hgo
    exact hgo
end TB
/-- new Table(x, y) -/
theorem tb_new {rf : Option Nat → Option Nat → (Int32 → Tst → Prop) → (String → Nat → Tst → Prop) → Tst → Prop} {σ : Tst} {x y : Nat} {wx wy : Tnw} {KX KY : Tfi} (hx : nk σ x wx (fi_rt KX)) (hkx : tk σ KX) (hy : nk σ y wy (fi_rt KY)) (hky : tk σ KY) (hszx : fi_sz KX ≤ 19) (hszy : fi_sz KY ≤ 19)
    (hR : ∀ (i j s : Nat) (w : Nat × Tnw) (u : Unit) (k r : Tfi) (s' : Nat) (w' : Nat × Tnw) (u' : Unit) (k' r' : Tfi), g_drop i KX = .inner s w u k r → g_drop j KY = .inner s' w' u' k' r' → costS rf k k') (hc : gC (fi_sz KX) (fi_sz KY) ≤ σ.2.1) (hs : gS (fi_sz KX) (fi_sz KY) ≤ σ.2.2.1) {K : Option Nat → Tst → Prop} {X : String → Nat → Tst → Prop}
    (k : ∀ (q e : Nat) (σ' : Tst) (f : Nat → Int32), σ.1 q = none → σ.1 e = none → fx σ σ' (gC (fi_sz KX) (fi_sz KY)) (gS (fi_sz KX) (fi_sz KY)) → tbl σ' q e x y (fi_rt KX).length (fi_rt KY).length f → (∀ i' j', i' ≤ (fi_rt KX).length → j' ≤ (fi_rt KY).length → f (i' * ((fi_rt KY).length + 1) + j') = nI (fo_L (fi_er (g_drop i' KX)) (fi_er (g_drop j' KY)))) → K (some q) σ') : w_nw σ cX9 4 [.inr none, .inr none, .inl 0, .inr none] (fun q1 σ => w_rf q1 (w_X9_init rf q1 (some x) (some y) (fun σ => K q1 σ) X σ)) := by
  have hp : (fi_rt KX).length = fo_cnt (fi_er KX) := fi_rt_len KX
  have hn : (fi_rt KY).length = fo_cnt (fi_er KY) := fi_rt_len KY
  have hpl := fo_cnt_le (fi_er KX)
  have hnl := fo_cnt_le (fi_er KY)
  have s1 : fo_size (fi_er KX) = fi_sz KX := rfl
  have s2 : fo_size (fi_er KY) = fi_sz KY := rfl
  have htS := tS_le (fi_er KX) (fi_er KY)
  have htC := tC_eq (fi_er KX) (fi_er KY)
  rw [s1, s2, ← hp, ← hn] at htS
  rw [s1, s2] at htC
  have hgC : gC (fi_sz KX) (fi_sz KY) = tC (fi_er KX) (fi_er KY) + 2 := by unfold gC; omega
  generalize hP : (fi_rt KX).length = p at *
  generalize hN : (fi_rt KY).length = n at *
  have hb : (p + 1) * (n + 1) ≤ 21 * 21 := Nat.mul_le_mul (by omega) (by omega)
  obtain ⟨cx, dx, mx, e3, e5, e6, x1, xL⟩ := id hx
  obtain ⟨cy, dy, my, e3', e5', e6', y1, yL⟩ := id hy
  refine ⟨by omega, by omega, fun q hq hqb => ⟨⟨_, rfl⟩, ?_⟩⟩
  unfold w_X9_init
  have f1 := (fx.rf σ).al hq (.inr (cX9, [.inr none, .inr none, .inl 0, .inr none])) (m := 4) (by omega) (by omega)
  have q1 := al_at σ q (.inr (cX9, [.inr none, .inr none, .inl 0, .inr none])) 4
  generalize st_al σ q (.inr (cX9, [.inr none, .inr none, .inl 0, .inr none])) 4 = σ1 at *
  refine ⟨⟨_, rfl⟩, _, _, rfl, q1, (by simp), ?_⟩
  have q2 := up_at σ1 q (.inr (cX9, [.inr (some x), .inr none, .inl 0, .inr none]))
  have f2 := f1.up hq (.inr (cX9, [.inr (some x), .inr none, .inl 0, .inr none]))
  simp only [List.set_cons_zero, List.set_cons_succ]
  generalize st_up σ1 q (.inr (cX9, [.inr (some x), .inr none, .inl 0, .inr none])) = σ2 at *
  refine ⟨_, _, rfl, q2, (by simp), ?_⟩
  have q3 := up_at σ2 q (.inr (cX9, [.inr (some x), .inr (some y), .inl 0, .inr none]))
  have f3 := f2.up hq (.inr (cX9, [.inr (some x), .inr (some y), .inl 0, .inr none]))
  simp only [List.set_cons_zero, List.set_cons_succ]
  generalize st_up σ2 q (.inr (cX9, [.inr (some x), .inr (some y), .inl 0, .inr none])) = σ3 at *
  have yL3 := lo_Lx f3 yL
  refine ⟨_, _, _, rfl, f3.k y1, rfl, lo_rc yL3, lo_size yL3 ?_⟩
  rw [List.length_map, hN]
  rw [ni_1, ni_add]
  refine ⟨_, _, rfl, q3, (by simp), ?_⟩
  have q4 := up_at σ3 q (.inr (cX9, [.inr (some x), .inr (some y), .inl (nI (n + 1)), .inr none]))
  have f4 := f3.up hq (.inr (cX9, [.inr (some x), .inr (some y), .inl (nI (n + 1)), .inr none]))
  simp only [List.set_cons_zero, List.set_cons_succ]
  generalize st_up σ3 q (.inr (cX9, [.inr (some x), .inr (some y), .inl (nI (n + 1)), .inr none])) = σ4 at *
  have xL4 := lo_Lx f4 xL
  have := f4.c
  have := f4.s
  refine ⟨_, _, _, rfl, f4.k x1, rfl, lo_rc xL4, lo_size xL4 ?_⟩
  rw [List.length_map, hP]
  refine ⟨_, _, _, rfl, q4, rfl, (p + 1) * (n + 1), by rw [ni_add, ni_mul], by omega, by omega, by omega, fun e he heb => ?_⟩
  have he0 := f4.no he
  have f5 := f4.al he (.inl (0, (p + 1) * (n + 1), .inl fun _ => 0)) (m := (p + 1) * (n + 1)) (by omega) (by omega)
  have e5 := al_at σ4 e (.inl (0, (p + 1) * (n + 1), .inl fun _ => 0)) ((p + 1) * (n + 1))
  have hqe : q ≠ e := kn_ne q4 he
  have q5 := (al_ne σ4 (.inl (0, (p + 1) * (n + 1), .inl fun _ => 0)) ((p + 1) * (n + 1)) hqe).trans q4
  generalize st_al σ4 e (.inl (0, (p + 1) * (n + 1), .inl fun _ => 0)) ((p + 1) * (n + 1)) = σ5 at *
  refine ⟨_, _, rfl, q5, (by simp), ?_⟩
  have q6 := up_at σ5 q (.inr (cX9, [.inr (some x), .inr (some y), .inl (nI (n + 1)), .inr (some e)]))
  have e6' := (up_ne σ5 (.inr (cX9, [.inr (some x), .inr (some y), .inl (nI (n + 1)), .inr (some e)])) (Ne.symm hqe)).trans e5
  have f6 := f5.up hq (.inr (cX9, [.inr (some x), .inr (some y), .inl (nI (n + 1)), .inr (some e)]))
  simp only [List.set_cons_zero, List.set_cons_succ]
  generalize st_up σ5 q (.inr (cX9, [.inr (some x), .inr (some y), .inl (nI (n + 1)), .inr (some e)])) = σ6 at *
  have xL6 := lo_Lx f6 xL
  refine ⟨_, _, _, rfl, f6.k x1, rfl, lo_rc xL6, lo_size xL6 ⟨p + 1 + 1, ?_⟩⟩
  rw [List.length_map, hP]
  have hT := remT_C (fi_er KX) (fi_er KY)
  rw [← hp] at hT
  have hgo := tb_rows (rf := rf) (q := q) (e := e) hx hkx hy hky hP hN (by omega) (by omega) hq he0 hR (Q := fun σ => K (some q) σ) (X := X) (p + 1) σ6 _ _ _ (Nat.le_refl _) f6 ⟨q6, e6', by omega, by omega⟩ (fun i' j' r1 r2 r3 => by omega) (by rw [hT.1]; omega) (by rw [hT.2]; omega) (fun σ' f' g1 g2 g3 => k q e σ' f' hq he0 (g1.mo (by rw [hT.1]; omega) (by rw [hT.2]; omega)) g2 g3)
  rw [ni_pred] at hgo
  exact hgo
theorem pc_b {σ : Tst} {a b : Nat} {w w' : Tnw} {f3 f4 f5 f6 g3 g4 g5 g6 : Tfv} (ha : σ.1 a = some (.inr (cX3, [.inl w.1, .inl w.2.1, .inl w.2.2, f3, f4, f5, f6]))) (hb : σ.1 b = some (.inr (cX3, [.inl w'.1, .inl w'.2.1, .inl w'.2.2, g3, g4, g5, g6]))) {Q : Int32 → Tst → Prop} {X : String → Nat → Tst → Prop} (k : Q (nI (pc w w')) σ) : w_X1_pairCost (some a) (some b) Q X σ := by
  unfold w_X1_pairCost w_X1_pairCost_b16 w_X1_pairCost_b32
  unfold pc at k
  refine ⟨_, _, _, rfl, ha, rfl, _, _, _, rfl, hb, rfl, fun c1 => ⟨_, _, _, rfl, ha, rfl, _, _, _, rfl, hb, rfl, fun c2 => ?_, fun c2 => ?_⟩, fun c1 => ⟨_, _, _, rfl, ha, rfl, _, _, _, rfl, hb, rfl, fun c2 => ?_, fun c2 => ?_⟩⟩
  · rw [if_pos c1, if_pos c2] at k; exact k
  · rw [if_pos c1, if_neg c2] at k; exact k
  · rw [if_neg c1, if_pos c2] at k; exact k
  · rw [if_neg c1, if_neg c2] at k; exact k
theorem emp {σ : Tst} {c d n : Nat} {ks : List Nat} (hL : lo_L σ c d n (ks.map some)) {Q : Int32 → Tst → Prop} {X : String → Nat → Tst → Prop} (k : Q (if ks.length = 0 then 1 else 0) σ) : w_rc σ (some c) cJ6 (w_J6_isEmpty (some c) Q X σ) := by
  obtain ⟨mc, f, g1, g2, g3, g4, -⟩ := id hL
  unfold w_J6_isEmpty w_J6_isEmpty_b12
  rw [List.length_map] at g1 g3
  refine ⟨⟨_, _, rfl, g1⟩, _, _, _, rfl, g1, rfl, fun c => ⟨rfl, ?_⟩, fun c => ⟨rfl, ?_⟩⟩
  · rw [if_pos ((ni_inj (b := 0) (by omega) (by decide)).mp c)] at k; exact k
  · rw [if_neg (fun e => c (by rw [e]; rfl))] at k; exact k
/-- cost(x, y) -/
theorem cost_ok : ∀ (d : Nat) (k k' : Tfi), fo_h (fi_er k) < d → fi_sz k ≤ 19 → fi_sz k' ≤ 19 → costS (w_X1_cost d) k k' := by
  intro d
  induction d with
  | zero => intro k k' h; omega
  | succ d ih =>
    intro k k' hD hsz hsz' σ a b w w' Q X hx hy hk hk' hc hs kk
    obtain ⟨cx, dx, mx, e3, e5, e6, x1, xL⟩ := id hx
    obtain ⟨cy, dy, my, e3', e5', e6', y1, yL⟩ := id hy
    have s1 : fo_size (fi_er k) = fi_sz k := rfl
    have s2 : fo_size (fi_er k') = fi_sz k' := rfl
    have c1 := fi_rt_len k
    have c2 := fi_rt_len k'
    have hgc : fi_sz k + fi_sz k' + 2 ≤ gC (fi_sz k) (fi_sz k') := by unfold gC; omega
    have hgs : 4 * (fi_sz k + fi_sz k' + 2) ≤ gS (fi_sz k) (fi_sz k') := by unfold gS; omega
    have b30 : (fo_L (fi_er k) (fi_er k') = 2 * (fi_sz k + fi_sz k')) → w_X1_cost_b30 (w_X1_cost d) Q X (some a) (some b) (nI (pc w w')) σ := by
      intro hL
      have hp := pc_le w w'
      unfold w_X1_cost_b30
      refine ⟨⟨_, _, rfl, x1⟩, tk_size hx hk (sz64 (by omega)) (by omega) (by omega) (fun σ1 hf1 => ?_)⟩
      have := hf1.c
      have := hf1.s
      refine ⟨⟨_, _, rfl, hf1.k y1⟩, tk_size (hy.x hf1) (tk.x hf1 _ hk') (sz64 (by omega)) (by omega) (by omega) (fun σ2 hf2 => ?_)⟩
      have := kk σ2 ((hf1.tr hf2).mo (by omega) (by omega))
      rw [show (2 : Int32) = nI 2 from rfl, ni_add, ni_sub (by omega), ni_mul, ni_add, show pc w w' + 2 * (1 + fi_sz k + (1 + fi_sz k') - 2) = pc w w' + 2 * (fi_sz k + fi_sz k') by omega, ← hL]
      exact this
    rw [w_X1_cost]
    refine pc_b x1 y1 ⟨_, _, _, rfl, x1, rfl, emp xL ⟨fun h1 => ?_, fun h1 => b30 ?_⟩⟩
    · have h1 : ¬ (fi_rt k).length = 0 := fun e => by rw [if_pos e] at h1; exact absurd h1 (by decide)
      refine ⟨_, _, _, rfl, y1, rfl, emp yL ⟨fun h2 => ?_, fun h2 => b30 ?_⟩⟩
      · refine tb_new hx hk hy hk' hsz hsz' (fun i j s w2 u k2 r s' w2' u' k2' r' q1 q2 => ?_) hc hs (fun q e σ' f hq he hf ht hv => ?_)
        · have b1 := drop_sz i k
          rw [q1] at b1
          simp only [gz_i] at b1
          have b1' : 1 + fi_sz k2 + fi_sz r ≤ fi_sz k := b1
          have b2 := drop_sz j k'
          rw [q2] at b2
          simp only [gz_i] at b2
          have b2' : 1 + fi_sz k2' + fi_sz r' ≤ fi_sz k' := b2
          have hh : ∀ (i : Nat) (F : Tfi), fo_h (fi_er (g_drop i F)) ≤ fo_h (fi_er F) := by
            intro i
            induction i with
            | zero => intro F; exact Nat.le_refl _
            | succ i ih =>
              intro F
              cases F with
              | leaf => exact Nat.le_refl _
              | inner s w u k r => have := ih r; simp only [g_drop, fi_er, fo_h]; omega
          have b3 := hh i k
          rw [q1] at b3
          simp only [fi_er, fo_h] at b3
          exact ih k2 k2' (by omega) (by omega) (by omega)
        · have hv0 := hv 0 0 (Nat.zero_le _) (Nat.zero_le _)
          refine tb_at ht (Nat.zero_le _) (Nat.zero_le _) ?_
          rw [hv0, ni_add]
          exact kk σ' hf
      · have h2 : (fi_rt k').length = 0 := by
          by_cases e : (fi_rt k').length = 0
          · exact e
          · rw [if_neg e] at h2; exact absurd rfl h2
        have : k' = .leaf := by cases k' with | leaf => rfl | inner s w u k r => simp [fi_rt] at h2
        subst this
        show fo_L (fi_er k) .leaf = _
        rw [fo_L_leaf]
        simp [fi_sz, fi_er, fo_size]
    · have h1 : (fi_rt k).length = 0 := by
        by_cases e : (fi_rt k).length = 0
        · exact e
        · rw [if_neg e] at h1; exact absurd rfl h1
      have : k = .leaf := by cases k with | leaf => rfl | inner s w u k r => simp [fi_rt] at h1
      subst this
      show fo_L .leaf (fi_er k') = _
      rw [fo_L_0]
      simp [fi_sz, fi_er, fo_size]
