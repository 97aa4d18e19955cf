-- tried(x, y, i, j)
def tBs (f : Nat → Nat) : Nat → Nat
  | 0 => f 0
  | n + 1 => f (n + 1) + tBs f n
def tB : Nat → Nat → Nat
  | 0 => fun n => n
  | m + 1 => fun n => 1 + n + tBs (tB m) n
def tW (c r n : Nat) : Nat := tB (1 + c + r) n - ((1 + c) + tB r n)
theorem tW_ck : ∀ c < 6, ∀ r < 6 - c, ∀ n < 7, ((1 + c) + tB r n ≤ tB (1 + c + r) n) ∧ ∀ b < n, (1 + b) + tB c b + tB r (n - (1 + b)) + tW c r (n - (1 + b)) ≤ tW c r n := by decide +kernel
/-- the best of best and what pairs of the first tree (w, k) with trees from Y on give, r against what is behind them -/
def tR (w : Int32 × Int32 × Int32) (k r : Fo) : Fo → Nat → Nat → Nat
  | .leaf, B, _ => B
  | .inner _ v _ k' r', B, S => tR w k r r' (if w.2.1 = v.2.1 then min (S + pc w v + fo_L k k' + fo_L r r') B else B) (S + 2 * (1 + fo_size k'))
theorem fo_L_ins (r : Fo) (s : Nat) (v : Int32 × Int32 × Int32) (u : Unit) (k' r' : Fo) : fo_L r (.inner s v u k' r') ≤ 2 * (1 + fo_size k') + fo_L r r' := by
  cases r with
  | leaf => rw [fo_L_0, fo_L_0]; simp only [fo_size]; omega
  | inner s0 w0 u0 k0 r0 => rw [fo_L_in]; split <;> omega
theorem tR_eq (s : Nat) (w : Int32 × Int32 × Int32) (u : Unit) (k r : Fo) : ∀ (Y : Fo) (B S : Nat), B ≤ S + 2 * (1 + fo_size k) + fo_L r Y → tR w k r Y B S = min B (S + fo_L (.inner s w u k r) Y) := by
  intro Y
  induction Y with
  | leaf =>
    intro B S h
    rw [tR, show fo_L (.inner s w u k r) .leaf = 2 * (1 + fo_size k) + fo_L r .leaf from rfl]
    omega
  | inner s' v u' k' r' ih1 ih2 =>
    intro B S h
    have h1 := fo_L_ins r s' v u' k' r'
    rw [tR, fo_L_in]
    by_cases c : w.2.1 = v.2.1
    · rw [if_pos c, if_pos c, ih2 _ _ (by omega)]
      omega
    · rw [if_neg c, if_neg c, ih2 _ _ (by omega)]
      omega
def trS (D : Nat) : Prop := ∀ (KX KY : Tfi) (σ : Tst) (x y : Nat) (wx wy : Tnw) (i j : Nat) (Q : Int32 → Tst → Prop) (X : String → Nat → Tst → Prop), nk σ x wx (fi_rt KX) → tk σ KX → nk σ y wy (fi_rt KY) → tk σ KY → i ≤ (fi_rt KX).length → j ≤ (fi_rt KY).length → fi_sz (g_drop i KX) < D → fi_sz KX ≤ 6 → fi_sz KY ≤ 6 → tB (fi_sz (g_drop i KX)) (fi_sz (g_drop j KY)) ≤ σ.2.1 → 4 * tB (fi_sz (g_drop i KX)) (fi_sz (g_drop j KY)) ≤ σ.2.2.1 →
  (∀ σ' : Tst, fx σ σ' (tB (fi_sz (g_drop i KX)) (fi_sz (g_drop j KY))) (4 * tB (fi_sz (g_drop i KX)) (fi_sz (g_drop j KY))) → Q (nI (fo_L (fi_er (g_drop i KX)) (fi_er (g_drop j KY)))) σ') → w_X1_tried D (some x) (some y) (nI i) (nI j) Q X σ
theorem drop_sz2 {i : Nat} {KX : Tfi} {s : Nat} {w : Nat × Tnw} {u : Unit} {k r : Tfi} (h : g_drop i KX = .inner s w u k r) : 1 + fi_sz k + fi_sz r ≤ fi_sz KX := by
  have hds := drop_sz i KX
  rw [h] at hds
  simp only [gz_i] at hds
  exact hds
theorem cnt_rt (F : Tfi) : g_cnt F = (fi_rt F).length := by rw [g_cnt_i, ← fi_rt_len]
theorem tr_b19 {rf : Option Nat → Option Nat → Int32 → Int32 → (Int32 → Tst → Prop) → (String → Nat → Tst → Prop) → Tst → Prop} {KY : Tfi} {y : Nat} {wy : Tnw} (hsz : fi_sz KY ≤ 6) {Q : Int32 → Tst → Prop} {X : String → Nat → Tst → Prop} : ∀ (m j acc : Nat) (σ : Tst), j + m = (fi_rt KY).length → acc + 2 * fi_sz (g_drop j KY) ≤ 100 → nk σ y wy (fi_rt KY) → tk σ KY → fi_sz (g_drop j KY) ≤ σ.2.1 → 4 * fi_sz (g_drop j KY) ≤ σ.2.2.1 → (∀ σ' : Tst, fx σ σ' (fi_sz (g_drop j KY)) (4 * fi_sz (g_drop j KY)) → Q (nI (acc + 2 * fi_sz (g_drop j KY))) σ') → w_X1_tried_b19 rf Q X (m + 1) (some y) (nI acc) (nI j) σ := by
  intro m
  induction m with
  | zero =>
    intro j acc σ hj ha hy hk hc hs k
    have hcn := fo_cnt_le (fi_er KY)
    have hrl := fi_rt_len KY
    have s0 : fo_size (fi_er KY) = fi_sz KY := rfl
    obtain ⟨c, d, mm, e3, e5, e6, y1, yL⟩ := hy
    have d1 : g_drop j KY = .leaf := drop_end j KY (by rw [cnt_rt]; omega)
    rw [d1] at k
    rw [w_X1_tried_b19]
    refine ⟨_, _, _, rfl, y1, rfl, lo_rc yL, lo_size yL ⟨fun _ => k σ (fx.rf σ), fun c => ?_⟩⟩
    rw [List.length_map] at c
    exact absurd ((ni_le (by omega) (by omega)).mpr (by omega)) c
  | succ m ih =>
    intro j acc σ hj ha hy hk hc hs k
    have hcn := fo_cnt_le (fi_er KY)
    have hrl := fi_rt_len KY
    have s0 : fo_size (fi_er KY) = fi_sz KY := rfl
    obtain ⟨c, d, mm, e3, e5, e6, y1, yL⟩ := id hy
    obtain ⟨s, w, u, k1, r, d1, d1'⟩ := drop_in j KY (by rw [cnt_rt]; omega)
    obtain ⟨g1, g2⟩ := rt_some d1
    have hds := drop_sz2 d1
    have ht := tk_drop j KY hk
    rw [d1] at ht hc hs k ha
    obtain ⟨hw, hk1, -⟩ := ht
    obtain ⟨_, _, _, _, _, _, w1, _⟩ := id hw
    have e1 : fi_sz (.inner s w u k1 r) = 1 + fi_sz k1 + fi_sz r := rfl
    rw [e1] at hc hs k ha
    rw [w_X1_tried_b19]
    refine ⟨_, _, _, rfl, y1, rfl, lo_rc yL, lo_size yL ⟨fun c => ?_, fun _ => ⟨_, _, _, rfl, y1, rfl, lo_rc yL, lo_get yL g2 ?_⟩⟩⟩
    · rw [List.length_map] at c
      exact absurd ((ni_le (by omega) (by omega)).mp c) (by omega)
    rw [g1]
    refine ⟨Or.inr ⟨_, _, rfl, w1⟩, ⟨_, _, rfl, w1⟩, tk_size hw hk1 (sz64 (by omega)) (by omega) (by omega) (fun σ1 hf1 => ?_)⟩
    have := hf1.c
    have := hf1.s
    rw [show (2 : Int32) = nI 2 from rfl, ni_mul, ni_add, ni_1, ni_add]
    refine ih (j + 1) _ σ1 (by omega) (by rw [d1']; omega) (hy.x hf1) (tk.x hf1 _ hk) (by rw [d1']; omega) (by rw [d1']; omega) (fun σ' hf' => ?_)
    rw [d1'] at hf' ⊢
    have := k σ' ((hf1.tr hf').mo (by omega) (by omega))
    rw [show acc + 2 * (1 + fi_sz k1) + 2 * fi_sz r = acc + 2 * (1 + fi_sz k1 + fi_sz r) by omega]
    exact this
theorem tr_b106 {D : Nat} (H : trS D) {KX KY k r : Tfi} {x y i s : Nat} {wx wy : Tnw} {w : Nat × Tnw} {u : Unit} (hdx : g_drop i KX = .inner s w u k r) (hdx' : g_drop (i + 1) KX = r) (hi : i < (fi_rt KX).length) (hszx : fi_sz KX ≤ 6) (hszy : fi_sz KY ≤ 6) (hD : fi_sz k < D) (hD' : fi_sz r < D) {Q : Int32 → Tst → Prop} {X : String → Nat → Tst → Prop} : ∀ (m j B S : Nat) (σ : Tst), j + m = (fi_rt KY).length → B ≤ 1000 → S + 2 * fi_sz (g_drop j KY) ≤ 100 → nk σ x wx (fi_rt KX) → tk σ KX → nk σ y wy (fi_rt KY) → tk σ KY → tW (fi_sz k) (fi_sz r) (fi_sz (g_drop j KY)) ≤ σ.2.1 → 4 * tW (fi_sz k) (fi_sz r) (fi_sz (g_drop j KY)) ≤ σ.2.2.1 →
    (∀ σ' : Tst, fx σ σ' (tW (fi_sz k) (fi_sz r) (fi_sz (g_drop j KY))) (4 * tW (fi_sz k) (fi_sz r) (fi_sz (g_drop j KY))) → Q (nI (tR w.2 (fi_er k) (fi_er r) (fi_er (g_drop j KY)) B S)) σ') → w_X1_tried_b106 (w_X1_tried D) Q X (m + 1) (some x) (some y) (nI i) (some w.1) (nI B) (nI S) (nI j) σ := by
  have hdsx := drop_sz2 hdx
  intro m
  induction m with
  | zero =>
    intro j B S σ hj hB hS hx hkx hy hky hc hs kk
    have hcn := fo_cnt_le (fi_er KY)
    have hrl := fi_rt_len KY
    have s0 : fo_size (fi_er KY) = fi_sz KY := rfl
    obtain ⟨c, d, mm, e3, e5, e6, y1, yL⟩ := id hy
    have d1 : g_drop j KY = .leaf := drop_end j KY (by rw [cnt_rt]; omega)
    rw [d1] at kk
    rw [w_X1_tried_b106]
    refine ⟨_, _, _, rfl, y1, rfl, lo_rc yL, lo_size yL ⟨fun _ => kk σ ((fx.rf σ).mo (Nat.zero_le _) (Nat.zero_le _)), fun c => ?_⟩⟩
    rw [List.length_map] at c
    exact absurd ((ni_le (by omega) (by omega)).mpr (by omega)) c
  | succ m ih =>
    intro j B S σ hj hB hS hx hkx hy hky hc hs kk
    have hcn := fo_cnt_le (fi_er KY)
    have hrl := fi_rt_len KY
    have s0 : fo_size (fi_er KY) = fi_sz KY := rfl
    obtain ⟨c, d, mm, e3, e5, e6, y1, yL⟩ := id hy
    obtain ⟨s', w', u', k', r', d1, d1'⟩ := drop_in j KY (by rw [cnt_rt]; omega)
    obtain ⟨g1, g2⟩ := rt_some d1
    have hds := drop_sz2 d1
    have ht := tk_drop j KY hky
    rw [d1] at ht hc hs kk hS
    obtain ⟨hw', hk', -⟩ := ht
    obtain ⟨_, _, _, _, _, _, w1', _⟩ := id hw'
    have htx := tk_drop i KX hkx
    rw [hdx] at htx
    obtain ⟨hw, hk, -⟩ := htx
    obtain ⟨_, _, _, _, _, _, w1, _⟩ := id hw
    have e1 : fi_sz (.inner s' w' u' k' r') = 1 + fi_sz k' + fi_sz r' := rfl
    rw [e1] at hc hs kk hS
    have hck := (tW_ck (fi_sz k) (by omega) (fi_sz r) (by omega) (1 + fi_sz k' + fi_sz r') (by omega)).2 (fi_sz k') (by omega)
    rw [show 1 + fi_sz k' + fi_sz r' - (1 + fi_sz k') = fi_sz r' by omega] at hck
    have z1 : fo_size (fi_er k') = fi_sz k' := rfl
    rw [w_X1_tried_b106]
    refine ⟨_, _, _, rfl, y1, rfl, lo_rc yL, lo_size yL ⟨fun c => ?_, fun _ => ⟨_, _, _, rfl, y1, rfl, lo_rc yL, lo_get yL g2 ?_⟩⟩⟩
    · rw [List.length_map] at c
      exact absurd ((ni_le (by omega) (by omega)).mp c) (by omega)
    rw [g1]
    have fin : ∀ (B' : Nat) (σ1 : Tst) (c1 : Nat), B' ≤ 1000 → fx σ σ1 c1 (4 * c1) → c1 ≤ tB (fi_sz k) (fi_sz k') + tB (fi_sz r) (fi_sz r') → B' = (if w.2.2.1 = w'.2.2.1 then min (S + pc w.2 w'.2 + fo_L (fi_er k) (fi_er k') + fo_L (fi_er r) (fi_er r')) B else B) → w_X1_tried_b189 (w_X1_tried D) (w_X1_tried_b106 (w_X1_tried D) Q X (m + 1)) Q X (some x) (some y) (nI i) (some w.1) (nI B') (nI S) (nI j) (some w'.1) σ1 := by
      intro B' σ1 c1 hB' hf1 hc1 hBe
      have := hf1.c
      have := hf1.s
      unfold w_X1_tried_b189
      refine ⟨⟨_, _, rfl, hf1.k w1'⟩, tk_size (hw'.x hf1) (tk.x hf1 _ hk') (sz64 (by omega)) (by omega) (by omega) (fun σ2 hf2 => ?_)⟩
      have := hf2.c
      have := hf2.s
      have hf12 := hf1.tr hf2
      rw [show (2 : Int32) = nI 2 from rfl, ni_mul, ni_add, ni_1, ni_add]
      refine ih (j + 1) B' _ σ2 (by omega) hB' (by rw [d1']; omega) (hx.x hf12) (tk.x hf12 _ hkx) (hy.x hf12) (tk.x hf12 _ hky) (by rw [d1']; omega) (by rw [d1']; omega) (fun σ' hf' => ?_)
      rw [d1'] at hf' ⊢
      have h := kk σ' ((hf12.tr hf').mo (by omega) (by omega))
      simp only [fi_er, tR] at h
      rw [hBe]
      exact h
    refine ⟨Or.inr ⟨_, _, rfl, w1'⟩, _, _, _, rfl, w1, rfl, _, _, _, rfl, w1', rfl, fun hkey => ?_, fun hkey => ?_⟩
    · have b1 := fo_L_le (fi_er k) (fi_er k')
      have b2 := fo_L_le (fi_er r) (fi_er r')
      have b3 := pc_le w.2 w'.2
      have z2 : fo_size (fi_er k) = fi_sz k := rfl
      have z3 : fo_size (fi_er r) = fi_sz r := rfl
      have z4 : fo_size (fi_er r') = fi_sz r' := rfl
      refine pc_b w1 w1' ?_
      refine H k k' σ w.1 w'.1 w.2 w'.2 0 0 _ X hw hk hw' hk' (Nat.zero_le _) (Nat.zero_le _) hD (by omega) (by omega) (by simp only [g_drop]; omega) (by simp only [g_drop]; omega) (fun σ1 hf1 => ?_)
      rw [show g_drop 0 k = k from rfl, show g_drop 0 k' = k' from rfl] at hf1 ⊢
      have := hf1.c
      have := hf1.s
      rw [ni_1, ni_add, ni_add]
      refine H KX KY σ1 x y wx wy (i + 1) (j + 1) _ X (hx.x hf1) (tk.x hf1 _ hkx) (hy.x hf1) (tk.x hf1 _ hky) (by omega) (by omega) (by rw [hdx']; exact hD') hszx hszy (by rw [hdx', d1']; omega) (by rw [hdx', d1']; omega) (fun σ2 hf2 => ?_)
      rw [hdx', d1'] at hf2 ⊢
      rw [ni_add, ni_add, ni_add, if_min _ _ (by omega) (by omega)]
      refine fin _ σ2 _ (by omega) ((hf1.tr hf2).mo (Nat.le_refl _) (by omega)) (Nat.le_refl _) ?_
      rw [if_pos hkey, Nat.min_comm]
    · exact fin B σ 0 hB (fx.rf σ) (Nat.zero_le _) (by rw [if_neg hkey])
theorem tr_ok : ∀ D : Nat, trS D := by
  intro D
  induction D with
  | zero => intro KX KY σ x y wx wy i j Q X hx hkx hy hky hi hj hD; omega
  | succ D ih =>
    intro KX KY σ x y wx wy i j Q X hx hkx hy hky hi hj hD hszx hszy hc hs kk
    have hcx := fo_cnt_le (fi_er KX)
    have hrx := fi_rt_len KX
    have s1 : fo_size (fi_er KX) = fi_sz KX := rfl
    have hcy := fo_cnt_le (fi_er KY)
    have hry := fi_rt_len KY
    have s2 : fo_size (fi_er KY) = fi_sz KY := rfl
    obtain ⟨c, d, mm, e3, e5, e6, x1, xL⟩ := id hx
    have hdy := drop_sz j KY
    rw [gz_i, gz_i] at hdy
    rw [w_X1_tried]
    refine ⟨_, _, _, rfl, x1, rfl, lo_rc xL, lo_size xL ⟨fun ci => ?_, fun ci => ?_⟩⟩
    · rw [List.length_map] at ci
      have ci := (ni_inj (by omega) (by omega)).mp ci
      have d1 : g_drop i KX = .leaf := drop_end i KX (by rw [cnt_rt]; omega)
      rw [d1] at hc hs kk
      refine ⟨(fi_rt KY).length - j + 1, tr_b19 hszy _ j 0 σ (by omega) (by omega) hy hky hc hs (fun σ' hf' => ?_)⟩
      have := kk σ' hf'
      rw [Nat.zero_add]
      exact this
    · rw [List.length_map] at ci
      have ci : i < (fi_rt KX).length := by
        have : i ≠ (fi_rt KX).length := fun e => ci (by rw [e])
        omega
      obtain ⟨s, w, u, k, r, d1, d1'⟩ := drop_in i KX (by rw [cnt_rt]; omega)
      obtain ⟨g1, g2⟩ := rt_some d1
      have hds := drop_sz2 d1
      have ht := tk_drop i KX hkx
      rw [d1] at ht hc hs kk hD
      obtain ⟨hw, hk, -⟩ := ht
      obtain ⟨_, _, _, _, _, _, w1, _⟩ := id hw
      have e1 : fi_sz (.inner s w u k r) = 1 + fi_sz k + fi_sz r := rfl
      rw [e1] at hc hs kk hD
      have hck := (tW_ck (fi_sz k) (by omega) (fi_sz r) (by omega) (fi_sz (g_drop j KY)) (by omega)).1
      have hW : tW (fi_sz k) (fi_sz r) (fi_sz (g_drop j KY)) = tB (1 + fi_sz k + fi_sz r) (fi_sz (g_drop j KY)) - ((1 + fi_sz k) + tB (fi_sz r) (fi_sz (g_drop j KY))) := rfl
      have b1 := fo_L_le (fi_er r) (fi_er (g_drop j KY))
      have z1 : fo_size (fi_er r) = fi_sz r := rfl
      have z2 : fo_size (fi_er (g_drop j KY)) = fi_sz (g_drop j KY) := rfl
      have z3 : fo_size (fi_er k) = fi_sz k := rfl
      refine ⟨_, _, _, rfl, x1, rfl, lo_rc xL, lo_get xL g2 ?_⟩
      rw [g1]
      refine ⟨Or.inr ⟨_, _, rfl, w1⟩, ⟨_, _, rfl, w1⟩, tk_size hw hk (sz64 (by omega)) (by omega) (by omega) (fun σ1 hf1 => ?_)⟩
      have := hf1.c
      have := hf1.s
      rw [ni_1, ni_add]
      refine ih KX KY σ1 x y wx wy (i + 1) j _ X (hx.x hf1) (tk.x hf1 _ hkx) (hy.x hf1) (tk.x hf1 _ hky) (by omega) hj (by rw [d1']; omega) hszx hszy (by rw [d1']; omega) (by rw [d1']; omega) (fun σ2 hf2 => ?_)
      rw [d1'] at hf2 ⊢
      have := hf2.c
      have := hf2.s
      have hf12 := hf1.tr hf2
      rw [show (2 : Int32) = nI 2 from rfl, ni_mul, ni_add]
      refine ⟨(fi_rt KY).length - j + 1, tr_b106 ih d1 d1' ci hszx hszy (by omega) (by omega) _ j _ 0 σ2 (by omega) (by omega) (by omega) (hx.x hf12) (tk.x hf12 _ hkx) (hy.x hf12) (tk.x hf12 _ hky) (by omega) (by omega) (fun σ' hf' => ?_)⟩
      have h := kk σ' ((hf12.tr hf').mo (by omega) (by omega))
      rw [tR_eq s w.2 u (fi_er k) (fi_er r) _ _ _ (by omega)]
      have e2 : min (2 * (1 + fi_sz k) + fo_L (fi_er r) (fi_er (g_drop j KY))) (0 + fo_L (.inner s w.2 u (fi_er k) (fi_er r)) (fi_er (g_drop j KY))) = fo_L (fi_er (.inner s w u k r)) (fi_er (g_drop j KY)) := by
        rw [Nat.zero_add]
        have e3 : fo_L (.inner s w.2 u (fi_er k) (fi_er r)) (fi_er (g_drop j KY)) = fo_L (fi_er (.inner s w u k r)) (fi_er (g_drop j KY)) := rfl
        rw [e3]
        apply Nat.min_eq_right
        cases hy0 : fi_er (g_drop j KY) with
        | leaf => exact Nat.le_refl _
        | inner s' v u' k' r' =>
          rw [fi_er, fo_L_in]
          split <;> omega
      rw [e2]
      exact h
