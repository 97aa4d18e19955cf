-- the reference's fills: the costs of all pairs
/-- a whole tree -/
def gT {β : Type} (w : β) (K : Tpf β) : Tpf β := .inner 0 w () K .leaf
/-- the rows hold a whole tree -/
def trA (A : Tar) (n : Nat) (w : Int32 × Int32 × Int32) (K : Fo) : Prop := A 0 = (w.1, w.2.1, w.2.2, -1) ∧ n = 1 + fo_size K ∧ At A 1 (nI 0) K
theorem trA.top {A : Tar} {n : Nat} {w : Int32 × Int32 × Int32} {K : Fo} (h : trA A n w K) : nv A n 0 w K := by
  obtain ⟨h1, h2, h3⟩ := h
  exact ⟨by rw [h1], by rw [h1], by rw [h1], by omega, h3, Cl_top (by omega) 0⟩
theorem trA.nv {A : Tar} {n : Nat} {w : Int32 × Int32 × Int32} {K : Fo} (h : trA A n w K) {j : Nat} {x : Int32 × Int32 × Int32} {k : Fo} (hn : g_nth (gT w K) j = some (x, k)) : nv A n j x k := by
  cases j with
  | zero =>
    simp only [gT, g_nth, Option.some.injEq, Prod.mk.injEq] at hn
    obtain ⟨rfl, rfl⟩ := hn
    exact h.top
  | succ j =>
    simp only [gT, g_nth] at hn
    split at hn
    · have := nv_nth K 1 j x k h.top.fv hn
      rw [Nat.add_comm] at this
      exact this
    · cases hn
theorem gT_nth {β : Type} {w : β} {K : Tpf β} {j : Nat} (h : j < 1 + gz K) : ∃ x k, g_nth (gT w K) j = some (x, k) := g_nth_some _ _ (by simp only [gT, gz]; omega)
theorem nth_kid {β : Type} : ∀ (F : Tpf β) (v : Nat) (x : β) (K : Tpf β) (i s : Nat) (w : β) (u : Unit) (k r : Tpf β), g_nth F v = some (x, K) → g_drop i K = .inner s w u k r → g_nth F (v + 1 + g_ksz i K) = some (w, k) := by
  have kid : ∀ (i : Nat) (K : Tpf β) (s : Nat) (w : β) (u : Unit) (k r : Tpf β), g_drop i K = .inner s w u k r → g_nth K (g_ksz i K) = some (w, k) := by
    intro i
    induction i with
    | zero => intro K s w u k r h; simp only [g_drop] at h; subst h; rfl
    | succ i ih =>
      intro K s w u k r h
      cases K with
      | leaf => simp [g_drop] at h
      | inner s' w' u' k' r' =>
        simp only [g_drop] at h
        have := ih r' s w u k r h
        simp only [g_ksz]
        rw [show 1 + gz k' + g_ksz i r' = (gz k' + g_ksz i r') + 1 by omega]
        simp only [g_nth]
        rw [if_neg (by omega), Nat.add_sub_cancel_left]
        exact this
  intro F
  induction F with
  | leaf => intro v x K i s w u k r h; cases h
  | inner s' w' u' k' r' ih1 ih2 =>
    intro v x K i s w u k r h hd
    have hk := kid i K s w u k r hd
    have hsz := g_nth_sz _ _ _ _ hk
    cases v with
    | zero =>
      simp only [g_nth, Option.some.injEq, Prod.mk.injEq] at h
      obtain ⟨rfl, rfl⟩ := h
      rw [show 0 + 1 + g_ksz i k' = g_ksz i k' + 1 by omega]
      simp only [g_nth]
      rw [if_pos (by omega)]
      exact hk
    | succ v =>
      simp only [g_nth] at h
      rw [show v + 1 + 1 + g_ksz i K = (v + 1 + g_ksz i K) + 1 by omega]
      simp only [g_nth]
      split at h
      · rename_i c
        have h2 := g_nth_sz _ _ _ _ h
        rw [if_pos (by omega)]
        exact ih1 _ _ _ _ _ _ _ _ _ h hd
      · rename_i c
        rw [if_neg (by omega)]
        have := ih2 _ _ _ _ _ _ _ _ _ h hd
        rw [show v + 1 + g_ksz i K - gz k' = v - gz k' + 1 + g_ksz i K by omega]
        exact this
/-- the cost of a pair of nodes, by numbers -/
def cst (T U : Fo) (v w : Nat) : Nat := match g_nth T v, g_nth U w with | some (x, K), some (y, K') => pc x y + fo_L K K' | _, _ => 0
/-- a tree of the reference, apart from the cells of R -/
def mtx (R : Nat → Prop) (σ : Tst) (t n : Nat) (A : Tar) : Prop := ∃ la ka va pa : Nat, mT σ t la ka va pa n A ∧ ∀ z, mA t la ka va pa z → ¬ R z
theorem mtx.mt {R : Nat → Prop} {σ : Tst} {t n : Nat} {A : Tar} (h : mtx R σ t n A) : mt σ t n A := by
  obtain ⟨la, ka, va, pa, h, -⟩ := h
  exact ⟨la, ka, va, pa, h⟩
theorem mtx.ofr {R : Nat → Prop} {σ σ' : Tst} {c m t n : Nat} {A : Tar} (h : mtx R σ t n A) (hf : fr R σ σ' c m) : mtx R σ' t n A := by
  obtain ⟨la, ka, va, pa, h, hR⟩ := h
  exact ⟨la, ka, va, pa, h.ofr hf hR, hR⟩
def rowR (c0 : Nat) (z : Nat) : Prop := c0 ≤ z ∧ z < c0 + 20
theorem cmx.ne {σ : Tst} {m cm c0 : Nat} {M : Nat → Nat → Int32} (h : cmx σ m cm c0 M) : ¬ rowR c0 m ∧ ¬ rowR c0 cm := by
  obtain ⟨⟨fs, h1, h2⟩, h3, h4⟩ := h
  constructor
  · rintro ⟨q1, q2⟩
    have := h4 (m - c0) (by omega)
    rw [show c0 + (m - c0) = m by omega, h1] at this
    cases this
  · rintro ⟨q1, q2⟩
    have := h4 (cm - c0) (by omega)
    rw [show c0 + (cm - c0) = cm by omega, h3] at this
    cases this
def fSe (v w : Nat) : Nat := (19 - v) + (19 - w) + (20 - v) + (20 - v) * (20 - w)
def sW (v : Nat) : Nat → Nat
  | 0 => 0
  | m + 1 => fSe v m + sW v m
def sV : Nat → Nat
  | 0 => 0
  | m + 1 => sW m 20 + sV m
def cV : Nat → Nat
  | 0 => 0
  | m + 1 => 20 * (23 - m) + cV m
theorem sW_mo (v : Nat) : ∀ (a d : Nat), sW v a ≤ sW v (a + d) := by
  intro a d
  induction d with
  | zero => exact Nat.le_refl _
  | succ d ih => rw [← Nat.add_assoc, sW]; omega
theorem sV_mo : ∀ (a d : Nat), sV a ≤ sV (a + d) := by
  intro a d
  induction d with
  | zero => exact Nat.le_refl _
  | succ d ih => rw [← Nat.add_assoc, sV]; omega
theorem cV_mo : ∀ (a d : Nat), cV a ≤ cV (a + d) := by
  intro a d
  induction d with
  | zero => exact Nat.le_refl _
  | succ d ih => rw [← Nat.add_assoc, cV]; omega
theorem sV_20 : sV 20 = 55900 ∧ cV 20 = 5400 := by decide +kernel
section FI
variable {m cm c0 a n b n' : Nat} {A B : Tar} {wa wb : Int32 × Int32 × Int32} {Ka Kb : Fo}
theorem fi_cell (hTA : trA A n wa Ka) (hTB : trA B n' wb Kb) {σ : Tst} {v w : Nat} {M : Nat → Nat → Int32} (hv : v < n) (hw : w < n') (hA : mtx (rowR c0) σ a n A) (hB : mtx (rowR c0) σ b n' B) (hM : cmx σ m cm c0 M) (hMv : ∀ v' w', v < v' → v' < n → w' < n' → M v' w' = nI (cst (gT wa Ka) (gT wb Kb) v' w')) (hc : 23 - v ≤ σ.2.1) (hs : fSe v w ≤ σ.2.2.1) {Q : Int32 → Tst → Prop} {X : String → Nat → Tst → Prop} {k7 : Option Nat → Option Nat → Option Nat → Int32 → Tst → Prop} {k19 : Option Nat → Option Nat → Option Nat → Int32 → Int32 → Tst → Prop}
    (k : ∀ σ' : Tst, fr (rowR c0) σ σ' (23 - v) (fSe v w) → cmx σ' m cm c0 (va_up M v (upd (M v) w (nI (cst (gT wa Ka) (gT wb Kb) v w)))) → k19 (some m) (some a) (some b) (nI v) (nI w + (-1)) σ') :
    (w_gr σ (some a) cX5 0 fun x1 => w_li σ x1 (nI v) fun x2 => w_gr σ (some b) cX5 0 fun x3 => w_li σ x3 (nI w) fun x4 => w_if (x2 = x4) (w_X4_fills_b45 k7 k19 Q X (some m) (some a) (some b) (nI v) (nI w) 0 σ) (w_X4_fills_b45 k7 k19 Q X (some m) (some a) (some b) (nI v) (nI w) 3 σ)) := by
  obtain ⟨xv, Kv, hv1⟩ := gT_nth (w := wa) (K := Ka) (j := v) (by rw [gz_o]; have := hTA.2.1; omega)
  obtain ⟨xw, Kw, hw1⟩ := gT_nth (w := wb) (K := Kb) (j := w) (by rw [gz_o]; have := hTB.2.1; omega)
  have nva := hTA.nv hv1
  have nvb := hTB.nv hw1
  have hcst : cst (gT wa Ka) (gT wb Kb) v w = pc xv xw + fo_L Kv Kw := by unfold cst; rw [hv1, hw1]
  obtain ⟨la, ka, va, pa, hA1, hAR⟩ := id hA
  obtain ⟨lb, kb, vb, pb, hB1, hBR⟩ := id hB
  obtain ⟨a1, a2, a3, a4, a5, a6⟩ := id hA1
  obtain ⟨b1, b2, b3, b4, b5, b6⟩ := id hB1
  have c1 := fo_cnt_le Kv
  have c2 := fo_cnt_le Kw
  have z1 := nva.2.2.2.1
  have z2 := nvb.2.2.2.1
  obtain ⟨⟨fs, m1, m2⟩, m3, m4⟩ := id hM
  have hprod : (fo_cnt Kv + 1) * (fo_cnt Kw + 1) ≤ (20 - v) * (20 - w) := Nat.mul_le_mul (by omega) (by omega)
  have hse : fSe v w = (19 - v) + (19 - w) + (20 - v) + (20 - v) * (20 - w) := rfl
  have b66 : ∀ s0 s1 : Int32, s0 + s1 = nI (pc xv xw) → w_X4_fills_b66 k7 k19 Q X (some m) (some a) (some b) (nI v) (nI w) s0 s1 σ := by
    intro s0 s1 hs01
    unfold w_X4_fills_b66
    refine ⟨_, fs, _, rfl, m1, m2, _, _, _, _, v, rfl, m3, ⟨by omega, by omega⟩, rfl, (by omega), (by omega), ?_⟩
    refine nv_kids hA.mt nva (by omega) (by omega) (fun q1 σ1 f1 hq1 hf1 hqa1 hff1 => ?_)
    have := hf1.c
    have := hf1.s
    refine nv_kids (hB.mt.x hf1) nvb (by omega) (by omega) (fun q2 σ2 f2 hq2 hf2 hqa2 hff2 => ?_)
    have := hf2.c
    have := hf2.s
    have hf12 := hf1.tr hf2
    refine lf_left (v := v) (v' := w) (i0 := v + 1) (j0 := w + 1) (hA.mt.x hf12) (hB.mt.x hf12) nva.fv nvb.fv (hf2.k hqa1) hqa2 (fun i hi => by rw [hff1 i hi, ks_gd i _ _ hi]) (fun i hi => by rw [hff2 i hi, ks_gd i _ _ hi]) (hM.x hf12) (fun i j s x u k r s' x' u' k' r' d1 d2 => ?_) (by omega) (by omega) (by omega) (by omega) (fun t σ3 g hf3 hnew ht hg => ?_)
    · have e1 := nth_kid _ _ _ _ _ _ _ _ _ _ hv1 d1
      have e2 := nth_kid _ _ _ _ _ _ _ _ _ _ hw1 d2
      have l1 := g_nth_sz _ _ _ _ e1
      have l2 := g_nth_sz _ _ _ _ e2
      have g1 : gz (gT wa Ka) = n := by rw [gz_o, hTA.2.1]; simp [gT, fo_size]
      have g2 : gz (gT wb Kb) = n' := by rw [gz_o, hTB.2.1]; simp [gT, fo_size]
      rw [hMv _ _ (by omega) (by omega) (by omega)]
      unfold cst
      rw [e1, e2]
    · have hf123 := hf12.tr hf3
      obtain ⟨t1, t2⟩ := ht
      have hl : pc xv xw + fo_L Kv Kw ≤ 1000 := by
        have := fo_L_le Kv Kw
        have := pc_le xv xw
        omega
      refine ⟨_, _, _, _, 0, rfl, t1, ⟨by omega, by omega⟩, rfl, (by omega), (by omega), _, _, _, 0, rfl, t2 0 (Nat.zero_le _), rfl, (by omega), (by omega), ?_⟩
      rw [hg 0 0 (Nat.zero_le _) (Nat.zero_le _)]
      have hrow := hf123.k (m4 v (by omega))
      refine ⟨_, _, _, w, rfl, hrow, rfl, (by omega), (by omega), ?_⟩
      rw [hs01]
      have hsum : nI (pc xv xw) + nI (fo_L (g_drop 0 Kv) (g_drop 0 Kw)) = nI (cst (gT wa Ka) (gT wb Kb) v w) := by
        rw [hcst, ni_add]
        rfl
      rw [hsum]
      have hR := (hf123.mono (B := rowR c0) (fun _ _ h _ => h.elim) (Nat.le_refl _) (Nat.le_refl _)).tr (fr.up σ3 (c0 + v) (.inl (0, 20, .inl (upd (M v) w (nI (cst (gT wa Ka) (gT wb Kb) v w)))))) (fun z _ hz _ => by rw [hz]; exact ⟨by omega, by omega⟩)
      refine k _ (hR.mono (fun _ _ h _ => h) (by omega) (by omega)) ⟨⟨fs, hR.1 _ _ hM.ne.1 m1, m2⟩, hR.1 _ _ hM.ne.2 m3, fun i hi => ?_⟩
      by_cases e : i = v
      · subst e
        simp only [va_up, if_true]
        exact up_at _ _ _
      · simp only [va_up, if_neg e]
        exact (up_ne _ _ (by omega)).trans (hf123.k (m4 i hi))
  have b45 : ∀ s0 : Int32, (s0 = nI (if xv.1 = xw.1 then 0 else 3)) → w_X4_fills_b45 k7 k19 Q X (some m) (some a) (some b) (nI v) (nI w) s0 σ := by
    intro s0 hs0
    unfold w_X4_fills_b45
    refine ⟨_, _, _, rfl, a1, rfl, _, _, _, v, rfl, a4, rfl, (by omega), (by omega), _, _, _, rfl, b1, rfl, _, _, _, w, rfl, b4, rfl, (by omega), (by omega), fun c => b66 _ _ ?_, fun c => b66 _ _ ?_⟩
    · rw [nva.2.2.1, nvb.2.2.1] at c
      rw [hs0]
      unfold pc
      rw [if_pos c, show (0 : Int32) = nI 0 from rfl, ni_add]
    · rw [nva.2.2.1, nvb.2.2.1] at c
      rw [hs0]
      unfold pc
      rw [if_neg c, show (1 : Int32) = nI 1 from rfl, ni_add]
  refine ⟨_, _, _, rfl, a1, rfl, _, _, _, v, rfl, a2, rfl, (by omega), (by omega), _, _, _, rfl, b1, rfl, _, _, _, w, rfl, b2, rfl, (by omega), (by omega), fun c => b45 _ ?_, fun c => b45 _ ?_⟩
  · rw [nva.1, nvb.1] at c
    rw [if_pos c]; rfl
  · rw [nva.1, nvb.1] at c
    rw [if_neg c]; rfl
theorem fi_row (hTA : trA A n wa Ka) (hTB : trA B n' wb Kb) {v : Nat} (hv : v < n) {σ0 : Tst} {Q : Int32 → Tst → Prop} {X : String → Nat → Tst → Prop} {k7 : Option Nat → Option Nat → Option Nat → Int32 → Tst → Prop} : ∀ (l : Nat) (σ : Tst) (M : Nat → Nat → Int32) (cc nn : Nat), l ≤ n' → fr (rowR c0) σ0 σ cc nn → mtx (rowR c0) σ a n A → mtx (rowR c0) σ b n' B → cmx σ m cm c0 M → (∀ v' w', (v < v' ∨ (v' = v ∧ l ≤ w')) → v' < n → w' < n' → M v' w' = nI (cst (gT wa Ka) (gT wb Kb) v' w')) → cc + l * (23 - v) ≤ σ0.2.1 → nn + sW v l ≤ σ0.2.2.1 →
    (∀ (σ' : Tst) (M' : Nat → Nat → Int32), fr (rowR c0) σ0 σ' (cc + l * (23 - v)) (nn + sW v l) → mtx (rowR c0) σ' a n A → mtx (rowR c0) σ' b n' B → cmx σ' m cm c0 M' → (∀ v' w', v ≤ v' → v' < n → w' < n' → M' v' w' = nI (cst (gT wa Ka) (gT wb Kb) v' w')) → k7 (some m) (some a) (some b) (nI v + (-1)) σ') → w_X4_fills_b19 k7 Q X (l + 1) (some m) (some a) (some b) (nI v) (nI l + (-1)) σ := by
  intro l
  induction l with
  | zero =>
    intro σ M cc nn hl hf hA hB hM hMv hc hs k
    rw [w_X4_fills_b19]
    exact ⟨fun _ => k σ M (hf.mono (fun _ _ h _ => h) (by omega) (by omega)) hA hB hM (fun v' w' q1 q2 q3 => hMv v' w' (by omega) q2 q3), fun c => absurd (by decide) c⟩
  | succ l ih =>
    intro σ M cc nn hl hf hA hB hM hMv hc hs k
    have hn' := hB.mt.le
    rw [Nat.add_mul, Nat.one_mul] at hc k
    simp only [sW] at hs k
    rw [ni_pred, w_X4_fills_b19]
    have := hf.2.2.1
    have := hf.2.2.2.1
    refine ⟨fun c => absurd c (nI_pos (by omega)), fun _ => fi_cell hTA hTB hv (by omega) hA hB hM (fun v' w' q1 q2 q3 => hMv v' w' (Or.inl q1) q2 q3) (by omega) (by omega) (fun σ1 hf1 hM1 => ?_)⟩
    refine ih σ1 _ (cc + (23 - v)) (nn + fSe v l) (by omega) (hf.tr hf1 (fun _ _ h _ => h)) (hA.ofr hf1) (hB.ofr hf1) hM1 (fun v' w' q1 q2 q3 => ?_) (by omega) (by omega) (fun σ' M' g1 => k σ' M' (g1.mono (fun _ _ h _ => h) (by omega) (by omega)))
    by_cases e : v' = v
    · subst e
      simp only [va_up, if_true]
      by_cases e2 : w' = l
      · subst e2
        simp only [upd, if_true]
      · simp only [upd, if_neg e2]
        exact hMv _ _ (by omega) q2 q3
    · simp only [va_up, if_neg e]
      exact hMv _ _ (by omega) q2 q3
theorem fi_rows (hTA : trA A n wa Ka) (hTB : trA B n' wb Kb) {σ0 : Tst} {Q : Int32 → Tst → Prop} {X : String → Nat → Tst → Prop} : ∀ (l : Nat) (σ : Tst) (M : Nat → Nat → Int32) (cc nn : Nat), l ≤ n → fr (rowR c0) σ0 σ cc nn → mtx (rowR c0) σ a n A → mtx (rowR c0) σ b n' B → cmx σ m cm c0 M → (∀ v' w', l ≤ v' → v' < n → w' < n' → M v' w' = nI (cst (gT wa Ka) (gT wb Kb) v' w')) → cc + cV l ≤ σ0.2.1 → nn + sV l ≤ σ0.2.2.1 →
    (∀ (σ' : Tst) (M' : Nat → Nat → Int32), fr (rowR c0) σ0 σ' (cc + cV l) (nn + sV l) → mtx (rowR c0) σ' a n A → mtx (rowR c0) σ' b n' B → cmx σ' m cm c0 M' → (∀ v' w', v' < n → w' < n' → M' v' w' = nI (cst (gT wa Ka) (gT wb Kb) v' w')) → Q (nI (cst (gT wa Ka) (gT wb Kb) 0 0)) σ') → w_X4_fills_b7 Q X (l + 1) (some m) (some a) (some b) (nI l + (-1)) σ := by
  have hna : n = 1 + fo_size Ka := hTA.2.1
  have hnb : n' = 1 + fo_size Kb := hTB.2.1
  intro l
  induction l with
  | zero =>
    intro σ M cc nn hl hf hA hB hM hMv hc hs k
    obtain ⟨⟨fs, m1, m2⟩, m3, m4⟩ := id hM
    rw [w_X4_fills_b7]
    refine ⟨fun _ => ⟨_, fs, _, rfl, m1, m2, _, _, _, _, 0, rfl, m3, ⟨by omega, by omega⟩, rfl, (by omega), (by omega), _, _, _, 0, rfl, m4 0 (by decide), rfl, (by omega), (by omega), ?_⟩, fun c => absurd (by decide) c⟩
    rw [hMv 0 0 (Nat.le_refl _) (by omega) (by omega)]
    exact k σ M hf hA hB hM (fun v' w' q2 q3 => hMv v' w' (Nat.zero_le _) q2 q3)
  | succ l ih =>
    intro σ M cc nn hl hf hA hB hM hMv hc hs k
    have hn := hA.mt.le
    have hn' := hB.mt.le
    simp only [cV] at hc k
    simp only [sV] at hs k
    obtain ⟨lb, kb, vb, pb, hB1, hBR⟩ := id hB
    obtain ⟨b1, -⟩ := id hB1
    rw [ni_pred, w_X4_fills_b7]
    have hsm := sW_mo l n' (20 - n')
    rw [show n' + (20 - n') = 20 by omega] at hsm
    have hcm : n' * (23 - l) ≤ 20 * (23 - l) := Nat.mul_le_mul_right _ hn'
    refine ⟨fun c => absurd c (nI_pos (by omega)), fun _ => ⟨_, _, _, rfl, b1, rfl, n' + 1, ?_⟩⟩
    have hgo := fi_row hTA hTB (v := l) (by omega) (Q := Q) (X := X) (k7 := w_X4_fills_b7 Q X (l + 1)) n' σ M cc nn (Nat.le_refl _) hf hA hB hM (fun v' w' q1 q2 q3 => hMv v' w' (by omega) q2 q3) (by omega) (by omega) (fun σ' M' g1 g2 g3 g4 g5 => ih σ' M' _ _ (by omega) g1 g2 g3 g4 g5 (by omega) (by omega) (fun σ'' M'' r1 => k σ'' M'' (r1.mono (fun _ _ h _ => h) (by omega) (by omega))))
    rw [Int32.sub_eq_add_neg]
    exact hgo
/-- fills(one, other) -/
theorem fi_fills (hTA : trA A n wa Ka) (hTB : trA B n' wb Kb) {σ : Tst} {M : Nat → Nat → Int32} (hA : mtx (rowR c0) σ a n A) (hB : mtx (rowR c0) σ b n' B) (hM : cmx σ m cm c0 M) (hc : 5400 ≤ σ.2.1) (hs : 55900 ≤ σ.2.2.1) {Q : Int32 → Tst → Prop} {X : String → Nat → Tst → Prop}
    (k : ∀ (σ' : Tst) (M' : Nat → Nat → Int32), fr (rowR c0) σ σ' 5400 55900 → mtx (rowR c0) σ' a n A → mtx (rowR c0) σ' b n' B → cmx σ' m cm c0 M' → (∀ v' w', v' < n → w' < n' → M' v' w' = nI (cst (gT wa Ka) (gT wb Kb) v' w')) → Q (nI (pc wa wb + fo_L Ka Kb)) σ') : w_rc σ (some m) cX4 (w_X4_fills (some m) (some a) (some b) Q X σ) := by
  obtain ⟨⟨fs, m1, m2⟩, m3, m4⟩ := id hM
  obtain ⟨la, ka, va, pa, hA1, hAR⟩ := id hA
  obtain ⟨a1, -⟩ := id hA1
  have hn := hA.mt.le
  have h1 := sV_mo n (20 - n)
  have h2 := cV_mo n (20 - n)
  rw [show n + (20 - n) = 20 by omega] at h1 h2
  rw [sV_20.1] at h1
  rw [sV_20.2] at h2
  refine ⟨⟨_, _, rfl, m1⟩, ?_⟩
  unfold w_X4_fills
  refine ⟨_, _, _, rfl, a1, rfl, n + 1, ?_⟩
  have hgo := fi_rows hTA hTB (Q := Q) (X := X) n σ M 0 0 (Nat.le_refl _) (fr.rf _ σ) hA hB hM (fun v' w' q1 q2 q3 => by omega) (by omega) (by omega) (fun σ' M' g1 g2 g3 g4 g5 => k σ' M' (g1.mono (fun _ _ h _ => h) (by omega) (by omega)) g2 g3 g4 g5)
  rw [Int32.sub_eq_add_neg]
  exact hgo
end FI
