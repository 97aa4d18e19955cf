-- ArrayList: adding inside
theorem lo_addM {σ : Tst} {a d n i : Nat} {f : Nat → Option Nat} {mc : Int32} {xs : List (Option Nat)} {x : Option Nat} (h1 : σ.1 a = some (.inr (cJ6, [.inl mc, .inr (some d), .inl (nI xs.length)]))) (h2 : σ.1 d = some (.inl (5, n, .inr (.inr (.inr (.inr f)))))) (hl : xs.length < n) (hn : n < 1000) (h5 : ∀ j, j < xs.length → f j = xs.getD j none) (hm : ∀ j, j < xs.length → w_may σ 5 (f j)) (hi : i ≤ xs.length) (hx : w_may σ 5 x) (hxd : x ≠ some d) (had : a ≠ d) {Q : Tst → Prop} {X : String → Nat → Tst → Prop}
    (k : ∀ σ' : Tst, lo_L σ' a d n (xs.take i ++ x :: xs.drop i) → fr (fun b => b = a ∨ (b = d ∧ 0 < n)) σ σ' 0 0 → Q σ') : w_J6_add_b38 Q X (some a) (nI i) x (nI xs.length) (some d) σ := by
  unfold w_J6_add_b38
  rw [ni_1, ni_add, ni_add, ni_sub hi]
  have hf1 := fr.up σ d (.inl (5, n, .inr (.inr (.inr (.inr (va_cpy f f i (i + 1) (xs.length - i)))))))
  refine ⟨d, n, f, d, n, f, i, i + 1, xs.length - i, rfl, h2, rfl, h2, rfl, rfl, rfl, by omega, by omega, by omega, by omega, Or.inl (by omega), Or.inl (by omega), fun j hj => hm _ (by omega), ?_⟩
  refine ⟨d, 5, n, _, i, rfl, lo_up _ _ _, by omega, rfl, by omega, by omega, w_mayfr hf1 hx (fun b e hb => hxd (by rw [e, hb])), ?_⟩
  refine ⟨a, _, rfl, (lo_ne _ _ had).trans ((lo_ne _ _ had).trans h1), by simp, ?_⟩
  have hlen : (xs.take i ++ x :: xs.drop i).length = xs.length + 1 := by simp; omega
  refine k _ ⟨mc, va_up (va_cpy f f i (i + 1) (xs.length - i)) i x, (lo_up _ _ _).trans ?_, (lo_ne _ _ (Ne.symm had)).trans (lo_up _ _ _), by omega, hn, fun j hj => ?_, fun e => by omega⟩ ?_
  · rw [hlen]; rfl
  · rw [hlen] at hj
    rw [lo_mid xs x hi]
    by_cases hji : j < i
    · rw [if_pos hji]
      have hne : ¬ j = i := by omega
      have hp : ¬ (i + 1 ≤ j ∧ j < i + 1 + (xs.length - i)) := by omega
      simp only [va_up, if_neg hne, va_cpy, if_neg hp]
      exact h5 j (by omega)
    · rw [if_neg hji]
      by_cases hje : j = i
      · rw [if_pos hje]
        simp only [va_up, if_pos hje]
      · rw [if_neg hje]
        have hp : i + 1 ≤ j ∧ j < i + 1 + (xs.length - i) := by omega
        simp only [va_up, if_neg hje, va_cpy, if_pos hp]
        rw [show i + (j - (i + 1)) = j - 1 by omega]
        exact h5 _ (by omega)
  · exact ((hf1.mono (B := fun b => b = a ∨ (b = d ∧ 0 < n)) (fun b e hb h => Or.inr ⟨hb, by omega⟩) (Nat.le_refl _) (Nat.le_refl _)).tr (fr.up _ d _) (fun b e hb h => Or.inr ⟨hb, by omega⟩)).tr (fr.up _ a _) (fun b e hb h => Or.inl hb)
/-- add(i, x) -/
theorem lo_addAt {σ : Tst} {a d n i : Nat} {xs : List (Option Nat)} {x : Option Nat} (h : lo_L σ a d n xs) (hm : ∀ y ∈ xs, w_may σ 5 y) (hma : ∀ y ∈ xs, y ≠ some a) (hi : i ≤ xs.length) (hx : w_may σ 5 x) (hxa : x ≠ some a) (hxd : x ≠ some d) (hn : n < 400) (hc : 1 ≤ σ.2.1) (hs : 10 + 2 * xs.length ≤ σ.2.2.1) {Q : Tst → Prop} {X : String → Nat → Tst → Prop}
    (k : ∀ (d' n' : Nat) (σ' : Tst), lo_L σ' a d' n' (xs.take i ++ x :: xs.drop i) → n' ≤ max n (10 + 2 * xs.length) → (d' = d ∨ σ.1 d' = none) → fr (fun b => b = a ∨ (b = d ∧ 0 < n)) σ σ' 1 (10 + 2 * xs.length) → Q σ') : w_J6_add (some a) (nI i) x Q X σ := by
  have had := lo_ad h
  obtain ⟨mc, f, h1, h2, h3, h4, h5, h6⟩ := h
  unfold w_J6_add
  refine ⟨⟨a, _, rfl, h1⟩, ?_⟩
  unfold w_J6_rangeCheckForAdd
  refine ⟨a, _, _, rfl, h1, rfl, fun c => absurd ((lo_lt (by omega) (by omega)).mp c) (by omega), fun _ => ⟨fun _ => ?_, fun c => absurd ((ni_le (a := 0) (by decide) (by omega)).mpr (Nat.zero_le i)) c⟩⟩
  refine ⟨a, _, _, rfl, h1, rfl, a, _, rfl, h1, by simp, ?_⟩
  simp only [List.set_cons_zero]
  have hf1 := fr.up σ a (.inr (cJ6, [.inl (mc + 1), .inr (some d), .inl (nI xs.length)]))
  have g1 : (st_up σ a (.inr (cJ6, [.inl (mc + 1), .inr (some d), .inl (nI xs.length)]))).1 a = some (.inr (cJ6, [.inl (mc + 1), .inr (some d), .inl (nI xs.length)])) := lo_up _ _ _
  have g2 : (st_up σ a (.inr (cJ6, [.inl (mc + 1), .inr (some d), .inl (nI xs.length)]))).1 d = some (.inl (5, n, .inr (.inr (.inr (.inr f))))) := (lo_ne _ _ (Ne.symm had)).trans h2
  have hL1 : lo_L (st_up σ a (.inr (cJ6, [.inl (mc + 1), .inr (some d), .inl (nI xs.length)]))) a d n xs := ⟨mc + 1, f, g1, g2, h3, h4, h5, h6⟩
  have hm1 : ∀ y ∈ xs, w_may (st_up σ a (.inr (cJ6, [.inl (mc + 1), .inr (some d), .inl (nI xs.length)]))) 5 y := fun y hy => w_mayfr hf1 (hm y hy) (fun b e hb => hma y hy (by rw [e, hb]))
  have hx1 : w_may (st_up σ a (.inr (cJ6, [.inl (mc + 1), .inr (some d), .inl (nI xs.length)]))) 5 x := w_mayfr hf1 hx (fun b e hb => hxa (by rw [e, hb]))
  have hc1 : 1 ≤ (st_up σ a (.inr (cJ6, [.inl (mc + 1), .inr (some d), .inl (nI xs.length)]))).2.1 := hc
  have hs1 : 10 + 2 * xs.length ≤ (st_up σ a (.inr (cJ6, [.inl (mc + 1), .inr (some d), .inl (nI xs.length)]))).2.2.1 := hs
  generalize hσ1 : st_up σ a (.inr (cJ6, [.inl (mc + 1), .inr (some d), .inl (nI xs.length)])) = σ1 at *
  refine ⟨a, _, _, rfl, g1, rfl, a, _, _, rfl, g1, rfl, d, 5, n, _, rfl, g2, by decide, fun c => ?_, fun c => ?_⟩
  · have hfull : xs.length = n := (ni_inj (by omega) (by omega)).mp c
    refine ⟨⟨a, _, rfl, g1⟩, lo_grow hL1 hfull hm1 hn hc1 (by omega) (fun q n' σ2 hL2 hl2 hn2 hq hf2 => ?_)⟩
    have haq := lo_ad hL2
    obtain ⟨mc2, f2, k1, k2, k3, k4, k5, k6⟩ := hL2
    have hqx : x ≠ some q := by
      intro e
      rcases hx1 with h | ⟨b, ci, vs, e2, e3, -⟩
      · rw [e] at h; cases h
      · rw [e] at e2; cases e2; rw [hq] at e3; cases e3
    refine lo_addM k1 k2 hl2 k4 k5 (fun j hj => ?_) hi (w_mayfr hf2 hx1 (fun b e hb => hxa (by rw [e, hb]))) hqx haq (fun σ' hL' hf' => ?_)
    · rw [k5 j hj]
      have hy : xs.getD j none ∈ xs := by rw [List.getD_eq_getElem?_getD, List.getElem?_eq_getElem hj]; exact List.getElem_mem hj
      exact w_mayfr hf2 (hm1 _ hy) (fun b e hb => hma _ hy (by rw [e, hb]))
    · refine k q n' σ' hL' (by omega) (Or.inr ?_) ?_
      · cases hz : σ.1 q with
        | none => rfl
        | some e =>
          obtain ⟨e', he'⟩ := hf1.2.1 q e hz
          rw [hq] at he'
          cases he'
      · have t1 := hf2.tr hf' (fun b e hb h => by
          rcases hb with hb | hb
          · exact hb
          · obtain ⟨hb, -⟩ := hb; subst hb; rw [hq] at h; cases h)
        exact (hf1.tr t1 (fun b e hb h => hb)).mono (fun b e hb h => Or.inl hb) (by omega) (by omega)
  · have hlt : xs.length < n := by
      have : xs.length ≠ n := fun e => c (by rw [e])
      omega
    refine lo_addM g1 g2 hlt h4 h5 (fun j hj => ?_) hi hx1 hxd had (fun σ' hL' hf' => ?_)
    · rw [h5 j hj]
      have hy : xs.getD j none ∈ xs := by rw [List.getD_eq_getElem?_getD, List.getElem?_eq_getElem hj]; exact List.getElem_mem hj
      exact hm1 _ hy
    · exact k d n σ' hL' (by omega) (Or.inl rfl) (((hf1.mono (B := fun b => b = a ∨ (b = d ∧ 0 < n)) (fun b e hb h => Or.inl hb) (Nat.le_refl _) (Nat.le_refl _)).tr hf' (fun b e hb h => hb)).mono (fun b e hb h => hb) (by omega) (by omega))
