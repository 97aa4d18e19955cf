-- ArrayList: adding at the end
theorem lo_app {xs : List (Option Nat)} {x : Option Nat} {f g : Nat → Option Nat} (h : ∀ i, i < xs.length → f i = xs.getD i none) (i : Nat) (hi : i < (xs ++ [x]).length) : va_up f xs.length x i = (xs ++ [x]).getD i none := by
  simp only [List.length_append, List.length_cons, List.length_nil] at hi
  by_cases e : i = xs.length
  · subst e
    simp [va_up]
  · have hi' : i < xs.length := by omega
    simp only [va_up, if_neg e]
    rw [h i hi', List.getD_eq_getElem?_getD, List.getD_eq_getElem?_getD, List.getElem?_append_left hi']
theorem lo_add {σ : Tst} {a d n : Nat} {xs : List (Option Nat)} {x : Option Nat} (h : lo_L σ a d n xs) (hm : ∀ y ∈ xs, w_may σ 5 y) (hma : ∀ y ∈ xs, y ≠ some a) (hx : w_may σ 5 x) (hxa : x ≠ some a) (hn : n < 400) (hc : 1 ≤ σ.2.1) (hs : 10 + 2 * xs.length ≤ σ.2.2.1) {Q : Int32 → Tst → Prop} {X : String → Nat → Tst → Prop}
    (k : ∀ (d' n' : Nat) (σ' : Tst), lo_L σ' a d' n' (xs ++ [x]) → n' ≤ max n (10 + 2 * xs.length) → (d' = d ∨ σ.1 d' = none) → fr (fun b => b = a ∨ (b = d ∧ 0 < n)) σ σ' 1 (10 + 2 * xs.length) → Q 1 σ') : w_J6_add_2 (some a) x Q X σ := by
  have had := lo_ad h
  obtain ⟨mc, f, h1, h2, h3, h4, h5, h6⟩ := h
  unfold w_J6_add_2
  refine ⟨a, _, _, rfl, h1, rfl, a, _, rfl, h1, by simp, ?_⟩
  have hf1 := fr.up σ a (.inr (cJ6, [.inl (mc + 1), .inr (some d), .inl (nI xs.length)]))
  simp only [List.set_cons_zero]
  have g1 : (st_up σ a (.inr (cJ6, [.inl (mc + 1), .inr (some d), .inl (nI xs.length)]))).1 a = some (.inr (cJ6, [.inl (mc + 1), .inr (some d), .inl (nI xs.length)])) := lo_up _ _ _
  have g2 : (st_up σ a (.inr (cJ6, [.inl (mc + 1), .inr (some d), .inl (nI xs.length)]))).1 d = some (.inl (5, n, .inr (.inr (.inr (.inr f))))) := (lo_ne _ _ (Ne.symm had)).trans h2
  have hL1 : lo_L (st_up σ a (.inr (cJ6, [.inl (mc + 1), .inr (some d), .inl (nI xs.length)]))) a d n xs := ⟨mc + 1, f, g1, g2, h3, h4, h5, h6⟩
  have hm1 : ∀ y ∈ xs, w_may (st_up σ a (.inr (cJ6, [.inl (mc + 1), .inr (some d), .inl (nI xs.length)]))) 5 y := fun y hy => w_mayfr hf1 (hm y hy) (fun b e hb => hma y hy (by rw [e, hb]))
  have hx1 : w_may (st_up σ a (.inr (cJ6, [.inl (mc + 1), .inr (some d), .inl (nI xs.length)]))) 5 x := w_mayfr hf1 hx (fun b e hb => hxa (by rw [e, hb]))
  have hc1 : 1 ≤ (st_up σ a (.inr (cJ6, [.inl (mc + 1), .inr (some d), .inl (nI xs.length)]))).2.1 := hc
  have hs1 : 10 + 2 * xs.length ≤ (st_up σ a (.inr (cJ6, [.inl (mc + 1), .inr (some d), .inl (nI xs.length)]))).2.2.1 := hs
  generalize hσ1 : st_up σ a (.inr (cJ6, [.inl (mc + 1), .inr (some d), .inl (nI xs.length)])) = σ1 at *
  refine ⟨a, _, _, rfl, g1, rfl, a, _, _, rfl, g1, rfl, ⟨a, _, rfl, g1⟩, ?_⟩
  unfold w_J6_add_3
  refine ⟨d, 5, n, _, rfl, g2, by decide, ?_⟩
  refine ⟨fun c => ?_, fun c => ?_⟩
  · have hfull : xs.length = n := (ni_inj (by omega) (by omega)).mp c
    refine ⟨⟨a, _, rfl, g1⟩, lo_grow hL1 hfull hm1 hn hc1 (by omega) (fun q n' σ2 hL2 hl2 hn2 hq hf2 => ?_)⟩
    have haq := lo_ad hL2
    obtain ⟨mc2, f2, k1, k2, k3, k4, k5, k6⟩ := hL2
    refine lo_addT k1 k2 hl2 k4 (w_mayfr hf2 hx1 (fun b e hb => hxa (by rw [e, hb]))) haq ?_
    refine ⟨rfl, k q n' _ ⟨mc2, va_up f2 xs.length x, ?_, ?_, by simp; omega, k4, lo_app (g := f2) k5, fun e => by omega⟩ (by omega) (Or.inr ?_) ?_⟩
    · rw [List.length_append]; exact lo_up _ _ _
    · exact (lo_ne _ _ (Ne.symm haq)).trans (lo_up _ _ _)
    · cases hz : σ.1 q with
      | none => rfl
      | some e =>
        obtain ⟨e', he'⟩ := hf1.2.1 q e hz
        rw [hq] at he'
        cases he'
    · have t1 := (hf2.tr (fr.up σ2 q (.inl (5, n', .inr (.inr (.inr (.inr (va_up f2 xs.length x))))))) (fun b e hb h => by
        have hb : b = q := hb
        subst hb
        rw [hq] at h
        cases h)).tr (fr.up _ a (.inr (cJ6, [.inl mc2, .inr (some q), .inl (nI (xs.length + 1))]))) (fun b e hb h => hb)
      exact (hf1.tr t1 (fun b e hb h => hb)).mono (fun b e hb h => Or.inl hb) (by omega) (by omega)
  · have hlt : xs.length < n := by
      have : xs.length ≠ n := fun e => c (by rw [e])
      omega
    refine lo_addT g1 g2 hlt h4 hx1 had ?_
    refine ⟨rfl, k d n _ ⟨mc + 1, va_up f xs.length x, ?_, ?_, by simp; omega, h4, lo_app (g := f) h5, fun e => by omega⟩ (by omega) (Or.inl rfl) ?_⟩
    · rw [List.length_append]; exact lo_up _ _ _
    · exact (lo_ne _ _ (Ne.symm had)).trans (lo_up _ _ _)
    · have t1 := ((hf1.mono (B := fun b => b = a ∨ (b = d ∧ 0 < n)) (fun b e hb h => Or.inl hb) (Nat.le_refl _) (Nat.le_refl _)).tr (fr.up σ1 d (.inl (5, n, .inr (.inr (.inr (.inr (va_up f xs.length x))))))) (fun b e hb h => Or.inr ⟨hb, by omega⟩)).tr (fr.up _ a (.inr (cJ6, [.inl (mc + 1), .inr (some d), .inl (nI (xs.length + 1))]))) (fun b e hb h => Or.inl hb)
      exact t1.mono (fun b e hb h => hb) (by omega) (by omega)
