-- ArrayList: adding and removing inside
theorem lo_mid (xs : List (Option Nat)) (x : Option Nat) {i : Nat} (hi : i ≤ xs.length) (j : Nat) : (xs.take i ++ x :: xs.drop i).getD j none = if j < i then xs.getD j none else if j = i then x else xs.getD (j - 1) none := by
  simp only [List.getD_eq_getElem?_getD]
  by_cases h1 : j < i
  · rw [if_pos h1, List.getElem?_append_left (by simp; omega), List.getElem?_take_of_lt h1]
  · rw [if_neg h1, List.getElem?_append_right (by simp; omega)]
    have hl : (xs.take i).length = i := by simp; omega
    rw [hl]
    by_cases h2 : j = i
    · subst h2; simp
    · rw [if_neg h2]
      obtain ⟨z, rfl⟩ : ∃ z, j = i + 1 + z := ⟨j - i - 1, by omega⟩
      rw [show i + 1 + z - i = z + 1 by omega, List.getElem?_cons_succ, List.getElem?_drop, show i + 1 + z - 1 = i + z by omega]
theorem lo_out (xs : List (Option Nat)) {i : Nat} (hi : i < xs.length) (j : Nat) : (xs.eraseIdx i).getD j none = if j < i then xs.getD j none else xs.getD (j + 1) none := by
  simp only [List.getD_eq_getElem?_getD, List.getElem?_eraseIdx]
  by_cases h : j < i
  · rw [if_pos h, if_pos h]
  · rw [if_neg h, if_neg h]
theorem lo_may {σ : Tst} {xs : List (Option Nat)} (hm : ∀ x ∈ xs, w_may σ 5 x) {i : Nat} (hi : i < xs.length) : w_may σ 5 (xs.getD i none) := by
  rw [List.getD_eq_getElem?_getD, List.getElem?_eq_getElem hi]
  exact hm _ (List.getElem_mem hi)
/-- remove(i) -/
theorem lo_remove {σ : Tst} {a d n i : Nat} {xs : List (Option Nat)} (h : lo_L σ a d n xs) (hm : ∀ y ∈ xs, w_may σ 5 y) (hma : ∀ y ∈ xs, y ≠ some a) (hi : i < xs.length) {Q : Option Nat → Tst → Prop} {X : String → Nat → Tst → Prop}
    (k : ∀ σ' : Tst, lo_L σ' a d n (xs.eraseIdx i) → fr (fun b => b = a ∨ (b = d ∧ 0 < n)) σ σ' 0 0 → Q (xs.getD i none) σ') : w_J6_remove (some a) (nI i) Q X σ := by
  have had := lo_ad h
  obtain ⟨mc, f, h1, h2, h3, h4, h5, h6⟩ := h
  unfold w_J6_remove
  refine ⟨a, _, _, rfl, h1, rfl, lo_idx hi (by omega) ?_⟩
  refine ⟨a, _, _, rfl, h1, rfl, d, 5, n, f, i, rfl, h2, by omega, rfl, by omega, by omega, ⟨a, _, rfl, h1⟩, ?_⟩
  rw [h5 i hi]
  unfold w_J6_fastRemove
  refine ⟨a, _, _, rfl, h1, rfl, a, _, rfl, h1, by simp, ?_⟩
  simp only [List.set_cons_zero]
  have hf1 := fr.up σ a (.inr (cJ6, [.inl (mc + 1), .inr (some d), .inl (nI xs.length)]))
  refine ⟨a, _, _, rfl, lo_up _ _ _, rfl, ?_⟩
  have g2 : (st_up σ a (.inr (cJ6, [.inl (mc + 1), .inr (some d), .inl (nI xs.length)]))).1 d = some (.inl (5, n, .inr (.inr (.inr (.inr f))))) := (lo_ne _ _ (Ne.symm had)).trans h2
  have g1 : (st_up σ a (.inr (cJ6, [.inl (mc + 1), .inr (some d), .inl (nI xs.length)]))).1 a = some (.inr (cJ6, [.inl (mc + 1), .inr (some d), .inl (nI xs.length)])) := lo_up _ _ _
  have hm1 : ∀ j, j < xs.length → w_may (st_up σ a (.inr (cJ6, [.inl (mc + 1), .inr (some d), .inl (nI xs.length)]))) 5 (f j) := fun j hj => by
    rw [h5 j hj]
    exact w_mayfr hf1 (lo_may hm hj) (fun b e hb => by
      have hy : xs.getD j none ∈ xs := by rw [List.getD_eq_getElem?_getD, List.getElem?_eq_getElem hj]; exact List.getElem_mem hj
      exact hma _ hy (by rw [e, hb]))
  generalize st_up σ a (.inr (cJ6, [.inl (mc + 1), .inr (some d), .inl (nI xs.length)])) = σ1 at *
  show w_if _ _ _
  rw [ni_1, ni_sub (by omega)]
  have hlen : (xs.eraseIdx i).length = xs.length - 1 := by rw [List.length_eraseIdx, if_pos hi]
  -- the end, alike on both ways
  have fin : ∀ (σ2 : Tst) (g : Nat → Option Nat), σ2.1 a = some (.inr (cJ6, [.inl (mc + 1), .inr (some d), .inl (nI xs.length)])) → σ2.1 d = some (.inl (5, n, .inr (.inr (.inr (.inr g))))) → (∀ j, j < xs.length - 1 → g j = (xs.eraseIdx i).getD j none) → fr (fun b => b = a ∨ (b = d ∧ 0 < n)) σ σ2 0 0 → w_J6_fastRemove_b34 (fun σ => Q (xs.getD i none) σ) X (some a) (some d) (nI (xs.length - 1)) σ2 := by
    intro σ2 g k1 k2 k3 k4
    unfold w_J6_fastRemove_b34
    refine ⟨a, _, rfl, k1, by simp, d, 5, n, g, xs.length - 1, rfl, (lo_ne _ _ (Ne.symm had)).trans k2, by omega, rfl, by omega, by omega, Or.inl rfl, ?_⟩
    refine k _ ⟨mc + 1, va_up g (xs.length - 1) none, (lo_ne _ _ had).trans ((lo_up _ _ _).trans ?_), lo_up _ _ _, by omega, h4, fun j hj => ?_, fun e => by omega⟩ ?_
    · rw [hlen]; rfl
    · rw [hlen] at hj
      have hne : ¬ j = xs.length - 1 := by omega
      simp only [va_up, if_neg hne]
      exact k3 j hj
    · exact (k4.tr (fr.up σ2 a _) (fun b e hb h => Or.inl hb)).tr (fr.up _ d _) (fun b e hb h => Or.inr ⟨hb, by omega⟩)
  have hfA := hf1.mono (B := fun b => b = a ∨ (b = d ∧ 0 < n)) (fun b e hb h => Or.inl hb) (Nat.le_refl _) (Nat.le_refl _)
  refine ⟨fun c => ?_, fun c => ?_⟩
  · have hie : i = xs.length - 1 := by have := (ni_le (by omega) (by omega)).mp c; omega
    exact fin σ1 f g1 g2 (fun j hj => by rw [lo_out xs hi, if_pos (by omega)]; exact h5 j (by omega)) hfA
  · have hil : i < xs.length - 1 := by
      have : ¬ (xs.length - 1 ≤ i) := fun q => c ((ni_le (by omega) (by omega)).mpr q)
      omega
    rw [ni_add, ni_sub (by omega)]
    refine ⟨d, n, f, d, n, f, i + 1, i, xs.length - 1 - i, rfl, g2, rfl, g2, rfl, rfl, rfl, by omega, by omega, by omega, by omega, Or.inl (by omega), Or.inl (by omega), fun j hj => hm1 _ (by omega), ?_⟩
    refine fin _ (va_cpy f f (i + 1) i (xs.length - 1 - i)) ((lo_ne _ _ had).trans g1) (lo_up _ _ _) (fun j hj => ?_) (hfA.tr (fr.up σ1 d _) (fun b e hb h => Or.inr ⟨hb, by omega⟩))
    rw [lo_out xs hi]
    by_cases hji : j < i
    · rw [if_pos hji]
      have hn' : ¬ (i ≤ j ∧ j < i + (xs.length - 1 - i)) := by omega
      simp only [va_cpy, if_neg hn']
      exact h5 j (by omega)
    · rw [if_neg hji]
      have hp : i ≤ j ∧ j < i + (xs.length - 1 - i) := by omega
      simp only [va_cpy, if_pos hp]
      rw [show i + 1 + (j - i) = j + 1 by omega]
      exact h5 _ (by omega)
