-- Node.place(child): its index among the children
theorem nd_placeL {σ : Tst} {a c d n i : Nat} {e0 e1 e2 e3 e5 e6 : Tfv} {xs : List (Option Nat)} {b : Option Nat} (ha : σ.1 a = some (.inr (cX3, [e0, e1, e2, e3, .inr (some c), e5, e6]))) (hL : lo_L σ c d n xs) (hi : i < xs.length) (hb : xs.getD i none = b) (hne : ∀ j, j < i → xs.getD j none ≠ b) {Q : Int32 → Tst → Prop} {X : String → Nat → Tst → Prop} (k : Q (nI i) σ) : ∀ m j : Nat, j ≤ i → i < j + m → w_X3_place_b2 Q X m (some a) b (nI j) σ := by
  obtain ⟨mcL, fL, gL, gd, gn, g1000, -⟩ := id hL
  intro m
  induction m with
  | zero => intro j h1 h2; omega
  | succ m ih =>
    intro j h1 h2
    rw [w_X3_place_b2]
    refine ⟨a, _, _, rfl, ha, rfl, ⟨c, _, rfl, gL⟩, lo_size hL ⟨fun q => absurd ((ni_le (by omega) (by omega)).mp q) (by omega), fun _ => ?_⟩⟩
    refine ⟨a, _, _, rfl, ha, rfl, ⟨c, _, rfl, gL⟩, lo_get hL (by omega) ⟨fun q => ?_, fun q => ?_⟩⟩
    · have hji : j = i := by
        by_cases e : j = i
        · exact e
        · exact absurd q (hne j (by omega))
      rw [hji]
      exact k
    · have hji : j ≠ i := fun e => q (by rw [e]; exact hb)
      rw [ni_1, ni_add]
      exact ih (j + 1) (by omega) (by omega)
theorem nd_place {σ : Tst} {a c d n i : Nat} {e0 e1 e2 e3 e5 e6 : Tfv} {xs : List (Option Nat)} {b : Option Nat} (ha : σ.1 a = some (.inr (cX3, [e0, e1, e2, e3, .inr (some c), e5, e6]))) (hL : lo_L σ c d n xs) (hi : i < xs.length) (hb : xs.getD i none = b) (hne : ∀ j, j < i → xs.getD j none ≠ b) {Q : Int32 → Tst → Prop} {X : String → Nat → Tst → Prop} (k : Q (nI i) σ) : w_X3_place (some a) b Q X σ :=
  ⟨i + 1, nd_placeL ha hL hi hb hne k (i + 1) 0 (Nat.zero_le i) (by omega)⟩
-- Node.add(i, child)
theorem nd_may {σ : Tst} {b : Nat} {vs : List Tfv} (h : σ.1 b = some (.inr (cX3, vs))) : w_may σ 5 (some b) := Or.inr ⟨b, cX3, vs, rfl, h, by decide⟩
theorem nd_add {σ : Tst} {a b c d n i : Nat} {e0 e1 e2 e3 e5 e6 f0 f1 f2 f3 f4 f5 f6 : Tfv} {xs : List (Option Nat)} (ha : σ.1 a = some (.inr (cX3, [e0, e1, e2, e3, .inr (some c), e5, e6]))) (hb : σ.1 b = some (.inr (cX3, [f0, f1, f2, f3, f4, f5, f6]))) (hL : lo_L σ c d n xs) (hm : ∀ y ∈ xs, w_may σ 5 y) (hma : ∀ y ∈ xs, y ≠ some c) (hi : i ≤ xs.length) (hn : n < 400) (hc : 1 ≤ σ.2.1) (hs : 10 + 2 * xs.length ≤ σ.2.2.1) {Q : Tst → Prop} {X : String → Nat → Tst → Prop}
    (k : ∀ (d' n' : Nat) (σ' : Tst), lo_L σ' c d' n' (xs.take i ++ some b :: xs.drop i) → n' ≤ max n (10 + 2 * xs.length) → (d' = d ∨ σ.1 d' = none) → σ'.1 b = some (.inr (cX3, [f0, f1, f2, .inr (some a), f4, f5, f6])) → fr (fun z => (z = c ∨ (z = d ∧ 0 < n)) ∨ z = b) σ σ' 1 (10 + 2 * xs.length) → Q σ') : w_X3_add (some a) (nI i) (some b) Q X σ := by
  obtain ⟨mcL, fL, gL, gd, -⟩ := id hL
  have hbc : b ≠ c := by intro e; subst e; rw [hb] at gL; cases gL
  have hbd : b ≠ d := by intro e; subst e; rw [hb] at gd; cases gd
  unfold w_X3_add
  refine ⟨a, _, _, rfl, ha, rfl, ⟨c, _, rfl, gL⟩, lo_addAt hL hm hma hi (nd_may hb) (fun e => hbc (by injection e)) (fun e => hbd (by injection e)) hn hc hs (fun d' n' σ' hL' hn' hd' hf => ?_)⟩
  have hb' := hf.1 _ _ (fun h => by rcases h with h | h; exact hbc h; exact hbd h.1) hb
  refine ⟨b, _, rfl, hb', by simp, ?_⟩
  have hf2 := fr.up σ' b (.inr (cX3, [f0, f1, f2, .inr (some a), f4, f5, f6]))
  obtain ⟨_, _, gL', gd', -⟩ := id hL'
  refine k d' n' _ (lo_Lfr hf2 hL' (Ne.symm hbc) ?_) hn' hd' (lo_up _ _ _) (((hf.mono (B := fun z => (z = c ∨ (z = d ∧ 0 < n)) ∨ z = b) (fun _ _ h _ => Or.inl h) (Nat.le_refl _) (Nat.le_refl _)).tr hf2 (fun _ _ h _ => Or.inr h)).mono (fun _ _ h _ => h) (by omega) (by omega))
  intro e
  subst e
  rw [hb'] at gd'
  cases gd'
