-- ArrayList: growing, adding
theorem fr.mono {A B : Nat → Prop} {σ σ' : Tst} {c c' n n' : Nat} (h : fr A σ σ' c n) (hA : ∀ b e, A b → σ.1 b = some e → B b) (hc : c ≤ c') (hn : n ≤ n') : fr B σ σ' c' n' := by
  obtain ⟨a1, a2, a3, a4, a5⟩ := h
  exact ⟨fun b e hB hb => a1 b e (fun q => hB (hA b e q hb)) hb, a2, by omega, by omega, a5⟩
theorem lo_newLen {n : Nat} (hn : n < 1000) (h0 : 0 < n) (hs : nI n >>> (1 &&& 31) = nI (n / 2)) {σ : Tst} {Q : Int32 → Tst → Prop} {X : String → Nat → Tst → Prop} (k : Q (nI (n + (if 1 < n / 2 then n / 2 else 1))) σ) : w_J11_newLength (nI n) (nI (n + 1) - nI n) (nI n >>> (1 &&& 31)) Q X σ := by
  unfold w_J11_newLength
  have e1 : nI (n + 1) - nI n = nI 1 := by rw [ni_sub (by omega)]; congr 1; omega
  have e2 : (if nI 1 < nI (n / 2) then nI (n / 2) else nI 1) = nI (if 1 < n / 2 then n / 2 else 1) := by
    by_cases h : 1 < n / 2
    · rw [if_pos h, if_pos ((lo_lt (by omega) (by omega)).mpr h)]
    · rw [if_neg h, if_neg (fun c => h ((lo_lt (by omega) (by omega)).mp c))]
  rw [e1, hs, e2, ni_add]
  have hb : (if 1 < n / 2 then n / 2 else 1) ≤ n := by split <;> omega
  have hp : 1 ≤ (if 1 < n / 2 then n / 2 else 1) := by split <;> omega
  refine ⟨fun c => absurd ((ni_le (b := 0) (by omega) (by decide)).mp c) (by omega), fun _ => ⟨fun c => absurd ((lo_lt (i := 2147483639) (by decide) (by omega)).mp c) (by omega), fun _ => k⟩⟩
theorem lo_shr : ∀ n : Nat, n < 1000 → nI n >>> (1 &&& 31) = nI (n / 2) := by decide +kernel
/-- Arrays.copyOf over an Object[] -/
theorem lo_copyOf {σ : Tst} {d n n' : Nat} {f : Nat → Option Nat} (hd : σ.1 d = some (.inl (5, n, .inr (.inr (.inr (.inr f)))))) (h0 : 0 < n) (hn : n < 1000) (hn1 : n ≤ n') (hn2 : n' < 3000) (hm : ∀ j, j < n → w_may σ 5 (f j)) (hc : 1 ≤ σ.2.1) (hs : n' ≤ σ.2.2.1) {Q : Option Nat → Tst → Prop} {X : String → Nat → Tst → Prop}
    (k : ∀ (q : Nat) (σ' : Tst) (g : Nat → Option Nat), σ.1 q = none → σ'.1 q = some (.inl (5, n', .inr (.inr (.inr (.inr g))))) → (∀ j, j < n → g j = f j) → fr (fun _ => False) σ σ' 1 n' → Q (some q) σ') : w_J13_copyOf (some d) (nI n') Q X σ := by
  unfold w_J13_copyOf w_J13_copyOf_2
  refine ⟨d, n, _, rfl, hd, ?_⟩
  refine ⟨fun _ => ⟨n', rfl, by omega, hc, hs, fun q hq hb => ?_⟩, fun c => absurd rfl c⟩
  have hdq : d ≠ q := by intro e; subst e; rw [hq] at hd; cases hd
  have hd' : (st_al σ q (.inl (5, n', .inr (.inr (.inr (.inr fun _ => none))))) n').1 d = some (.inl (5, n, .inr (.inr (.inr (.inr f))))) := (lo_ne _ _ hdq).trans hd
  have hq' : (st_al σ q (.inl (5, n', .inr (.inr (.inr (.inr fun _ => none))))) n').1 q = some (.inl (5, n', .inr (.inr (.inr (.inr fun _ => none))))) := lo_up _ _ _
  refine ⟨d, 5, n, _, rfl, hd', by decide, ?_⟩
  have em : (if nI n' < nI n then nI n' else nI n) = nI n := by
    rw [if_neg (fun c => by have := (lo_lt (by omega) (by omega)).mp c; omega)]
  show w_cpr _ _ _ _ _ (if nI n' < nI n then nI n' else nI n) _
  rw [em]
  have hfr := fr.al hq (.inl (5, n', .inr (.inr (.inr (.inr fun _ => none))))) hc hs
  refine ⟨d, n, f, q, n', fun _ => none, 0, 0, n, rfl, hd', rfl, hq', rfl, rfl, rfl, by omega, by omega, by omega, by omega, Or.inl h0, Or.inl (by omega), fun j hj => ?_, ?_⟩
  · rw [Nat.zero_add]
    exact w_mayfr hfr (hm j hj) (fun _ _ h => h)
  · refine k q _ (va_cpy f (fun _ => none) 0 0 n) hq (lo_up _ _ _) (fun j hj => ?_) ?_
    · simp [va_cpy, hj]
    · have h2 := hfr.tr (fr.up (st_al σ q (.inl (5, n', .inr (.inr (.inr (.inr fun _ => none))))) n') q (.inl (5, n', .inr (.inr (.inr (.inr (va_cpy f (fun _ => none) 0 0 n))))))) (fun b e hb h => by
        have hb : b = q := hb
        subst hb
        rw [hq] at h
        cases h)
      exact h2
/-- grow() of a full list -/
theorem lo_grow {σ : Tst} {a d n : Nat} {xs : List (Option Nat)} (h : lo_L σ a d n xs) (hfull : xs.length = n) (hm : ∀ x ∈ xs, w_may σ 5 x) (hn : n < 400) (hc : 1 ≤ σ.2.1) (hs : 10 + 2 * n ≤ σ.2.2.1) {Q : Option Nat → Tst → Prop} {X : String → Nat → Tst → Prop}
    (k : ∀ (q n' : Nat) (σ' : Tst), lo_L σ' a q n' xs → xs.length < n' → n' ≤ 10 + 2 * n → σ.1 q = none → fr (fun b => b = a) σ σ' 1 (10 + 2 * n) → Q (some q) σ') : w_J6_grow (some a) Q X σ := by
  obtain ⟨mc, f, h1, h2, h3, h4, h5, h6⟩ := h
  unfold w_J6_grow
  refine ⟨a, _, _, rfl, h1, rfl, ⟨a, _, rfl, h1⟩, ?_⟩
  rw [hfull, ni_1, ni_add]
  unfold w_J6_grow_2
  refine ⟨a, _, _, rfl, h1, rfl, d, 5, n, _, rfl, h2, by decide, ?_⟩
  refine ⟨fun c => ?_, fun c => ?_⟩
  · have hn0 : 0 < n := (lo_lt (i := 0) (by decide) (by omega)).mp c
    unfold w_J6_grow_2_b20
    refine lo_newLen (by omega) hn0 (lo_shr n (by omega)) ?_
    refine ⟨a, _, _, rfl, h1, rfl, ?_⟩
    have hb : (if 1 < n / 2 then n / 2 else 1) ≤ n := by split <;> omega
    have hp : 1 ≤ (if 1 < n / 2 then n / 2 else 1) := by split <;> omega
    generalize (if 1 < n / 2 then n / 2 else 1) = z at hb hp
    refine lo_copyOf h2 hn0 (by omega) (by omega) (by omega) (fun j hj => ?_) hc (by omega) (fun q σ' g hq hg hgf hf => ?_)
    · rw [h5 j (by omega)]
      have hj' : j < xs.length := by omega
      rw [List.getD_eq_getElem?_getD, List.getElem?_eq_getElem hj']
      exact hm _ (List.getElem_mem hj')
    · have haq : a ≠ q := by intro e; subst e; rw [hq] at h1; cases h1
      have ha' := hf.1 _ _ (fun h => h) h1
      refine ⟨a, _, rfl, ha', by simp, ?_⟩
      refine k q (n + z) _ ⟨mc, g, lo_up _ _ _, (lo_ne _ _ (Ne.symm haq)).trans hg, by omega, by omega, fun i hi => by rw [hgf i (by omega)]; exact h5 i hi, fun e => by omega⟩ (by omega) (by omega) hq ?_
      exact ((hf.mono (B := fun b => b = a) (fun b e hb h => hb.elim) (Nat.le_refl _) (Nat.le_refl _)).tr (fr.up σ' a _) (fun b e hb h => hb)).mono (fun b e hb h => hb) (by omega) (by omega)
  · have hn0 : n = 0 := by
      by_cases e : n = 0
      · exact e
      · exact absurd ((lo_lt (i := 0) (by decide) (by omega)).mpr (by omega)) c
    subst hn0
    refine ⟨a, _, _, rfl, h1, rfl, ?_⟩
    show w_if (some d = σ.2.2.2 0) _ _
    refine ⟨fun _ => ?_, fun c => absurd (h6 rfl).symm c⟩
    have e10 : (if (10 : Int32) < nI (0 + 1) then nI (0 + 1) else 10) = nI 10 := by decide
    rw [e10]
    refine ⟨10, rfl, by decide, hc, by omega, fun q hq hb => ?_⟩
    have haq : a ≠ q := by intro e; subst e; rw [hq] at h1; cases h1
    have hfr := fr.al hq (.inl (5, 10, .inr (.inr (.inr (.inr fun _ => none))))) hc (n := 10) (by omega)
    refine ⟨a, _, rfl, (lo_ne _ _ haq).trans h1, by simp, ?_⟩
    have hx : xs = [] := List.length_eq_zero_iff.mp hfull
    subst hx
    refine k q 10 _ ⟨mc, fun _ => none, lo_up _ _ _, (lo_ne _ _ (Ne.symm haq)).trans (lo_up _ _ _), by decide, by decide, fun i hi => absurd hi (Nat.not_lt_zero _), fun e => by omega⟩ (by decide) (by omega) hq ?_
    exact ((hfr.mono (B := fun b => b = a) (fun b e hb h => hb.elim) (Nat.le_refl _) (Nat.le_refl _)).tr (fr.up _ a _) (fun b e hb h => hb)).mono (fun b e hb h => hb) (by omega) (by omega)
