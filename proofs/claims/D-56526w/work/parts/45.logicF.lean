-- ArrayList's iterator
/-- an iterator q over the list at a, at place i, the list not changed since -/
def lo_It (σ : Tst) (q a i : Nat) : Prop := ∃ (lr mc : Int32) (e l : Tfv), σ.1 q = some (.inr (cJ18, [.inl (nI i), .inl lr, .inl mc, .inr (some a)])) ∧ σ.1 a = some (.inr (cJ6, [.inl mc, e, l]))
theorem lo_Itfr {A : Nat → Prop} {σ σ' : Tst} {c m : Nat} (hf : fr A σ σ' c m) {q a i : Nat} (h : lo_It σ q a i) (h1 : ¬ A q) (h2 : ¬ A a) : lo_It σ' q a i := by
  obtain ⟨lr, mc, e, l, g1, g2⟩ := h
  exact ⟨lr, mc, e, l, hf.1 _ _ h1 g1, hf.1 _ _ h2 g2⟩
theorem lo_iter {σ : Tst} {a d n : Nat} {xs : List (Option Nat)} (h : lo_L σ a d n xs) (hc : 1 ≤ σ.2.1) (hs : 4 ≤ σ.2.2.1) {Q : Option Nat → Tst → Prop} {X : String → Nat → Tst → Prop}
    (k : ∀ (q : Nat) (σ' : Tst), σ.1 q = none → lo_It σ' q a 0 → fr (fun _ => False) σ σ' 1 4 → Q (some q) σ') : w_J6_iterator (some a) Q X σ := by
  obtain ⟨mc, f, h1, -⟩ := h
  unfold w_J6_iterator
  refine ⟨hc, hs, fun q hq hb => ⟨⟨q, rfl⟩, ?_⟩⟩
  have haq : a ≠ q := by intro e; subst e; rw [hq] at h1; cases h1
  unfold w_J18_init
  have hfr := fr.al hq (.inr (cJ18, [.inl 0, .inl 0, .inl 0, .inr none])) hc hs
  refine ⟨q, _, rfl, lo_up _ _ _, by simp, ⟨q, rfl⟩, q, _, rfl, lo_up _ _ _, by simp, ?_⟩
  refine ⟨q, _, _, rfl, lo_up _ _ _, rfl, a, _, _, rfl, (lo_ne _ _ haq).trans ((lo_ne _ _ haq).trans ((lo_ne _ _ haq).trans h1)), rfl, ?_⟩
  refine ⟨q, _, rfl, lo_up _ _ _, by simp, ?_⟩
  refine k q _ hq ⟨-1, mc, _, _, lo_up _ _ _, (lo_ne _ _ haq).trans ((lo_ne _ _ haq).trans ((lo_ne _ _ haq).trans ((lo_ne _ _ haq).trans h1)))⟩ ?_
  have hz : ∀ (b : Nat) (e : Tce), b = q → σ.1 b = some e → False := fun b e hb h => by
    subst hb
    rw [hq] at h
    cases h
  exact ((hfr.tr (fr.up _ q _) hz).tr (fr.up _ q _) hz).tr (fr.up _ q _) hz
theorem lo_hasNext {σ : Tst} {q a d n i : Nat} {xs : List (Option Nat)} (h : lo_L σ a d n xs) (hI : lo_It σ q a i) (hi : i ≤ xs.length) {Q : Int32 → Tst → Prop} {X : String → Nat → Tst → Prop} (k0 : i = xs.length → Q 0 σ) (k1 : i < xs.length → Q 1 σ) : w_J18_hasNext (some q) Q X σ := by
  obtain ⟨mc, f, h1, h2, h3, h4, -⟩ := h
  obtain ⟨lr, mc', e, l, g1, g2⟩ := hI
  unfold w_J18_hasNext
  refine ⟨q, _, _, rfl, g1, rfl, q, _, _, rfl, g1, rfl, a, _, _, rfl, h1, rfl, fun c => ?_, fun c => ?_⟩
  · exact ⟨rfl, k0 ((ni_inj (by omega) (by omega)).mp c)⟩
  · have hne : i ≠ xs.length := fun e => c (by rw [e])
    exact ⟨rfl, k1 (by omega)⟩
theorem lo_next {σ : Tst} {q a d n i : Nat} {xs : List (Option Nat)} (h : lo_L σ a d n xs) (hI : lo_It σ q a i) (hi : i < xs.length) {Q : Option Nat → Tst → Prop} {X : String → Nat → Tst → Prop}
    (k : ∀ σ' : Tst, lo_It σ' q a (i + 1) → fr (fun b => b = q) σ σ' 0 0 → Q (xs.getD i none) σ') : w_J18_next (some q) Q X σ := by
  have had := lo_ad h
  obtain ⟨mc, f, h1, h2, h3, h4, h5, -⟩ := h
  obtain ⟨lr, mc', e, l, g1, g2⟩ := hI
  cases h1.symm.trans g2
  have hqa : a ≠ q := by intro e; subst e; rw [h1] at g1; cases g1
  have hqd : d ≠ q := by intro e; subst e; rw [h2] at g1; cases g1
  unfold w_J18_next
  refine ⟨⟨q, _, rfl, g1⟩, ?_⟩
  unfold w_J18_checkForComodification
  refine ⟨q, _, _, rfl, g1, rfl, a, _, _, rfl, h1, rfl, q, _, _, rfl, g1, rfl, fun _ => ?_, fun c => absurd rfl c⟩
  refine ⟨q, _, _, rfl, g1, rfl, q, _, _, rfl, g1, rfl, a, _, _, rfl, h1, rfl, fun _ => ?_, fun c => absurd ((lo_lt (by omega) (by omega)).mpr hi) c⟩
  refine ⟨q, _, _, rfl, g1, rfl, a, _, _, rfl, h1, rfl, d, 5, n, _, rfl, h2, by decide, fun _ => ?_, fun c => absurd ((lo_lt (by omega) (by omega)).mpr (by omega)) c⟩
  refine ⟨q, _, rfl, g1, by simp, q, _, rfl, lo_up _ _ _, by simp, ?_⟩
  refine ⟨d, 5, n, f, i, rfl, (lo_ne _ _ hqd).trans ((lo_ne _ _ hqd).trans h2), by omega, rfl, by omega, by omega, ?_⟩
  rw [h5 i hi]
  refine k _ ⟨nI i, mc, _, _, (lo_up _ _ _).trans ?_, (lo_ne _ _ hqa).trans ((lo_ne _ _ hqa).trans h1)⟩ ((fr.up σ q _).tr (fr.up _ q _) (fun b e hb h => hb))
  rw [← ni_add]
  rfl
