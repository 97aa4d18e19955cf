-- ArrayList
/-- an ArrayList at a, its array at d of capacity n, holding xs -/
def lo_L (σ : Tst) (a d n : Nat) (xs : List (Option Nat)) : Prop := ∃ (mc : Int32) (f : Nat → Option Nat), σ.1 a = some (.inr (cJ6, [.inl mc, .inr (some d), .inl (nI xs.length)])) ∧ σ.1 d = some (.inl (5, n, .inr (.inr (.inr (.inr f))))) ∧ xs.length ≤ n ∧ n < 1000 ∧ (∀ i, i < xs.length → f i = xs.getD i none) ∧ (n = 0 → σ.2.2.2 0 = some d)
theorem lo_ad {σ : Tst} {a d n : Nat} {xs : List (Option Nat)} (h : lo_L σ a d n xs) : a ≠ d := by
  obtain ⟨mc, f, h1, h2, -⟩ := h
  intro e
  subst e
  rw [h1] at h2
  cases h2
theorem lo_Lfr {A : Nat → Prop} {σ σ' : Tst} {c m : Nat} (hf : fr A σ σ' c m) {a d n : Nat} {xs : List (Option Nat)} (h : lo_L σ a d n xs) (h1 : ¬ A a) (h2 : ¬ A d) : lo_L σ' a d n xs := by
  obtain ⟨mc, f, g1, g2, g3, g4, g5, g6⟩ := h
  exact ⟨mc, f, hf.1 _ _ h1 g1, hf.1 _ _ h2 g2, g3, g4, g5, fun e => by rw [hf.2.2.2.2]; exact g6 e⟩
theorem w_mayfr {A : Nat → Prop} {σ σ' : Tst} {c m t : Nat} (hf : fr A σ σ' c m) {x : Option Nat} (h : w_may σ t x) (hA : ∀ b, x = some b → ¬ A b) : w_may σ' t x := by
  rcases h with h | ⟨b, ci, vs, e, h1, h2⟩
  · exact Or.inl h
  · exact Or.inr ⟨b, ci, vs, e, hf.1 _ _ (hA b e) h1, h2⟩
theorem lo_lt {i j : Nat} (hi : i < 2147483648) (hj : j < 2147483648) : (nI i < nI j) ↔ i < j := by
  rw [Int32.lt_iff_toInt_lt, nI_toInt hi, nI_toInt hj]
  omega
theorem lo_idx {σ : Tst} {i n : Nat} (hi : i < n) (hn : n < 2147483648) {Q : Int32 → Tst → Prop} {X : String → Nat → Tst → Prop} (k : Q (nI i) σ) : w_J21_checkIndex (nI i) (nI n) Q X σ := by
  unfold w_J21_checkIndex w_J15_checkIndex
  exact ⟨fun c => absurd c (nI_pos (by omega)), fun _ => ⟨fun _ => k, fun c => absurd ((lo_lt (by omega) (by omega)).mpr hi) c⟩⟩
theorem lo_get {σ : Tst} {a d n i : Nat} {xs : List (Option Nat)} (h : lo_L σ a d n xs) (hi : i < xs.length) {Q : Option Nat → Tst → Prop} {X : String → Nat → Tst → Prop} (k : Q (xs.getD i none) σ) : w_J6_get (some a) (nI i) Q X σ := by
  obtain ⟨mc, f, h1, h2, h3, h4, h5, -⟩ := h
  unfold w_J6_get
  refine ⟨a, _, _, rfl, h1, rfl, lo_idx hi (by omega) ⟨⟨a, _, rfl, h1⟩, ?_⟩⟩
  unfold w_J6_elementData
  refine ⟨a, _, _, rfl, h1, rfl, d, 5, n, f, i, rfl, h2, by omega, rfl, by omega, by omega, ?_⟩
  rw [h5 i hi]
  exact k
theorem lo_size {σ : Tst} {a d n : Nat} {xs : List (Option Nat)} (h : lo_L σ a d n xs) {Q : Int32 → Tst → Prop} {X : String → Nat → Tst → Prop} (k : Q (nI xs.length) σ) : w_J6_size (some a) Q X σ := by
  obtain ⟨mc, f, h1, -⟩ := h
  exact ⟨a, _, _, rfl, h1, rfl, k⟩
theorem lo_addT {σ : Tst} {a d n len : Nat} {f : Nat → Option Nat} {mc : Int32} {e0 x : Option Nat} {l0 : Int32} (ha : σ.1 a = some (.inr (cJ6, [.inl mc, .inr e0, .inl l0]))) (hd : σ.1 d = some (.inl (5, n, .inr (.inr (.inr (.inr f)))))) (hl : len < n) (hn : n < 1000) (hx : w_may σ 5 x) (had : a ≠ d) {Q : Tst → Prop} {X : String → Nat → Tst → Prop}
    (k : Q (st_up (st_up σ d (.inl (5, n, .inr (.inr (.inr (.inr (va_up f len x))))))) a (.inr (cJ6, [.inl mc, .inr e0, .inl (nI (len + 1))])))) : w_J6_add_3_b11 Q X (some a) x (some d) (nI len) σ := by
  unfold w_J6_add_3_b11
  refine ⟨d, 5, n, f, len, rfl, hd, by omega, rfl, hl, by omega, hx, a, _, rfl, (lo_ne _ _ had).trans ha, by simp, ?_⟩
  rw [ni_1, ni_add]
  exact k
/-- an ArrayList just made -/
theorem lo_new {σ : Tst} {a E : Nat} {mc : Int32} {r : Option Nat} {z : Int32} (ha : σ.1 a = some (.inr (cJ6, [.inl mc, .inr r, .inl z]))) (hz : z = 0) (hE : σ.2.2.2 0 = some E) {fE : Nat → Option Nat} (hE2 : σ.1 E = some (.inl (5, 0, .inr (.inr (.inr (.inr fE)))))) {Q : Tst → Prop} {X : String → Nat → Tst → Prop}
    (k : ∀ σ' : Tst, lo_L σ' a E 0 [] → fr (fun b => b = a) σ σ' 0 0 → Q σ') : w_J6_init (some a) Q X σ := by
  unfold w_J6_init w_J5_init w_J4_init
  have hne : E ≠ a := by intro e; subst e; rw [ha] at hE2; cases hE2
  refine ⟨⟨a, rfl⟩, ⟨a, rfl⟩, ⟨a, rfl⟩, a, _, rfl, ha, by simp, ?_⟩
  refine ⟨a, _, rfl, lo_up _ _ _, by simp, ?_⟩
  refine k _ ⟨0, fE, (lo_up _ _ _).trans ?_, ?_, Nat.le_refl _, by decide, fun i hi => absurd hi (Nat.not_lt_zero _), fun _ => hE⟩ ?_
  · subst hz
    show _ = some (Sum.inr (cJ6, [Sum.inl 0, Sum.inr (some E), Sum.inl 0]))
    rw [← hE]
    rfl
  · show va_up (va_up σ.1 a _) a _ E = _
    rw [lo_ne _ _ hne, lo_ne _ _ hne]
    exact hE2
  · exact (fr.up _ _ _).tr (fr.up _ _ _) (fun b e h _ => h)
