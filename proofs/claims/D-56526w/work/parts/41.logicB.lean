-- small ints
theorem ni_add (a b : Nat) : nI a + nI b = nI (a + b) := by
  show Int32.ofNat a + Int32.ofNat b = Int32.ofNat (a + b)
  rw [Int32.ofNat_add]
theorem ni_sub {a b : Nat} (h : b ≤ a) : nI a - nI b = nI (a - b) := by
  have e : nI a = nI (a - b) + nI b := by rw [ni_add, Nat.sub_add_cancel h]
  rw [e]
  exact Int32.add_sub_cancel _ _
theorem ni_inj {a b : Nat} (ha : a < 2147483648) (hb : b < 2147483648) : nI a = nI b ↔ a = b := by
  constructor
  · intro h
    have := congrArg Int32.toInt h
    rw [nI_toInt ha, nI_toInt hb] at this
    omega
  · intro h; rw [h]
theorem ni_le {a b : Nat} (ha : a < 2147483648) (hb : b < 2147483648) : nI a ≤ nI b ↔ a ≤ b := by
  rw [Int32.le_iff_toInt_le, nI_toInt ha, nI_toInt hb]
  omega
theorem ni_0 : (0 : Int32) = nI 0 := rfl
theorem ni_1 : (1 : Int32) = nI 1 := rfl
theorem ni_lit (n : Nat) : (OfNat.ofNat n : Int32) = nI n := rfl
/-- what a call leaves alone: old cells outside A, at most c cells and n slots used -/
def fr (A : Nat → Prop) (σ σ' : Tst) (c n : Nat) : Prop := (∀ b e, ¬ A b → σ.1 b = some e → σ'.1 b = some e) ∧ (∀ b e, σ.1 b = some e → ∃ e', σ'.1 b = some e') ∧ σ.2.1 ≤ σ'.2.1 + c ∧ σ.2.2.1 ≤ σ'.2.2.1 + n ∧ σ'.2.2.2 = σ.2.2.2
theorem fr.rf (A : Nat → Prop) (σ : Tst) : fr A σ σ 0 0 := ⟨fun _ _ _ h => h, fun _ e h => ⟨e, h⟩, Nat.le_refl _, Nat.le_refl _, rfl⟩
theorem fr.tr {A B : Nat → Prop} {σ σ' σ'' : Tst} {c c' n n' : Nat} (h : fr A σ σ' c n) (h' : fr B σ' σ'' c' n') (hB : ∀ b e, B b → σ.1 b = some e → A b) : fr A σ σ'' (c + c') (n + n') := by
  obtain ⟨a1, a2, a3, a4, a5⟩ := h
  obtain ⟨b1, b2, b3, b4, b5⟩ := h'
  refine ⟨fun b e hA hb => b1 b e (fun q => hA (hB b e q hb)) (a1 b e hA hb), fun b e hb => ?_, by omega, by omega, b5.trans a5⟩
  obtain ⟨e', he'⟩ := a2 b e hb
  exact b2 b e' he'
theorem fr.up (σ : Tst) (a : Nat) (e : Tce) : fr (fun b => b = a) σ (st_up σ a e) 0 0 := by
  refine ⟨fun b x hb h => ?_, fun b x h => ?_, Nat.le_refl _, Nat.le_refl _, rfl⟩
  · show va_up σ.1 a (some e) b = _
    rw [lo_ne _ _ hb]; exact h
  · by_cases q : b = a
    · subst q; exact ⟨e, lo_up _ _ _⟩
    · exact ⟨x, (lo_ne _ _ q).trans h⟩
theorem fr.al {σ : Tst} {q : Nat} (hq : σ.1 q = none) (e : Tce) {n : Nat} (h1 : 1 ≤ σ.2.1) (h2 : n ≤ σ.2.2.1) : fr (fun _ => False) σ (st_al σ q e n) 1 n := by
  have key : ∀ b x, σ.1 b = some x → (st_al σ q e n).1 b = some x := by
    intro b x h
    have hb : b ≠ q := by intro r; subst r; rw [hq] at h; cases h
    exact (lo_ne _ _ hb).trans h
  exact ⟨fun b x _ h => key b x h, fun b x h => ⟨x, key b x h⟩, by show σ.2.1 ≤ σ.2.1 - 1 + 1; omega, by show σ.2.2.1 ≤ σ.2.2.1 - n + n; omega, rfl⟩
