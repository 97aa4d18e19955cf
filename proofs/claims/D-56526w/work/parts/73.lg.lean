-- the canonical matching as a list of events
/-- kind (112: a pair), number in the old tree, number in the new tree -/
abbrev Top : Type := Int32 × Option Nat × Option Nat
def pev (x y : Int32 × Int32 × Int32) (v w : Nat) : List Top := (112, some v, some w) :: ((if x.1 = y.1 then [] else [(108, some v, some w)]) ++ (if x.2.2 = y.2.2 then [] else [(118, some v, some w)]))
def veI (s : Nat) (x : Int32 × Int32 × Int32) (u : Unit) (k r : Fo) (fk fr : Fo → Nat → Nat → List Top) : Fo → Nat → Nat → List Top
  | .leaf, v, w => (100, some v, none) :: fr .leaf (v + 1 + fo_size k) w
  | .inner s' y u' k' r', v, w => if x.2.1 = y.2.1 ∧ pc x y + fo_L k k' + fo_L r r' = fo_L (.inner s x u k r) (.inner s' y u' k' r') then pev x y v w ++ fk k' (v + 1) (w + 1) ++ fr r' (v + 1 + fo_size k) (w + 1 + fo_size k') else if 2 * (1 + fo_size k) + fo_L r (.inner s' y u' k' r') = fo_L (.inner s x u k r) (.inner s' y u' k' r') then (100, some v, none) :: fr (.inner s' y u' k' r') (v + 1 + fo_size k) w else (105, none, some w) :: veI s x u k r fk fr r' v (w + 1 + fo_size k')
def ve0 : Fo → Nat → Nat → List Top
  | .leaf, _, _ => []
  | .inner _ _ _ k r, v, w => (105, none, some w) :: ve0 r v (w + 1 + fo_size k)
/-- the events of two rows of children, numbered from v and w on -/
def visE : Fo → Fo → Nat → Nat → List Top
  | .leaf => ve0
  | .inner s x u k r => veI s x u k r (visE k) (visE r)
theorem visE_00 (v w : Nat) : visE .leaf .leaf v w = [] := rfl
theorem visE_0i (s : Nat) (y : Int32 × Int32 × Int32) (u : Unit) (k r : Fo) (v w : Nat) : visE .leaf (.inner s y u k r) v w = (105, none, some w) :: visE .leaf r v (w + 1 + fo_size k) := rfl
theorem visE_i0 (s : Nat) (x : Int32 × Int32 × Int32) (u : Unit) (k r : Fo) (v w : Nat) : visE (.inner s x u k r) .leaf v w = (100, some v, none) :: visE r .leaf (v + 1 + fo_size k) w := rfl
theorem visE_ii (s : Nat) (x : Int32 × Int32 × Int32) (u : Unit) (k r : Fo) (s' : Nat) (y : Int32 × Int32 × Int32) (u' : Unit) (k' r' : Fo) (v w : Nat) : visE (.inner s x u k r) (.inner s' y u' k' r') v w = if x.2.1 = y.2.1 ∧ pc x y + fo_L k k' + fo_L r r' = fo_L (.inner s x u k r) (.inner s' y u' k' r') then pev x y v w ++ visE k k' (v + 1) (w + 1) ++ visE r r' (v + 1 + fo_size k) (w + 1 + fo_size k') else if 2 * (1 + fo_size k) + fo_L r (.inner s' y u' k' r') = fo_L (.inner s x u k r) (.inner s' y u' k' r') then (100, some v, none) :: visE r (.inner s' y u' k' r') (v + 1 + fo_size k) w else (105, none, some w) :: visE (.inner s x u k r) r' v (w + 1 + fo_size k') := rfl
/-- how many operations are among the events -/
def nop (es : List Top) : Nat := (es.filter (fun e => !decide (e.1 = 112))).length
theorem nop_app (a b : List Top) : nop (a ++ b) = nop a + nop b := by
  unfold nop
  rw [List.filter_append, List.length_append]
theorem nop_cons (e : Top) (b : List Top) (h : ¬ e.1 = 112) : nop (e :: b) = 1 + nop b := by
  unfold nop
  rw [List.filter_cons_of_pos (by simpa using h), List.length_cons]
  omega
theorem nop_d (v : Nat) : nop [(100, some v, none)] = 1 := rfl
theorem nop_i (w : Nat) : nop [(105, none, some w)] = 1 := rfl
theorem pev_nop (x y : Int32 × Int32 × Int32) (v w : Nat) : nop (pev x y v w) ≤ 2 := by
  unfold pev
  split <;> split <;> exact Nat.le_of_ble_eq_true rfl
theorem visE_nop : ∀ (X Y : Fo) (v w : Nat), nop (visE X Y v w) ≤ fo_size X + fo_size Y := by
  intro X
  induction X with
  | leaf =>
    intro Y
    induction Y with
    | leaf => intro v w; exact Nat.zero_le _
    | inner s y u k r ih1 ih2 =>
      intro v w
      have := ih2 v (w + 1 + fo_size k)
      rw [visE_0i, nop_cons _ _ (by show ¬ (105 : Int32) = 112; decide)]
      simp only [fo_size] at this ⊢
      omega
  | inner s x u k r ih1 ih2 =>
    intro Y
    induction Y with
    | leaf =>
      intro v w
      have := ih2 .leaf (v + 1 + fo_size k) w
      rw [visE_i0, nop_cons _ _ (by show ¬ (100 : Int32) = 112; decide)]
      simp only [fo_size] at this ⊢
      omega
    | inner s' y u' k' r' ih3 ih4 =>
      intro v w
      rw [visE_ii]
      have h1 := pev_nop x y v w
      have h2 := ih1 k' (v + 1) (w + 1)
      have h3 := ih2 r' (v + 1 + fo_size k) (w + 1 + fo_size k')
      have h4 := ih2 (.inner s' y u' k' r') (v + 1 + fo_size k) w
      have h5 := ih4 v (w + 1 + fo_size k')
      simp only [fo_size] at h4 h5 ⊢
      split
      · rw [nop_app, nop_app]; omega
      · split
        · rw [nop_cons _ _ (by show ¬ (100 : Int32) = 112; decide)]; omega
        · rw [nop_cons _ _ (by show ¬ (105 : Int32) = 112; decide)]; omega
-- the room of a visit
def vH : Nat → Nat
  | 0 => 0
  | 1 => 2
  | s + 2 => vH s + (2 * (s * s) + 2 * s + 2) + 4
def vHS : Nat → Nat
  | 0 => 0
  | 1 => 100
  | s + 2 => vHS s + (9 * (s * s) + 9 * s + 8) + 200
theorem vH_add : ∀ x < 41, ∀ y < 41 - x, vH x + vH y ≤ vH (x + y) ∧ vHS x + vHS y ≤ vHS (x + y) := by decide +kernel
theorem vH_lin : ∀ x < 41, ∀ y < 41 - x, vH x + 2 * y ≤ vH (x + y) ∧ vHS x + 100 * y ≤ vHS (x + y) := by decide +kernel
theorem vH_lvl : ∀ a < 20, ∀ b < 20, 4 + gC a b + (4 * (a * b) + a + b) + vH (a + b) ≤ vH (a + b + 2) ∧ 200 + gS a b + (18 * (a * b) + 4 * a + 4 * b) + vHS (a + b) ≤ vHS (a + b + 2) := by decide +kernel
theorem vH_40 : vH 40 = 20640 ∧ vHS 40 = 96500 := by decide +kernel
def pP (a b : Nat) : Nat := 4 * (a * b) + a + b
def pS (a b : Nat) : Nat := 18 * (a * b) + 4 * a + 4 * b
/-- a step where both rows have a child -/
theorem pP_both (A B a b : Nat) : 4 * (A * B) + pP a b ≤ pP (A + a) (B + b) ∧ 18 * (A * B) + pS a b ≤ pS (A + a) (B + b) := by
  unfold pP pS
  rw [Nat.add_mul A a (B + b), Nat.mul_add A B b, Nat.mul_add a B b]
  omega
theorem pP_del (A B a b : Nat) : 4 * (A * B) + pP a (B + b) ≤ pP (A + a) (B + b) ∧ 18 * (A * B) + pS a (B + b) ≤ pS (A + a) (B + b) := by
  unfold pP pS
  rw [Nat.add_mul A a (B + b), Nat.mul_add A B b]
  omega
theorem pP_ins (A B a b : Nat) : 4 * (A * B) + pP (A + a) b ≤ pP (A + a) (B + b) ∧ 18 * (A * B) + pS (A + a) b ≤ pS (A + a) (B + b) := by
  unfold pP pS
  rw [Nat.mul_add (A + a) B b, Nat.add_mul A a B]
  omega
theorem pP_d0 (A a : Nat) : A + pP a 0 ≤ pP (A + a) 0 ∧ 4 * A + pS a 0 ≤ pS (A + a) 0 := by
  unfold pP pS
  simp only [Nat.mul_zero]
  omega
theorem pP_i0 (B b : Nat) : pP 0 b ≤ pP 0 (B + b) ∧ pS 0 b ≤ pS 0 (B + b) := by
  unfold pP pS
  simp only [Nat.zero_mul]
  omega
/-- the tables stay -/
def tkp (σ σ' : Tst) : Prop := (∀ z f, σ.1 z = some (.inr (cX9, f)) → σ'.1 z = some (.inr (cX9, f))) ∧ (∀ z x, σ.1 z = some (.inl (0, x)) → σ'.1 z = some (.inl (0, x)))
theorem tkp.rf (σ : Tst) : tkp σ σ := ⟨fun _ _ h => h, fun _ _ h => h⟩
theorem tkp.tr {σ σ' σ'' : Tst} (h : tkp σ σ') (h' : tkp σ' σ'') : tkp σ σ'' := ⟨fun z f q => h'.1 z f (h.1 z f q), fun z x q => h'.2 z x (h.2 z x q)⟩
theorem tkp.x {σ σ' : Tst} {c n : Nat} (h : fx σ σ' c n) : tkp σ σ' := ⟨fun _ _ q => h.k q, fun _ _ q => h.k q⟩
theorem tbl.kp {σ σ' : Tst} {q e x y p n : Nat} {f : Nat → Int32} (hk : tkp σ σ') (h : tbl σ q e x y p n f) : tbl σ' q e x y p n f := ⟨hk.1 _ _ h.1, hk.2 _ _ h.2.1, h.2.2⟩
