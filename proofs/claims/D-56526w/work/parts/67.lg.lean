-- distances
def pc (w v : Int32 × Int32 × Int32) : Nat := (if w.1 = v.1 then 0 else 3) + (if w.2.2 = v.2.2 then 0 else 1)
/-- a row of least costs: the first tree (w, of sk nodes below) and the rest against the forest -/
def fo_Li (w : Int32 × Int32 × Int32) (sk : Nat) (fk fr : Fo → Nat) : Fo → Nat
  | .leaf => 2 * (1 + sk) + fr .leaf
  | .inner s v u k r => if w.2.1 = v.2.1 then min (min (2 * (1 + sk) + fr (.inner s v u k r)) (2 * (1 + fo_size k) + fo_Li w sk fk fr r)) (pc w v + fk k + fr r) else min (2 * (1 + sk) + fr (.inner s v u k r)) (2 * (1 + fo_size k) + fo_Li w sk fk fr r)
/-- the least cost of two forests -/
def fo_L : Fo → Fo → Nat
  | .leaf => fun Y => 2 * fo_size Y
  | .inner _ w _ k r => fo_Li w (fo_size k) (fo_L k) (fo_L r)
theorem fo_L_leaf (X : Fo) : fo_L X .leaf = 2 * fo_size X := by
  induction X with
  | leaf => rfl
  | inner s w u k r ih1 ih2 => simp only [fo_L, fo_Li, fo_size, ih2]; omega
theorem fo_L_0 (Y : Fo) : fo_L .leaf Y = 2 * fo_size Y := rfl
theorem fo_L_in (s : Nat) (w : Int32 × Int32 × Int32) (u : Unit) (k r : Fo) (s' : Nat) (v : Int32 × Int32 × Int32) (u' : Unit) (k' r' : Fo) : fo_L (.inner s w u k r) (.inner s' v u' k' r') = if w.2.1 = v.2.1 then min (min (2 * (1 + fo_size k) + fo_L r (.inner s' v u' k' r')) (2 * (1 + fo_size k') + fo_L (.inner s w u k r) r')) (pc w v + fo_L k k' + fo_L r r') else min (2 * (1 + fo_size k) + fo_L r (.inner s' v u' k' r')) (2 * (1 + fo_size k') + fo_L (.inner s w u k r) r') := rfl
theorem fo_L_le : ∀ X Y : Fo, fo_L X Y ≤ 2 * (fo_size X + fo_size Y) := by
  intro X
  induction X with
  | leaf => intro Y; rw [fo_L_0]; simp only [fo_size]; omega
  | inner s w u k r ih1 ih2 =>
    intro Y
    cases Y with
    | leaf => rw [fo_L_leaf]; simp only [fo_size]; omega
    | inner s' v u' k' r' =>
      rw [fo_L_in]
      have := ih2 (.inner s' v u' k' r')
      simp only [fo_size] at this ⊢
      split <;> omega
theorem pc_le (w v : Int32 × Int32 × Int32) : pc w v ≤ 4 := by unfold pc; split <;> split <;> omega
def g_drop {β : Type} : Nat → Tpf β → Tpf β
  | 0, F => F
  | _ + 1, .leaf => .leaf
  | n + 1, .inner _ _ _ _ r => g_drop n r
theorem er_drop : ∀ (n : Nat) (F : Tfi), fi_er (g_drop n F) = g_drop n (fi_er F) := by
  intro n
  induction n with
  | zero => intro F; rfl
  | succ n ih =>
    intro F
    cases F with
    | leaf => rfl
    | inner s w u k r => simp only [g_drop, fi_er, ih]
theorem rt_drop : ∀ (n : Nat) (F : Tfi), fi_rt (g_drop n F) = (fi_rt F).drop n := by
  intro n
  induction n with
  | zero => intro F; rfl
  | succ n ih =>
    intro F
    cases F with
    | leaf => simp [g_drop, fi_rt]
    | inner s w u k r => simp only [g_drop, fi_rt, ih, List.drop_succ_cons]
theorem tk_drop {σ : Tst} : ∀ (n : Nat) (F : Tfi), tk σ F → tk σ (g_drop n F) := by
  intro n
  induction n with
  | zero => intro F h; exact h
  | succ n ih =>
    intro F h
    cases F with
    | leaf => trivial
    | inner s w u k r => exact ih r h.2.2
theorem drop_end {β : Type} : ∀ (n : Nat) (F : Tpf β), g_cnt F ≤ n → g_drop n F = .leaf := by
  intro n
  induction n with
  | zero =>
    intro F h
    cases F with
    | leaf => rfl
    | inner s w u k r => simp [g_cnt] at h
  | succ n ih =>
    intro F h
    cases F with
    | leaf => rfl
    | inner s w u k r => simp only [g_cnt] at h; exact ih r (by omega)
theorem drop_in {β : Type} : ∀ (n : Nat) (F : Tpf β), n < g_cnt F → ∃ s w u k r, g_drop n F = .inner s w u k r ∧ g_drop (n + 1) F = r := by
  intro n
  induction n with
  | zero =>
    intro F h
    cases F with
    | leaf => simp [g_cnt] at h
    | inner s w u k r => exact ⟨s, w, u, k, r, rfl, rfl⟩
  | succ n ih =>
    intro F h
    cases F with
    | leaf => simp [g_cnt] at h
    | inner s w u k r => simp only [g_cnt] at h; exact ih r (by omega)
theorem drop_sz {β : Type} : ∀ (n : Nat) (F : Tpf β), gz (g_drop n F) ≤ gz F := by
  intro n
  induction n with
  | zero => intro F; exact Nat.le_refl _
  | succ n ih =>
    intro F
    cases F with
    | leaf => exact Nat.le_refl _
    | inner s w u k r => have := ih r; simp only [g_drop, gz]; omega
theorem rt_drop_gd {F : Tfi} {n s : Nat} {w : Nat × Tnw} {u : Unit} {k r : Tfi} (h : g_drop n F = .inner s w u k r) : n < (fi_rt F).length ∧ (fi_rt F).getD n 0 = w.1 := by
  have e := rt_drop n F
  rw [h, fi_rt] at e
  have hl : n < (fi_rt F).length := by
    have := congrArg List.length e
    rw [List.length_cons, List.length_drop] at this
    omega
  refine ⟨hl, ?_⟩
  rw [List.drop_eq_getElem_cons hl] at e
  rw [List.getD_eq_getElem?_getD, List.getElem?_eq_getElem hl]
  exact (List.cons.inj e).1.symm
-- what a table costs in cells and slots
def gC (a b : Nat) : Nat := 4 * (a * b) + a + b + 2
def gS (a b : Nat) : Nat := 18 * (a * b) + 5 * a + 5 * b + 8
def rC (A : Nat) : Fo → Nat
  | .leaf => A
  | .inner _ _ _ k r => 4 * (A * (1 + fo_size k)) + rC A r
def tC : Fo → Fo → Nat
  | .leaf, Y => fo_size Y
  | .inner _ _ _ k r, Y => rC (1 + fo_size k) Y + tC r Y
def rS (A : Nat) : Fo → Nat
  | .leaf => 4 * A
  | .inner _ _ _ k r => (18 * (A * (1 + fo_size k)) - 1) + rS A r
def tS : Fo → Fo → Nat
  | .leaf, Y => 4 * fo_size Y
  | .inner _ _ _ k r, Y => rS (1 + fo_size k) Y + tS r Y
theorem rC_eq (A : Nat) : ∀ Y : Fo, rC A Y = 4 * (A * fo_size Y) + A := by
  intro Y
  induction Y with
  | leaf => simp [rC, fo_size]
  | inner s w u k r ih1 ih2 =>
    simp only [rC, fo_size, ih2]
    rw [Nat.mul_add A (1 + fo_size k) (fo_size r)]
    omega
theorem tC_eq : ∀ X Y : Fo, tC X Y = 4 * (fo_size X * fo_size Y) + fo_size X + fo_size Y := by
  intro X
  induction X with
  | leaf => intro Y; simp [tC, fo_size]
  | inner s w u k r ih1 ih2 =>
    intro Y
    simp only [tC, fo_size, ih2, rC_eq]
    rw [Nat.add_mul (1 + fo_size k) (fo_size r) (fo_size Y)]
    omega
theorem rS_eq (A : Nat) (hA : 0 < A) : ∀ Y : Fo, rS A Y + fo_cnt Y = 18 * (A * fo_size Y) + 4 * A := by
  intro Y
  induction Y with
  | leaf => simp [rS, fo_size, fo_cnt]
  | inner s w u k r ih1 ih2 =>
    simp only [rS, fo_size, fo_cnt]
    rw [Nat.mul_add A (1 + fo_size k) (fo_size r)]
    have : 1 ≤ A * (1 + fo_size k) := Nat.mul_pos hA (by omega)
    omega
theorem tS_eq : ∀ X Y : Fo, tS X Y + fo_cnt X * fo_cnt Y = 18 * (fo_size X * fo_size Y) + 4 * fo_size X + 4 * fo_size Y := by
  intro X
  induction X with
  | leaf => intro Y; simp [tS, fo_size, fo_cnt]
  | inner s w u k r ih1 ih2 =>
    intro Y
    have h1 := ih2 Y
    have h2 := rS_eq (1 + fo_size k) (by omega) Y
    simp only [tS, fo_size, fo_cnt]
    rw [Nat.add_mul (1 + fo_size k) (fo_size r) (fo_size Y), Nat.add_mul (fo_cnt r) 1 (fo_cnt Y)]
    omega
theorem tS_le (X Y : Fo) : tS X Y + (fo_cnt X + 1) * (fo_cnt Y + 1) + 4 ≤ gS (fo_size X) (fo_size Y) := by
  have h := tS_eq X Y
  have h1 := fo_cnt_le X
  have h2 := fo_cnt_le Y
  unfold gS
  rw [Nat.add_mul, Nat.mul_add]
  omega
theorem mul_mono {a b c d : Nat} (h1 : a ≤ b) (h2 : c ≤ d) : a * c ≤ b * d := Nat.mul_le_mul h1 h2
theorem ent_e (k s : Nat) : (1 + k) * (1 + s) = 1 + s + k + k * s := by
  rw [Nat.add_mul, Nat.one_mul, Nat.mul_add, Nat.mul_one]
  omega
theorem entC (k s : Nat) : (1 + k) + (1 + s) + gC k s ≤ 4 * ((1 + k) * (1 + s)) := by
  unfold gC
  rw [ent_e]
  omega
theorem entS (k s : Nat) : 4 * (1 + k) + 4 * (1 + s) + gS k s ≤ 18 * ((1 + k) * (1 + s)) - 1 := by
  unfold gS
  rw [ent_e]
  omega
