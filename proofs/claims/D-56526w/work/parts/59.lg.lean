-- forests in general: a node by its number; changing, inserting, removing
abbrev Tpf (β : Type) : Type := Std.DTreeMap.Internal.Impl β (fun _ => Unit)
def gz {β : Type} : Tpf β → Nat
  | .leaf => 0
  | .inner _ _ _ k r => 1 + gz k + gz r
theorem gz_o (F : Fo) : gz F = fo_size F := by
  induction F with
  | leaf => rfl
  | inner s w u k r ih1 ih2 => simp only [gz, fo_size, ih1, ih2]
theorem gz_i (F : Tfi) : gz F = fi_sz F := by
  induction F with
  | leaf => rfl
  | inner s w u k r ih1 ih2 => simp only [gz, fi_sz, fi_er, fo_size, ih1, ih2]
def g_nth {β : Type} : Tpf β → Nat → Option (β × Tpf β)
  | .leaf, _ => none
  | .inner _ w _ k _, 0 => some (w, k)
  | .inner _ _ _ k r, i + 1 => if i < gz k then g_nth k i else g_nth r (i - gz k)
def g_set {β : Type} (f : β → β) : Tpf β → Nat → Tpf β
  | .leaf, _ => .leaf
  | .inner s w u k r, 0 => .inner s (f w) u k r
  | .inner s w u k r, i + 1 => if i < gz k then .inner s w u (g_set f k i) r else .inner s w u k (g_set f r (i - gz k))
/-- a tree (x, kx) put among siblings at a place -/
def g_insK {β : Type} (x : β) (kx : Tpf β) : Nat → Tpf β → Tpf β
  | 0, F => .inner 0 x () kx F
  | _ + 1, .leaf => .inner 0 x () kx .leaf
  | p + 1, .inner s w u k r => .inner s w u k (g_insK x kx p r)
/-- something done with the children of a node -/
def g_kid {β : Type} (h : Tpf β → Tpf β) : Tpf β → Nat → Tpf β
  | .leaf, _ => .leaf
  | .inner s w u k r, 0 => .inner s w u (h k) r
  | .inner s w u k r, i + 1 => if i < gz k then .inner s w u (g_kid h k i) r else .inner s w u k (g_kid h r (i - gz k))
def g_rm {β : Type} : Tpf β → Nat → Tpf β
  | .leaf, _ => .leaf
  | .inner _ _ _ _ r, 0 => r
  | .inner s w u k r, i + 1 => if i < gz k then .inner s w u (g_rm k i) r else .inner s w u k (g_rm r (i - gz k))
/-- the number of the parent, inside the forest -/
def g_pix {β : Type} : Tpf β → Nat → Option Nat
  | .leaf, _ => none
  | .inner _ _ _ _ _, 0 => none
  | .inner _ _ _ k r, i + 1 => if i < gz k then some (match g_pix k i with | none => 0 | some p => p + 1) else (g_pix r (i - gz k)).map (fun p => p + 1 + gz k)
/-- rows taken by the first trees -/
def g_ksz {β : Type} : Nat → Tpf β → Nat
  | 0, _ => 0
  | _ + 1, .leaf => 0
  | p + 1, .inner _ _ _ k r => 1 + gz k + g_ksz p r
def g_cnt {β : Type} : Tpf β → Nat
  | .leaf => 0
  | .inner _ _ _ _ r => g_cnt r + 1
theorem g_cnt_o (F : Fo) : g_cnt F = fo_cnt F := by
  induction F with
  | leaf => rfl
  | inner s w u k r ih1 ih2 => simp only [g_cnt, fo_cnt, ih2]
theorem g_cnt_i (F : Tfi) : g_cnt F = fo_cnt (fi_er F) := by
  induction F with
  | leaf => rfl
  | inner s w u k r ih1 ih2 => simp only [g_cnt, fi_er, fo_cnt, ih2]
theorem gz_er (F : Tfi) : gz (fi_er F) = gz F := by rw [gz_o, gz_i]
theorem er_set (f : Nat × Tnw → Nat × Tnw) (g : Tnw → Tnw) (h : ∀ w, (f w).2 = g w.2) : ∀ (F : Tfi) (i : Nat), fi_er (g_set f F i) = g_set g (fi_er F) i := by
  intro F
  induction F with
  | leaf => intro i; rfl
  | inner s w u k r ih1 ih2 =>
    intro i
    cases i with
    | zero => simp only [g_set, fi_er, h]
    | succ i =>
      simp only [g_set, fi_er, gz_er]
      split
      · simp only [fi_er, ih1]
      · simp only [fi_er, ih2]
theorem er_insK (x : Nat × Tnw) (kx : Tfi) : ∀ (p : Nat) (F : Tfi), fi_er (g_insK x kx p F) = g_insK x.2 (fi_er kx) p (fi_er F) := by
  intro p
  induction p with
  | zero => intro F; simp only [g_insK, fi_er]
  | succ p ih =>
    intro F
    cases F with
    | leaf => rfl
    | inner s w u k r => simp only [g_insK, fi_er, ih]
theorem er_kid (h : Tfi → Tfi) (h' : Fo → Fo) (hh : ∀ F, fi_er (h F) = h' (fi_er F)) : ∀ (F : Tfi) (i : Nat), fi_er (g_kid h F i) = g_kid h' (fi_er F) i := by
  intro F
  induction F with
  | leaf => intro i; rfl
  | inner s w u k r ih1 ih2 =>
    intro i
    cases i with
    | zero => simp only [g_kid, fi_er, hh]
    | succ i =>
      simp only [g_kid, fi_er, gz_er]
      split
      · simp only [fi_er, ih1]
      · simp only [fi_er, ih2]
theorem er_rm : ∀ (F : Tfi) (i : Nat), fi_er (g_rm F i) = g_rm (fi_er F) i := by
  intro F
  induction F with
  | leaf => intro i; rfl
  | inner s w u k r ih1 ih2 =>
    intro i
    cases i with
    | zero => simp only [g_rm, fi_er]
    | succ i =>
      simp only [g_rm, fi_er, gz_er]
      split
      · simp only [fi_er, ih1]
      · simp only [fi_er, ih2]
theorem er_nth : ∀ (F : Tfi) (i : Nat), g_nth (fi_er F) i = (g_nth F i).map (fun p => (p.1.2, fi_er p.2)) := by
  intro F
  induction F with
  | leaf => intro i; rfl
  | inner s w u k r ih1 ih2 =>
    intro i
    cases i with
    | zero => rfl
    | succ i =>
      simp only [g_nth, fi_er, gz_er]
      split
      · rw [ih1]
      · rw [ih2]
theorem er_pix : ∀ (F : Tfi) (i : Nat), g_pix (fi_er F) i = g_pix F i := by
  intro F
  induction F with
  | leaf => intro i; rfl
  | inner s w u k r ih1 ih2 =>
    intro i
    cases i with
    | zero => rfl
    | succ i =>
      simp only [g_pix, fi_er, gz_er]
      split
      · rw [ih1]
      · rw [ih2]
theorem er_ksz : ∀ (p : Nat) (F : Tfi), g_ksz p (fi_er F) = g_ksz p F := by
  intro p
  induction p with
  | zero => intro F; rfl
  | succ p ih =>
    intro F
    cases F with
    | leaf => rfl
    | inner s w u k r => simp only [g_ksz, fi_er, gz_er, ih]
theorem g_nth_some {β : Type} : ∀ (F : Tpf β) (i : Nat), i < gz F → ∃ w k, g_nth F i = some (w, k) := by
  intro F
  induction F with
  | leaf => intro i h; simp [gz] at h
  | inner s w u k r ih1 ih2 =>
    intro i h
    cases i with
    | zero => exact ⟨w, k, rfl⟩
    | succ i =>
      simp only [gz] at h
      simp only [g_nth]
      split
      · rename_i c; exact ih1 i c
      · exact ih2 _ (by omega)
theorem g_nth_sz {β : Type} : ∀ (F : Tpf β) (i : Nat) (w : β) (k : Tpf β), g_nth F i = some (w, k) → i + 1 + gz k ≤ gz F := by
  intro F
  induction F with
  | leaf => intro i w k h; cases h
  | inner s w u k r ih1 ih2 =>
    intro i w' k' h
    cases i with
    | zero =>
      simp only [g_nth, Option.some.injEq, Prod.mk.injEq] at h
      simp only [gz, ← h.2]
      omega
    | succ i =>
      simp only [g_nth] at h
      simp only [gz]
      split at h
      · have := ih1 _ _ _ h; omega
      · have := ih2 _ _ _ h; omega
theorem gz_set {β : Type} (f : β → β) : ∀ (F : Tpf β) (i : Nat), gz (g_set f F i) = gz F := by
  intro F
  induction F with
  | leaf => intro i; rfl
  | inner s w u k r ih1 ih2 =>
    intro i
    cases i with
    | zero => rfl
    | succ i =>
      simp only [g_set]
      split
      · simp only [gz, ih1]
      · simp only [gz, ih2]
theorem gz_insK {β : Type} (x : β) (kx : Tpf β) : ∀ (p : Nat) (F : Tpf β), gz (g_insK x kx p F) = gz F + 1 + gz kx := by
  intro p
  induction p with
  | zero => intro F; simp only [g_insK, gz]; omega
  | succ p ih =>
    intro F
    cases F with
    | leaf => simp only [g_insK, gz]; omega
    | inner s w u k r => simp only [g_insK, gz, ih]; omega
theorem gz_kid {β : Type} (h : Tpf β → Tpf β) (d : Nat) (hd : ∀ F, gz (h F) = gz F + d) : ∀ (F : Tpf β) (i : Nat), i < gz F → gz (g_kid h F i) = gz F + d := by
  intro F
  induction F with
  | leaf => intro i hi; simp [gz] at hi
  | inner s w u k r ih1 ih2 =>
    intro i hi
    cases i with
    | zero => simp only [g_kid, gz, hd]; omega
    | succ i =>
      simp only [gz] at hi
      simp only [g_kid]
      split
      · rename_i c; simp only [gz, ih1 _ c]; omega
      · simp only [gz, ih2 _ (show i - gz k < gz r by omega)]; omega
theorem gz_rm {β : Type} : ∀ (F : Tpf β) (i : Nat) (w : β) (k : Tpf β), g_nth F i = some (w, k) → gz (g_rm F i) + (1 + gz k) = gz F := by
  intro F
  induction F with
  | leaf => intro i w k h; cases h
  | inner s w u k r ih1 ih2 =>
    intro i w' k' h
    cases i with
    | zero =>
      simp only [g_nth, Option.some.injEq, Prod.mk.injEq] at h
      simp only [g_rm, gz, ← h.2]
      omega
    | succ i =>
      simp only [g_nth] at h
      simp only [g_rm]
      split at h
      · rename_i c
        have := ih1 _ _ _ h
        simp only [if_pos c, gz]; omega
      · rename_i c
        have := ih2 _ _ _ h
        simp only [if_neg c, gz]; omega
-- the rows of such forests
theorem At_ag {A B : Tar} : ∀ (F : Fo) (i : Nat) (par : Int32), (∀ m, i ≤ m → m < i + fo_size F → B m = A m) → At A i par F → At B i par F := by
  intro F
  induction F with
  | leaf => intro i par _ _; trivial
  | inner s w u k r ih1 ih2 =>
    intro i par h hA
    obtain ⟨e, hk, hr⟩ := hA
    simp only [fo_size] at h
    exact ⟨by rw [h i (Nat.le_refl _) (by omega)]; exact e, ih1 _ _ (fun m h1 h2 => h m (by omega) (by omega)) hk, ih2 _ _ (fun m h1 h2 => h m (by omega) (by omega)) hr⟩
theorem adj_1 (a d : Int32) (w : Int32 × Int32 × Int32) (p : Int32) : adj a d (w.1, w.2.1, w.2.2, p) = (w.1, w.2.1, w.2.2, if p < a then p else p + d) := rfl
theorem At_sh {A B : Tar} {a : Nat} : ∀ (F : Fo) (i : Nat) (par : Int32), a ≤ i → i + fo_size F < 1000 → (∀ m, i ≤ m → m < i + fo_size F → B (m + 1) = adj (nI a) 1 (A m)) → At A i par F → At B (i + 1) (if par < nI a then par else par + 1) F := by
  intro F
  induction F with
  | leaf => intro i par _ _ _ _; trivial
  | inner s w u k r ih1 ih2 =>
    intro i par ha hl h hA
    obtain ⟨e, hk, hr⟩ := hA
    simp only [fo_size] at h hl
    have h0 := h i (Nat.le_refl _) (by omega)
    rw [e, adj_1] at h0
    have hk' := ih1 (i + 1) (nI i) (by omega) (by omega) (fun m h1 h2 => h m (by omega) (by omega)) hk
    have hr' := ih2 (i + 1 + fo_size k) par (by omega) (by omega) (fun m h1 h2 => h m (by omega) (by omega)) hr
    rw [if_neg (fun c => by have := (lo_lt (by omega) (by omega)).mp c; omega), ni_1, ni_add] at hk'
    exact ⟨h0, hk', by rw [show i + 1 + 1 + fo_size k = i + 1 + fo_size k + 1 by omega]; exact hr'⟩
theorem At_sd {A B : Tar} {a d : Nat} : ∀ (F : Fo) (i : Nat) (par : Int32), a ≤ i → i + d + fo_size F < 1000 → (∀ m, i ≤ m → m < i + fo_size F → B m = adj (nI a) (-nI d) (A (m + d))) → At A (i + d) par F → At B i (if par < nI a then par else par + -nI d) F := by
  intro F
  induction F with
  | leaf => intro i par _ _ _ _; trivial
  | inner s w u k r ih1 ih2 =>
    intro i par ha hl h hA
    obtain ⟨e, hk, hr⟩ := hA
    simp only [fo_size] at h hl
    have h0 := h i (Nat.le_refl _) (by omega)
    rw [e, adj_1] at h0
    have hk' := ih1 (i + 1) (nI (i + d)) (by omega) (by omega) (fun m h1 h2 => h m (by omega) (by omega)) (by rw [show i + 1 + d = i + d + 1 by omega]; exact hk)
    have hr' := ih2 (i + 1 + fo_size k) par (by omega) (by omega) (fun m h1 h2 => h m (by omega) (by omega)) (by rw [show i + 1 + fo_size k + d = i + d + 1 + fo_size k by omega]; exact hr)
    rw [if_neg (fun c => by have := (lo_lt (by omega) (by omega)).mp c; omega), ← Int32.sub_eq_add_neg, ni_sub (by omega), show i + d - d = i by omega] at hk'
    exact ⟨h0, hk', hr'⟩
theorem At_set {A B : Tar} (f : Int32 × Int32 × Int32 → Int32 × Int32 × Int32) : ∀ (F : Fo) (i j : Nat) (par : Int32), j < fo_size F → (∀ m, i ≤ m → m < i + fo_size F → m ≠ i + j → B m = A m) → (∀ w K, g_nth F j = some (w, K) → B (i + j) = ((f w).1, (f w).2.1, (f w).2.2, (A (i + j)).2.2.2)) → At A i par F → At B i par (g_set f F j) := by
  intro F
  induction F with
  | leaf => intro i j par hj; simp [fo_size] at hj
  | inner s w u k r ih1 ih2 =>
    intro i j par hj h h2 hA
    obtain ⟨e, hk, hr⟩ := hA
    simp only [fo_size] at h hj
    cases j with
    | zero =>
      have h3 := h2 w k rfl
      rw [Nat.add_zero, e] at h3
      exact ⟨h3, At_ag _ _ _ (fun m q1 q2 => h m (by omega) (by omega) (by omega)) hk, At_ag _ _ _ (fun m q1 q2 => h m (by omega) (by omega) (by omega)) hr⟩
    | succ j =>
      have h0 := h i (Nat.le_refl _) (by omega) (by omega)
      simp only [g_set, g_nth, gz_o] at h2 ⊢
      split
      · rename_i c
        simp only [if_pos c] at h2
        refine ⟨h0.trans e, ih1 (i + 1) j _ c (fun m q1 q2 q3 => h m (by omega) (by omega) (by omega)) (fun w' K' hn => ?_) hk, ?_⟩
        · have := h2 w' K' hn
          rw [show i + (j + 1) = i + 1 + j by omega] at this
          exact this
        · rw [← gz_o, gz_set, gz_o]
          exact At_ag _ _ _ (fun m q1 q2 => h m (by omega) (by omega) (by omega)) hr
      · rename_i c
        simp only [if_neg c] at h2
        refine ⟨h0.trans e, At_ag _ _ _ (fun m q1 q2 => h m (by omega) (by omega) (by omega)) hk, ih2 (i + 1 + fo_size k) (j - fo_size k) _ (by omega) (fun m q1 q2 q3 => h m (by omega) (by omega) (by omega)) (fun w' K' hn => ?_) hr⟩
        have := h2 w' K' hn
        rw [show i + (j + 1) = i + 1 + fo_size k + (j - fo_size k) by omega] at this
        exact this
theorem par_keep {par : Int32} {a : Nat} {d : Int32} (h : par < nI a) : (if par < nI a then par else par + d) = par := if_pos h
theorem At_insK {A B : Tar} {x : Int32 × Int32 × Int32} {par : Int32} : ∀ (p : Nat) (K : Fo) (i : Nat), i + fo_size K < 900 → par < nI (i + g_ksz p K) → (∀ m, i ≤ m → m < i + g_ksz p K → B m = A m) → B (i + g_ksz p K) = (x.1, x.2.1, x.2.2, par) → (∀ m, i + g_ksz p K ≤ m → m < i + fo_size K → B (m + 1) = adj (nI (i + g_ksz p K)) 1 (A m)) → At A i par K → At B i par (g_insK x .leaf p K) := by
  intro p
  induction p with
  | zero =>
    intro K i hl hp h1 h2 h3 hA
    simp only [g_ksz, Nat.add_zero] at *
    have := At_sh K i par (Nat.le_refl _) (by omega) h3 hA
    rw [par_keep hp] at this
    exact ⟨h2, trivial, this⟩
  | succ p ih =>
    intro K i hl hp h1 h2 h3 hA
    cases K with
    | leaf =>
      simp only [g_ksz, Nat.add_zero] at *
      exact ⟨h2, trivial, trivial⟩
    | inner s w u k r =>
      obtain ⟨e, hk, hr⟩ := hA
      simp only [g_ksz, gz_o, fo_size] at hl hp h1 h2 h3
      have hq : i + 1 + fo_size k + g_ksz p r = i + (1 + fo_size k + g_ksz p r) := by omega
      refine ⟨(h1 i (Nat.le_refl _) (by omega)).trans e, At_ag _ _ _ (fun m q1 q2 => h1 m (by omega) (by omega)) hk, ih r (i + 1 + fo_size k) (by omega) (by rw [hq]; exact hp) (fun m q1 q2 => h1 m (by omega) (by omega)) (by rw [hq]; exact h2) (fun m q1 q2 => by rw [hq]; exact h3 m (by omega) (by omega)) hr⟩
theorem g_ksz_le : ∀ (p : Nat) (K : Fo), g_ksz p K ≤ fo_size K := by
  intro p
  induction p with
  | zero => intro K; exact Nat.zero_le _
  | succ p ih =>
    intro K
    cases K with
    | leaf => exact Nat.le_refl _
    | inner s w u k r => simp only [g_ksz, gz_o, fo_size]; have := ih r; omega
theorem At_ins {A B : Tar} {x : Int32 × Int32 × Int32} {p : Nat} : ∀ (F : Fo) (i j a : Nat) (par : Int32) (w : Int32 × Int32 × Int32) (K : Fo), g_nth F j = some (w, K) → a = i + j + 1 + g_ksz p K → i + fo_size F < 900 → par < nI i ∨ par < nI a → (∀ m, i ≤ m → m < a → B m = A m) → B a = (x.1, x.2.1, x.2.2, nI (i + j)) → (∀ m, a ≤ m → m < i + fo_size F → B (m + 1) = adj (nI a) 1 (A m)) → At A i par F → At B i par (g_kid (g_insK x .leaf p) F j) := by
  intro F
  induction F with
  | leaf => intro i j a par w K h; cases h
  | inner s w u k r ih1 ih2 =>
    intro i j a par w' K hn ha hl hp h1 h2 h3 hA
    obtain ⟨e, hk, hr⟩ := hA
    have hsz := g_nth_sz _ _ _ _ hn
    simp only [gz_o, fo_size] at hsz
    have hkl := g_ksz_le p K
    simp only [fo_size] at hl h3
    have hpa : par < nI a := by
      rcases hp with hp | hp
      · rw [Int32.lt_iff_toInt_lt] at hp ⊢
        rw [nI_toInt (by omega)] at hp ⊢
        omega
      · exact hp
    cases j with
    | zero =>
      simp only [g_nth, Option.some.injEq, Prod.mk.injEq] at hn
      obtain ⟨rfl, rfl⟩ := hn
      rw [Nat.add_zero] at h2 ha
      refine ⟨(h1 i (Nat.le_refl _) (by omega)).trans e, At_insK p k (i + 1) (by omega) (by rw [show i + 1 + g_ksz p k = a by omega]; exact (lo_lt (by omega) (by omega)).mpr (by omega)) (fun m q1 q2 => h1 m (by omega) (by omega)) (by rw [show i + 1 + g_ksz p k = a by omega]; exact h2) (fun m q1 q2 => by rw [show i + 1 + g_ksz p k = a by omega]; exact h3 m (by omega) (by omega)) hk, ?_⟩
      have := At_sh (a := a) r (i + 1 + fo_size k) par (by omega) (by omega) (fun m q1 q2 => h3 m (by omega) (by omega)) hr
      rw [par_keep hpa] at this
      rw [← gz_o, gz_insK, gz_o]
      exact this
    | succ j =>
      simp only [g_nth, g_kid, gz_o] at hn ⊢
      split at hn
      · rename_i c
        simp only [if_pos c]
        have hsz1 := g_nth_sz _ _ _ _ hn
        simp only [gz_o] at hsz1
        refine ⟨(h1 i (Nat.le_refl _) (by omega)).trans e, ih1 (i + 1) j a _ _ _ hn (by omega) (by omega) (Or.inl ((lo_lt (by omega) (by omega)).mpr (by omega))) (fun m q1 q2 => h1 m (by omega) (by omega)) (by rw [show i + 1 + j = i + (j + 1) by omega]; exact h2) (fun m q1 q2 => h3 m (by omega) (by omega)) hk, ?_⟩
        have := At_sh (a := a) r (i + 1 + fo_size k) par (by omega) (by omega) (fun m q1 q2 => h3 m (by omega) (by omega)) hr
        rw [par_keep hpa] at this
        rw [← gz_o, gz_kid _ 1 (fun F => by rw [gz_insK]; rfl) k j (by rw [gz_o]; exact c), gz_o]
        exact this
      · rename_i c
        simp only [if_neg c]
        refine ⟨(h1 i (Nat.le_refl _) (by omega)).trans e, At_ag _ _ _ (fun m q1 q2 => h1 m (by omega) (by omega)) hk, ih2 (i + 1 + fo_size k) (j - fo_size k) a _ _ _ hn (by omega) (by omega) (Or.inr hpa) (fun m q1 q2 => h1 m (by omega) (by omega)) (by rw [show i + 1 + fo_size k + (j - fo_size k) = i + (j + 1) by omega]; exact h2) (fun m q1 q2 => h3 m (by omega) (by omega)) hr⟩
theorem At_rm {A B : Tar} {d : Nat} : ∀ (F : Fo) (i j a : Nat) (par : Int32) (w : Int32 × Int32 × Int32) (K : Fo), g_nth F j = some (w, K) → a = i + j → d = 1 + fo_size K → i + fo_size F < 900 → par < nI a → (∀ m, i ≤ m → m < a → B m = A m) → (∀ m, a ≤ m → m + d < i + fo_size F → B m = adj (nI a) (-nI d) (A (m + d))) → At A i par F → At B i par (g_rm F j) := by
  intro F
  induction F with
  | leaf => intro i j a par w K h; cases h
  | inner s w u k r ih1 ih2 =>
    intro i j a par w' K hn ha hd hl hpa h1 h3 hA
    obtain ⟨e, hk, hr⟩ := hA
    have hsz := g_nth_sz _ _ _ _ hn
    simp only [gz_o, fo_size] at hsz
    simp only [fo_size] at hl h3
    cases j with
    | zero =>
      simp only [g_nth, Option.some.injEq, Prod.mk.injEq] at hn
      obtain ⟨rfl, rfl⟩ := hn
      have := At_sd (a := a) (d := d) r i par (by omega) (by omega) (fun m q1 q2 => h3 m (by omega) (by omega)) (by rw [hd, show i + (1 + fo_size k) = i + 1 + fo_size k by omega]; exact hr)
      rw [par_keep hpa] at this
      exact this
    | succ j =>
      simp only [g_nth, g_rm, gz_o] at hn ⊢
      split at hn
      · rename_i c
        simp only [if_pos c]
        have hsz1 := g_nth_sz _ _ _ _ hn
        have hrm := gz_rm _ _ _ _ hn
        simp only [gz_o] at hsz1 hrm
        refine ⟨(h1 i (Nat.le_refl _) (by omega)).trans e, ih1 (i + 1) j a _ _ _ hn (by omega) hd (by omega) ((lo_lt (by omega) (by omega)).mpr (by omega)) (fun m q1 q2 => h1 m (by omega) (by omega)) (fun m q1 q2 => h3 m (by omega) (by omega)) hk, ?_⟩
        have := At_sd (a := a) (d := d) r (i + 1 + fo_size (g_rm k j)) par (by omega) (by omega) (fun m q1 q2 => h3 m (by omega) (by omega)) (by rw [show i + 1 + fo_size (g_rm k j) + d = i + 1 + fo_size k by omega]; exact hr)
        rw [par_keep hpa] at this
        exact this
      · rename_i c
        simp only [if_neg c]
        exact ⟨(h1 i (Nat.le_refl _) (by omega)).trans e, At_ag _ _ _ (fun m q1 q2 => h1 m (by omega) (by omega)) hk, ih2 (i + 1 + fo_size k) (j - fo_size k) a _ _ _ hn (by omega) hd (by omega) hpa (fun m q1 q2 => h1 m (by omega) (by omega)) (fun m q1 q2 => h3 m (by omega) (by omega)) hr⟩
theorem nv_nth {A : Tar} {n v : Nat} : ∀ (F : Fo) (i j : Nat) (w : Int32 × Int32 × Int32) (K : Fo), fv A n v i F → g_nth F j = some (w, K) → nv A n (i + j) w K := by
  intro F
  induction F generalizing v with
  | leaf => intro i j w K _ h; cases h
  | inner s w u k r ih1 ih2 =>
    intro i j w' K hF hn
    cases j with
    | zero =>
      simp only [g_nth, Option.some.injEq, Prod.mk.injEq] at hn
      obtain ⟨rfl, rfl⟩ := hn
      exact hF.nv
    | succ j =>
      simp only [g_nth, gz_o] at hn
      split at hn
      · have := ih1 (i + 1) j w' K hF.nv.fv hn
        rw [show i + (j + 1) = i + 1 + j by omega]
        exact this
      · have := ih2 (i + 1 + fo_size k) (j - fo_size k) w' K hF.rest hn
        rw [show i + (j + 1) = i + 1 + fo_size k + (j - fo_size k) by omega]
        exact this
/-- the parent's row -/
theorem At_pix {A : Tar} : ∀ (F : Fo) (i j : Nat) (par : Int32), j < fo_size F → At A i par F → (A (i + j)).2.2.2 = match g_pix F j with | none => par | some p => nI (i + p) := by
  intro F
  induction F with
  | leaf => intro i j par h; simp [fo_size] at h
  | inner s w u k r ih1 ih2 =>
    intro i j par hj hA
    obtain ⟨e, hk, hr⟩ := hA
    simp only [fo_size] at hj
    cases j with
    | zero => rw [Nat.add_zero, e]; rfl
    | succ j =>
      simp only [g_pix, gz_o]
      by_cases c : j < fo_size k
      · rw [if_pos c]
        have h := ih1 (i + 1) j _ c hk
        rw [show i + (j + 1) = i + 1 + j by omega, h]
        cases g_pix k j with
        | none => rfl
        | some p =>
          show nI (i + 1 + p) = nI (i + (p + 1))
          congr 1; omega
      · rw [if_neg c]
        have h := ih2 (i + 1 + fo_size k) (j - fo_size k) _ (by omega) hr
        rw [show i + (j + 1) = i + 1 + fo_size k + (j - fo_size k) by omega, h]
        cases g_pix r (j - fo_size k) with
        | none => rfl
        | some p =>
          show nI (i + 1 + fo_size k + p) = nI (i + (p + 1 + fo_size k))
          congr 1; omega
