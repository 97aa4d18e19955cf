-- the reference's trees: rows in preorder
/-- rows of (label, key, value, parent) -/
abbrev Tar : Type := Nat → Int32 × Int32 × Int32 × Int32
def mT (σ : Tst) (t la ka va pa n : Nat) (A : Tar) : Prop := σ.1 t = some (.inr (cX5, [.inr (some la), .inr (some ka), .inr (some va), .inr (some pa), .inl (nI n)])) ∧ σ.1 la = some (.inl (0, 20, .inl fun i => (A i).1)) ∧ σ.1 ka = some (.inl (0, 20, .inl fun i => (A i).2.1)) ∧ σ.1 va = some (.inl (0, 20, .inl fun i => (A i).2.2.1)) ∧ σ.1 pa = some (.inl (0, 20, .inl fun i => (A i).2.2.2)) ∧ n ≤ 20
/-- somewhere -/
def mt (σ : Tst) (t n : Nat) (A : Tar) : Prop := ∃ la ka va pa : Nat, mT σ t la ka va pa n A
theorem mT.x {σ σ' : Tst} {c m t la ka va pa n : Nat} {A : Tar} (hf : fx σ σ' c m) (h : mT σ t la ka va pa n A) : mT σ' t la ka va pa n A := by
  obtain ⟨h1, h2, h3, h4, h5, h6⟩ := h
  exact ⟨hf.k h1, hf.k h2, hf.k h3, hf.k h4, hf.k h5, h6⟩
theorem mt.x {σ σ' : Tst} {c m t n : Nat} {A : Tar} (hf : fx σ σ' c m) (h : mt σ t n A) : mt σ' t n A := by
  obtain ⟨la, ka, va, pa, h⟩ := h
  exact ⟨la, ka, va, pa, h.x hf⟩
theorem mt.rc {σ : Tst} {t n : Nat} {A : Tar} (h : mt σ t n A) : ∃ (x : Nat) (fs : List Tfv), some t = some x ∧ σ.1 x = some (.inr (cX5, fs)) := by
  obtain ⟨la, ka, va, pa, h, -⟩ := h
  exact ⟨t, _, rfl, h⟩
theorem mt.le {σ : Tst} {t n : Nat} {A : Tar} (h : mt σ t n A) : n ≤ 20 := by
  obtain ⟨la, ka, va, pa, _, _, _, _, _, h⟩ := h
  exact h
theorem mt_endL {σ : Tst} {t n v e : Nat} {A : Tar} (h : mt σ t n A) (he : e ≤ n) (hin : ∀ j, v < j → j < e → ¬ (A j).2.2.2 < nI v) (hout : e = n ∨ (A e).2.2.2 < nI v) {Q : Int32 → Tst → Prop} {X : String → Nat → Tst → Prop} (k : Q (nI e) σ) : ∀ m j : Nat, v < j → j + m = e → w_X5_end_b4 Q X (m + 1) (some t) (nI v) (nI j) σ := by
  have hn := h.le
  obtain ⟨la, ka, va, pa, h1, h2, h3, h4, h5, h6⟩ := id h
  intro m
  induction m with
  | zero =>
    intro j hj hm
    have hje : j = e := by omega
    subst hje
    rw [w_X5_end_b4]
    unfold w_X5_end_b28
    refine ⟨_, _, _, rfl, h1, rfl, fun _ => k, fun c => ?_⟩
    have hjn : ¬ j = n := fun e => c (by rw [e]; exact (ni_le (by omega) (by omega)).mpr (Nat.le_refl _))
    exact ⟨_, _, _, rfl, h1, rfl, _, _, _, _, rfl, h5, rfl, (by omega), (by omega), fun _ => k, fun c => absurd (hout.resolve_left hjn) c⟩
  | succ m ih =>
    intro j hj hm
    rw [w_X5_end_b4]
    refine ⟨_, _, _, rfl, h1, rfl, fun c => absurd ((ni_le (by omega) (by omega)).mp c) (by omega), fun _ => ⟨_, _, _, rfl, h1, rfl, _, _, _, _, rfl, h5, rfl, (by omega), (by omega), fun c => absurd c (hin j hj (by omega)), fun _ => ?_⟩⟩
    rw [ni_1, ni_add]
    exact ih (j + 1) (by omega) (by omega)
/-- end(v) -/
theorem mt_end {σ : Tst} {t n v e : Nat} {A : Tar} (h : mt σ t n A) (hv : v < e) (he : e ≤ n) (hin : ∀ j, v < j → j < e → ¬ (A j).2.2.2 < nI v) (hout : e = n ∨ (A e).2.2.2 < nI v) {Q : Int32 → Tst → Prop} {X : String → Nat → Tst → Prop} (k : Q (nI e) σ) : w_rc σ (some t) cX5 (w_X5_end (some t) (nI v) Q X σ) := by
  refine ⟨h.rc, ?_⟩
  unfold w_X5_end
  refine ⟨e - (v + 1) + 1, ?_⟩
  rw [ni_1, ni_add]
  exact mt_endL h he hin hout k _ _ (by omega) (by omega)
/-- the children of v among m rows from c on -/
def kl (A : Tar) (v : Int32) : Nat → Nat → List Nat
  | 0, _ => []
  | m + 1, c => if (A c).2.2.2 = v then c :: kl A v m (c + 1) else kl A v m (c + 1)
theorem kl_le (A : Tar) (v : Int32) : ∀ m c, (kl A v m c).length ≤ m := by
  intro m
  induction m with
  | zero => intro c; exact Nat.le_refl _
  | succ m ih =>
    intro c
    have := ih (c + 1)
    rw [kl]
    split
    · rw [List.length_cons]; omega
    · omega
theorem mt_manyL {σ : Tst} {t n : Nat} {v : Int32} {A : Tar} (h : mt σ t n A) {Q : Int32 → Tst → Prop} {X : String → Nat → Tst → Prop} : ∀ m c acc : Nat, c + m = n → Q (nI (acc + (kl A v m c).length)) σ → w_X5_many_b6 Q X (m + 1) (some t) v (nI acc) (nI c) σ := by
  have hn := h.le
  obtain ⟨la, ka, va, pa, h1, h2, h3, h4, h5, h6⟩ := id h
  intro m
  induction m with
  | zero =>
    intro c acc hm k
    rw [w_X5_many_b6]
    exact ⟨_, _, _, rfl, h1, rfl, fun _ => k, fun q => absurd ((ni_le (by omega) (by omega)).mpr (by omega)) q⟩
  | succ m ih =>
    intro c acc hm k
    rw [w_X5_many_b6]
    refine ⟨_, _, _, rfl, h1, rfl, fun q => absurd ((ni_le (by omega) (by omega)).mp q) (by omega), fun _ => ⟨_, _, _, rfl, h1, rfl, _, _, _, _, rfl, h5, rfl, (by omega), (by omega), fun q => ?_, fun q => ?_⟩⟩
    · unfold w_X5_many_b30
      rw [ni_1, ni_add, ni_add]
      refine ih (c + 1) (acc + 1) (by omega) ?_
      rw [kl, if_pos q, List.length_cons] at k
      rw [show acc + 1 + (kl A v m (c + 1)).length = acc + ((kl A v m (c + 1)).length + 1) by omega]
      exact k
    · unfold w_X5_many_b30
      rw [show nI acc + 0 = nI acc from Int32.add_zero _, ni_1, ni_add]
      refine ih (c + 1) acc (by omega) ?_
      rw [kl, if_neg q] at k
      exact k
/-- many(v) -/
theorem mt_many {σ : Tst} {t n v : Nat} {A : Tar} (h : mt σ t n A) (hv : v < n) {Q : Int32 → Tst → Prop} {X : String → Nat → Tst → Prop} (k : Q (nI (kl A (nI v) (n - (v + 1)) (v + 1)).length) σ) : w_rc σ (some t) cX5 (w_X5_many (some t) (nI v) Q X σ) := by
  refine ⟨h.rc, ?_⟩
  unfold w_X5_many
  refine ⟨n - (v + 1) + 1, ?_⟩
  rw [ni_1, ni_add]
  exact mt_manyL h _ _ 0 (by omega) (by rw [Nat.zero_add]; exact k)
theorem mt_kidsL {σ0 : Tst} {t n q : Nat} {v : Int32} {A : Tar} (h : mt σ0 t n A) (L : Nat) (hq : σ0.1 q = none) (hL : L ≤ 20) {c0 n0 : Nat} {Q : Option Nat → Tst → Prop} {X : String → Nat → Tst → Prop} : ∀ (m c i : Nat) (σ : Tst) (f : Nat → Int32), c + m = n → fx σ0 σ c0 n0 → σ.1 q = some (.inl (0, L, .inl f)) → i + (kl A v m c).length = L →
    (∀ (σ' : Tst) (f' : Nat → Int32), fx σ0 σ' c0 n0 → σ'.1 q = some (.inl (0, L, .inl f')) → (∀ j, j < i → f' j = f j) → (∀ j, j < (kl A v m c).length → f' (i + j) = nI ((kl A v m c).getD j 0)) → Q (some q) σ') → w_X5_kids_b15 Q X (m + 1) (some t) v (some q) (nI i) (nI c) σ := by
  have hn := h.le
  obtain ⟨la, ka, va, pa, h1, h2, h3, h4, h5, h6⟩ := id h
  intro m
  induction m with
  | zero =>
    intro c i σ f hm hf hqa hi k
    rw [w_X5_kids_b15]
    refine ⟨_, _, _, rfl, hf.k h1, rfl, fun _ => k σ f hf hqa (fun _ _ => rfl) (fun j hj => absurd hj (Nat.not_lt_zero _)), fun c => absurd ((ni_le (by omega) (by omega)).mpr (by omega)) c⟩
  | succ m ih =>
    intro c i σ f hm hf hqa hi k
    rw [w_X5_kids_b15]
    refine ⟨_, _, _, rfl, hf.k h1, rfl, fun c => absurd ((ni_le (by omega) (by omega)).mp c) (by omega), fun _ => ⟨_, _, _, rfl, hf.k h1, rfl, _, _, _, _, rfl, hf.k h5, rfl, (by omega), (by omega), fun e => ?_, fun e => ?_⟩⟩
    · rw [kl, if_pos e] at hi k
      rw [List.length_cons] at hi
      unfold w_X5_kids_b46
      refine ⟨_, _, _, _, rfl, hqa, rfl, (by omega), (by omega), ?_⟩
      rw [ni_1, ni_add, ni_add]
      refine ih (c + 1) (i + 1) _ _ (by omega) (hf.up hq _) (up_at _ _ _) (by omega) (fun σ' f' h1 h2 h3 h4 => k σ' f' h1 h2 (fun j hj => ?_) (fun j hj => ?_))
      · rw [h3 j (by omega)]
        have e2 : ¬ j = i := by omega
        simp only [upd, if_neg e2]
      · cases j with
        | zero =>
          rw [Nat.add_zero, h3 i (by omega)]
          simp [upd]
        | succ j =>
          rw [List.length_cons] at hj
          rw [show i + (j + 1) = i + 1 + j by omega, h4 j (by omega)]
          rfl
    · rw [kl, if_neg e] at hi k
      unfold w_X5_kids_b46
      rw [ni_1, ni_add]
      exact ih (c + 1) i σ f (by omega) hf hqa hi k
/-- kids(v) -/
theorem mt_kids {σ : Tst} {t n v : Nat} {A : Tar} (h : mt σ t n A) (hv : v < n) (hc : 1 ≤ σ.2.1) (hs : (kl A (nI v) (n - (v + 1)) (v + 1)).length ≤ σ.2.2.1) {Q : Option Nat → Tst → Prop} {X : String → Nat → Tst → Prop}
    (k : ∀ (q : Nat) (σ' : Tst) (f : Nat → Int32), σ.1 q = none → fx σ σ' 1 (kl A (nI v) (n - (v + 1)) (v + 1)).length → σ'.1 q = some (.inl (0, (kl A (nI v) (n - (v + 1)) (v + 1)).length, .inl f)) → (∀ j, j < (kl A (nI v) (n - (v + 1)) (v + 1)).length → f j = nI ((kl A (nI v) (n - (v + 1)) (v + 1)).getD j 0)) → Q (some q) σ') : w_rc σ (some t) cX5 (w_X5_kids (some t) (nI v) Q X σ) := by
  have hn := h.le
  have hkl := kl_le A (nI v) (n - (v + 1)) (v + 1)
  refine ⟨h.rc, ?_⟩
  unfold w_X5_kids
  refine mt_many h hv ⟨_, rfl, by omega, hc, hs, fun q hq hb => ⟨n - (v + 1) + 1, ?_⟩⟩
  rw [ni_1, ni_add]
  exact mt_kidsL h _ hq (by omega) _ _ 0 _ _ (by omega) ((fx.rf σ).al hq _ hc hs) (al_at _ _ _ _) (Nat.zero_add _) (fun σ' f' h1 h2 _ h4 => k q σ' f' hq (h1.mo (by omega) (by omega)) h2 (fun j hj => by have := h4 j hj; rw [Nat.zero_add] at this; exact this))
-- a forest in the rows
/-- the rows from i on hold the forest, under the parent -/
def At (A : Tar) : Nat → Int32 → Fo → Prop
  | _, _, .leaf => True
  | i, par, .inner _ w _ k r => A i = (w.1, w.2.1, w.2.2, par) ∧ At A (i + 1) (nI i) k ∧ At A (i + 1 + fo_size k) par r
/-- the children's rows -/
def ks : Nat → Fo → List Nat
  | _, .leaf => []
  | i, .inner _ _ _ k r => i :: ks (i + 1 + fo_size k) r
theorem ks_len : ∀ (F : Fo) (i : Nat), (ks i F).length = fo_cnt F := by
  intro F
  induction F with
  | leaf => intro i; rfl
  | inner s w u k r ih1 ih2 => intro i; simp only [ks, fo_cnt, List.length_cons, ih2]
theorem At_par {A : Tar} : ∀ (F : Fo) (i : Nat) (par : Int32), At A i par F → ∀ j, i ≤ j → j < i + fo_size F → (A j).2.2.2 = par ∨ ∃ m, (A j).2.2.2 = nI m ∧ i ≤ m ∧ m < j := by
  intro F
  induction F with
  | leaf => intro i par _ j h1 h2; simp [fo_size] at h2; omega
  | inner s w u k r ih1 ih2 =>
    intro i par h j h1 h2
    obtain ⟨e, hk, hr⟩ := h
    simp only [fo_size] at h2
    by_cases hj : j = i
    · left; rw [hj, e]
    · by_cases hj2 : j < i + 1 + fo_size k
      · rcases ih1 _ _ hk j (by omega) hj2 with q | ⟨m, q1, q2, q3⟩
        · exact Or.inr ⟨i, q, by omega, by omega⟩
        · exact Or.inr ⟨m, q1, by omega, q3⟩
      · rcases ih2 _ _ hr j (by omega) (by omega) with q | ⟨m, q1, q2, q3⟩
        · exact Or.inl q
        · exact Or.inr ⟨m, q1, by omega, q3⟩
/-- behind e nothing belongs to what lies in [a, e) -/
def Cl (A : Tar) (n a e : Nat) : Prop := ∀ j, e ≤ j → j < n → ∃ m, (A j).2.2.2 = nI m ∧ m < j ∧ (m < a ∨ e ≤ m)
theorem Cl_kids {A : Tar} {n i : Nat} {par : Int32} {s : Nat} {w : Int32 × Int32 × Int32} {u : Unit} {k r : Fo} {a : Nat} (h : At A i par (.inner s w u k r)) (hp : ∃ p, par = nI p ∧ p < i) (hc : Cl A n a (i + fo_size (.inner s w u k r))) (ha : a ≤ i) : Cl A n i (i + 1 + fo_size k) := by
  intro j h1 h2
  obtain ⟨e, hk, hr⟩ := h
  simp only [fo_size] at hc
  obtain ⟨p, hp1, hp2⟩ := hp
  by_cases hj : j < i + (1 + fo_size k + fo_size r)
  · rcases At_par r _ _ hr j h1 (by omega) with q | ⟨m, q1, q2, q3⟩
    · exact ⟨p, q.trans hp1, by omega, Or.inl hp2⟩
    · exact ⟨m, q1, q3, Or.inr (by omega)⟩
  · obtain ⟨m, q1, q2, q3⟩ := hc j (by omega) h2
    exact ⟨m, q1, q2, by omega⟩
theorem Cl_top {A : Tar} {n i : Nat} (h : n ≤ i) (a : Nat) : Cl A n a i := fun j h1 h2 => by omega
/-- the children found by looking through the rows are the forest's roots -/
theorem kl_out {A : Tar} {v : Nat} (hv : v < 1000) : ∀ m c : Nat, (∀ j, c ≤ j → j < c + m → ∃ p, (A j).2.2.2 = nI p ∧ p < 1000 ∧ p ≠ v) → kl A (nI v) m c = [] := by
  intro m
  induction m with
  | zero => intro c _; rfl
  | succ m ih =>
    intro c h
    rw [kl, if_neg, ih (c + 1) (fun j h1 h2 => h j (by omega) (by omega))]
    obtain ⟨p, h1, h2, h3⟩ := h c (Nat.le_refl _) (by omega)
    rw [h1]
    intro e
    exact h3 ((ni_inj (by omega) (by omega)).mp e)
theorem kl_app (A : Tar) (v : Int32) : ∀ m m' c : Nat, kl A v (m + m') c = kl A v m c ++ kl A v m' (c + m) := by
  intro m
  induction m with
  | zero => intro m' c; simp [kl]
  | succ m ih =>
    intro m' c
    rw [show m + 1 + m' = (m + m') + 1 by omega, kl, kl, ih m' (c + 1), show c + 1 + m = c + (m + 1) by omega]
    split <;> rfl
theorem kl_At {A : Tar} {v : Nat} (hv : v < 100) : ∀ (F : Fo) (i : Nat), v < i → i + fo_size F < 200 → At A i (nI v) F → kl A (nI v) (fo_size F) i = ks i F := by
  intro F
  induction F with
  | leaf => intro i _ _ _; rfl
  | inner s w u k r ih1 ih2 =>
    intro i hvi hi h
    obtain ⟨e, hk, hr⟩ := h
    simp only [fo_size] at hi ⊢
    rw [show 1 + fo_size k + fo_size r = 1 + (fo_size k + fo_size r) by omega, kl_app, kl_app, ih2 (i + 1 + fo_size k) (by omega) (by omega) hr]
    have h0 : kl A (nI v) (fo_size k) (i + 1) = [] := kl_out (by omega) _ _ (fun j h1 h2 => by
      rcases At_par k _ _ hk j h1 h2 with q | ⟨m, q1, q2, q3⟩
      · exact ⟨i, q, by omega, by omega⟩
      · exact ⟨m, q1, by omega, by omega⟩)
    have h1 : kl A (nI v) 1 i = [i] := by
      rw [kl, if_pos (by rw [e])]
      rfl
    rw [h0, h1]
    rfl
theorem kl_eq {A : Tar} {n v : Nat} {K : Fo} (hn : n ≤ 20) (hv : v < n) (hsz : v + 1 + fo_size K ≤ n) (h : At A (v + 1) (nI v) K) (hc : Cl A n v (v + 1 + fo_size K)) : kl A (nI v) (n - (v + 1)) (v + 1) = ks (v + 1) K := by
  obtain ⟨m, hm⟩ : ∃ m, n = v + 1 + fo_size K + m := ⟨n - (v + 1 + fo_size K), by omega⟩
  rw [show n - (v + 1) = fo_size K + m by omega, kl_app, kl_At (by omega) K (v + 1) (by omega) (by omega) h, kl_out (by omega), List.append_nil]
  intro j h1 h2
  obtain ⟨p, q1, q2, q3⟩ := hc j h1 (by omega)
  exact ⟨p, q1, by omega, by omega⟩
/-- what end(v) needs -/
theorem end_eq {A : Tar} {n v : Nat} {K : Fo} (hn : n ≤ 20) (hv : v < n) (hsz : v + 1 + fo_size K ≤ n) (h : At A (v + 1) (nI v) K) (hc : Cl A n v (v + 1 + fo_size K)) : (∀ j, v < j → j < v + 1 + fo_size K → ¬ (A j).2.2.2 < nI v) ∧ (v + 1 + fo_size K = n ∨ (A (v + 1 + fo_size K)).2.2.2 < nI v) := by
  refine ⟨fun j h1 h2 => ?_, ?_⟩
  · rcases At_par K _ _ h j (by omega) h2 with q | ⟨m, q1, q2, q3⟩
    · rw [q]; intro c; have := (lo_lt (by omega) (by omega)).mp c; omega
    · rw [q1]; intro c; have := (lo_lt (by omega) (by omega)).mp c; omega
  · by_cases e : v + 1 + fo_size K = n
    · exact Or.inl e
    · right
      obtain ⟨m, q1, q2, q3⟩ := hc _ (Nat.le_refl _) (by omega)
      rw [q1]
      exact (lo_lt (by omega) (by omega)).mpr (by omega)
