-- the reference's trees: hash, areLike, isUsed
/-- node v of the rows: labels w, children K below it -/
def nv (A : Tar) (n v : Nat) (w : Int32 × Int32 × Int32) (K : Fo) : Prop := (A v).1 = w.1 ∧ (A v).2.1 = w.2.1 ∧ (A v).2.2.1 = w.2.2 ∧ v + 1 + fo_size K ≤ n ∧ At A (v + 1) (nI v) K ∧ Cl A n v (v + 1 + fo_size K)
/-- siblings from row i on, below v -/
def fv (A : Tar) (n v i : Nat) (F : Fo) : Prop := At A i (nI v) F ∧ v < i ∧ i + fo_size F ≤ n ∧ Cl A n v (i + fo_size F)
theorem nv.fv {A : Tar} {n v : Nat} {w : Int32 × Int32 × Int32} {K : Fo} (h : nv A n v w K) : fv A n v (v + 1) K := ⟨h.2.2.2.2.1, by omega, h.2.2.2.1, h.2.2.2.2.2⟩
theorem fv.nv {A : Tar} {n v i s : Nat} {w : Int32 × Int32 × Int32} {u : Unit} {k r : Fo} (h : fv A n v i (.inner s w u k r)) : nv A n i w k := by
  obtain ⟨h1, h2, h3, h4⟩ := h
  have hc := Cl_kids h1 ⟨v, rfl, h2⟩ h4 (by omega)
  obtain ⟨e, hk, hr⟩ := h1
  simp only [fo_size] at h3
  exact ⟨by rw [e], by rw [e], by rw [e], by omega, hk, hc⟩
theorem fv.rest {A : Tar} {n v i s : Nat} {w : Int32 × Int32 × Int32} {u : Unit} {k r : Fo} (h : fv A n v i (.inner s w u k r)) : fv A n v (i + 1 + fo_size k) r := by
  obtain ⟨⟨e, hk, hr⟩, h2, h3, h4⟩ := h
  simp only [fo_size] at h3 h4
  rw [show i + (1 + fo_size k + fo_size r) = i + 1 + fo_size k + fo_size r by omega] at h4
  exact ⟨hr, by omega, by omega, h4⟩
theorem nv.kl {A : Tar} {n v : Nat} {w : Int32 × Int32 × Int32} {K : Fo} (h : nv A n v w K) (hn : n ≤ 20) : kl A (nI v) (n - (v + 1)) (v + 1) = ks (v + 1) K :=
  kl_eq hn (by have := h.2.2.2.1; omega) h.2.2.2.1 h.2.2.2.2.1 h.2.2.2.2.2
theorem nv_end {σ : Tst} {t n v : Nat} {A : Tar} {w : Int32 × Int32 × Int32} {K : Fo} (h : mt σ t n A) (hv : nv A n v w K) {Q : Int32 → Tst → Prop} {X : String → Nat → Tst → Prop} (k : Q (nI (v + 1 + fo_size K)) σ) : w_rc σ (some t) cX5 (w_X5_end (some t) (nI v) Q X σ) := by
  have hsz := hv.2.2.2.1
  obtain ⟨h1, h2⟩ := end_eq h.le (by omega) hsz hv.2.2.2.2.1 hv.2.2.2.2.2
  exact mt_end h (by omega) hsz h1 h2 k
theorem nv_many {σ : Tst} {t n v : Nat} {A : Tar} {w : Int32 × Int32 × Int32} {K : Fo} (h : mt σ t n A) (hv : nv A n v w K) {Q : Int32 → Tst → Prop} {X : String → Nat → Tst → Prop} (k : Q (nI (fo_cnt K)) σ) : w_rc σ (some t) cX5 (w_X5_many (some t) (nI v) Q X σ) := by
  refine mt_many h (by have := hv.2.2.2.1; omega) ?_
  rw [hv.kl h.le, ks_len]
  exact k
theorem nv_kids {σ : Tst} {t n v : Nat} {A : Tar} {w : Int32 × Int32 × Int32} {K : Fo} (h : mt σ t n A) (hv : nv A n v w K) (hc : 1 ≤ σ.2.1) (hs : fo_cnt K ≤ σ.2.2.1) {Q : Option Nat → Tst → Prop} {X : String → Nat → Tst → Prop}
    (k : ∀ (q : Nat) (σ' : Tst) (f : Nat → Int32), σ.1 q = none → fx σ σ' 1 (fo_cnt K) → σ'.1 q = some (.inl (0, fo_cnt K, .inl f)) → (∀ j, j < fo_cnt K → f j = nI ((ks (v + 1) K).getD j 0)) → Q (some q) σ') : w_rc σ (some t) cX5 (w_X5_kids (some t) (nI v) Q X σ) := by
  have e : (kl A (nI v) (n - (v + 1)) (v + 1)).length = fo_cnt K := by rw [hv.kl h.le, ks_len]
  refine mt_kids h (by have := hv.2.2.2.1; omega) hc (by rw [e]; exact hs) (fun q σ' f h1 h2 h3 h4 => ?_)
  rw [e] at h2 h3 h4
  rw [hv.kl h.le] at h4
  exact k q σ' f h1 h2 h3 h4
theorem gd_app (pre : List Nat) (a : Nat) (as : List Nat) : (pre ++ a :: as).getD pre.length 0 = a := by simp
theorem mh_1 {σ : Tst} {t n v D : Nat} {A : Tar} {w : Int32 × Int32 × Int32} {K : Fo} (h : mt σ t n A) (hv : nv A n v w K) (hc : 1 + fo_size K ≤ σ.2.1) (hs : fo_size K ≤ σ.2.2.1)
    (H : ∀ (q : Nat) (σ1 : Tst) (f : Nat → Int32) (Q : Int32 → Tst → Prop) (X : String → Nat → Tst → Prop), fx σ σ1 1 (fo_cnt K) → σ1.1 q = some (.inl (0, fo_cnt K, .inl f)) → (∀ j, j < fo_cnt K → f j = nI ((ks (v + 1) K).getD j 0)) → (∀ σ' : Tst, fx σ1 σ' (fo_size K) (fo_size K - fo_cnt K) → Q (fo_hash w K) σ') → ∃ z, w_X5_hash_b40 (w_X5_hash D) Q X z (some t) (nI v) (31 * (31 * w.1 + w.2.1) + w.2.2) (some q) (nI (fo_cnt K)) 0 σ1) {Q : Int32 → Tst → Prop} {X : String → Nat → Tst → Prop}
    (k : ∀ σ' : Tst, fx σ σ' (1 + fo_size K) (fo_size K) → Q (fo_hash w K) σ') : w_rc σ (some t) cX5 (w_X5_hash (D + 1) (some t) (nI v) Q X σ) := by
  obtain ⟨la, ka, va, pa, h1, h2, h3, h4, h5, h6⟩ := id h
  have hsz := hv.2.2.2.1
  have hck := fo_cnt_le K
  refine ⟨h.rc, ?_⟩
  rw [w_X5_hash]
  refine ⟨_, _, _, rfl, h1, rfl, _, _, _, v, rfl, h2, rfl, (by omega), (by omega), _, _, _, rfl, h1, rfl, _, _, _, v, rfl, h3, rfl, (by omega), (by omega), _, _, _, rfl, h1, rfl, _, _, _, v, rfl, h4, rfl, (by omega), (by omega), ?_⟩
  refine nv_kids h hv (by omega) (by omega) (fun q σ1 f hq hf1 hqa hff => ⟨_, _, _, _, rfl, hqa, (by decide), ?_⟩)
  have e : (((((A v).1 * 31) + (A v).2.1) * 31) + (A v).2.2.1) = 31 * (31 * w.1 + w.2.1) + w.2.2 := by
    rw [hv.1, hv.2.1, hv.2.2.1, Int32.mul_comm w.1, Int32.mul_comm (31 * w.1 + w.2.1)]
  rw [e]
  exact H q σ1 f Q X hf1 hqa hff (fun σ' hf => k σ' ((hf1.tr hf).mo (by omega) (by omega)))
theorem mh_L {t n : Nat} {A : Tar} : ∀ (F : Fo) (D v i : Nat) (w : Int32 × Int32 × Int32) (K : Fo) (σ : Tst) (q : Nat) (f : Nat → Int32) (pre : List Nat) (acc : Int32) (Q : Int32 → Tst → Prop) (X : String → Nat → Tst → Prop), fo_h F ≤ D → mt σ t n A → nv A n v w K → fv A n v i F → σ.1 q = some (.inl (0, fo_cnt K, .inl f)) → (∀ j, j < fo_cnt K → f j = nI ((pre ++ ks i F).getD j 0)) → fo_cnt K = pre.length + fo_cnt F → fo_size F ≤ σ.2.1 → fo_size F - fo_cnt F ≤ σ.2.2.1 →
    (∀ σ' : Tst, fx σ σ' (fo_size F) (fo_size F - fo_cnt F) → Q (31 * fo_hl F acc + nI (fo_cnt K)) σ') → w_X5_hash_b40 (w_X5_hash D) Q X (fo_cnt F + 1) (some t) (nI v) acc (some q) (nI (fo_cnt K)) (nI pre.length) σ := by
  intro F
  induction F with
  | leaf =>
    intro D v i w K σ q f pre acc Q X hD h hv hF hq hff hcn hc hs k
    rw [w_X5_hash_b40]
    simp only [fo_cnt, Nat.add_zero] at hcn
    refine ⟨fun _ => ?_, fun c => ?_⟩
    · refine nv_many h hv ?_
      rw [Int32.mul_comm]
      exact k σ ((fx.rf σ).mo (by omega) (by omega))
    · rw [hcn] at c
      have := fo_cnt_le K
      have := hv.2.2.2.1
      have := h.le
      exact absurd ((ni_le (by omega) (by omega)).mpr (Nat.le_refl _)) c
  | inner s w' u kids rest ih1 ih2 =>
    intro D v i w K σ q f pre acc Q X hD h hv hF hq hff hcn hc hs k
    have hsz := hv.2.2.2.1
    have hnl := h.le
    have hcl := fo_cnt_le K
    have hck := fo_cnt_le kids
    have hcn' : fo_cnt K = pre.length + (fo_cnt rest + 1) := hcn
    have hc' : 1 + fo_size kids + fo_size rest ≤ σ.2.1 := hc
    have hs' : 1 + fo_size kids + fo_size rest - (fo_cnt rest + 1) ≤ σ.2.2.1 := hs
    have hcr := fo_cnt_le rest
    simp only [fo_h] at hD
    obtain ⟨D', rfl⟩ : ∃ D', D = D' + 1 := ⟨D - 1, by omega⟩
    rw [w_X5_hash_b40]
    refine ⟨fun c => absurd ((ni_le (by omega) (by omega)).mp c) (by omega), fun _ => ⟨_, _, _, pre.length, rfl, hq, rfl, (by omega), (by omega), ?_⟩⟩
    rw [hff _ (by omega), ks, gd_app]
    have hv' := hF.nv
    refine mh_1 h hv' (by omega) (by omega) (fun q1 σ1 f1 Q X hf1 hq1 hff1 kk => ⟨_, ih1 D' i (i + 1) w' kids σ1 q1 f1 [] _ Q X (by omega) (h.x hf1) hv' hv'.fv hq1 (by simpa using hff1) (by simp) (by have := hf1.c; omega) (by have := hf1.s; omega) (fun σ' hf' => ?_)⟩) (fun σ2 hf2 => ?_)
    · exact kk σ' hf'
    · have := hf2.c
      have := hf2.s
      rw [ni_1, ni_add]
      have hgo := ih2 (D' + 1) v (i + 1 + fo_size kids) w K σ2 q f (pre ++ [i]) (31 * acc + fo_hash w' kids) Q X (by omega) (h.x hf2) hv hF.rest (hf2.k hq) (by simpa [ks] using hff) (by simp; omega) (by omega) (by omega) (fun σ' hf' => ?_)
      · rw [Int32.mul_comm acc]
        simpa [fo_cnt] using hgo
      · have hk := k σ' ((hf2.tr hf').mo (by simp only [fo_size]; omega) (by simp only [fo_size, fo_cnt]; omega))
        exact hk
theorem mh_hash {σ : Tst} {t n v D : Nat} {A : Tar} {w : Int32 × Int32 × Int32} {K : Fo} (h : mt σ t n A) (hv : nv A n v w K) (hD : fo_h K < D) (hc : 1 + fo_size K ≤ σ.2.1) (hs : fo_size K ≤ σ.2.2.1) {Q : Int32 → Tst → Prop} {X : String → Nat → Tst → Prop}
    (k : ∀ σ' : Tst, fx σ σ' (1 + fo_size K) (fo_size K) → Q (fo_hash w K) σ') : w_rc σ (some t) cX5 (w_X5_hash D (some t) (nI v) Q X σ) := by
  obtain ⟨D', rfl⟩ : ∃ D', D = D' + 1 := ⟨D - 1, by omega⟩
  have hck := fo_cnt_le K
  exact mh_1 h hv hc hs (fun q1 σ1 f1 Q X hf1 hq1 hff1 kk => ⟨_, mh_L K D' v (v + 1) w K σ1 q1 f1 [] _ Q X (by omega) (h.x hf1) hv hv.fv hq1 (by simpa using hff1) (by simp) (by have := hf1.c; omega) (by have := hf1.s; omega) kk⟩) k
-- areLike
theorem fo_eqs_size (fl : Int32) : ∀ F G : Fo, fo_eqs fl F G = true → fo_size F = fo_size G := by
  intro F
  induction F with
  | leaf =>
    intro G h
    cases G with
    | leaf => rfl
    | inner s v u k r => simp [fo_eqs] at h
  | inner s v u k r ih1 ih2 =>
    intro G h
    cases G with
    | leaf => simp [fo_eqs] at h
    | inner s' v' u' k' r' =>
      simp only [fo_eqs, Bool.and_eq_true] at h
      simp only [fo_size, ih1 _ h.2.1, ih2 _ h.2.2]
/-- the rows v + k of A and v' + k of B agree -/
def okl (fl : Int32) (A B : Tar) (v v' k : Nat) : Prop := fl = 0 → (A (v + k)).1 = (B (v' + k)).1 ∧ (A (v + k)).2.1 = (B (v' + k)).2.1 ∧ (A (v + k)).2.2.1 = (B (v' + k)).2.2.1
def okp (A B : Tar) (v v' k : Nat) : Prop := (A (v + k)).2.2.2 - nI v = (B (v' + k)).2.2.2 - nI v'
theorem okp_of {A B : Tar} {v v' k m m' : Nat} (h : (A (v + k)).2.2.2 = nI m) (h' : (B (v' + k)).2.2.2 = nI m') (hm : v ≤ m) (hm' : v' ≤ m') (hl : m < 1000) (hl' : m' < 1000) : okp A B v v' k ↔ m - v = m' - v' := by
  unfold okp
  rw [h, h', ni_sub hm, ni_sub hm', ni_inj (by omega) (by omega)]
theorem lk_iff {fl : Int32} {A B : Tar} {v v' : Nat} : ∀ (F G : Fo) (o o' : Nat), o' < o → At A (v + o) (nI (v + o')) F → At B (v' + o) (nI (v' + o')) G → v + o + fo_size F ≤ 100 → v' + o + fo_size G ≤ 100 → fo_size F = fo_size G → ((∀ k, o ≤ k → k < o + fo_size F → okp A B v v' k ∧ okl fl A B v v' k) ↔ fo_eqs fl F G = true) := by
  intro F
  induction F with
  | leaf =>
    intro G o o' ho hA hB hl hl' hsz
    cases G with
    | leaf => simp only [fo_eqs, iff_true]; intro k h1 h2; simp only [fo_size] at h2; omega
    | inner s w u k r => simp only [fo_size] at hsz; omega
  | inner s w u k r ih1 ih2 =>
    intro G o o' ho hA hB hl hl' hsz
    cases G with
    | leaf => simp only [fo_size] at hsz; omega
    | inner s' w' u' k' r' =>
      obtain ⟨e, hk, hr⟩ := hA
      obtain ⟨e', hk', hr'⟩ := hB
      simp only [fo_size] at hl hl' hsz ⊢
      have hlab : okl fl A B v v' o ↔ (!decide (fl = 0) || decide (w = w')) = true := by
        unfold okl
        rw [e, e']
        simp only [Bool.or_eq_true, Bool.not_eq_true', decide_eq_false_iff_not, decide_eq_true_eq]
        constructor
        · intro h
          by_cases hf : fl = 0
          · obtain ⟨h1, h2, h3⟩ := h hf
            exact Or.inr (Prod.ext h1 (Prod.ext h2 h3))
          · exact Or.inl hf
        · intro h hf
          rcases h with h | h
          · exact absurd hf h
          · rw [h]; exact ⟨rfl, rfl, rfl⟩
      have hpar : okp A B v v' o := (okp_of (m := v + o') (m' := v' + o') (by rw [e]) (by rw [e']) (by omega) (by omega) (by omega) (by omega)).mpr (by omega)
      have hk1 : At A (v + (o + 1)) (nI (v + o)) k := by rw [← Nat.add_assoc]; exact hk
      have hk1' : At B (v' + (o + 1)) (nI (v' + o)) k' := by rw [← Nat.add_assoc]; exact hk'
      have hr1 : At A (v + (o + 1 + fo_size k)) (nI (v + o')) r := by rw [show v + (o + 1 + fo_size k) = v + o + 1 + fo_size k by omega]; exact hr
      have hr1' : At B (v' + (o + 1 + fo_size k')) (nI (v' + o')) r' := by rw [show v' + (o + 1 + fo_size k') = v' + o + 1 + fo_size k' by omega]; exact hr'
      simp only [fo_eqs, Bool.and_eq_true]
      constructor
      · intro h
        have hs : fo_size k = fo_size k' := by
          rcases Nat.lt_trichotomy (fo_size k) (fo_size k') with q | q | q
          · exfalso
            cases r with
            | leaf => simp only [fo_size] at hsz; omega
            | inner s2 w2 u2 k2 r2 =>
              obtain ⟨e2, -⟩ := hr1
              have h2 := (h (o + 1 + fo_size k) (by omega) (by simp only [fo_size]; omega)).1
              rcases At_par k' _ _ hk1' (v' + (o + 1 + fo_size k)) (by omega) (by omega) with p1 | ⟨m, p1, p2, p3⟩
              · have := (okp_of (m := v + o') (m' := v' + o) (by rw [e2]) p1 (by omega) (by omega) (by omega) (by omega)).mp h2
                omega
              · have := (okp_of (m := v + o') (m' := m) (by rw [e2]) p1 (by omega) (by omega) (by omega) (by omega)).mp h2
                omega
          · exact q
          · exfalso
            cases r' with
            | leaf => simp only [fo_size] at hsz; omega
            | inner s2 w2 u2 k2 r2 =>
              obtain ⟨e2, -⟩ := hr1'
              have h2 := (h (o + 1 + fo_size k') (by omega) (by omega)).1
              rcases At_par k _ _ hk1 (v + (o + 1 + fo_size k')) (by omega) (by omega) with p1 | ⟨m, p1, p2, p3⟩
              · have := (okp_of (m := v + o) (m' := v' + o') p1 (by rw [e2]) (by omega) (by omega) (by omega) (by omega)).mp h2
                omega
              · have := (okp_of (m := m) (m' := v' + o') p1 (by rw [e2]) (by omega) (by omega) (by omega) (by omega)).mp h2
                omega
        refine ⟨hlab.mp (h o (Nat.le_refl _) (by omega)).2, (ih1 k' (o + 1) o (by omega) hk1 hk1' (by omega) (by omega) hs).mp (fun j h1 h2 => h j (by omega) (by omega)), ?_⟩
        rw [← hs] at hr1'
        exact (ih2 r' (o + 1 + fo_size k) o' (by omega) hr1 hr1' (by omega) (by omega) (by omega)).mp (fun j h1 h2 => h j (by omega) (by omega))
      · rintro ⟨h1, h2, h3⟩ j hj1 hj2
        have hs := fo_eqs_size _ _ _ h2
        rw [← hs] at hr1'
        by_cases c1 : j = o
        · rw [c1]; exact ⟨hpar, hlab.mpr h1⟩
        · by_cases c2 : j < o + 1 + fo_size k
          · exact (ih1 k' (o + 1) o (by omega) hk1 hk1' (by omega) (by omega) hs).mpr h2 j (by omega) c2
          · exact (ih2 r' (o + 1 + fo_size k) o' (by omega) hr1 hr1' (by omega) (by omega) (by omega)).mpr h3 j (by omega) (by omega)
theorem lk_L {σ : Tst} {t n v t' n' v' N : Nat} {A B : Tar} {fl : Int32} (h : mt σ t n A) (h' : mt σ t' n' B) (hv : v + N ≤ n) (hv' : v' + N ≤ n') {Q : Int32 → Tst → Prop} {X : String → Nat → Tst → Prop} (k1 : (∀ k, k < N → (0 < k → okp A B v v' k) ∧ okl fl A B v v' k) → Q 1 σ) (k0 : ∀ k, k < N → ¬ ((0 < k → okp A B v v' k) ∧ okl fl A B v v' k) → Q 0 σ) : ∀ m j : Nat, j + m = N → (∀ k, k < j → (0 < k → okp A B v v' k) ∧ okl fl A B v v' k) → w_X4_areLike_b26 Q X (m + 1) (some t) (nI v) (some t') (nI v') fl (nI N) (nI j) σ := by
  have hn := h.le
  have hn' := h'.le
  obtain ⟨la, ka, va, pa, h1, h2, h3, h4, h5, h6⟩ := id h
  obtain ⟨la', ka', va', pa', h1', h2', h3', h4', h5', h6'⟩ := id h'
  intro m
  induction m with
  | zero =>
    intro j hj hall
    rw [w_X4_areLike_b26]
    exact ⟨fun _ => ⟨rfl, k1 (fun k hk => hall k (by omega))⟩, fun c => absurd ((ni_le (by omega) (by omega)).mpr (by omega)) c⟩
  | succ m ih =>
    intro j hj hall
    rw [w_X4_areLike_b26]
    refine ⟨fun c => absurd ((ni_le (by omega) (by omega)).mp c) (by omega), fun _ => ?_⟩
    have goB : (0 < j → okp A B v v' j) → w_X4_areLike_b65 (w_X4_areLike_b26 Q X (m + 1)) Q X (some t) (nI v) (some t') (nI v') fl (nI N) (nI j) σ := by
      intro hp
      unfold w_X4_areLike_b65
      have goC : okl fl A B v v' j → w_X4_areLike_b135 (w_X4_areLike_b26 Q X (m + 1)) Q X (some t) (nI v) (some t') (nI v') fl (nI N) (nI j) σ := by
        intro hl
        unfold w_X4_areLike_b135
        rw [ni_1, ni_add]
        refine ih (j + 1) (by omega) (fun k hk => ?_)
        by_cases e : k = j
        · rw [e]; exact ⟨hp, hl⟩
        · exact hall k (by omega)
      have bad : ¬ okl fl A B v v' j → w_X4_areLike_b133 Q X σ := fun hb => ⟨rfl, k0 j (by omega) (fun h => hb h.2)⟩
      rw [ni_add, ni_add]
      refine ⟨fun hfl => ⟨_, _, _, rfl, h1, rfl, _, _, _, v + j, rfl, h2, rfl, (by omega), (by omega), _, _, _, rfl, h1', rfl, _, _, _, v' + j, rfl, h2', rfl, (by omega), (by omega), fun c => ⟨_, _, _, rfl, h1, rfl, _, _, _, v + j, rfl, h3, rfl, (by omega), (by omega), _, _, _, rfl, h1', rfl, _, _, _, v' + j, rfl, h3', rfl, (by omega), (by omega), fun c2 => ⟨_, _, _, rfl, h1, rfl, _, _, _, v + j, rfl, h4, rfl, (by omega), (by omega), _, _, _, rfl, h1', rfl, _, _, _, v' + j, rfl, h4', rfl, (by omega), (by omega), fun c3 => goC (fun _ => ⟨c, c2, c3⟩), fun c3 => bad (fun h => c3 (h hfl).2.2)⟩, fun c2 => bad (fun h => c2 (h hfl).2.1)⟩, fun c => bad (fun h => c (h hfl).1)⟩, fun hfl => goC (fun h => absurd h hfl)⟩
    refine ⟨fun c => goB (fun hj0 => absurd ((ni_le (b := 0) (by omega) (by decide)).mp c) (by omega)), fun c => ?_⟩
    rw [ni_add, ni_add]
    refine ⟨_, _, _, rfl, h1, rfl, _, _, _, v + j, rfl, h5, rfl, (by omega), (by omega), _, _, _, rfl, h1', rfl, _, _, _, v' + j, rfl, h5', rfl, (by omega), (by omega), fun c2 => goB (fun _ => c2), fun c2 => ⟨rfl, k0 j (by omega) (fun h => c2 (h.1 ?_))⟩⟩
    have : ¬ j = 0 := fun e => c (by rw [e]; exact Int32.le_refl _)
    omega
/-- areLike of two subtrees -/
theorem mh_like {σ : Tst} {t n v t' n' v' : Nat} {A B : Tar} {w w' : Int32 × Int32 × Int32} {K K' : Fo} {fl : Int32} (h : mt σ t n A) (h' : mt σ t' n' B) (hv : nv A n v w K) (hv' : nv B n' v' w' K') {Q : Int32 → Tst → Prop} {X : String → Nat → Tst → Prop} (k : Q (if fo_like fl w K w' K' then 1 else 0) σ) : w_X4_areLike (some t) (nI v) (some t') (nI v') fl Q X σ := by
  have hn := h.le
  have hn' := h'.le
  have hsz := hv.2.2.2.1
  have hsz' := hv'.2.2.2.1
  unfold w_X4_areLike
  refine nv_end h hv (nv_end h' hv' ?_)
  rw [ni_sub (by omega), ni_sub (by omega), show v + 1 + fo_size K - v = 1 + fo_size K by omega, show v' + 1 + fo_size K' - v' = 1 + fo_size K' by omega]
  have hlab : okl fl A B v v' 0 ↔ (!decide (fl = 0) || decide (w = w')) = true := by
    unfold okl
    rw [Nat.add_zero, Nat.add_zero, hv.1, hv.2.1, hv.2.2.1, hv'.1, hv'.2.1, hv'.2.2.1]
    simp only [Bool.or_eq_true, Bool.not_eq_true', decide_eq_false_iff_not, decide_eq_true_eq]
    constructor
    · intro h
      by_cases hf : fl = 0
      · obtain ⟨h1, h2, h3⟩ := h hf
        exact Or.inr (Prod.ext h1 (Prod.ext h2 h3))
      · exact Or.inl hf
    · intro h hf
      rcases h with h | h
      · exact absurd hf h
      · rw [h]; exact ⟨rfl, rfl, rfl⟩
  refine ⟨fun c => ?_, fun c => ?_⟩
  · have c := (ni_inj (by omega) (by omega)).mp c
    have hiff := lk_iff (fl := fl) (v := v) (v' := v') K K' 1 0 (by decide) hv.2.2.2.2.1 hv'.2.2.2.2.1 (by omega) (by omega) (by omega)
    have hall : (∀ k, k < 1 + fo_size K → (0 < k → okp A B v v' k) ∧ okl fl A B v v' k) ↔ fo_like fl w K w' K' = true := by
      unfold fo_like
      rw [Bool.and_eq_true, ← hlab, ← hiff]
      constructor
      · intro h
        exact ⟨(h 0 (by omega)).2, fun k h1 h2 => ⟨(h k (by omega)).1 (by omega), (h k (by omega)).2⟩⟩
      · rintro ⟨h1, h2⟩ k hk
        by_cases e : k = 0
        · rw [e]; exact ⟨fun h => absurd h (by decide), h1⟩
        · exact ⟨fun _ => (h2 k (by omega) (by omega)).1, (h2 k (by omega) (by omega)).2⟩
    refine ⟨_, lk_L h h' (N := 1 + fo_size K) (by omega) (by omega) (fun hh => ?_) (fun j hj hb => ?_) (1 + fo_size K) 0 (by omega) (fun k hk => by omega)⟩
    · rw [hall.mp hh] at k
      exact k
    · have : fo_like fl w K w' K' = false := by
        cases e : fo_like fl w K w' K' with
        | false => rfl
        | true => exact absurd (hall.mpr e j hj) hb
      rw [this] at k
      exact k
  · have : fo_like fl w K w' K' = false := by
      cases e : fo_like fl w K w' K' with
      | false => rfl
      | true =>
        unfold fo_like at e
        rw [Bool.and_eq_true] at e
        exact absurd (by rw [fo_eqs_size _ _ _ e.2]) c
    rw [this] at k
    exact ⟨rfl, k⟩
