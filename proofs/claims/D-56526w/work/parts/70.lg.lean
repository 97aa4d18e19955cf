-- the reference's tables: left
theorem fv_drop {A : Tar} {n v : Nat} : ∀ (i : Nat) (K : Fo) (i0 : Nat), fv A n v i0 K → i ≤ fo_cnt K → fv A n v (i0 + g_ksz i K) (g_drop i K) := by
  intro i
  induction i with
  | zero => intro K i0 h _; exact h
  | succ i ih =>
    intro K i0 h hi
    cases K with
    | leaf => simp [fo_cnt] at hi
    | inner s w u k r =>
      simp only [fo_cnt] at hi
      have := ih r _ h.rest (by omega)
      simp only [g_ksz, g_drop, gz_o]
      rw [show i0 + (1 + fo_size k + g_ksz i r) = i0 + 1 + fo_size k + g_ksz i r by omega]
      exact this
theorem ks_gd : ∀ (i : Nat) (K : Fo) (i0 : Nat), i < fo_cnt K → (ks i0 K).getD i 0 = i0 + g_ksz i K := by
  intro i
  induction i with
  | zero =>
    intro K i0 h
    cases K with
    | leaf => simp [fo_cnt] at h
    | inner s w u k r => simp [ks, g_ksz]
  | succ i ih =>
    intro K i0 h
    cases K with
    | leaf => simp [fo_cnt] at h
    | inner s w u k r =>
      simp only [fo_cnt] at h
      simp only [ks, g_ksz, gz_o, List.getD_cons_succ]
      rw [ih r _ (by omega)]
      omega
theorem drop_inO {n : Nat} {F : Fo} (h : n < fo_cnt F) : ∃ s w u k r, g_drop n F = .inner s w u k r ∧ g_drop (n + 1) F = r := drop_in n F (by rw [g_cnt_o]; exact h)
theorem drop_endO {n : Nat} {F : Fo} (h : fo_cnt F ≤ n) : g_drop n F = .leaf := drop_end n F (by rw [g_cnt_o]; exact h)
/-- the table at t: p + 1 rows of n + 1 -/
def ltb (σ : Tst) (t p n : Nat) (g : Nat → Nat → Int32) : Prop := σ.1 t = some (.inl (8, p + 1, .inr (.inr (.inr (.inr fun j => some (t + 1 + j)))))) ∧ ∀ i, i ≤ p → σ.1 (t + 1 + i) = some (.inl (0, n + 1, .inl (g i)))
/-- the costs of pairs -/
def cmx (σ : Tst) (m cm c0 : Nat) (M : Nat → Nat → Int32) : Prop := (∃ fs : List Tfv, σ.1 m = some (.inr (cX4, fs)) ∧ fs[9]? = some (.inr (some cm))) ∧ σ.1 cm = some (.inl (8, 20, .inr (.inr (.inr (.inr fun j => some (c0 + j)))))) ∧ ∀ i, i < 20 → σ.1 (c0 + i) = some (.inl (0, 20, .inl (M i)))
theorem cmx.x {σ σ' : Tst} {c n m cm c0 : Nat} {M : Nat → Nat → Int32} (hf : fx σ σ' c n) (h : cmx σ m cm c0 M) : cmx σ' m cm c0 M := by
  obtain ⟨⟨fs, h1, h2⟩, h3, h4⟩ := h
  exact ⟨⟨fs, hf.k h1, h2⟩, hf.k h3, fun i hi => hf.k (h4 i hi)⟩
section LF
variable {σ0 : Tst} {m cm c0 a n b n' ka kb v v' i0 j0 t : Nat} {A B : Tar} {K K' : Fo} {fa fb : Nat → Int32} {M : Nat → Nat → Int32}
theorem lf_done {i j : Nat} {x : Int32} {σ : Tst} {g : Nat → Nat → Int32} {cc nn : Nat} (hp : fo_cnt K ≤ 19) (hq : fo_cnt K' ≤ 19) (hnew : ∀ z, t ≤ z → σ0.1 z = none) (hf : fx σ0 σ cc nn) (ht : ltb σ t (fo_cnt K) (fo_cnt K') g) (hi : i ≤ fo_cnt K) (hj : j ≤ fo_cnt K') {Q : Option Nat → Tst → Prop} {X : String → Nat → Tst → Prop} {k19 : Option Nat → Option Nat → Option Nat → Option Nat → Option Nat → Option Nat → Int32 → Tst → Prop} {k29 : Option Nat → Option Nat → Option Nat → Option Nat → Option Nat → Option Nat → Int32 → Int32 → Tst → Prop}
    (k : ∀ σ' : Tst, fx σ0 σ' cc nn → ltb σ' t (fo_cnt K) (fo_cnt K') (va_up g i (upd (g i) j x)) → k29 (some m) (some a) (some ka) (some b) (some kb) (some t) (nI i) (nI j + (-1)) σ') : w_X4_left_b206 k19 k29 Q X (some m) (some a) (some ka) (some b) (some kb) (some t) (nI i) (nI j) x σ := by
  obtain ⟨h1, h2⟩ := ht
  have hr := h2 i hi
  unfold w_X4_left_b206 w_X4_left_b216
  refine ⟨_, _, _, _, i, rfl, h1, ⟨by omega, by omega⟩, rfl, (by omega), (by omega), _, _, _, j, rfl, hr, rfl, (by omega), (by omega), ?_⟩
  have hti : t ≠ t + 1 + i := by omega
  refine k _ (hf.up (hnew _ (by omega)) _) ⟨(up_ne _ _ hti).trans h1, fun i' hi' => ?_⟩
  by_cases e : i' = i
  · subst e
    have := up_at σ (t + 1 + i') (.inl (0, fo_cnt K' + 1, .inl (upd (g i') j x)))
    simp only [va_up, if_true]
    exact this
  · simp only [va_up, if_neg e]
    exact (up_ne _ _ (by omega)).trans (h2 i' hi')
theorem lf_cell (hA : mt σ0 a n A) (hB : mt σ0 b n' B) (hK : fv A n v i0 K) (hK' : fv B n' v' j0 K') (hka : σ0.1 ka = some (.inl (0, fo_cnt K, .inl fa))) (hkb : σ0.1 kb = some (.inl (0, fo_cnt K', .inl fb))) (hfa : ∀ i, i < fo_cnt K → fa i = nI (i0 + g_ksz i K)) (hfb : ∀ i, i < fo_cnt K' → fb i = nI (j0 + g_ksz i K')) (hM : cmx σ0 m cm c0 M) (hMv : ∀ i j s w u k r s' w' u' k' r', g_drop i K = .inner s w u k r → g_drop j K' = .inner s' w' u' k' r' → M (i0 + g_ksz i K) (j0 + g_ksz j K') = nI (pc w w' + fo_L k k')) (hp : fo_cnt K ≤ 19) (hq : fo_cnt K' ≤ 19) (hnew : ∀ z, t ≤ z → σ0.1 z = none) {i j : Nat} (hi : i ≤ fo_cnt K) (hj : j ≤ fo_cnt K') (hij : ¬ (i = fo_cnt K ∧ j = fo_cnt K')) {σ : Tst} {g : Nat → Nat → Int32} {cc nn : Nat} (hf : fx σ0 σ cc nn) (ht : ltb σ t (fo_cnt K) (fo_cnt K') g)
    (hg : ∀ i' j', i' ≤ fo_cnt K → j' ≤ fo_cnt K' → (i < i' ∨ (i' = i ∧ j < j')) → g i' j' = nI (fo_L (g_drop i' K) (g_drop j' K'))) {Q : Option Nat → Tst → Prop} {X : String → Nat → Tst → Prop} {k19 : Option Nat → Option Nat → Option Nat → Option Nat → Option Nat → Option Nat → Int32 → Tst → Prop} {k29 : Option Nat → Option Nat → Option Nat → Option Nat → Option Nat → Option Nat → Int32 → Int32 → Tst → Prop}
    (k : ∀ σ' : Tst, fx σ0 σ' cc nn → ltb σ' t (fo_cnt K) (fo_cnt K') (va_up g i (upd (g i) j (nI (fo_L (g_drop i K) (g_drop j K'))))) → k29 (some m) (some a) (some ka) (some b) (some kb) (some t) (nI i) (nI j + (-1)) σ') : w_X4_left_b52 k19 k29 Q X (some m) (some a) (some ka) (some b) (some kb) (some t) (nI i) (nI j) σ := by
  have hn := hA.le
  have hn' := hB.le
  have hAs := hA.x hf
  have hBs := hB.x hf
  obtain ⟨t1, t2⟩ := id ht
  have hkas := hf.k hka
  have hkbs := hf.k hkb
  have hKs := hK.2.2.1
  have hKs' := hK'.2.2.1
  obtain ⟨⟨fs, m1, m2⟩, m3, m4⟩ := hM.x hf
  have fin : ∀ x : Int32, x = nI (fo_L (g_drop i K) (g_drop j K')) → w_X4_left_b206 k19 k29 Q X (some m) (some a) (some ka) (some b) (some kb) (some t) (nI i) (nI j) x σ := fun x hx => by
    subst hx
    exact lf_done hp hq hnew hf ht hi hj k
  have hLb : ∀ X Y : Fo, fo_size X ≤ 20 → fo_size Y ≤ 20 → fo_L X Y ≤ 80 := fun X Y h1 h2 => by
    have := fo_L_le X Y
    omega
  have hdz : ∀ i, fo_size (g_drop i K) ≤ 20 := fun i => by have := drop_sz i K; rw [gz_o, gz_o] at this; omega
  have hdz' : ∀ i, fo_size (g_drop i K') ≤ 20 := fun i => by have := drop_sz i K'; rw [gz_o, gz_o] at this; omega
  unfold w_X4_left_b52
  refine ⟨_, _, _, _, rfl, hkas, (by decide), fun ci => ?_, fun ci => ?_⟩
  · have ci := (ni_le (by omega) (by omega)).mp ci
    have hip : i = fo_cnt K := by omega
    have d1 : g_drop i K = .leaf := drop_endO (by omega)
    have hjq : j < fo_cnt K' := by omega
    obtain ⟨s', w', u', k', r', d2, d2'⟩ := drop_inO hjq
    have hnv' := fv_drop j K' j0 hK' (by omega)
    rw [d2] at hnv'
    have hv1 := hg i (j + 1) (by omega) (by omega) (Or.inr ⟨rfl, by omega⟩)
    rw [d1, d2'] at hv1
    have b1 := hdz' (j + 1)
    rw [d2'] at b1
    have b2 := hdz' j
    rw [d2] at b2
    simp only [fo_size] at b2
    unfold w_X4_left_b91
    refine ⟨_, _, _, _, rfl, hkbs, (by decide), fun cj => absurd ((ni_le (by omega) (by omega)).mp cj) (by omega), fun _ => ⟨_, _, _, j, rfl, hkbs, rfl, (by omega), (by omega), ?_⟩⟩
    rw [hfb j hjq]
    refine nv_end hBs hnv'.nv ⟨_, _, _, j, rfl, hkbs, rfl, (by omega), (by omega), _, _, _, _, i, rfl, t1, ⟨by omega, by omega⟩, rfl, (by omega), (by omega), _, _, _, j + 1, rfl, t2 i hi, (by rw [ni_1, ni_add]), (by omega), (by omega), ?_⟩
    try dsimp only
    rw [hfb j hjq, hv1, ni_sub (by omega), show (2 : Int32) = nI 2 from rfl, ni_mul, ni_add, show j0 + g_ksz j K' + 1 + fo_size k' - (j0 + g_ksz j K') = 1 + fo_size k' by omega]
    rw [fo_L_0]
    have hlt : (if nI (2 * (1 + fo_size k') + 2 * fo_size r') < 1000000 then nI (2 * (1 + fo_size k') + 2 * fo_size r') else 1000000) = nI (2 * (1 + fo_size k') + 2 * fo_size r') := if_pos ((lo_lt (j := 1000000) (by omega) (by decide)).mpr (by omega))
    rw [hlt]
    unfold w_X4_left_b134
    refine ⟨_, _, _, _, rfl, hkas, (by decide), fun _ => fin _ ?_, fun c => absurd ((ni_le (by omega) (by omega)).mpr (by omega)) c⟩
    rw [d1, d2, fo_L_0, fo_size]
    congr 1
    omega
  · have ci : i < fo_cnt K := Nat.lt_of_not_le (fun h => ci ((ni_le (by omega) (by omega)).mpr h))
    obtain ⟨s, w, u, k1, r, d1, d1'⟩ := drop_inO ci
    have hnv := fv_drop i K i0 hK (by omega)
    rw [d1] at hnv
    have hv1 := hg (i + 1) j (by omega) (by omega) (Or.inl (by omega))
    rw [d1'] at hv1
    have b1 := hdz (i + 1)
    rw [d1'] at b1
    have b2 := hdz i
    rw [d1] at b2
    simp only [fo_size] at b2
    refine ⟨_, _, _, i, rfl, hkas, rfl, (by omega), (by omega), ?_⟩
    rw [hfa i ci]
    refine nv_end hAs hnv.nv ⟨_, _, _, i, rfl, hkas, rfl, (by omega), (by omega), _, _, _, _, i + 1, rfl, t1, ⟨by omega, by omega⟩, (by rw [ni_1, ni_add]), (by omega), (by omega), _, _, _, j, rfl, t2 (i + 1) (by omega), rfl, (by omega), (by omega), ?_⟩
    try dsimp only
    rw [hfa i ci, hv1, ni_sub (by omega), show (2 : Int32) = nI 2 from rfl, ni_mul, ni_add, show i0 + g_ksz i K + 1 + fo_size k1 - (i0 + g_ksz i K) = 1 + fo_size k1 by omega]
    unfold w_X4_left_b91
    refine ⟨_, _, _, _, rfl, hkbs, (by decide), fun cj => ?_, fun cj => ?_⟩
    · have cj := (ni_le (by omega) (by omega)).mp cj
      have d2 : g_drop j K' = .leaf := drop_endO (by omega)
      unfold w_X4_left_b134
      refine ⟨_, _, _, _, rfl, hkas, (by decide), fun c => absurd ((ni_le (by omega) (by omega)).mp c) (by omega), fun _ => ⟨_, _, _, _, rfl, hkbs, (by decide), fun _ => fin _ ?_, fun c => absurd ((ni_le (by omega) (by omega)).mpr (by omega)) c⟩⟩
      rw [d1, d2]
      rfl
    · have cj : j < fo_cnt K' := Nat.lt_of_not_le (fun h => cj ((ni_le (by omega) (by omega)).mpr h))
      obtain ⟨s', w', u', k', r', d2, d2'⟩ := drop_inO cj
      have hnv' := fv_drop j K' j0 hK' (by omega)
      rw [d2] at hnv'
      have hv2 := hg i (j + 1) (by omega) (by omega) (Or.inr ⟨rfl, by omega⟩)
      rw [d1, d2'] at hv2
      have hv3 := hg (i + 1) (j + 1) (by omega) (by omega) (Or.inl (by omega))
      rw [d1', d2'] at hv3
      rw [d2] at hv1 fin ⊢
      rw [d1] at fin
      have b3 := hdz' (j + 1)
      rw [d2'] at b3
      have b4 := hdz' j
      rw [d2] at b4
      have l1 := hLb r (.inner s' w' u' k' r') b1 b4
      have l2 := hLb (.inner s w u k1 r) r' (by simp only [fo_size]; omega) b3
      have l3 := hLb r r' b1 b3
      simp only [fo_size] at b4
      have l4 := hLb k1 k' (by omega) (by omega)
      have l5 := pc_le w w'
      refine ⟨_, _, _, j, rfl, hkbs, rfl, (by omega), (by omega), ?_⟩
      rw [hfb j cj]
      refine nv_end hBs hnv'.nv ⟨_, _, _, j, rfl, hkbs, rfl, (by omega), (by omega), _, _, _, _, i, rfl, t1, ⟨by omega, by omega⟩, rfl, (by omega), (by omega), _, _, _, j + 1, rfl, t2 i hi, (by rw [ni_1, ni_add]), (by omega), (by omega), ?_⟩
      try dsimp only
      rw [hfb j cj, hv2, ni_sub (by omega), show (2 : Int32) = nI 2 from rfl, ni_mul, ni_add, show j0 + g_ksz j K' + 1 + fo_size k' - (j0 + g_ksz j K') = 1 + fo_size k' by omega]
      rw [if_min _ _ (by omega) (by omega)]
      unfold w_X4_left_b134
      refine ⟨_, _, _, _, rfl, hkas, (by decide), fun c => absurd ((ni_le (by omega) (by omega)).mp c) (by omega), fun _ => ⟨_, _, _, _, rfl, hkbs, (by decide), fun c => absurd ((ni_le (by omega) (by omega)).mp c) (by omega), fun _ => ?_⟩⟩
      obtain ⟨la, kaa, vaa, pa, x1, x2, x3, x4, x5, x6⟩ := hAs
      obtain ⟨lb, kab, vab, pb, y1, y2, y3, y4, y5, y6⟩ := hBs
      have hr1 := hnv.nv.2.2.2.1
      have hr2 := hnv'.nv.2.2.2.1
      have ek := hnv.nv.2.1
      have ek' := hnv'.nv.2.1
      refine ⟨_, _, _, rfl, x1, rfl, _, _, _, i, rfl, hkas, rfl, (by omega), (by omega), _, _, _, i0 + g_ksz i K, rfl, x3, hfa i ci, (by omega), (by omega), _, _, _, rfl, y1, rfl, _, _, _, j, rfl, hkbs, rfl, (by omega), (by omega), _, _, _, j0 + g_ksz j K', rfl, y3, hfb j cj, (by omega), (by omega), ?_⟩
      rw [ek, ek']
      have e := fo_L_in s w u k1 r s' w' u' k' r'
      refine ⟨fun hkey => ?_, fun hkey => fin _ ?_⟩
      · rw [if_pos hkey] at e
        refine ⟨_, fs, _, rfl, m1, m2, _, _, _, i, rfl, hkas, rfl, (by omega), (by omega), _, _, _, _, i0 + g_ksz i K, rfl, m3, ⟨by omega, by omega⟩, hfa i ci, (by omega), (by omega), _, _, _, j, rfl, hkbs, rfl, (by omega), (by omega), _, _, _, j0 + g_ksz j K', rfl, m4 _ (by omega), hfb j cj, (by omega), (by omega), _, _, _, _, i + 1, rfl, t1, ⟨by omega, by omega⟩, (by rw [ni_1, ni_add]), (by omega), (by omega), _, _, _, j + 1, rfl, t2 (i + 1) (by omega), (by rw [ni_1, ni_add]), (by omega), (by omega), ?_⟩
        rw [hMv i j _ _ _ _ _ _ _ _ _ _ d1 d2, hv3]
        dsimp only
        rw [ni_add, if_min _ _ (by omega) (by omega)]
        exact fin _ (by rw [e])
      · rw [if_neg hkey] at e
        rw [e]
theorem lf_row (hA : mt σ0 a n A) (hB : mt σ0 b n' B) (hK : fv A n v i0 K) (hK' : fv B n' v' j0 K') (hka : σ0.1 ka = some (.inl (0, fo_cnt K, .inl fa))) (hkb : σ0.1 kb = some (.inl (0, fo_cnt K', .inl fb))) (hfa : ∀ i, i < fo_cnt K → fa i = nI (i0 + g_ksz i K)) (hfb : ∀ i, i < fo_cnt K' → fb i = nI (j0 + g_ksz i K')) (hM : cmx σ0 m cm c0 M) (hMv : ∀ i j s w u k r s' w' u' k' r', g_drop i K = .inner s w u k r → g_drop j K' = .inner s' w' u' k' r' → M (i0 + g_ksz i K) (j0 + g_ksz j K') = nI (pc w w' + fo_L k k')) (hp : fo_cnt K ≤ 19) (hq : fo_cnt K' ≤ 19) (hnew : ∀ z, t ≤ z → σ0.1 z = none) {i : Nat} (hi : i ≤ fo_cnt K) {Q : Option Nat → Tst → Prop} {X : String → Nat → Tst → Prop} {k19 : Option Nat → Option Nat → Option Nat → Option Nat → Option Nat → Option Nat → Int32 → Tst → Prop} {cc nn : Nat} : ∀ (l : Nat) (σ : Tst) (g : Nat → Nat → Int32), l ≤ fo_cnt K' + 1 → fx σ0 σ cc nn → ltb σ t (fo_cnt K) (fo_cnt K') g → (∀ i' j', i' ≤ fo_cnt K → j' ≤ fo_cnt K' → (i < i' ∨ (i' = i ∧ l ≤ j')) → g i' j' = nI (fo_L (g_drop i' K) (g_drop j' K'))) → (i = fo_cnt K → fo_cnt K' < l → g i (fo_cnt K') = 0) →
    (∀ (σ' : Tst) (g' : Nat → Nat → Int32), fx σ0 σ' cc nn → ltb σ' t (fo_cnt K) (fo_cnt K') g' → (∀ i' j', i' ≤ fo_cnt K → j' ≤ fo_cnt K' → i ≤ i' → g' i' j' = nI (fo_L (g_drop i' K) (g_drop j' K'))) → (∀ i' j', i' < i → g' i' j' = g i' j') → k19 (some m) (some a) (some ka) (some b) (some kb) (some t) (nI i + (-1)) σ') → w_X4_left_b29 k19 Q X (l + 1) (some m) (some a) (some ka) (some b) (some kb) (some t) (nI i) (nI l + (-1)) σ := by
  have hn := hA.le
  have hn' := hB.le
  intro l
  induction l with
  | zero =>
    intro σ g hl hf ht hg h0 k
    rw [w_X4_left_b29]
    exact ⟨fun _ => k σ g hf ht (fun i' j' q1 q2 q3 => hg i' j' q1 q2 (by omega)) (fun _ _ _ => rfl), fun c => absurd (by decide) c⟩
  | succ l ih =>
    intro σ g hl hf ht hg h0 k
    rw [ni_pred, w_X4_left_b29]
    have hkas := hf.k hka
    have hkbs := hf.k hkb
    have rest : ¬ (i = fo_cnt K ∧ l = fo_cnt K') → w_X4_left_b52 k19 (w_X4_left_b29 k19 Q X (l + 1)) Q X (some m) (some a) (some ka) (some b) (some kb) (some t) (nI i) (nI l) σ := by
      intro hne
      refine lf_cell hA hB hK hK' hka hkb hfa hfb hM hMv hp hq hnew hi (by omega) hne hf ht (fun i' j' q1 q2 q3 => hg i' j' q1 q2 (by omega)) (fun σ1 hf1 ht1 => ?_)
      refine ih σ1 _ (by omega) hf1 ht1 (fun i' j' q1 q2 q3 => ?_) (fun q1 q2 => by omega) (fun σ' g' r1 r2 r3 r4 => k σ' g' r1 r2 r3 (fun i' j' hlt => ?_))
      · by_cases e1 : i' = i
        · subst e1
          simp only [va_up, if_true]
          by_cases e2 : j' = l
          · subst e2
            simp only [upd, if_true]
          · simp only [upd, if_neg e2]
            exact hg _ _ q1 q2 (by omega)
        · simp only [va_up, if_neg e1]
          exact hg _ _ q1 q2 (by omega)
      · rw [r4 i' j' hlt]
        have e1 : ¬ i' = i := by omega
        simp only [va_up, if_neg e1]
    refine ⟨fun c => absurd c (nI_pos (by omega)), fun _ => ⟨_, _, _, _, rfl, hkas, (by decide), fun ci => ⟨_, _, _, _, rfl, hkbs, (by decide), fun cj => ?_, fun cj => rest (fun h => cj (by rw [h.2]))⟩, fun ci => rest (fun h => ci (by rw [h.1]))⟩⟩
    have ci := (ni_inj (by omega) (by omega)).mp ci
    have cj := (ni_inj (by omega) (by omega)).mp cj
    unfold w_X4_left_b216
    refine ih σ g (by omega) hf ht (fun i' j' q1 q2 q3 => ?_) (fun q1 q2 => by omega) k
    by_cases e : i' = i ∧ j' = l
    · rw [e.1, e.2, drop_endO (show fo_cnt K ≤ i by omega), drop_endO (show fo_cnt K' ≤ l by omega)]
      have := h0 ci (by omega)
      rw [cj]
      exact this
    · exact hg i' j' q1 q2 (by omega)
theorem lf_rows (hA : mt σ0 a n A) (hB : mt σ0 b n' B) (hK : fv A n v i0 K) (hK' : fv B n' v' j0 K') (hka : σ0.1 ka = some (.inl (0, fo_cnt K, .inl fa))) (hkb : σ0.1 kb = some (.inl (0, fo_cnt K', .inl fb))) (hfa : ∀ i, i < fo_cnt K → fa i = nI (i0 + g_ksz i K)) (hfb : ∀ i, i < fo_cnt K' → fb i = nI (j0 + g_ksz i K')) (hM : cmx σ0 m cm c0 M) (hMv : ∀ i j s w u k r s' w' u' k' r', g_drop i K = .inner s w u k r → g_drop j K' = .inner s' w' u' k' r' → M (i0 + g_ksz i K) (j0 + g_ksz j K') = nI (pc w w' + fo_L k k')) (hp : fo_cnt K ≤ 19) (hq : fo_cnt K' ≤ 19) (hnew : ∀ z, t ≤ z → σ0.1 z = none) {Q : Option Nat → Tst → Prop} {X : String → Nat → Tst → Prop} {cc nn : Nat} : ∀ (l : Nat) (σ : Tst) (g : Nat → Nat → Int32), l ≤ fo_cnt K + 1 → fx σ0 σ cc nn → ltb σ t (fo_cnt K) (fo_cnt K') g → (∀ i' j', i' ≤ fo_cnt K → j' ≤ fo_cnt K' → l ≤ i' → g i' j' = nI (fo_L (g_drop i' K) (g_drop j' K'))) → (fo_cnt K < l → g (fo_cnt K) (fo_cnt K') = 0) →
    (∀ (σ' : Tst) (g' : Nat → Nat → Int32), fx σ0 σ' cc nn → ltb σ' t (fo_cnt K) (fo_cnt K') g' → (∀ i' j', i' ≤ fo_cnt K → j' ≤ fo_cnt K' → g' i' j' = nI (fo_L (g_drop i' K) (g_drop j' K'))) → Q (some t) σ') → w_X4_left_b19 Q X (l + 1) (some m) (some a) (some ka) (some b) (some kb) (some t) (nI l + (-1)) σ := by
  have hn := hA.le
  have hn' := hB.le
  intro l
  induction l with
  | zero =>
    intro σ g hl hf ht hg h0 k
    rw [w_X4_left_b19]
    exact ⟨fun _ => k σ g hf ht (fun i' j' q1 q2 => hg i' j' q1 q2 (Nat.zero_le _)), fun c => absurd (by decide) c⟩
  | succ l ih =>
    intro σ g hl hf ht hg h0 k
    rw [ni_pred, w_X4_left_b19]
    have hkbs := hf.k hkb
    refine ⟨fun c => absurd c (nI_pos (by omega)), fun _ => ⟨_, _, _, _, rfl, hkbs, (by decide), fo_cnt K' + 1 + 1, ?_⟩⟩
    have hgo := lf_row hA hB hK hK' hka hkb hfa hfb hM hMv hp hq hnew (i := l) (by omega) (Q := Q) (X := X) (k19 := w_X4_left_b19 Q X (l + 1)) (fo_cnt K' + 1) σ g (Nat.le_refl _) hf ht (fun i' j' q1 q2 q3 => hg i' j' q1 q2 (by omega)) (fun q1 _ => by rw [q1]; exact h0 (by omega)) (fun σ' g' r1 r2 r3 r4 => ih σ' g' (by omega) r1 r2 r3 (fun q => by omega) k)
    rw [ni_pred] at hgo
    exact hgo
end LF
/-- left(one, kids, other, others) -/
theorem lf_left {σ : Tst} {m cm c0 a n b n' ka kb v v' i0 j0 : Nat} {A B : Tar} {K K' : Fo} {fa fb : Nat → Int32} {M : Nat → Nat → Int32} (hA : mt σ a n A) (hB : mt σ b n' B) (hK : fv A n v i0 K) (hK' : fv B n' v' j0 K') (hka : σ.1 ka = some (.inl (0, fo_cnt K, .inl fa))) (hkb : σ.1 kb = some (.inl (0, fo_cnt K', .inl fb))) (hfa : ∀ i, i < fo_cnt K → fa i = nI (i0 + g_ksz i K)) (hfb : ∀ i, i < fo_cnt K' → fb i = nI (j0 + g_ksz i K')) (hM : cmx σ m cm c0 M) (hMv : ∀ i j s w u k r s' w' u' k' r', g_drop i K = .inner s w u k r → g_drop j K' = .inner s' w' u' k' r' → M (i0 + g_ksz i K) (j0 + g_ksz j K') = nI (pc w w' + fo_L k k')) (hp : fo_cnt K ≤ 19) (hq : fo_cnt K' ≤ 19) (hc : 1 + (fo_cnt K + 1) ≤ σ.2.1) (hs : (fo_cnt K + 1) + (fo_cnt K + 1) * (fo_cnt K' + 1) ≤ σ.2.2.1) {Q : Option Nat → Tst → Prop} {X : String → Nat → Tst → Prop}
    (k : ∀ (t : Nat) (σ' : Tst) (g : Nat → Nat → Int32), fx σ σ' (1 + (fo_cnt K + 1)) ((fo_cnt K + 1) + (fo_cnt K + 1) * (fo_cnt K' + 1)) → (∀ z, t ≤ z → σ.1 z = none) → ltb σ' t (fo_cnt K) (fo_cnt K') g → (∀ i j, i ≤ fo_cnt K → j ≤ fo_cnt K' → g i j = nI (fo_L (g_drop i K) (g_drop j K'))) → Q (some t) σ') : w_rc σ (some m) cX4 (w_X4_left (some m) (some a) (some ka) (some b) (some kb) Q X σ) := by
  obtain ⟨⟨fs, m1, m2⟩, m3, m4⟩ := id hM
  refine ⟨⟨_, _, rfl, m1⟩, ?_⟩
  unfold w_X4_left
  refine ⟨_, _, _, _, rfl, hka, (by decide), _, _, _, _, rfl, hkb, (by decide), fo_cnt K + 1, fo_cnt K' + 1, by rw [ni_1, ni_add], by rw [ni_1, ni_add], by omega, by omega, hc, hs, fun t hnew hb => ?_⟩
  have hf : fx σ (tw_ma σ t (fo_cnt K + 1) (fo_cnt K' + 1)) (1 + (fo_cnt K + 1)) ((fo_cnt K + 1) + (fo_cnt K + 1) * (fo_cnt K' + 1)) := by
    have key : ∀ z e, σ.1 z = some e → (tw_ma σ t (fo_cnt K + 1) (fo_cnt K' + 1)).1 z = some e := fun z e hz => by
      have hzt : ¬ t ≤ z := fun h => by rw [hnew z h] at hz; cases hz
      have e1 : ¬ z = t := by omega
      have e2 : ¬ (t < z ∧ z ≤ t + (fo_cnt K + 1)) := by omega
      simp only [tw_ma, if_neg e1, if_neg e2]
      exact hz
    refine ⟨fun z e _ hz => key z e hz, fun z e hz => ⟨e, key z e hz⟩, ?_, ?_, rfl⟩
    · show σ.2.1 ≤ σ.2.1 - (1 + (fo_cnt K + 1)) + (1 + (fo_cnt K + 1)); omega
    · show σ.2.2.1 ≤ σ.2.2.1 - ((fo_cnt K + 1) + (fo_cnt K + 1) * (fo_cnt K' + 1)) + ((fo_cnt K + 1) + (fo_cnt K + 1) * (fo_cnt K' + 1)); omega
  have ht : ltb (tw_ma σ t (fo_cnt K + 1) (fo_cnt K' + 1)) t (fo_cnt K) (fo_cnt K') (fun _ _ => 0) := by
    refine ⟨by simp only [tw_ma, if_true], fun i hi => ?_⟩
    have e1 : ¬ t + 1 + i = t := by omega
    have e2 : t < t + 1 + i ∧ t + 1 + i ≤ t + (fo_cnt K + 1) := by omega
    simp only [tw_ma, if_neg e1, if_pos e2]
  have hkas := hf.k hka
  refine ⟨_, _, _, _, rfl, hkas, (by decide), fo_cnt K + 1 + 1, ?_⟩
  have hgo := lf_rows hA hB hK hK' hka hkb hfa hfb hM hMv hp hq hnew (Q := Q) (X := X) (fo_cnt K + 1) _ _ (Nat.le_refl _) hf ht (fun i' j' q1 q2 q3 => by omega) (fun _ => rfl) (fun σ' g' r1 r2 r3 => k t σ' g' r1 hnew r2 r3)
  rw [ni_pred] at hgo
  exact hgo
