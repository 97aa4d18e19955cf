-- the reference's trees: writing the rows
def mD (la ka va pa : Nat) : Prop := la ≠ ka ∧ la ≠ va ∧ la ≠ pa ∧ ka ≠ va ∧ ka ≠ pa ∧ va ≠ pa
def mA (t la ka va pa z : Nat) : Prop := z = t ∨ z = la ∨ z = ka ∨ z = va ∨ z = pa
theorem upd_row (f : Tar → Nat → Int32) (A : Tar) (j : Nat) (x : Int32) (r : Int32 × Int32 × Int32 × Int32) (h1 : ∀ B C : Tar, ∀ i, B i = C i → f B i = f C i) (h2 : f (va_up A j r) j = x) : upd (f A) j x = f (va_up A j r) := by
  funext i
  by_cases e : i = j
  · subst e
    simp only [upd, if_true]
    exact h2.symm
  · simp only [upd, if_neg e]
    exact h1 _ _ _ (by simp only [va_up, if_neg e])
theorem mT_sets {σ : Tst} {t la ka va pa n j : Nat} {A : Tar} {l k v p : Int32} (h : mT σ t la ka va pa n A) (hd : mD la ka va pa) (hj : j < 20) {Q : Tst → Prop} {X : String → Nat → Tst → Prop}
    (kk : ∀ σ' : Tst, mT σ' t la ka va pa n (va_up A j (l, k, v, p)) → fr (fun z => z = la ∨ z = ka ∨ z = va ∨ z = pa) σ σ' 0 0 → Q σ') : w_rc σ (some t) cX5 (w_X5_sets (some t) (nI j) l k v p Q X σ) := by
  obtain ⟨h1, h2, h3, h4, h5, h6⟩ := h
  obtain ⟨d1, d2, d3, d4, d5, d6⟩ := hd
  have tl : t ≠ la := by intro e; subst e; rw [h1] at h2; cases h2
  have tk : t ≠ ka := by intro e; subst e; rw [h1] at h3; cases h3
  have tv : t ≠ va := by intro e; subst e; rw [h1] at h4; cases h4
  have tp : t ≠ pa := by intro e; subst e; rw [h1] at h5; cases h5
  refine ⟨⟨_, _, rfl, h1⟩, ?_⟩
  unfold w_X5_sets
  have hm : ∀ (σ' : Tst) (a : Nat) (e : Tce), (a = la ∨ a = ka ∨ a = va ∨ a = pa) → fr (fun z => z = la ∨ z = ka ∨ z = va ∨ z = pa) σ σ' 0 0 → fr (fun z => z = la ∨ z = ka ∨ z = va ∨ z = pa) σ (st_up σ' a e) 0 0 := fun σ' a e ha hf => hf.tr (fr.up σ' a e) (fun b x hb _ => by rw [hb]; exact ha)
  have f0 : fr (fun z => z = la ∨ z = ka ∨ z = va ∨ z = pa) σ σ 0 0 := fr.rf _ σ
  refine ⟨_, _, _, rfl, h1, rfl, _, _, _, j, rfl, h2, rfl, (by omega), (by omega), ?_⟩
  have f1 := hm σ la (.inl (0, 20, .inl (upd (fun i => (A i).1) j l))) (Or.inl rfl) f0
  have a1 := up_at σ la (.inl (0, 20, .inl (upd (fun i => (A i).1) j l)))
  have t1 := (up_ne σ (.inl (0, 20, .inl (upd (fun i => (A i).1) j l))) tl).trans h1
  have k1 := (up_ne σ (.inl (0, 20, .inl (upd (fun i => (A i).1) j l))) (Ne.symm d1)).trans h3
  have v1 := (up_ne σ (.inl (0, 20, .inl (upd (fun i => (A i).1) j l))) (Ne.symm d2)).trans h4
  have p1 := (up_ne σ (.inl (0, 20, .inl (upd (fun i => (A i).1) j l))) (Ne.symm d3)).trans h5
  generalize st_up σ la (.inl (0, 20, .inl (upd (fun i => (A i).1) j l))) = σ1 at *
  refine ⟨_, _, _, rfl, t1, rfl, _, _, _, j, rfl, k1, rfl, (by omega), (by omega), ?_⟩
  have f2 := hm σ1 ka (.inl (0, 20, .inl (upd (fun i => (A i).2.1) j k))) (Or.inr (Or.inl rfl)) f1
  have a2 := (up_ne σ1 (.inl (0, 20, .inl (upd (fun i => (A i).2.1) j k))) d1).trans a1
  have k2 := up_at σ1 ka (.inl (0, 20, .inl (upd (fun i => (A i).2.1) j k)))
  have t2 := (up_ne σ1 (.inl (0, 20, .inl (upd (fun i => (A i).2.1) j k))) tk).trans t1
  have v2 := (up_ne σ1 (.inl (0, 20, .inl (upd (fun i => (A i).2.1) j k))) (Ne.symm d4)).trans v1
  have p2 := (up_ne σ1 (.inl (0, 20, .inl (upd (fun i => (A i).2.1) j k))) (Ne.symm d5)).trans p1
  generalize st_up σ1 ka (.inl (0, 20, .inl (upd (fun i => (A i).2.1) j k))) = σ2 at *
  refine ⟨_, _, _, rfl, t2, rfl, _, _, _, j, rfl, v2, rfl, (by omega), (by omega), ?_⟩
  have f3 := hm σ2 va (.inl (0, 20, .inl (upd (fun i => (A i).2.2.1) j v))) (Or.inr (Or.inr (Or.inl rfl))) f2
  have a3 := (up_ne σ2 (.inl (0, 20, .inl (upd (fun i => (A i).2.2.1) j v))) d2).trans a2
  have k3 := (up_ne σ2 (.inl (0, 20, .inl (upd (fun i => (A i).2.2.1) j v))) d4).trans k2
  have v3 := up_at σ2 va (.inl (0, 20, .inl (upd (fun i => (A i).2.2.1) j v)))
  have t3 := (up_ne σ2 (.inl (0, 20, .inl (upd (fun i => (A i).2.2.1) j v))) tv).trans t2
  have p3 := (up_ne σ2 (.inl (0, 20, .inl (upd (fun i => (A i).2.2.1) j v))) (Ne.symm d6)).trans p2
  generalize st_up σ2 va (.inl (0, 20, .inl (upd (fun i => (A i).2.2.1) j v))) = σ3 at *
  refine ⟨_, _, _, rfl, t3, rfl, _, _, _, j, rfl, p3, rfl, (by omega), (by omega), ?_⟩
  refine kk _ ⟨(up_ne _ _ tp).trans t3, (up_ne _ _ d3).trans (a3.trans ?_), (up_ne _ _ d5).trans (k3.trans ?_), (up_ne _ _ d6).trans (v3.trans ?_), (up_at _ _ _).trans ?_, h6⟩ (hm σ3 pa _ (Or.inr (Or.inr (Or.inr rfl))) f3)
  · rw [upd_row (fun A i => (A i).1) A j l (l, k, v, p) (fun B C i e => by simp only [e]) (by simp [va_up])]
  · rw [upd_row (fun A i => (A i).2.1) A j k (l, k, v, p) (fun B C i e => by simp only [e]) (by simp [va_up])]
  · rw [upd_row (fun A i => (A i).2.2.1) A j v (l, k, v, p) (fun B C i e => by simp only [e]) (by simp [va_up])]
  · rw [upd_row (fun A i => (A i).2.2.2) A j p (l, k, v, p) (fun B C i e => by simp only [e]) (by simp [va_up])]
theorem mT.ne {σ : Tst} {t la ka va pa n : Nat} {A : Tar} (h : mT σ t la ka va pa n A) : t ≠ la ∧ t ≠ ka ∧ t ≠ va ∧ t ≠ pa := by
  obtain ⟨h1, h2, h3, h4, h5, h6⟩ := h
  refine ⟨?_, ?_, ?_, ?_⟩
  · intro e; subst e; rw [h1] at h2; cases h2
  · intro e; subst e; rw [h1] at h3; cases h3
  · intro e; subst e; rw [h1] at h4; cases h4
  · intro e; subst e; rw [h1] at h5; cases h5
theorem mT.size {σ : Tst} {t la ka va pa n n' : Nat} {A : Tar} (h : mT σ t la ka va pa n A) (hn : n' ≤ 20) {x : Int32} (hx : x = nI n') : mT (st_up σ t (.inr (cX5, [.inr (some la), .inr (some ka), .inr (some va), .inr (some pa), .inl x]))) t la ka va pa n' A := by
  obtain ⟨e1, e2, e3, e4⟩ := h.ne
  obtain ⟨h1, h2, h3, h4, h5, h6⟩ := h
  rw [hx]
  exact ⟨up_at _ _ _, (up_ne _ _ (Ne.symm e1)).trans h2, (up_ne _ _ (Ne.symm e2)).trans h3, (up_ne _ _ (Ne.symm e3)).trans h4, (up_ne _ _ (Ne.symm e4)).trans h5, hn⟩
theorem mT_adds {σ : Tst} {t la ka va pa n : Nat} {A : Tar} {l k v p : Int32} (h : mT σ t la ka va pa n A) (hd : mD la ka va pa) (hj : n < 20) {Q : Tst → Prop} {X : String → Nat → Tst → Prop}
    (kk : ∀ σ' : Tst, mT σ' t la ka va pa (n + 1) (va_up A n (l, k, v, p)) → fr (mA t la ka va pa) σ σ' 0 0 → Q σ') : w_rc σ (some t) cX5 (w_X5_adds (some t) l k v p Q X σ) := by
  have h1 := h.1
  refine ⟨⟨_, _, rfl, h1⟩, ?_⟩
  unfold w_X5_adds
  refine ⟨_, _, _, rfl, h1, rfl, mT_sets h hd hj (fun σ1 hm hf => ?_)⟩
  have h2 := hm.1
  refine ⟨_, _, _, rfl, h2, rfl, _, _, rfl, h2, (by simp), ?_⟩
  refine kk _ (hm.size (by omega) (by rw [ni_1, ni_add])) ?_
  exact (hf.mono (B := mA t la ka va pa) (fun z e hz _ => Or.inr hz) (Nat.le_refl _) (Nat.le_refl _)).tr (fr.up σ1 t _) (fun b e hb _ => Or.inl hb)
theorem mT.ofr {B : Nat → Prop} {σ σ' : Tst} {c m t la ka va pa n : Nat} {A : Tar} (hf : fr B σ σ' c m) (h : mT σ t la ka va pa n A) (hB : ∀ z, mA t la ka va pa z → ¬ B z) : mT σ' t la ka va pa n A := by
  obtain ⟨h1, h2, h3, h4, h5, h6⟩ := h
  exact ⟨hf.1 _ _ (hB _ (Or.inl rfl)) h1, hf.1 _ _ (hB _ (Or.inr (Or.inl rfl))) h2, hf.1 _ _ (hB _ (Or.inr (Or.inr (Or.inl rfl)))) h3, hf.1 _ _ (hB _ (Or.inr (Or.inr (Or.inr (Or.inl rfl))))) h4, hf.1 _ _ (hB _ (Or.inr (Or.inr (Or.inr (Or.inr rfl))))) h5, h6⟩
theorem mT_copyL {t la ka va pa u lb kb vb pb n : Nat} {B0 : Tar} (hd : mD la ka va pa) (hn : n ≤ 20) (hs : (∀ z, mA u lb kb vb pb z → ¬ mA t la ka va pa z) ∨ (u = t ∧ lb = la ∧ kb = ka ∧ vb = va ∧ pb = pa)) {σ0 : Tst} {Q : Tst → Prop} {X : String → Nat → Tst → Prop} : ∀ (m j : Nat) (σ : Tst) (A B : Tar), j + m = n → mT σ t la ka va pa n A → mT σ u lb kb vb pb n B → (∀ i, i < n → B i = B0 i) → (∀ i, i < j → A i = B0 i) → fr (mA t la ka va pa) σ0 σ 0 0 →
    (∀ (σ' : Tst) (A' : Tar), mT σ' t la ka va pa n A' → (∀ i, i < n → A' i = B0 i) → fr (mA t la ka va pa) σ0 σ' 0 0 → Q σ') → w_X5_copies_b10 Q X (m + 1) (some t) (some u) (nI j) σ := by
  intro m
  induction m with
  | zero =>
    intro j σ A B hj hA hB hBB hAB hf k
    rw [w_X5_copies_b10]
    have h1 := hA.1
    exact ⟨_, _, _, rfl, h1, rfl, fun _ => k σ A hA (fun i hi => hAB i (by omega)) hf, fun c => absurd ((ni_le (by omega) (by omega)).mpr (by omega)) c⟩
  | succ m ih =>
    intro j σ A B hj hA hB hBB hAB hf k
    rw [w_X5_copies_b10]
    have h1 := hA.1
    obtain ⟨b1, b2, b3, b4, b5, b6⟩ := id hB
    refine ⟨_, _, _, rfl, h1, rfl, fun c => absurd ((ni_le (by omega) (by omega)).mp c) (by omega), fun _ => ⟨_, _, _, rfl, b1, rfl, _, _, _, j, rfl, b2, rfl, (by omega), (by omega), _, _, _, rfl, b1, rfl, _, _, _, j, rfl, b3, rfl, (by omega), (by omega), _, _, _, rfl, b1, rfl, _, _, _, j, rfl, b4, rfl, (by omega), (by omega), _, _, _, rfl, b1, rfl, _, _, _, j, rfl, b5, rfl, (by omega), (by omega), mT_sets hA hd (by omega) (fun σ1 hA1 hf1 => ?_)⟩⟩
    rw [ni_1, ni_add]
    have hf1' := hf1.mono (B := mA t la ka va pa) (fun z e hz _ => Or.inr hz) (Nat.le_refl _) (Nat.le_refl _)
    have hrow : va_up A j ((B j).1, (B j).2.1, (B j).2.2.1, (B j).2.2.2) = va_up A j (B j) := rfl
    rw [hrow] at hA1
    have hAB' : ∀ i, i < j + 1 → va_up A j (B j) i = B0 i := fun i hi => by
      by_cases e : i = j
      · rw [e]; simp only [va_up, if_true]; exact hBB j (by omega)
      · simp only [va_up, if_neg e]; exact hAB i (by omega)
    rcases hs with hs | ⟨rfl, rfl, rfl, rfl, rfl⟩
    · exact ih (j + 1) σ1 _ B (by omega) hA1 (hB.ofr hf1' hs) hBB hAB' (hf.tr hf1' (fun b e hb _ => hb)) k
    · have hAB0 : ∀ i, A i = B i := fun i => by
        obtain ⟨a1, a2, a3, a4, a5, a6⟩ := hA
        rw [a2] at b2; rw [a3] at b3; rw [a4] at b4; rw [a5] at b5
        have e2 := congrFun (Sum.inl.inj (Prod.mk.inj (Prod.mk.inj (Sum.inl.inj (Option.some.inj b2))).2).2) i
        have e3 := congrFun (Sum.inl.inj (Prod.mk.inj (Prod.mk.inj (Sum.inl.inj (Option.some.inj b3))).2).2) i
        have e4 := congrFun (Sum.inl.inj (Prod.mk.inj (Prod.mk.inj (Sum.inl.inj (Option.some.inj b4))).2).2) i
        have e5 := congrFun (Sum.inl.inj (Prod.mk.inj (Prod.mk.inj (Sum.inl.inj (Option.some.inj b5))).2).2) i
        exact Prod.ext e2 (Prod.ext e3 (Prod.ext e4 e5))
      refine ih (j + 1) σ1 _ (va_up A j (B j)) (by omega) hA1 hA1 (fun i hi => ?_) hAB' (hf.tr hf1' (fun b e hb _ => hb)) k
      by_cases e : i = j
      · rw [e]; simp only [va_up, if_true]; exact hBB j (by omega)
      · simp only [va_up, if_neg e]; rw [hAB0]; exact hBB i hi
/-- copies(other) -/
theorem mT_copies {σ : Tst} {t la ka va pa n0 u lb kb vb pb n : Nat} {A B : Tar} (hA : mT σ t la ka va pa n0 A) (hB : mT σ u lb kb vb pb n B) (hd : mD la ka va pa) (hs : (∀ z, mA u lb kb vb pb z → ¬ mA t la ka va pa z) ∨ (u = t ∧ lb = la ∧ kb = ka ∧ vb = va ∧ pb = pa)) {Q : Tst → Prop} {X : String → Nat → Tst → Prop}
    (k : ∀ (σ' : Tst) (A' : Tar), mT σ' t la ka va pa n A' → (∀ i, i < n → A' i = B i) → fr (mA t la ka va pa) σ σ' 0 0 → Q σ') : w_rc σ (some t) cX5 (w_X5_copies (some t) (some u) Q X σ) := by
  have h1 := hA.1
  have b1 := hB.1
  have hn := hB.2.2.2.2.2
  refine ⟨⟨_, _, rfl, h1⟩, ?_⟩
  unfold w_X5_copies
  refine ⟨_, _, _, rfl, b1, rfl, _, _, rfl, h1, (by simp), ⟨n + 1, ?_⟩⟩
  have hf := fr.up σ t (.inr (cX5, [.inr (some la), .inr (some ka), .inr (some va), .inr (some pa), .inl (nI n)]))
  have hf' := hf.mono (B := mA t la ka va pa) (fun z e hz _ => Or.inl hz) (Nat.le_refl _) (Nat.le_refl _)
  have hA1 := hA.size hn (x := nI n) rfl
  have hB1 : mT (st_up σ t (.inr (cX5, [.inr (some la), .inr (some ka), .inr (some va), .inr (some pa), .inl (nI n)]))) u lb kb vb pb n B := by
    rcases hs with hs | ⟨rfl, rfl, rfl, rfl, rfl⟩
    · exact hB.ofr hf' hs
    · exact hB.size hn rfl
  exact mT_copyL hd hn hs n 0 _ A B (by omega) hA1 hB1 (fun i _ => rfl) (fun i hi => absurd hi (Nat.not_lt_zero _)) hf' k
-- moves
/-- a row moved on by d, its parent too where that moves -/
def adj (fr d : Int32) (r : Int32 × Int32 × Int32 × Int32) : Int32 × Int32 × Int32 × Int32 := (r.1, r.2.1, r.2.2.1, if r.2.2.2 < fr then r.2.2.2 else r.2.2.2 + d)
theorem mT_upL {t la ka va pa n a : Nat} {A0 : Tar} (hd : mD la ka va pa) (hn : n < 20) (ha : a ≤ n) {σ0 : Tst} {Q : Tst → Prop} {X : String → Nat → Tst → Prop} : ∀ (m : Nat) (σ : Tst) (A : Tar), a + m ≤ n → mT σ t la ka va pa n A → (∀ i, i < a + m → A i = A0 i) → (∀ i, a + m ≤ i → i < n → A (i + 1) = adj (nI a) 1 (A0 i)) → fr (mA t la ka va pa) σ0 σ 0 0 →
    (∀ (σ' : Tst) (A' : Tar), mT σ' t la ka va pa (n + 1) A' → (∀ i, i < a → A' i = A0 i) → (∀ i, a ≤ i → i < n → A' (i + 1) = adj (nI a) 1 (A0 i)) → fr (mA t la ka va pa) σ0 σ' 0 0 → Q σ') → w_X5_moves_b11 Q X (m + 1) (some t) (nI a) 1 (nI (a + m) + (-1)) σ := by
  intro m
  induction m with
  | zero =>
    intro σ A hm hA h1 h2 hf k
    rw [w_X5_moves_b11]
    have hlt : nI (a + 0) + (-1) < nI a := by
      rw [Nat.add_zero, Int32.lt_iff_toInt_lt]
      cases a with
      | zero => decide
      | succ a =>
        have e : nI (a + 1) + (-1) = nI a := by
          have : nI (a + 1) - nI 1 = nI a := by rw [ni_sub (by omega)]; congr 1
          rw [← this, Int32.sub_eq_add_neg]; rfl
        rw [e, nI_toInt (by omega), nI_toInt (by omega)]
        omega
    refine ⟨fun _ => ?_, fun c => absurd hlt c⟩
    unfold w_X5_moves_b147
    have hA1 := hA.1
    refine ⟨_, _, _, rfl, hA1, rfl, _, _, rfl, hA1, (by simp), ?_⟩
    exact k _ A (hA.size (by omega) (by rw [ni_1, ni_add])) (fun i hi => h1 i (by omega)) (fun i hi hi2 => h2 i (by omega) hi2) (hf.tr (fr.up σ t _) (fun b e hb _ => Or.inl hb))
  | succ m ih =>
    intro σ A hm hA h1 h2 hf k
    have e : nI (a + (m + 1)) + (-1) = nI (a + m) := by
      have : nI (a + (m + 1)) - nI 1 = nI (a + m) := by rw [ni_sub (by omega)]; congr 1
      rw [← this, Int32.sub_eq_add_neg]; rfl
    rw [e, w_X5_moves_b11]
    obtain ⟨a1, a2, a3, a4, a5, a6⟩ := id hA
    have fin : ∀ p : Int32, p = (adj (nI a) 1 (A0 (a + m))).2.2.2 → w_X5_moves_b65 (w_X5_moves_b11 Q X (m + 1)) Q X (some t) (nI a) 1 (nI (a + m)) (some t) (nI (a + m) + 1) (A (a + m)).1 (A (a + m)).2.1 (A (a + m)).2.2.1 p σ := by
      intro p hp
      unfold w_X5_moves_b65
      rw [ni_1, ni_add]
      refine mT_sets hA hd (by omega) (fun σ1 hA1 hf1 => ?_)
      have hf1' := hf1.mono (B := mA t la ka va pa) (fun z e hz _ => Or.inr hz) (Nat.le_refl _) (Nat.le_refl _)
      refine ih σ1 _ (by omega) hA1 (fun i hi => ?_) (fun i hi hi2 => ?_) (hf.tr hf1' (fun b e hb _ => hb)) k
      · have e2 : ¬ i = a + m + 1 := by omega
        simp only [va_up, if_neg e2]
        exact h1 i (by omega)
      · by_cases e2 : i = a + m
        · rw [e2]
          simp only [va_up, if_true]
          rw [h1 (a + m) (by omega), hp]
          rfl
        · have e3 : ¬ i + 1 = a + m + 1 := by omega
          simp only [va_up, if_neg e3]
          exact h2 i (by omega) hi2
    refine ⟨fun c => absurd ((lo_lt (by omega) (by omega)).mp c) (by omega), fun _ => ⟨_, _, _, rfl, a1, rfl, _, _, _, a + m, rfl, a2, rfl, (by omega), (by omega), _, _, _, rfl, a1, rfl, _, _, _, a + m, rfl, a3, rfl, (by omega), (by omega), _, _, _, rfl, a1, rfl, _, _, _, a + m, rfl, a4, rfl, (by omega), (by omega), _, _, _, rfl, a1, rfl, _, _, _, a + m, rfl, a5, rfl, (by omega), (by omega), fun c => ⟨_, _, _, rfl, a1, rfl, _, _, _, a + m, rfl, a5, rfl, (by omega), (by omega), fin _ ?_⟩, fun c => ⟨_, _, _, rfl, a1, rfl, _, _, _, a + m, rfl, a5, rfl, (by omega), (by omega), fin _ ?_⟩⟩⟩
    · rw [h1 (a + m) (by omega)] at c ⊢
      simp only [adj, if_pos c]
    · rw [h1 (a + m) (by omega)] at c ⊢
      simp only [adj, if_neg c]
/-- moves(from, 1) -/
theorem mT_up {σ : Tst} {t la ka va pa n a : Nat} {A : Tar} (hA : mT σ t la ka va pa n A) (hd : mD la ka va pa) (hn : n < 20) (ha : a ≤ n) {Q : Tst → Prop} {X : String → Nat → Tst → Prop}
    (k : ∀ (σ' : Tst) (A' : Tar), mT σ' t la ka va pa (n + 1) A' → (∀ i, i < a → A' i = A i) → (∀ i, a ≤ i → i < n → A' (i + 1) = adj (nI a) 1 (A i)) → fr (mA t la ka va pa) σ σ' 0 0 → Q σ') : w_rc σ (some t) cX5 (w_X5_moves (some t) (nI a) 1 Q X σ) := by
  have h1 := hA.1
  refine ⟨⟨_, _, rfl, h1⟩, ?_⟩
  unfold w_X5_moves
  refine ⟨fun c => absurd c (by decide), fun _ => ⟨_, _, _, rfl, h1, rfl, n - a + 1, ?_⟩⟩
  have e : nI n - 1 = nI (a + (n - a)) + (-1) := by
    rw [show a + (n - a) = n by omega, Int32.sub_eq_add_neg]
  rw [e]
  exact mT_upL hd hn ha (n - a) σ A (by omega) hA (fun _ _ => rfl) (fun i h1 h2 => by omega) (fr.rf _ σ) k
theorem mT_dnL {t la ka va pa n a d : Nat} {A0 : Tar} (hd : mD la ka va pa) (hn : n ≤ 20) (hd0 : 0 < d) (ha : a + d ≤ n) {σ0 : Tst} {Q : Tst → Prop} {X : String → Nat → Tst → Prop} : ∀ (m j : Nat) (σ : Tst) (A : Tar), j + m = n → a + d ≤ j → mT σ t la ka va pa n A → (∀ i, i < a → A i = A0 i) → (∀ i, a ≤ i → i + d < j → A i = adj (nI a) (-nI d) (A0 (i + d))) → (∀ i, j ≤ i + d → i < n → A i = A0 i) → fr (mA t la ka va pa) σ0 σ 0 0 →
    (∀ (σ' : Tst) (A' : Tar), mT σ' t la ka va pa (n - d) A' → (∀ i, i < a → A' i = A0 i) → (∀ i, a ≤ i → i + d < n → A' i = adj (nI a) (-nI d) (A0 (i + d))) → fr (mA t la ka va pa) σ0 σ' 0 0 → Q σ') → w_X5_moves_b81 Q X (m + 1) (some t) (nI a) (-nI d) (nI j) σ := by
  intro m
  induction m with
  | zero =>
    intro j σ A hj hj2 hA h1 h2 h3 hf k
    rw [w_X5_moves_b81]
    have hA1 := hA.1
    refine ⟨_, _, _, rfl, hA1, rfl, fun _ => ?_, fun c => absurd ((ni_le (by omega) (by omega)).mpr (by omega)) c⟩
    unfold w_X5_moves_b147
    refine ⟨_, _, _, rfl, hA1, rfl, _, _, rfl, hA1, (by simp), ?_⟩
    exact k _ A (hA.size (by omega) (by rw [← Int32.sub_eq_add_neg, ni_sub (by omega)])) h1 (fun i hi hi2 => h2 i hi (by omega)) (hf.tr (fr.up σ t _) (fun b e hb _ => Or.inl hb))
  | succ m ih =>
    intro j σ A hj hj2 hA h1 h2 h3 hf k
    rw [w_X5_moves_b81]
    obtain ⟨a1, a2, a3, a4, a5, a6⟩ := id hA
    have hAj : A j = A0 j := h3 j (by omega) (by omega)
    have fin : ∀ p : Int32, p = (adj (nI a) (-nI d) (A0 j)).2.2.2 → w_X5_moves_b138 (w_X5_moves_b81 Q X (m + 1)) Q X (some t) (nI a) (-nI d) (nI j) (some t) (nI j + (-nI d)) (A j).1 (A j).2.1 (A j).2.2.1 p σ := by
      intro p hp
      unfold w_X5_moves_b138
      rw [← Int32.sub_eq_add_neg, ni_sub (by omega), ni_1, ni_add]
      refine mT_sets hA hd (by omega) (fun σ1 hA1 hf1 => ?_)
      have hf1' := hf1.mono (B := mA t la ka va pa) (fun z e hz _ => Or.inr hz) (Nat.le_refl _) (Nat.le_refl _)
      refine ih (j + 1) σ1 _ (by omega) (by omega) hA1 (fun i hi => ?_) (fun i hi hi2 => ?_) (fun i hi hi2 => ?_) (hf.tr hf1' (fun b e hb _ => hb)) k
      · have e2 : ¬ i = j - d := by omega
        simp only [va_up, if_neg e2]
        exact h1 i hi
      · by_cases e2 : i = j - d
        · rw [e2]
          simp only [va_up, if_true]
          rw [hAj, hp, show j - d + d = j by omega]
          rfl
        · simp only [va_up, if_neg e2]
          exact h2 i hi (by omega)
      · have e2 : ¬ i = j - d := by omega
        simp only [va_up, if_neg e2]
        exact h3 i (by omega) hi2
    refine ⟨_, _, _, rfl, a1, rfl, fun c => absurd ((ni_le (by omega) (by omega)).mp c) (by omega), fun _ => ⟨_, _, _, rfl, a1, rfl, _, _, _, j, rfl, a2, rfl, (by omega), (by omega), _, _, _, rfl, a1, rfl, _, _, _, j, rfl, a3, rfl, (by omega), (by omega), _, _, _, rfl, a1, rfl, _, _, _, j, rfl, a4, rfl, (by omega), (by omega), _, _, _, rfl, a1, rfl, _, _, _, j, rfl, a5, rfl, (by omega), (by omega), fun c => ⟨_, _, _, rfl, a1, rfl, _, _, _, j, rfl, a5, rfl, (by omega), (by omega), fin _ ?_⟩, fun c => ⟨_, _, _, rfl, a1, rfl, _, _, _, j, rfl, a5, rfl, (by omega), (by omega), fin _ ?_⟩⟩⟩
    · rw [hAj] at c ⊢
      simp only [adj, if_pos c]
    · rw [hAj] at c ⊢
      simp only [adj, if_neg c]
theorem ni_neg : ∀ d : Nat, d < 21 → -nI d ≤ 0 := by decide
/-- moves(from, from - end) -/
theorem mT_dn {σ : Tst} {t la ka va pa n a d : Nat} {A : Tar} (hA : mT σ t la ka va pa n A) (hd : mD la ka va pa) (hd0 : 0 < d) (ha : a + d ≤ n) {Q : Tst → Prop} {X : String → Nat → Tst → Prop}
    (k : ∀ (σ' : Tst) (A' : Tar), mT σ' t la ka va pa (n - d) A' → (∀ i, i < a → A' i = A i) → (∀ i, a ≤ i → i + d < n → A' i = adj (nI a) (-nI d) (A (i + d))) → fr (mA t la ka va pa) σ σ' 0 0 → Q σ') : w_rc σ (some t) cX5 (w_X5_moves (some t) (nI a) (nI a - nI (a + d)) Q X σ) := by
  have h1 := hA.1
  have hn := hA.2.2.2.2.2
  refine ⟨⟨_, _, rfl, h1⟩, ?_⟩
  have e : nI a - nI (a + d) = -nI d := by
    rw [← ni_add, Int32.sub_eq_add_neg, Int32.neg_add, Int32.sub_eq_add_neg, ← Int32.add_assoc, Int32.add_right_neg, Int32.zero_add]
  rw [e]
  unfold w_X5_moves
  have hle : -nI d ≤ 0 := ni_neg d (by omega)
  refine ⟨fun _ => ⟨n - (a + d) + 1, ?_⟩, fun c => absurd hle c⟩
  have e2 : nI a - -nI d = nI (a + d) := by rw [Int32.sub_eq_add_neg, Int32.neg_neg, ni_add]
  rw [e2]
  exact mT_dnL hd hn hd0 ha _ _ σ A (by omega) (Nat.le_refl _) hA (fun _ _ => rfl) (fun i h1 h2 => by omega) (fun _ _ _ => rfl) (fr.rf _ σ) k
