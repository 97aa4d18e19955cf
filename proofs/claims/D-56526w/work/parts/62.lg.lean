-- StringBuilder
theorem ni_neg1 : ∀ d : Nat, d < 1000 → -nI d ≤ 0 := by decide +kernel
theorem ni_sle {m c : Nat} (hm : m < 1000) (hc : c < 1000) : nI m - nI c ≤ 0 ↔ m ≤ c := by
  constructor
  · intro h
    by_cases e : m ≤ c
    · exact e
    · rw [ni_sub (by omega)] at h
      have := (ni_le (b := 0) (by omega) (by decide)).mp h
      omega
  · intro h
    have e : nI m - nI c = -nI (c - m) := by
      have : nI c = nI (c - m) + nI m := by rw [ni_add]; congr 1; omega
      rw [this, Int32.sub_eq_add_neg, Int32.neg_add, Int32.sub_eq_add_neg, Int32.add_comm (-nI (c - m)), ← Int32.add_assoc, Int32.add_right_neg, Int32.zero_add]
    rw [e]
    exact ni_neg1 _ (by omega)
/-- a builder at a over the bytes b, of coder cd and capacity cap, holding xs -/
def lo_B (σ : Tst) (a b cd cap : Nat) (xs : List Nat) : Prop := ∃ (mb : Int32) (f : Nat → Int32), σ.1 a = some (.inr (cJ1, [.inr (some b), .inl (nI cd), .inl mb, .inl (nI xs.length)])) ∧ σ.1 b = some (.inl (2, cap, .inl f)) ∧ 0 < cap ∧ cap ≤ 900 ∧ xs.length ≤ 200 ∧ (∀ x ∈ xs, x < 65536) ∧ (∀ j, j < cap → fits .byte (.int (f j)) = true) ∧ ((cd = 0 ∧ xs.length ≤ cap ∧ (∀ x ∈ xs, x < 256) ∧ ∀ i, i < xs.length → f i = (nI (xs.getD i 0)).toInt8.toInt32) ∨ (cd = 1 ∧ 2 * xs.length ≤ cap ∧ ∀ i, i < xs.length → f (2 * i) = (nI (xs.getD i 0) >>> (0 &&& 31)).toInt8.toInt32.toInt8.toInt32 ∧ f (2 * i + 1) = (nI (xs.getD i 0) >>> (8 &&& 31)).toInt8.toInt32.toInt8.toInt32))
theorem lo_B.rc {σ : Tst} {a b cd cap : Nat} {xs : List Nat} (h : lo_B σ a b cd cap xs) : ∃ (x : Nat) (fs : List Tfv), some a = some x ∧ σ.1 x = some (.inr (cJ1, fs)) := by
  obtain ⟨mb, f, h1, -⟩ := h
  exact ⟨a, _, rfl, h1⟩
theorem lo_B.ne {σ : Tst} {a b cd cap : Nat} {xs : List Nat} (h : lo_B σ a b cd cap xs) : b ≠ a := by
  obtain ⟨mb, f, h1, h2, -⟩ := h
  intro e; subst e; rw [h1] at h2; cases h2
theorem lo_B.ofr {A : Nat → Prop} {σ σ' : Tst} {c m : Nat} (hf : fr A σ σ' c m) {a b cd cap : Nat} {xs : List Nat} (h : lo_B σ a b cd cap xs) (h1 : ¬ A a) (h2 : ¬ A b) : lo_B σ' a b cd cap xs := by
  obtain ⟨mb, f, g1, g2, g⟩ := h
  exact ⟨mb, f, hf.1 _ _ h1 g1, hf.1 _ _ h2 g2, g⟩
theorem sb_len {σ : Tst} {a b cd cap : Nat} {xs : List Nat} (h : lo_B σ a b cd cap xs) {Q : Int32 → Tst → Prop} {X : String → Nat → Tst → Prop} (k : Q (nI xs.length) σ) : w_rc σ (some a) cJ1 (w_J1_length (some a) Q X σ) := by
  obtain ⟨mb, f, h1, -⟩ := h
  unfold w_J1_length w_J0_length
  exact ⟨⟨_, _, rfl, h1⟩, ⟨_, _, rfl, h1⟩, _, _, _, rfl, h1, rfl, k⟩
theorem sb_idx {σ : Tst} {i n : Nat} (hi : i < n) (hn : n < 2147483648) {Q : Tst → Prop} {X : String → Nat → Tst → Prop} (k : Q σ) : w_J2_checkIndex (nI i) (nI n) Q X σ := by
  unfold w_J2_checkIndex w_J15_checkIndex w_k
  exact ⟨fun c => absurd c (nI_pos (by omega)), fun _ => ⟨fun _ => k, fun c => absurd ((lo_lt (by omega) (by omega)).mpr hi) c⟩⟩
theorem sb_charAt {σ : Tst} {a b cd cap i : Nat} {xs : List Nat} (h : lo_B σ a b cd cap xs) (hi : i < xs.length) {Q : Int32 → Tst → Prop} {X : String → Nat → Tst → Prop} (k : Q (nI (xs.getD i 0)) σ) : w_rc σ (some a) cJ1 (w_J1_charAt (some a) (nI i) Q X σ) := by
  obtain ⟨mb, f, h1, h2, h3, h4, h5, h6, h7, h8⟩ := h
  have hx : xs.getD i 0 < 65536 := by
    rw [List.getD_eq_getElem?_getD, List.getElem?_eq_getElem hi]
    exact h6 _ (List.getElem_mem hi)
  unfold w_J1_charAt w_J0_charAt
  rcases h8 with ⟨rfl, g1, g2, g3⟩ | ⟨rfl, g1, g3⟩
  · have hx2 : xs.getD i 0 < 256 := by
      rw [List.getD_eq_getElem?_getD, List.getElem?_eq_getElem hi]
      exact g2 _ (List.getElem_mem hi)
    refine ⟨⟨_, _, rfl, h1⟩, ⟨_, _, rfl, h1⟩, _, _, _, rfl, h1, rfl, _, _, _, rfl, h1, rfl, _, _, _, rfl, h1, rfl, _, _, _, _, rfl, h2, (by decide), ?_⟩
    have e1 : nI cap >>> (nI 0 &&& 31) = nI cap := (sh_n cap (by omega)).2.2.1
    have e2 : (if nI cap < nI xs.length then nI cap else nI xs.length) = nI xs.length := if_neg (fun c => by have := (lo_lt (by omega) (by omega)).mp c; omega)
    dsimp only
    rw [e1, e2]
    refine sb_idx hi (by omega) ⟨fun _ => ⟨_, 2, _, _, i, rfl, h2, Or.inl rfl, rfl, by omega, by omega, ?_⟩, fun c => absurd rfl c⟩
    rw [g3 i hi]
    dsimp only
    rw [by_l hx2]
    exact ⟨ch_nar hx, ch_nar hx, k⟩
  · refine ⟨⟨_, _, rfl, h1⟩, ⟨_, _, rfl, h1⟩, _, _, _, rfl, h1, rfl, _, _, _, rfl, h1, rfl, _, _, _, rfl, h1, rfl, _, _, _, _, rfl, h2, (by decide), ?_⟩
    have e1 : nI cap >>> (nI 1 &&& 31) = nI (cap / 2) := (sh_n cap (by omega)).2.2.2
    have e2 : (if nI (cap / 2) < nI xs.length then nI (cap / 2) else nI xs.length) = nI xs.length := if_neg (fun c => by have := (lo_lt (by omega) (by omega)).mp c; omega)
    dsimp only
    rw [e1, e2]
    refine sb_idx hi (by omega) ⟨fun c => absurd c (by decide), fun _ => ?_⟩
    unfold w_J3_getChar w_J3_getChar_b28
    refine ⟨fun c => absurd c (by decide), fun _ => ?_⟩
    have e3 : nI i <<< (1 &&& 31) = nI (2 * i) := (sh_n i (by omega)).2.1
    rw [e3, ni_1, ni_add]
    refine ⟨_, 2, _, _, 2 * i, rfl, h2, Or.inl rfl, rfl, by omega, by omega, _, 2, _, _, 2 * i + 1, rfl, h2, Or.inl rfl, rfl, by omega, by omega, ?_⟩
    rw [(g3 i hi).1, (g3 i hi).2]
    dsimp only
    rw [by_u hx]
    exact ⟨ch_nar hx, ch_nar hx, ch_nar hx, k⟩
theorem nl_len {o g p : Nat} (ho : o < 2000) (hg : g < 2000) (hp : p < 2000) (h0 : 0 < g) {σ : Tst} {Q : Int32 → Tst → Prop} {X : String → Nat → Tst → Prop} (k : Q (nI (o + max g p)) σ) : w_J11_newLength (nI o) (nI g) (nI p) Q X σ := by
  unfold w_J11_newLength
  have e2 : (if nI g < nI p then nI p else nI g) = nI (max g p) := by
    by_cases h : g < p
    · rw [if_pos ((lo_lt (by omega) (by omega)).mpr h), Nat.max_eq_right (by omega)]
    · rw [if_neg (fun c => h ((lo_lt (by omega) (by omega)).mp c)), Nat.max_eq_left (by omega)]
  rw [e2, ni_add]
  refine ⟨fun c => absurd ((ni_le (b := 0) (by omega) (by decide)).mp c) (by omega), fun _ => ⟨fun c => absurd ((lo_lt (i := 2147483639) (by decide) (by omega)).mp c) (by omega), fun _ => k⟩⟩
theorem cp_byte {σ : Tst} {b n n' : Nat} {f : Nat → Int32} (hb : σ.1 b = some (.inl (2, n, .inl f))) (h0 : 0 < n) (hn : n < n') (hn2 : n' < 3000) (hfit : ∀ j, j < n → fits .byte (.int (f j)) = true) (hc : 1 ≤ σ.2.1) (hs : n' ≤ σ.2.2.1) {Q : Option Nat → Tst → Prop} {X : String → Nat → Tst → Prop}
    (k : ∀ (q : Nat) (σ' : Tst) (g : Nat → Int32), σ.1 q = none → σ'.1 q = some (.inl (2, n', .inl g)) → (∀ j, j < n → g j = f j) → (∀ j, j < n' → fits .byte (.int (g j)) = true) → fx σ σ' 1 n' → Q (some q) σ') : w_J13_copyOf_3 (some b) (nI n') Q X σ := by
  unfold w_J13_copyOf_3
  refine ⟨_, _, _, _, rfl, hb, (by decide), fun c => absurd ((ni_inj (by omega) (by omega)).mp c) (by omega), fun _ => ⟨n', rfl, by omega, hc, hs, fun q hq hqb => ?_⟩⟩
  have f1 := (fx.rf σ).al hq (.inl (2, n', .inl fun _ => 0)) hc hs
  have q1 := al_at σ q (.inl (2, n', .inl fun _ => 0)) n'
  have b1 := f1.k hb
  refine ⟨_, _, _, _, rfl, b1, (by decide), ?_⟩
  have em : (if nI n' < nI n then nI n' else nI n) = nI n := if_neg (fun c => by have := (lo_lt (by omega) (by omega)).mp c; omega)
  dsimp only
  rw [em]
  refine ⟨_, _, f, _, _, fun _ => 0, 0, 0, n, rfl, b1, rfl, q1, rfl, rfl, rfl, by omega, by omega, by omega, by omega, Or.inl h0, Or.inl (by omega), fun j hj => by rw [Nat.zero_add]; exact hfit j hj, ?_⟩
  refine k q _ (va_cpy f (fun _ => 0) 0 0 n) hq (up_at _ _ _) (fun j hj => by simp [va_cpy, hj]) (fun j hj => ?_) ((f1.up hq _).mo (by omega) (by omega))
  by_cases e : j < n
  · simp only [va_cpy, Nat.zero_le, true_and, Nat.zero_add, Nat.sub_zero, if_pos e]
    exact hfit j e
  · simp only [va_cpy, Nat.zero_le, true_and, Nat.zero_add, Nat.sub_zero, if_neg e]
    decide
/-- room for m chars -/
theorem sb_ec {σ : Tst} {a b cd cap m : Nat} {xs : List Nat} (h : lo_B σ a b cd cap xs) (hm : m ≤ 202) (hc : 1 ≤ σ.2.1) (hs : 900 ≤ σ.2.2.1) {Q : Tst → Prop} {X : String → Nat → Tst → Prop}
    (k : ∀ (σ' : Tst) (b' cap' : Nat), lo_B σ' a b' cd cap' xs → m * (cd + 1) ≤ cap' → cap' ≤ max cap (2 * (m * (cd + 1)) + 4) → (b' = b ∨ σ.1 b' = none) → fr (fun z => z = a) σ σ' 1 900 → cap ≤ cap' → fr (fun z => z = a) σ σ' (cap' - cap) (2 * (cap' - cap)) → Q σ') : w_rc σ (some a) cJ1 (w_J0_ensureCapacityInternal (some a) (nI m) Q X σ) := by
  obtain ⟨mb, f, h1, h2, h3, h4, h5, h6, h7, h8⟩ := id h
  have hne := h.ne
  refine ⟨⟨_, _, rfl, h1⟩, ?_⟩
  unfold w_J0_ensureCapacityInternal w_J0_ensureCapacityInternal_b38
  have hcd : cd < 2 := by rcases h8 with ⟨rfl, -⟩ | ⟨rfl, -⟩ <;> omega
  have e1 : nI cap >>> (nI cd &&& 31) = nI (cap / (cd + 1)) := by
    rcases h8 with ⟨rfl, -⟩ | ⟨rfl, -⟩
    · rw [Nat.zero_add, Nat.div_one]; exact (sh_n cap (by omega)).2.2.1
    · exact (sh_n cap (by omega)).2.2.2
  refine ⟨_, _, _, rfl, h1, rfl, _, _, _, _, rfl, h2, (by decide), _, _, _, rfl, h1, rfl, ?_⟩
  dsimp only
  rw [e1]
  have hdiv : cap / (cd + 1) ≤ cap := Nat.div_le_self _ _
  refine ⟨fun c => ?_, fun c => ?_⟩
  · have c := (ni_sle (by omega) (by omega)).mp c
    exact k σ b cap h ((Nat.le_div_iff_mul_le (by omega)).mp c) (Nat.le_max_left _ _) (Or.inl rfl) ((fr.rf _ σ).mono (fun _ _ h _ => h) (by omega) (by omega)) (Nat.le_refl _) ((fr.rf _ σ).mono (fun _ _ h _ => h) (by omega) (by omega))
  · have c : ¬ m ≤ cap / (cd + 1) := fun e => c ((ni_sle (by omega) (by omega)).mpr e)
    rw [Nat.le_div_iff_mul_le (by omega)] at c
    unfold w_J0_newCapacity
    have e2 : nI m <<< (nI cd &&& 31) = nI (m * (cd + 1)) := by
      rcases h8 with ⟨rfl, -⟩ | ⟨rfl, -⟩
      · rw [Nat.zero_add, Nat.mul_one]; exact (sh_n m (by omega)).1
      · rw [show m * (1 + 1) = 2 * m by omega]; exact (sh_n m (by omega)).2.1
    have e3 : (2 : Int32) <<< (nI cd &&& 31) = nI (2 * (cd + 1)) := by
      rcases h8 with ⟨rfl, -⟩ | ⟨rfl, -⟩ <;> decide
    have hmm : m * (cd + 1) ≤ 404 := by
      rcases h8 with ⟨rfl, -⟩ | ⟨rfl, -⟩ <;> omega
    have hcap2 : cap + max (m * (cd + 1) - cap) (cap + 2 * (cd + 1)) < 900 ∧ cap + max (m * (cd + 1) - cap) (cap + 2 * (cd + 1)) ≤ 2 * (m * (cd + 1)) + 4 ∧ m * (cd + 1) ≤ cap + max (m * (cd + 1) - cap) (cap + 2 * (cd + 1)) ∧ 2 * cap + 2 ≤ cap + max (m * (cd + 1) - cap) (cap + 2 * (cd + 1)) := by
      have : max (m * (cd + 1) - cap) (cap + 2 * (cd + 1)) ≤ 404 + 4 := by omega
      have : cap + 2 * (cd + 1) ≤ max (m * (cd + 1) - cap) (cap + 2 * (cd + 1)) := Nat.le_max_right _ _
      have : m * (cd + 1) - cap ≤ max (m * (cd + 1) - cap) (cap + 2 * (cd + 1)) := Nat.le_max_left _ _
      omega
    refine ⟨_, _, _, rfl, h1, rfl, ⟨_, _, rfl, h1⟩, _, _, _, rfl, h1, rfl, _, _, _, _, rfl, h2, (by decide), _, _, _, rfl, h1, rfl, _, _, _, rfl, h1, rfl, ?_⟩
    dsimp only
    rw [e2, e3, ni_add, ni_sub (by omega)]
    refine nl_len (by omega) (by omega) (by omega) (by omega) ⟨fun c => absurd ((ni_inj (b := 2147483647) (by omega) (by decide)).mp c) (by omega), fun _ => ⟨_, _, _, rfl, h1, rfl, _, _, _, rfl, h1, rfl, ?_⟩⟩
    generalize hz : cap + max (m * (cd + 1) - cap) (cap + 2 * (cd + 1)) = z at hcap2 ⊢
    -- the new size, rounded to whole chars
    have e4 : ∃ z', (nI z >>> (nI cd &&& 31)) <<< (nI cd &&& 31) = nI z' ∧ z' ≤ z ∧ m * (cd + 1) ≤ z' ∧ 2 * cap + 2 ≤ z' := by
      rcases h8 with ⟨rfl, g⟩ | ⟨rfl, g⟩
      · refine ⟨z, ?_, Nat.le_refl _, hcap2.2.2.1, hcap2.2.2.2⟩
        have q1 : nI z >>> (nI 0 &&& 31) = nI z := (sh_n z (by omega)).2.2.1
        rw [q1]
        exact (sh_n z (by omega)).1
      · refine ⟨2 * (z / 2), ?_, by omega, by omega, ?_⟩
        · have q1 : nI z >>> (nI 1 &&& 31) = nI (z / 2) := (sh_n z (by omega)).2.2.2
          rw [q1]
          exact (sh_n (z / 2) (by omega)).2.1
        · have : cap + 4 ≤ z - cap := by
            have := Nat.le_max_right (m * (1 + 1) - cap) (cap + 2 * (1 + 1))
            omega
          omega
    obtain ⟨z', e4, hz1, hz2, hz3⟩ := e4
    rw [e4]
    refine cp_byte h2 h3 (by omega) (by omega) h7 hc (by omega) (fun q σ1 g hq hq1 hg hgf hf1 => ?_)
    have a1 := hf1.k h1
    have hqa : q ≠ a := fun e => by rw [e] at hq; rw [hq] at h1; cases h1
    refine ⟨_, _, rfl, a1, (by simp), ?_⟩
    refine k _ q z' ⟨mb, g, up_at _ _ _, (up_ne _ _ hqa).trans hq1, by omega, by omega, h5, h6, hgf, ?_⟩ hz2 (Nat.le_trans hz1 (Nat.le_trans hcap2.2.1 (Nat.le_max_right _ _))) (Or.inr hq) (((hf1.mono (B := fun z => z = a) (fun _ _ h _ => h.elim) (Nat.le_refl _) (Nat.le_refl _)).tr (fr.up σ1 a _) (fun _ _ h _ => h)).mono (fun _ _ h _ => h) (by omega) (by omega)) (by omega) (((hf1.mono (B := fun z => z = a) (fun _ _ h _ => h.elim) (Nat.le_refl _) (Nat.le_refl _)).tr (fr.up σ1 a _) (fun _ _ h _ => h)).mono (fun _ _ h _ => h) (by omega) (by omega))
    rcases h8 with ⟨rfl, g1, g2, g3⟩ | ⟨rfl, g1, g3⟩
    · exact Or.inl ⟨rfl, by omega, g2, fun i hi => by rw [hg i (by omega)]; exact g3 i hi⟩
    · exact Or.inr ⟨rfl, by omega, fun i hi => by rw [hg _ (by omega), hg _ (by omega)]; exact g3 i hi⟩
/-- setLength(0) -/
theorem sb_clear {σ : Tst} {a b cd cap : Nat} {xs : List Nat} (h : lo_B σ a b cd cap xs) (hc : 1 ≤ σ.2.1) (hs : 900 ≤ σ.2.2.1) {Q : Tst → Prop} {X : String → Nat → Tst → Prop}
    (k : ∀ (σ' : Tst), lo_B σ' a b cd cap [] → fr (fun z => z = a) σ σ' 0 0 → Q σ') : w_rc σ (some a) cJ1 (w_J1_setLength (some a) 0 Q X σ) := by
  obtain ⟨mb, f, h1, h2, h3, h4, h5, h6, h7, h8⟩ := id h
  have hne := h.ne
  unfold w_J1_setLength w_J0_setLength
  refine ⟨⟨_, _, rfl, h1⟩, ⟨_, _, rfl, h1⟩, fun _ => ?_, fun c => absurd (by decide) c⟩
  refine ⟨⟨_, _, rfl, h1⟩, ?_⟩
  unfold w_J0_ensureCapacityInternal w_J0_ensureCapacityInternal_b38
  have e1 : ∃ z, z < 1000 ∧ nI cap >>> (nI cd &&& 31) = nI z := by
    rcases h8 with ⟨rfl, -⟩ | ⟨rfl, -⟩
    · exact ⟨cap, by omega, (sh_n cap (by omega)).2.2.1⟩
    · exact ⟨cap / 2, by omega, (sh_n cap (by omega)).2.2.2⟩
  obtain ⟨z, hz, e1⟩ := e1
  have hnil : (0 < cap ∧ cap ≤ 900 ∧ ([] : List Nat).length ≤ 200 ∧ (∀ x ∈ ([] : List Nat), x < 65536) ∧ (∀ j, j < cap → fits .byte (.int (f j)) = true) ∧ ((cd = 0 ∧ ([] : List Nat).length ≤ cap ∧ (∀ x ∈ ([] : List Nat), x < 256) ∧ ∀ i, i < ([] : List Nat).length → f i = (nI (([] : List Nat).getD i 0)).toInt8.toInt32) ∨ (cd = 1 ∧ 2 * ([] : List Nat).length ≤ cap ∧ ∀ i, i < ([] : List Nat).length → f (2 * i) = (nI (([] : List Nat).getD i 0) >>> (0 &&& 31)).toInt8.toInt32.toInt8.toInt32 ∧ f (2 * i + 1) = (nI (([] : List Nat).getD i 0) >>> (8 &&& 31)).toInt8.toInt32.toInt8.toInt32))) := by
    refine ⟨h3, h4, Nat.zero_le _, by simp, h7, ?_⟩
    rcases h8 with ⟨rfl, -⟩ | ⟨rfl, -⟩
    · exact Or.inl ⟨rfl, Nat.zero_le _, by simp, fun i hi => absurd hi (Nat.not_lt_zero _)⟩
    · exact Or.inr ⟨rfl, by simp, fun i hi => absurd hi (Nat.not_lt_zero _)⟩
  have h0le : (0 : Int32) ≤ nI xs.length := (ni_le (a := 0) (by decide) (by omega)).mpr (Nat.zero_le _)
  refine ⟨_, _, _, rfl, h1, rfl, _, _, _, _, rfl, h2, (by decide), _, _, _, rfl, h1, rfl, ?_⟩
  dsimp only
  rw [e1]
  refine ⟨fun _ => ?_, fun c => absurd ((ni_sle (m := 0) (by decide) hz).mpr (Nat.zero_le _)) c⟩
  refine ⟨_, _, _, rfl, h1, rfl, fun _ => ⟨_, _, _, rfl, h1, rfl, fun c => ?_, fun c => ?_⟩, fun c => absurd h0le c⟩
  · unfold w_J0_setLength_b76
    refine ⟨_, _, rfl, h1, (by simp), ?_⟩
    exact k _ ⟨mb, f, up_at _ _ _, (up_ne _ _ hne).trans h2, hnil⟩ (fr.up σ a _)
  · refine ⟨⟨rfl, rfl⟩, _, _, rfl, h1, (by simp), ?_⟩
    unfold w_J0_setLength_b76
    refine ⟨_, _, rfl, up_at _ _ _, (by simp), ?_⟩
    refine k _ ⟨1, f, up_at _ _ _, (up_ne _ _ hne).trans ((up_ne _ _ hne).trans h2), hnil⟩ ?_
    exact (fr.up σ a _).tr (fr.up _ a _) (fun _ _ h _ => h)
/-- new StringBuilder() -/
theorem sb_new {σ : Tst} (hc : 2 ≤ σ.2.1) (hs : 20 ≤ σ.2.2.1) {K : Option Nat → Tst → Prop} {X : String → Nat → Tst → Prop}
    (k : ∀ (a b : Nat) (σ' : Tst), σ.1 a = none → σ.1 b = none → lo_B σ' a b 0 16 [] → fx σ σ' 2 20 → K (some a) σ') : w_nw σ cJ1 4 [.inr none, .inl 0, .inl 0, .inl 0] (fun q σ => w_rf q (w_J1_init q (fun σ => K q σ) X σ)) := by
  refine ⟨by omega, by omega, fun a ha hab => ⟨⟨_, rfl⟩, ?_⟩⟩
  have f1 := (fx.rf σ).al ha (.inr (cJ1, [.inr none, .inl 0, .inl 0, .inl 0])) (m := 4) (by omega) (by omega)
  have a1 := al_at σ a (.inr (cJ1, [.inr none, .inl 0, .inl 0, .inl 0])) 4
  generalize st_al σ a (.inr (cJ1, [.inr none, .inl 0, .inl 0, .inl 0])) 4 = σ1 at *
  have := f1.c
  have := f1.s
  unfold w_J1_init w_J0_init w_J0_init_b38
  refine ⟨⟨_, rfl⟩, ⟨_, rfl⟩, fun c => absurd c (by decide), fun _ => ⟨16, rfl, by decide, by omega, by omega, fun b hb hbb => ?_⟩⟩
  have f2 := f1.al hb (.inl (2, 16, .inl fun _ => 0)) (m := 16) (by omega) (by omega)
  have b2 := al_at σ1 b (.inl (2, 16, .inl fun _ => 0)) 16
  have hab' : a ≠ b := kn_ne a1 hb
  have a2 := (al_ne σ1 (.inl (2, 16, .inl fun _ => 0)) 16 hab').trans a1
  generalize st_al σ1 b (.inl (2, 16, .inl fun _ => 0)) 16 = σ2 at *
  refine ⟨_, _, rfl, a2, (by simp), ⟨rfl, rfl⟩, _, _, rfl, up_at _ _ _, (by simp), ?_⟩
  refine k a b _ ha (f1.no hb) ⟨0, fun _ => 0, up_at _ _ _, (up_ne _ _ (Ne.symm hab')).trans ((up_ne _ _ (Ne.symm hab')).trans b2), by decide, by decide, Nat.zero_le _, by simp, fun j _ => rfl, Or.inl ⟨rfl, Nat.zero_le _, by simp, fun i hi => absurd hi (Nat.not_lt_zero _)⟩⟩ (((f2.up ha _).up ha _).mo (by omega) (by omega))
