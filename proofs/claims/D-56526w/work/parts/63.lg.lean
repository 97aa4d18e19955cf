-- StringBuilder.append(char)
theorem by_idem (x : Int32) : x.toInt8.toInt32.toInt8.toInt32 = x.toInt8.toInt32 := by simp
theorem ni_or {a b : Nat} (ha : a < 65536) (hb : b < 65536) : ¬ (nI a ||| nI b) < 0 ∧ ∃ c, c < 65536 ∧ nI a ||| nI b = nI c := by
  have hc : a ||| b < 65536 := Nat.or_lt_two_pow (n := 16) ha hb
  have e : nI a ||| nI b = nI (a ||| b) := by
    apply Int32.toBitVec_inj.mp
    unfold nI
    simp only [Int32.toBitVec_or, Int32.toBitVec_ofNat']
    apply BitVec.eq_of_toNat_eq
    rw [BitVec.toNat_or, BitVec.toNat_ofNat, BitVec.toNat_ofNat, BitVec.toNat_ofNat, Nat.mod_eq_of_lt (show a < 2 ^ 32 by omega), Nat.mod_eq_of_lt (show b < 2 ^ 32 by omega), Nat.mod_eq_of_lt (show a ||| b < 2 ^ 32 by omega)]
  exact ⟨by rw [e]; exact nI_pos (by omega), _, hc, e⟩
theorem sb_lat {σ : Tst} {a b cd cap : Nat} {xs : List Nat} (h : lo_B σ a b cd cap xs) {Q : Int32 → Tst → Prop} {X : String → Nat → Tst → Prop} (k : Q (if cd = 0 then 1 else 0) σ) : w_rc σ (some a) cJ1 (w_J0_isLatin1 (some a) Q X σ) := by
  obtain ⟨mb, f, h1, h2, h3, h4, h5, h6, h7, h8⟩ := id h
  unfold w_J0_isLatin1 w_J0_isLatin1_b17 w_J0_isLatin1_b18
  refine ⟨⟨_, _, rfl, h1⟩, fun c => absurd c (by decide), fun _ => ⟨_, _, _, rfl, h1, rfl, fun c => ?_, fun c => ?_⟩⟩
  · have : cd = 0 := by
      rcases h8 with ⟨rfl, -⟩ | ⟨rfl, -⟩
      · rfl
      · exact absurd c (by decide)
    rw [if_pos this] at k
    exact ⟨rfl, k⟩
  · have : ¬ cd = 0 := fun e => c (by rw [e]; rfl)
    rw [if_neg this] at k
    exact ⟨rfl, k⟩
/-- two bytes of a char put at place i -/
def pch (f : Nat → Int32) (i x : Nat) : Nat → Int32 := upd (upd f (2 * i) (nI x >>> (0 &&& 31)).toInt8.toInt32.toInt8.toInt32) (2 * i + 1) (nI x >>> (8 &&& 31)).toInt8.toInt32.toInt8.toInt32
theorem sb_put {σ : Tst} {b cap i x : Nat} {f : Nat → Int32} (hb : σ.1 b = some (.inl (2, cap, .inl f))) (hi : 2 * i + 1 < cap) (hcap : cap < 1900) {Q : Tst → Prop} {X : String → Nat → Tst → Prop}
    (k : ∀ σ' : Tst, σ'.1 b = some (.inl (2, cap, .inl (pch f i x))) → fr (fun z => z = b) σ σ' 0 0 → Q σ') : w_J3_putChar (some b) (nI i) (nI x) Q X σ := by
  unfold w_J3_putChar w_J3_putChar_b28
  refine ⟨fun c => absurd c (by decide), fun _ => ?_⟩
  have e3 : nI i <<< (1 &&& 31) = nI (2 * i) := (sh_n i (by omega)).2.1
  rw [e3, ni_1, ni_add]
  refine ⟨_, _, _, 2 * i, rfl, hb, rfl, by omega, by omega, ?_⟩
  refine ⟨_, _, _, 2 * i + 1, rfl, up_at _ _ _, rfl, by omega, by omega, ?_⟩
  exact k _ (up_at _ _ _) ((fr.up σ b _).tr (fr.up _ b _) (fun _ _ h _ => h))
theorem pch_fit {f : Nat → Int32} {cap : Nat} (hf : ∀ j, j < cap → fits .byte (.int (f j)) = true) (i x : Nat) : ∀ j, j < cap → fits .byte (.int (pch f i x j)) = true := by
  intro j hj
  unfold pch
  by_cases e : j = 2 * i + 1
  · simp only [upd, if_pos e]; exact by_fits _
  · by_cases e2 : j = 2 * i
    · simp only [upd, if_neg e, if_pos e2]; exact by_fits _
    · simp only [upd, if_neg e, if_neg e2]; exact hf j hj
theorem sb_infL {σ0 : Tst} {b b2 cap : Nat} {f : Nat → Int32} {xs : List Nat} (hb : σ0.1 b = some (.inl (2, cap, .inl f))) (hlen : xs.length ≤ cap) (hcap : cap ≤ 900) (hx : ∀ x ∈ xs, x < 256) (hf : ∀ i, i < xs.length → f i = (nI (xs.getD i 0)).toInt8.toInt32) (hq : σ0.1 b2 = none) {c0 n0 : Nat} {Q : Tst → Prop} {X : String → Nat → Tst → Prop} : ∀ (m i : Nat) (σ : Tst) (g : Nat → Int32), i + m = xs.length → fx σ0 σ c0 n0 → σ.1 b2 = some (.inl (2, 2 * cap, .inl g)) → (∀ j, j < 2 * cap → fits .byte (.int (g j)) = true) → (∀ j, j < i → g (2 * j) = (nI (xs.getD j 0) >>> (0 &&& 31)).toInt8.toInt32.toInt8.toInt32 ∧ g (2 * j + 1) = (nI (xs.getD j 0) >>> (8 &&& 31)).toInt8.toInt32.toInt8.toInt32) →
    (∀ (σ' : Tst) (g' : Nat → Int32), fx σ0 σ' c0 n0 → σ'.1 b2 = some (.inl (2, 2 * cap, .inl g')) → (∀ j, j < 2 * cap → fits .byte (.int (g' j)) = true) → (∀ j, j < xs.length → g' (2 * j) = (nI (xs.getD j 0) >>> (0 &&& 31)).toInt8.toInt32.toInt8.toInt32 ∧ g' (2 * j + 1) = (nI (xs.getD j 0) >>> (8 &&& 31)).toInt8.toInt32.toInt8.toInt32) → Q σ') → w_J3_inflate_b10 Q X (m + 1) (some b) (nI i) (some b2) (nI i) (nI xs.length) (nI i) σ := by
  intro m
  induction m with
  | zero =>
    intro i σ g hm hfx hg hgf hgv k
    rw [w_J3_inflate_b10]
    exact ⟨fun _ => k σ g hfx hg hgf (fun j hj => hgv j (by omega)), fun c => absurd ((ni_le (by omega) (by omega)).mpr (by omega)) c⟩
  | succ m ih =>
    intro i σ g hm hfx hg hgf hgv k
    have hi : i < xs.length := by omega
    have hxi : xs.getD i 0 < 256 := by
      rw [List.getD_eq_getElem?_getD, List.getElem?_eq_getElem hi]
      exact hx _ (List.getElem_mem hi)
    rw [w_J3_inflate_b10]
    refine ⟨fun c => absurd ((ni_le (by omega) (by omega)).mp c) (by omega), fun _ => ⟨_, 2, _, _, i, rfl, hfx.k hb, Or.inl rfl, rfl, by omega, by omega, ?_⟩⟩
    rw [hf i hi]
    dsimp only
    rw [by_and, and_255 _ (by omega), Nat.mod_eq_of_lt hxi]
    refine sb_put hg (by omega) (by omega) (fun σ1 hg1 hf1 => ?_)
    rw [ni_1, ni_add]
    refine ih (i + 1) σ1 _ (by omega) ((hfx.q hf1 hq).mo (by omega) (by omega)) hg1 (pch_fit hgf _ _) (fun j hj => ?_) k
    unfold pch
    by_cases e : j = i
    · subst e
      constructor
      · have e1 : ¬ 2 * j = 2 * j + 1 := by omega
        simp only [upd, if_neg e1, if_true]
      · simp only [upd, if_true]
    · have e1 : ¬ 2 * j = 2 * i + 1 := by omega
      have e2 : ¬ 2 * j = 2 * i := by omega
      have e3 : ¬ 2 * j + 1 = 2 * i + 1 := by omega
      have e4 : ¬ 2 * j + 1 = 2 * i := by omega
      simp only [upd, if_neg e1, if_neg e2, if_neg e3, if_neg e4]
      exact hgv j (by omega)
/-- inflate() -/
theorem sb_inf {σ : Tst} {a b cap : Nat} {xs : List Nat} (h : lo_B σ a b 0 cap xs) (hcap : cap ≤ 450) (hc : 1 ≤ σ.2.1) (hs : 900 ≤ σ.2.2.1) {Q : Tst → Prop} {X : String → Nat → Tst → Prop}
    (k : ∀ (σ' : Tst) (b' : Nat), lo_B σ' a b' 1 (2 * cap) xs → σ.1 b' = none → fr (fun z => z = a) σ σ' 1 900 → Q σ') : w_rc σ (some a) cJ1 (w_J0_inflate (some a) Q X σ) := by
  obtain ⟨mb, f, h1, h2, h3, h4, h5, h6, h7, h8⟩ := id h
  obtain ⟨g1, g2, g3⟩ : xs.length ≤ cap ∧ (∀ x ∈ xs, x < 256) ∧ ∀ i, i < xs.length → f i = (nI (xs.getD i 0)).toInt8.toInt32 := by
    rcases h8 with ⟨-, g⟩ | ⟨g, -⟩
    · exact g
    · cases g
  refine ⟨⟨_, _, rfl, h1⟩, ?_⟩
  unfold w_J0_inflate
  refine sb_lat h ⟨fun c => absurd c (by decide), fun _ => ⟨_, _, _, rfl, h1, rfl, _, _, _, _, rfl, h2, (by decide), ?_⟩⟩
  unfold w_J3_newBytesFor w_J3_newBytesLength
  refine ⟨fun _ => ⟨fun _ => ?_, fun c => absurd ((lo_lt (j := 1073741823) (by omega) (by decide)).mpr (by omega)) c⟩, fun c => absurd ((ni_le (a := 0) (by decide) (by omega)).mpr (Nat.zero_le _)) c⟩
  have e1 : nI cap <<< (1 &&& 31) = nI (2 * cap) := (sh_n cap (by omega)).2.1
  rw [e1]
  refine ⟨2 * cap, rfl, by omega, hc, by omega, fun b2 hb2 hbb => ?_⟩
  have f1 := (fx.rf σ).al hb2 (.inl (2, 2 * cap, .inl fun _ => 0)) hc (m := 2 * cap) (by omega)
  have q1 := al_at σ b2 (.inl (2, 2 * cap, .inl fun _ => 0)) (2 * cap)
  generalize st_al σ b2 (.inl (2, 2 * cap, .inl fun _ => 0)) (2 * cap) = σ1 at *
  refine ⟨_, _, _, rfl, f1.k h1, rfl, _, _, _, rfl, f1.k h1, rfl, ?_⟩
  unfold w_J14_inflate w_J3_inflate w_J3_checkBoundsOffCount w_J3_length w_J2_checkBoundsOffCount w_J15_checkFromIndexSize w_k
  refine ⟨_, _, _, _, rfl, q1, (by decide), ?_⟩
  have e2 : nI (2 * cap) >>> (1 &&& 31) = nI cap := by
    have := (sh_n (2 * cap) (by omega)).2.2.2
    rw [this]; congr 1; omega
  dsimp only
  rw [e2]
  obtain ⟨c1, c, hc1, hc2⟩ := ni_or (a := cap) (b := 0) (by omega) (by decide)
  have hc2' : nI cap ||| 0 = nI c := hc2
  refine ⟨fun cc => ?_, fun _ => ⟨fun _ => ?_, fun cc => ?_⟩⟩
  · rw [hc2'] at cc
    exact absurd cc (ni_or hc1 (by omega)).1
  · refine ⟨xs.length + 1, ?_⟩
    refine sb_infL (σ0 := σ) (xs := xs) h2 g1 (by omega) g2 g3 hb2 xs.length 0 σ1 _ (by omega) f1 q1 (fun j _ => rfl) (fun j hj => absurd hj (Nat.not_lt_zero _)) (fun σ2 g hf2 hg hgf hgv => ?_)
    have a2 := hf2.k h1
    have hne2 : b2 ≠ a := fun e => by rw [e] at hb2; rw [hb2] at h1; cases h1
    refine ⟨_, _, rfl, a2, (by simp), ⟨rfl, rfl⟩, _, _, rfl, up_at _ _ _, (by simp), ?_⟩
    refine k _ b2 ⟨mb, g, up_at _ _ _, (up_ne _ _ hne2).trans ((up_ne _ _ hne2).trans hg), by omega, by omega, h5, h6, hgf, Or.inr ⟨rfl, by omega, hgv⟩⟩ hb2 ?_
    exact ((((hf2.mono (B := fun z => z = a) (fun _ _ h _ => h.elim) (Nat.le_refl _) (Nat.le_refl _)).tr (fr.up σ2 a _) (fun _ _ h _ => h)).tr (fr.up _ a _) (fun _ _ h _ => h))).mono (fun _ _ h _ => h) (by omega) (by omega)
  · exact absurd (by rw [show nI cap - 0 = nI cap from Int32.sub_zero _]; exact (ni_le (by omega) (by omega)).mpr g1) cc
theorem gd_snoc (xs : List Nat) (x i : Nat) (hi : i < xs.length) : (xs ++ [x]).getD i 0 = xs.getD i 0 := by
  rw [List.getD_eq_getElem?_getD, List.getD_eq_getElem?_getD, List.getElem?_append_left hi]
theorem gd_last (xs : List Nat) (x : Nat) : (xs ++ [x]).getD xs.length 0 = x := by simp
theorem mem_snoc {xs : List Nat} {x B : Nat} (h : ∀ y ∈ xs, y < B) (hx : x < B) : ∀ y ∈ xs ++ [x], y < B := by
  intro y hy
  rcases List.mem_append.mp hy with h1 | h1
  · exact h y h1
  · rw [List.mem_singleton.mp h1]; exact hx
theorem sb_b56 {σ : Tst} {a b cap x : Nat} {xs : List Nat} (h : lo_B σ a b 1 cap xs) (hroom : 2 * (xs.length + 1) ≤ cap) (hx : x < 65536) (hl : xs.length < 200) {Q : Option Nat → Tst → Prop} {X : String → Nat → Tst → Prop}
    (k : ∀ (σ' : Tst), lo_B σ' a b 1 cap (xs ++ [x]) → fr (fun z => z = a ∨ z = b) σ σ' 0 0 → Q (some a) σ') : w_J0_append_3_b56 Q X (some a) (nI x) σ := by
  have hne := h.ne
  obtain ⟨mb, f, h1, h2, h3, h4, h5, h6, h7, h8⟩ := id h
  have g3 : ∀ i, i < xs.length → f (2 * i) = (nI (xs.getD i 0) >>> (0 &&& 31)).toInt8.toInt32.toInt8.toInt32 ∧ f (2 * i + 1) = (nI (xs.getD i 0) >>> (8 &&& 31)).toInt8.toInt32.toInt8.toInt32 := by
    rcases h8 with ⟨g, -⟩ | ⟨-, -, g⟩
    · cases g
    · exact g
  unfold w_J0_append_3_b56 w_J0_append_3_b75
  refine ⟨_, _, _, rfl, h1, rfl, _, _, _, rfl, h1, rfl, _, _, rfl, h1, (by simp), ?_⟩
  have a1 := up_at σ a (.inr (cJ1, ([.inr (some b), .inl (nI 1), .inl mb, .inl (nI xs.length)] : List Tfv).set 3 (.inl (nI xs.length + 1))))
  have b1 := (up_ne σ (.inr (cJ1, ([.inr (some b), .inl (nI 1), .inl mb, .inl (nI xs.length)] : List Tfv).set 3 (.inl (nI xs.length + 1)))) hne).trans h2
  have f1 := fr.up σ a (.inr (cJ1, ([.inr (some b), .inl (nI 1), .inl mb, .inl (nI xs.length)] : List Tfv).set 3 (.inl (nI xs.length + 1))))
  generalize st_up σ a (.inr (cJ1, ([.inr (some b), .inl (nI 1), .inl mb, .inl (nI xs.length)] : List Tfv).set 3 (.inl (nI xs.length + 1)))) = σ1 at *
  unfold w_J3_putCharSB w_J3_checkIndex w_J3_length
  refine ⟨_, _, _, _, rfl, b1, (by decide), ?_⟩
  have e2 : nI cap >>> (1 &&& 31) = nI (cap / 2) := (sh_n cap (by omega)).2.2.2
  dsimp only
  rw [e2]
  refine sb_idx (by omega) (by omega) (sb_put b1 (by omega) (by omega) (fun σ2 hg hf2 => ?_))
  have a2 := hf2.1 _ _ (Ne.symm hne) a1
  have hlen : nI xs.length + 1 = nI (xs ++ [x]).length := by rw [ni_1, ni_add, List.length_append, List.length_singleton]
  rw [hlen] at a2
  refine k σ2 ⟨mb, _, a2, hg, h3, h4, by simp; omega, mem_snoc h6 hx, pch_fit h7 _ _, Or.inr ⟨rfl, by simp; omega, fun i hi => ?_⟩⟩ ((f1.mono (B := fun z => z = a ∨ z = b) (fun _ _ h _ => Or.inl h) (Nat.le_refl _) (Nat.le_refl _)).tr hf2 (fun _ _ h _ => Or.inr h))
  simp only [List.length_append, List.length_singleton] at hi
  unfold pch
  by_cases e : i = xs.length
  · subst e
    rw [gd_last]
    constructor
    · have e1 : ¬ 2 * xs.length = 2 * xs.length + 1 := by omega
      simp only [upd, if_neg e1, if_true]
    · simp only [upd, if_true]
  · rw [gd_snoc _ _ _ (by omega)]
    have e1 : ¬ 2 * i = 2 * xs.length + 1 := by omega
    have e2 : ¬ 2 * i = 2 * xs.length := by omega
    have e3 : ¬ 2 * i + 1 = 2 * xs.length + 1 := by omega
    have e4 : ¬ 2 * i + 1 = 2 * xs.length := by omega
    simp only [upd, if_neg e1, if_neg e2, if_neg e3, if_neg e4]
    exact g3 i (by omega)
/-- append(c): Latin1 stays Latin1 where c is -/
theorem sb_app {σ : Tst} {a b cd cap x : Nat} {xs : List Nat} (h : lo_B σ a b cd cap xs) (hx : x < 65536) (hl : xs.length < 200) (hcc : cd = 0 → 256 ≤ x → cap ≤ 400 ∧ xs.length ≤ 197) (hc : 2 ≤ σ.2.1) (hs : 1800 ≤ σ.2.2.1) {Q : Option Nat → Tst → Prop} {X : String → Nat → Tst → Prop}
    (k : ∀ (σ' : Tst) (b' cd' cap' : Nat), lo_B σ' a b' cd' cap' (xs ++ [x]) → (x < 256 → cd' = cd) → (cd' = 0 → cap' ≤ max cap (2 * (xs.length + 1) + 4)) → (b' = b ∨ σ.1 b' = none) → fr (fun z => z = a ∨ z = b) σ σ' 2 1800 → Q (some a) σ') : w_rc σ (some a) cJ1 (w_J1_append_3 (some a) (nI x) Q X σ) := by
  have hne := h.ne
  obtain ⟨mb, f, h1, h2, h3, h4, h5, h6, h7, h8⟩ := id h
  unfold w_J1_append_3
  refine ⟨⟨_, _, rfl, h1⟩, ⟨_, _, rfl, h1⟩, ?_⟩
  unfold w_J0_append_3
  refine ⟨_, _, _, rfl, h1, rfl, ?_⟩
  dsimp only
  rw [ni_1, ni_add]
  refine sb_ec h (by omega) (by omega) (by omega) (fun σ1 b1 cap1 hB1 hroom hcap1 hb1 hf1 _ _ => ?_)
  have hne1 := hB1.ne
  obtain ⟨mb1, f1, h11, h12, h13, h14, h15, h16, h17, h18⟩ := id hB1
  have hcd : cd < 2 := by rcases h8 with ⟨rfl, -⟩ | ⟨rfl, -⟩ <;> omega
  have hf1' := hf1.mono (B := fun z => z = a ∨ z = b) (fun _ _ h _ => Or.inl h) (Nat.le_refl _) (Nat.le_refl _)
  have hbA : ∀ (b2 : Nat) (e : Tce), b2 = b1 → σ.1 b2 = some e → b2 = a ∨ b2 = b := fun b2 e hb he => by
    rcases hb1 with q | q
    · exact Or.inr (hb.trans q)
    · rw [hb, q] at he; cases he
  have := hf1.2.2.1
  have := hf1.2.2.2.1
  have b45 : (cd = 0 → 256 ≤ x) → w_J0_append_3_b45 (fun _ σ => Q (some a) σ) X (some a) (nI x) σ1 := by
    intro hxx
    unfold w_J0_append_3_b45
    refine sb_lat hB1 ⟨fun c => ?_, fun c => ?_⟩
    · have hcd1 : cd = 1 := by
        by_cases e : cd = 0
        · rw [if_pos e] at c; exact absurd c (by decide)
        · omega
      subst hcd1
      exact sb_b56 hB1 (by omega) hx hl (fun σ2 hB2 hf2 => k σ2 b1 1 cap1 hB2 (fun _ => rfl) (fun e => by cases e) hb1 ((hf1'.tr hf2 (fun b2 e hb he => by
        rcases hb with hb | hb
        · exact Or.inl hb
        · exact hbA b2 e hb he)).mono (fun _ _ h _ => h) (by omega) (by omega)))
    · have hcd0 : cd = 0 := by
        by_cases e : cd = 0
        · exact e
        · rw [if_neg e] at c; exact absurd rfl c
      subst hcd0
      have hq := hxx rfl
      obtain ⟨hq2, hq3⟩ := hcc rfl hq
      refine sb_inf hB1 (by omega) (by omega) (by omega) (fun σ2 b2 hB2 hb2 hf2 => ?_)
      refine sb_b56 hB2 (by omega) hx hl (fun σ3 hB3 hf3 => ?_)
      have hb20 : σ.1 b2 = none := fr2_no hf1 hb2
      refine k σ3 b2 1 _ hB3 (fun e => by omega) (fun e => by cases e) (Or.inr hb20) (((hf1'.tr hf2 (fun _ _ h _ => Or.inl h)).tr hf3 (fun b3 e hb he => ?_)).mono (fun _ _ h _ => h) (by omega) (by omega))
      rcases hb with hb | hb
      · exact Or.inl hb
      · rw [hb, hb20] at he; cases he
  refine sb_lat hB1 ⟨fun c => b45 (fun e => ?_), fun c => ?_⟩
  · rw [if_pos e] at c; exact absurd c (by decide)
  · have hcd0 : cd = 0 := by
      by_cases e : cd = 0
      · exact e
      · rw [if_neg e] at c; exact absurd rfl c
    subst hcd0
    unfold w_J14_canEncode w_J14_canEncode_b12
    refine ⟨fun cx => ⟨rfl, fun _ => b45 (fun _ => ?_), fun q => absurd rfl q⟩, fun cx => ⟨rfl, fun q => absurd q (by decide), fun _ => ?_⟩⟩
    · have := (lo_lt (i := 255) (by decide) (by omega)).mp cx
      omega
    · have hx2 : x < 256 := by
        have : ¬ 255 < x := fun e => cx ((lo_lt (i := 255) (by decide) (by omega)).mpr e)
        omega
      obtain ⟨g1, g2, g3⟩ : xs.length ≤ cap1 ∧ (∀ x ∈ xs, x < 256) ∧ ∀ i, i < xs.length → f1 i = (nI (xs.getD i 0)).toInt8.toInt32 := by
        rcases h18 with ⟨-, g⟩ | ⟨g, -⟩
        · exact g
        · cases g
      refine ⟨_, _, _, rfl, h11, rfl, _, _, _, rfl, h11, rfl, _, _, rfl, h11, (by simp), ?_⟩
      refine ⟨_, _, _, xs.length, rfl, (up_ne _ _ hne1).trans h12, rfl, by omega, by omega, ?_⟩
      unfold w_J0_append_3_b75
      have hlen : nI xs.length + 1 = nI (xs ++ [x]).length := by rw [ni_1, ni_add, List.length_append, List.length_singleton]
      refine k _ b1 0 cap1 ⟨mb1, _, (up_ne _ _ (Ne.symm hne1)).trans ((up_at _ _ _).trans ?_), up_at _ _ _, h13, h14, by simp; omega, mem_snoc h16 hx, fun j hj => ?_, Or.inl ⟨rfl, by simp; omega, mem_snoc g2 hx2, fun i hi => ?_⟩⟩ (fun _ => rfl) (fun _ => by omega) hb1 (((hf1'.tr (fr.up σ1 a _) (fun _ _ h _ => Or.inl h)).tr (fr.up _ b1 _) hbA).mono (fun _ _ h _ => h) (by omega) (by omega))
      · rw [← hlen]; rfl
      · by_cases e : j = xs.length
        · simp only [upd, if_pos e]; exact by_fits _
        · simp only [upd, if_neg e]; exact h17 j hj
      · simp only [List.length_append, List.length_singleton] at hi
        by_cases e : i = xs.length
        · subst e
          rw [gd_last]
          simp only [upd, if_true, by_idem]
        · rw [gd_snoc _ _ _ (by omega)]
          simp only [upd, if_neg e]
          exact g3 i (by omega)
/-- append(c), Latin1; the growth is paid by the capacity -/
theorem sb_appL {σ : Tst} {a b cap x : Nat} {xs : List Nat} (h : lo_B σ a b 0 cap xs) (hx2 : x < 256) (hl : xs.length < 200) (hc : 1 ≤ σ.2.1) (hs : 900 ≤ σ.2.2.1) {Q : Option Nat → Tst → Prop} {X : String → Nat → Tst → Prop}
    (k : ∀ (σ' : Tst) (b' cap' : Nat), lo_B σ' a b' 0 cap' (xs ++ [x]) → cap ≤ cap' → cap' ≤ max cap (2 * (xs.length + 1) + 4) → (b' = b ∨ σ.1 b' = none) → fr (fun z => z = a ∨ z = b) σ σ' (cap' - cap) (2 * (cap' - cap)) → Q (some a) σ') : w_rc σ (some a) cJ1 (w_J1_append_3 (some a) (nI x) Q X σ) := by
  have hne := h.ne
  obtain ⟨mb, f, h1, h2, h3, h4, h5, h6, h7, h8⟩ := id h
  unfold w_J1_append_3
  refine ⟨⟨_, _, rfl, h1⟩, ⟨_, _, rfl, h1⟩, ?_⟩
  unfold w_J0_append_3
  refine ⟨_, _, _, rfl, h1, rfl, ?_⟩
  dsimp only
  rw [ni_1, ni_add]
  refine sb_ec h (by omega) (by omega) (by omega) (fun σ1 b1 cap1 hB1 hroom hcap1 hb1 _ hle hf1 => ?_)
  have hne1 := hB1.ne
  obtain ⟨mb1, f1, h11, h12, h13, h14, h15, h16, h17, h18⟩ := id hB1
  have hf1' := hf1.mono (B := fun z => z = a ∨ z = b) (fun _ _ h _ => Or.inl h) (Nat.le_refl _) (Nat.le_refl _)
  have hbA : ∀ (b2 : Nat) (e : Tce), b2 = b1 → σ.1 b2 = some e → b2 = a ∨ b2 = b := fun b2 e hb he => by
    rcases hb1 with q | q
    · exact Or.inr (hb.trans q)
    · rw [hb, q] at he; cases he
  unfold w_J14_canEncode w_J14_canEncode_b12
  refine sb_lat hB1 ⟨fun c => absurd c (by decide), fun _ => ⟨fun cx => ?_, fun cx => ⟨rfl, fun q => absurd q (by decide), fun _ => ?_⟩⟩⟩
  · have := (lo_lt (i := 255) (by decide) (by omega)).mp cx
    omega
  · obtain ⟨g1, g2, g3⟩ : xs.length ≤ cap1 ∧ (∀ x ∈ xs, x < 256) ∧ ∀ i, i < xs.length → f1 i = (nI (xs.getD i 0)).toInt8.toInt32 := by
      rcases h18 with ⟨-, g⟩ | ⟨g, -⟩
      · exact g
      · cases g
    refine ⟨_, _, _, rfl, h11, rfl, _, _, _, rfl, h11, rfl, _, _, rfl, h11, (by simp), ?_⟩
    refine ⟨_, _, _, xs.length, rfl, (up_ne _ _ hne1).trans h12, rfl, by omega, by omega, ?_⟩
    unfold w_J0_append_3_b75
    have hlen : nI xs.length + 1 = nI (xs ++ [x]).length := by rw [ni_1, ni_add, List.length_append, List.length_singleton]
    refine k _ b1 cap1 ⟨mb1, _, (up_ne _ _ (Ne.symm hne1)).trans ((up_at _ _ _).trans ?_), up_at _ _ _, h13, h14, by simp; omega, mem_snoc h16 (by omega), fun j hj => ?_, Or.inl ⟨rfl, by simp; omega, mem_snoc g2 hx2, fun i hi => ?_⟩⟩ hle (by omega) hb1 (((hf1'.tr (fr.up σ1 a _) (fun _ _ h _ => Or.inl h)).tr (fr.up _ b1 _) hbA).mono (fun _ _ h _ => h) (by omega) (by omega))
    · rw [← hlen]; rfl
    · by_cases e : j = xs.length
      · simp only [upd, if_pos e]; exact by_fits _
      · simp only [upd, if_neg e]; exact h17 j hj
    · simp only [List.length_append, List.length_singleton] at hi
      by_cases e : i = xs.length
      · subst e
        rw [gd_last]
        simp only [upd, if_true, by_idem]
      · rw [gd_snoc _ _ _ (by omega)]
        simp only [upd, if_neg e]
        exact g3 i (by omega)
