-- the reference's writes
theorem mt.B {σ σ' : Tst} {a b cd cap c n : Nat} {xs : List Nat} (h : lo_B σ a b cd cap xs) (hf : fr (fun z => z = a ∨ z = b) σ σ' c n) {t m : Nat} {A : Tar} (hm : mt σ t m A) : mt σ' t m A := by
  obtain ⟨la, ka, va, pa, h1, h2, h3, h4, h5, h6⟩ := hm
  exact ⟨la, ka, va, pa, hf.1 _ _ (h.node h1 (fun _ e => by cases e) (fun _ e => by cases e)) h1, hf.1 _ _ (h.node h2 (fun _ e => by cases e) (fun _ e => by cases e)) h2, hf.1 _ _ (h.node h3 (fun _ e => by cases e) (fun _ e => by cases e)) h3, hf.1 _ _ (h.node h4 (fun _ e => by cases e) (fun _ e => by cases e)) h4, hf.1 _ _ (h.node h5 (fun _ e => by cases e) (fun _ e => by cases e)) h5, h6⟩
def mwN (D : Nat) (K : Fo) : Prop := ∀ (σ0 : Tst) (m t n v a b0 cap0 : Nat) (A : Tar) (w : Int32 × Int32 × Int32) (xs : List Nat) (fs : List Tfv) (Q : Tst → Prop) (X : String → Nat → Tst → Prop), σ0.1 m = some (.inr (cX4, fs)) → mt σ0 t n A → nv A n v w K → okw w → okF K → lo_B σ0 a b0 0 cap0 xs → kD σ0 → xs.length + 8 * (1 + fo_size K) ≤ 180 → 1 + fo_size K + (max cap0 404 - cap0) + 1 ≤ σ0.2.1 → fo_size K + 2 * (max cap0 404 - cap0) + 900 ≤ σ0.2.2.1 →
  (∀ (σ : Tst) (b cap : Nat), wst σ0 a b0 cap0 σ b cap (xs ++ wrT w K) (1 + fo_size K) (fo_size K) → Q σ) → w_X4_writes D (some m) (some t) (nI v) (some a) Q X σ0
def mwL (D : Nat) (F : Fo) : Prop := ∀ (σ0 σ : Tst) (m t n v i L a b0 cap0 b cap : Nat) (A : Tar) (f : Nat → Int32) (xs0 xs : List Nat) (fs : List Tfv) (q c0 n0 : Nat) (pre : List Nat) (Q : Tst → Prop) (X : String → Nat → Tst → Prop), σ0.1 m = some (.inr (cX4, fs)) → mt σ0 t n A → fv A n v i F → okF F → lo_B σ0 a b0 0 cap0 xs0 → kD σ0 → wst σ0 a b0 cap0 σ b cap xs c0 n0 → σ.1 q = some (.inl (0, L, .inl f)) → (∀ j, j < L → f j = nI ((pre ++ ks i F).getD j 0)) → L = pre.length + fo_cnt F → L ≤ 20 → xs.length + 8 * fo_size F ≤ 180 → c0 + fo_size F + (max cap0 404 - cap0) + 1 ≤ σ0.2.1 → n0 + (fo_size F - fo_cnt F) + 2 * (max cap0 404 - cap0) + 900 ≤ σ0.2.2.1 →
  (∀ (σ' : Tst) (b' cap' : Nat), wst σ0 a b0 cap0 σ' b' cap' (xs ++ (wrs F ++ [41])) (c0 + fo_size F) (n0 + (fo_size F - fo_cnt F)) → Q σ') → w_X4_writes_b93 (w_X4_writes D) Q X (fo_cnt F + 1) (some m) (some t) (some a) (some q) (nI L) (nI pre.length) σ
theorem mw_1 {D : Nat} {K : Fo} (H : mwL D K) : mwN (D + 1) K := by
  intro σ0 m t n v a b0 cap0 A w xs fs Q X hm hT hv hw hKo hB hD hl hc hs kk
  have hv0 := hv
  obtain ⟨l, ke, va, rfl, hw1, hw2, hw3, hw4⟩ := hw
  have hn := hT.le
  have hsz := hv.2.2.2.1
  have hck := fo_cnt_le K
  have hmn := hB.node hm (fun _ e => by cases e) (fun _ e => by cases e)
  have htr : ∀ {σ : Tst} {b cap c n' : Nat} {ys : List Nat}, wst σ0 a b0 cap0 σ b cap ys c n' → mt σ t n A := fun h => mt.B hB h.2.2.2.2 hT
  have e1 : (A v).1 = nI l := hv.1
  have e2 : (A v).2.1 = nI ke := hv.2.1
  have e3 : (A v).2.2.1 = nI va := hv.2.2.1
  have hlen := wr1_len ⟨l, ke, va, rfl, hw1, hw2, hw3, hw4⟩
  have hb62 : ∀ (σ : Tst) (b cap : Nat), wst σ0 a b0 cap0 σ b cap (xs ++ wr1 (nI l, nI ke, nI va)) 0 0 → w_X4_writes_b62 (w_X4_writes D) Q X (some m) (some t) (nI v) (some a) σ := by
    intro σ b cap hw
    unfold w_X4_writes_b62
    refine nv_many (htr hw) hv0 ⟨fun c => ?_, fun c => ?_⟩
    · have c := (ni_inj (b := 0) (by omega) (by decide)).mp c
      refine kk σ b cap ?_
      have e : xs ++ wrT (nI l, nI ke, nI va) K = xs ++ wr1 (nI l, nI ke, nI va) := by unfold wrT; rw [if_pos c, List.append_nil]
      rw [e]
      obtain ⟨q1, q2, q3, q4, q5⟩ := hw
      exact ⟨q1, q2, q3, q4, q5.mono (fun _ _ h _ => h) (by omega) (by omega)⟩
    · have c : ¬ fo_cnt K = 0 := fun e => c (by rw [e]; rfl)
      refine hw.app (x := 40) (by decide) (by rw [List.length_append]; omega) (by omega) (by omega) (fun σ1 b1 cap1 hw1 _ => ?_)
      have := hw1.2.2.1
      have := hw1.2.2.2.1
      have := hw1.2.2.2.2.2.2.1
      have := hw1.2.2.2.2.2.2.2.1
      refine nv_kids (htr hw1) hv0 (by omega) (by omega) (fun q σ2 f hq hf hqa hff => ⟨_, _, _, _, rfl, hqa, (by decide), ⟨_, H σ0 σ2 m t n v (v + 1) (fo_cnt K) a b0 cap0 b1 cap1 A f xs _ fs q _ _ [] Q X hm hT hv0.fv hKo hB hD (hw1.x hf) hqa (by simpa using hff) (by simp) (by omega) ?_ (by omega) (by omega) (fun σ' b' cap' hw' => ?_)⟩⟩)
      · simp only [List.length_append, List.length_cons, List.length_nil]; omega
      · refine kk σ' b' cap' ?_
        have e : xs ++ wrT (nI l, nI ke, nI va) K = xs ++ wr1 (nI l, nI ke, nI va) ++ [40] ++ (wrs K ++ [41]) := by
          unfold wrT
          rw [if_neg c]
          simp
        rw [e]
        obtain ⟨q1, q2, q3, q4, q5⟩ := hw'
        exact ⟨q1, q2, q3, q4, q5.mono (fun _ _ h _ => h) (by omega) (by omega)⟩
  have hb37 : ∀ (σ : Tst) (b cap : Nat), wst σ0 a b0 cap0 σ b cap (xs ++ ([l] ++ (if 0 < ke then 35 :: dg ke else []))) 0 0 → w_X4_writes_b37 (w_X4_writes D) Q X (some m) (some t) (nI v) (some a) σ := by
    intro σ b cap hw
    have hkl : (if 0 < ke then 35 :: dg ke else []).length ≤ 3 := by
      have := dg_len ke
      split <;> simp only [List.length_cons, List.length_nil] <;> omega
    have e4 : wr1 (nI l, nI ke, nI va) = [l] ++ ((if 0 < ke then 35 :: dg ke else []) ++ (if 0 < va then 61 :: dg va else [])) := by
      unfold wr1
      rw [ti_n (by omega), ti_n (by omega), ti_n (by omega)]
    obtain ⟨la, ka, vaa, pa, h1, h2, h3, h4, h5, h6⟩ := htr hw
    unfold w_X4_writes_b37
    refine ⟨_, _, _, rfl, h1, rfl, _, _, _, v, rfl, h4, rfl, (by omega), (by omega), ?_⟩
    rw [e3]
    refine ⟨fun c => ?_, fun c => ?_⟩
    · have c := (ni_le (b := 0) (by omega) (by decide)).mp c
      refine hb62 σ b cap ?_
      rw [e4, if_neg (show ¬ 0 < va by omega), List.append_nil]
      exact hw
    · have c : 0 < va := Nat.lt_of_not_le (fun h => c ((ni_le (b := 0) (by omega) (by decide)).mpr h))
      refine hw.app (x := 61) (by decide) (by simp only [List.length_append, List.length_cons, List.length_nil]; omega) (by omega) (by omega) (fun σ1 b1 cap1 hw1 _ => ?_)
      obtain ⟨la, ka, vaa, pa, h1, h2, h3, h4, h5, h6⟩ := htr hw1
      refine ⟨_, _, _, rfl, h1, rfl, _, _, _, v, rfl, h4, rfl, (by omega), (by omega), ?_⟩
      rw [e3]
      refine hw1.int (kD.B hB hw1.2.2.2.2 hD) (by omega) (by simp only [List.length_append, List.length_cons, List.length_nil]; omega) (by omega) (by omega) (fun σ2 b2 cap2 hw2 _ => hb62 σ2 b2 cap2 ?_)
      rw [e4, if_pos c]
      simpa using hw2
  rw [w_X4_writes]
  have hw0 := wst.rf hB
  obtain ⟨la, ka, vaa, pa, h1, h2, h3, h4, h5, h6⟩ := id hT
  refine ⟨_, _, _, rfl, h1, rfl, _, _, _, v, rfl, h2, rfl, (by omega), (by omega), ?_⟩
  rw [e1]
  dsimp only
  rw [ch_i2cn (by omega)]
  refine hw0.app (x := l) (by omega) (by omega) (by omega) (by omega) (fun σ1 b1 cap1 hw1 _ => ?_)
  obtain ⟨la, ka, vaa, pa, h1, h2, h3, h4, h5, h6⟩ := htr hw1
  refine ⟨_, _, _, rfl, h1, rfl, _, _, _, v, rfl, h3, rfl, (by omega), (by omega), ?_⟩
  rw [e2]
  refine ⟨fun c => ?_, fun c => ?_⟩
  · have c := (ni_le (b := 0) (by omega) (by decide)).mp c
    refine hb37 σ1 b1 cap1 ?_
    rw [if_neg (show ¬ 0 < ke by omega), List.append_nil]
    exact hw1
  · have c : 0 < ke := Nat.lt_of_not_le (fun h => c ((ni_le (b := 0) (by omega) (by decide)).mpr h))
    refine hw1.app (x := 35) (by decide) (by simp only [List.length_append, List.length_cons, List.length_nil]; omega) (by omega) (by omega) (fun σ2 b2 cap2 hw2 _ => ?_)
    obtain ⟨la, ka, vaa, pa, h1, h2, h3, h4, h5, h6⟩ := htr hw2
    refine ⟨_, _, _, rfl, h1, rfl, _, _, _, v, rfl, h3, rfl, (by omega), (by omega), ?_⟩
    rw [e2]
    refine hw2.int (kD.B hB hw2.2.2.2.2 hD) (by omega) (by simp only [List.length_append, List.length_cons, List.length_nil]; omega) (by omega) (by omega) (fun σ3 b3 cap3 hw3 _ => hb37 σ3 b3 cap3 ?_)
    rw [if_pos c]
    simpa using hw3
theorem mw_L : ∀ (F : Fo) (D : Nat), fo_h F ≤ D → mwL D F := by
  intro F
  induction F with
  | leaf =>
    intro D hD σ0 σ m t n v i L a b0 cap0 b cap A f xs0 xs fs q c0 n0 pre Q X hm hT hF hok hB hkD hw hq hff hL hL20 hl hc hs k
    rw [w_X4_writes_b93]
    simp only [fo_cnt, Nat.add_zero] at hL
    refine ⟨fun _ => ?_, fun c => absurd ((ni_le (by omega) (by omega)).mpr (by omega)) c⟩
    have hl' : xs.length ≤ 180 := by omega
    refine hw.app (x := 41) (by decide) (by omega) (by omega) (by omega) (fun σ1 b1 cap1 hw1 _ => k σ1 b1 cap1 ?_)
    obtain ⟨q1, q2, q3, q4, q5⟩ := hw1
    exact ⟨q1, q2, q3, q4, q5.mono (fun _ _ h _ => h) (by omega) (by omega)⟩
  | inner s w u kids rest ih1 ih2 =>
    intro D hD σ0 σ m t n v i L a b0 cap0 b cap A f xs0 xs fs q c0 n0 pre Q X hm hT hF hok hB hkD hw hq hff hL hL20 hl hc hs k
    obtain ⟨ho1, ho2, ho3⟩ := hok
    have hck := fo_cnt_le kids
    have hcr := fo_cnt_le rest
    have hL' : L = pre.length + (fo_cnt rest + 1) := hL
    have hc' : c0 + (1 + fo_size kids + fo_size rest) + (max cap0 404 - cap0) + 1 ≤ σ0.2.1 := hc
    have hs' : n0 + (1 + fo_size kids + fo_size rest - (fo_cnt rest + 1)) + 2 * (max cap0 404 - cap0) + 900 ≤ σ0.2.2.1 := hs
    have hl' : xs.length + 8 * (1 + fo_size kids + fo_size rest) ≤ 180 := hl
    simp only [fo_h] at hD
    obtain ⟨D', rfl⟩ : ∃ D', D = D' + 1 := ⟨D - 1, by omega⟩
    rw [w_X4_writes_b93]
    refine ⟨fun c => absurd ((ni_le (by omega) (by omega)).mp c) (by omega), fun _ => ⟨_, _, _, pre.length, rfl, hq, rfl, (by omega), (by omega), ?_⟩⟩
    rw [hff _ (by omega), ks, gd_app]
    have hmm := hw.2.2.2.2.1 _ _ (hB.node hm (fun _ e => by cases e) (fun _ e => by cases e)) hm
    refine ⟨⟨_, _, rfl, hmm⟩, ?_⟩
    have := hw.2.2.1
    have := hw.2.2.2.1
    have := hw.2.2.2.2.2.2.1
    have := hw.2.2.2.2.2.2.2.1
    have hlw := wr1_len ho1
    have hlk := wrs_len _ ho2
    have hwT : (wrT w kids).length ≤ 8 * (1 + fo_size kids) := by
      unfold wrT
      split
      · simp only [List.length_append, List.length_nil]; omega
      · simp only [List.length_append, List.length_cons, List.length_nil]; omega
    refine mw_1 (ih1 D' (by omega)) σ m t n i a b cap A w xs fs _ X hmm (mt.B hB hw.2.2.2.2 hT) hF.nv ho1 ho2 hw.1 (kD.B hB hw.2.2.2.2 hkD) (by omega) (by omega) (by omega) (fun σ2 b2 cap2 hw2 => ?_)
    rw [ni_1, ni_add]
    have hq2 := hw2.2.2.2.2.1 _ _ (hw.1.node hq (fun _ e => by cases e) (fun _ e => by cases e)) hq
    have hgo := ih2 (D' + 1) (by omega) σ0 σ2 m t n v (i + 1 + fo_size kids) L a b0 cap0 b2 cap2 A f xs0 (xs ++ wrT w kids) fs q (c0 + (1 + fo_size kids)) (n0 + fo_size kids) (pre ++ [i]) Q X hm hT hF.rest ho3 hB hkD (hw.tr hw2) hq2 (by simpa [ks] using hff) (by simp; omega) hL20 (by rw [List.length_append]; omega) (by omega) (by omega) (fun σ' b' cap' hw' => ?_)
    · simpa [fo_cnt] using hgo
    · refine k σ' b' cap' ?_
      have e : xs ++ (wrs (.inner s w u kids rest) ++ [41]) = xs ++ wrT w kids ++ (wrs rest ++ [41]) := by
        simp only [wrs, wrT, List.append_assoc]
      rw [e]
      obtain ⟨q1, q2, q3, q4, q5⟩ := hw'
      exact ⟨q1, q2, q3, q4, q5.mono (fun _ _ h _ => h) (by simp only [fo_size]; omega) (by simp only [fo_size, fo_cnt]; omega)⟩
theorem mw_node {D : Nat} {K : Fo} (hD : fo_h K < D) : mwN D K := by
  obtain ⟨D', rfl⟩ : ∃ D', D = D' + 1 := ⟨D - 1, by omega⟩
  exact mw_1 (mw_L K D' (by omega))
