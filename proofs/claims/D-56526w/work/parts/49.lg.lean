-- Node.size(), hash(), hasChildWithKey(): over a forest of nodes
theorem tk_sizeL : ∀ (F : Tfi) (D : Nat) (σ0 σ : Tst) (c d n q acc c0 n0 : Nat) (pre : List Nat) (Q : Int32 → Tst → Prop) (X : String → Nat → Tst → Prop), fo_h (fi_er F) ≤ D → tk σ0 F → lo_L σ0 c d n ((pre ++ fi_rt F).map some) → fx σ0 σ c0 n0 → σ0.1 q = none → lo_It σ q c pre.length → c0 + fi_sz F ≤ σ0.2.1 → n0 + 4 * fi_sz F ≤ σ0.2.2.1 →
    (∀ σ' : Tst, fx σ0 σ' (c0 + fi_sz F) (n0 + 4 * fi_sz F) → Q (nI (acc + fi_sz F)) σ') → w_X3_size_b12 (w_X3_size D) Q X ((fi_rt F).length + 1) (nI acc) (some q) σ := by
  intro F
  induction F with
  | leaf =>
    intro D σ0 σ c d n q acc c0 n0 pre Q X hD ht hL hf hq hI hc hn k
    rw [w_X3_size_b12]
    exact lo_each hf hL hq hI (by simp [fi_rt]) (fun _ => k σ hf) (fun h => by simp [fi_rt] at h)
  | inner s w u kids rest ih1 ih2 =>
    intro D σ0 σ c d n q acc c0 n0 pre Q X hD ht hL hf hq hI hc hn k
    obtain ⟨⟨c1, d1, n1, e3, e5, e6, ha, hL1⟩, hk, hr⟩ := ht
    simp only [fi_sz, fi_er, fo_size, fo_h] at hD hc hn k
    simp only [fi_sz] at ih1 ih2
    rw [w_X3_size_b12]
    refine lo_each hf hL hq hI (by simp [fi_rt]) (fun h => by simp [fi_rt] at h) (fun _ σ1 hI1 hf1 => ?_)
    rw [fi_rt, gd_mid]
    have ha1 := hf1.k ha
    obtain ⟨D', rfl⟩ : ∃ D', D = D' + 1 := ⟨D - 1, by omega⟩
    have := hf1.c
    have := hf1.s
    refine ⟨Or.inr ⟨_, _, rfl, ha1⟩, ⟨_, _, rfl, ha1⟩, ?_⟩
    rw [w_X3_size]
    refine ⟨_, _, _, rfl, ha1, rfl, lo_iterB (fx.rf σ1) (lo_Lx hf1 hL1) (by omega) (by omega) (fun q1 σ2 hq1 _ hI2 hf2 _ => ⟨_, ih1 D' σ1 σ2 c1 d1 n1 q1 1 _ _ [] _ X (by omega) (tk.x hf1 _ hk) (lo_Lx hf1 hL1) hf2 hq1 hI2 (by omega) (by omega) (fun σ3 hf3 => ?_)⟩)⟩
    rw [ni_add]
    refine ih2 (D' + 1) σ0 σ3 c d n q _ _ _ (pre ++ [w.1]) Q X (by omega) hr (by simpa [fi_rt] using hL) (hf1.tr hf3) hq (by simpa using lo_Itx hf3 hI1) (by omega) (by omega) (fun σ' hf' => ?_)
    have h := k σ' (hf'.mo (by omega) (by omega))
    rw [show acc + (1 + fo_size (fi_er kids)) + fo_size (fi_er rest) = acc + (1 + fo_size (fi_er kids) + fo_size (fi_er rest)) by omega]
    exact h
/-- size() of one node -/
theorem tk_size {σ : Tst} {a D : Nat} {w : Tnw} {K : Tfi} (ha : nk σ a w (fi_rt K)) (hk : tk σ K) (hD : fo_h (fi_er K) < D) (hc : 1 + fi_sz K ≤ σ.2.1) (hn : 4 * (1 + fi_sz K) ≤ σ.2.2.1) {Q : Int32 → Tst → Prop} {X : String → Nat → Tst → Prop}
    (k : ∀ σ' : Tst, fx σ σ' (1 + fi_sz K) (4 * (1 + fi_sz K)) → Q (nI (1 + fi_sz K)) σ') : w_X3_size D (some a) Q X σ := by
  obtain ⟨c, d, n, e3, e5, e6, h1, h2⟩ := ha
  obtain ⟨D', rfl⟩ : ∃ D', D = D' + 1 := ⟨D - 1, by omega⟩
  rw [w_X3_size]
  exact ⟨_, _, _, rfl, h1, rfl, lo_iterB (fx.rf σ) h2 (by omega) (by omega) (fun q1 σ2 hq1 _ hI2 hf2 _ => ⟨_, tk_sizeL K D' σ σ2 c d n q1 1 _ _ [] Q X (by omega) hk h2 hf2 hq1 hI2 (by omega) (by omega) (fun σ3 hf3 => k σ3 (hf3.mo (by omega) (by omega)))⟩)⟩
/-- the hashes of siblings folded into acc -/
def fo_hl : Fo → Int32 → Int32
  | .leaf, acc => acc
  | .inner _ v _ k r, acc => fo_hl r ((31 * acc) + ((31 * fo_hl k ((31 * ((31 * v.1) + v.2.1)) + v.2.2)) + nI (fo_cnt k)))
def fo_hash (v : Int32 × Int32 × Int32) (kids : Fo) : Int32 := (31 * fo_hl kids ((31 * ((31 * v.1) + v.2.1)) + v.2.2)) + nI (fo_cnt kids)
theorem tk_hashL : ∀ (F : Tfi) (D : Nat) (σ0 σ : Tst) (c d n q c0 n0 p : Nat) (f0 f1 f2 f3 f5 f6 : Tfv) (acc : Int32) (pre : List Nat) (Q : Int32 → Tst → Prop) (X : String → Nat → Tst → Prop), fo_h (fi_er F) ≤ D → tk σ0 F → σ0.1 p = some (.inr (cX3, [f0, f1, f2, f3, .inr (some c), f5, f6])) → lo_L σ0 c d n ((pre ++ fi_rt F).map some) → fx σ0 σ c0 n0 → σ0.1 q = none → lo_It σ q c pre.length → c0 + fi_sz F ≤ σ0.2.1 → n0 + 4 * fi_sz F ≤ σ0.2.2.1 →
    (∀ σ' : Tst, fx σ0 σ' (c0 + fi_sz F) (n0 + 4 * fi_sz F) → Q ((31 * fo_hl (fi_er F) acc) + nI (pre ++ fi_rt F).length) σ') → w_X3_hash_b31 (w_X3_hash D) Q X ((fi_rt F).length + 1) (some p) acc (some q) σ := by
  intro F
  induction F with
  | leaf =>
    intro D σ0 σ c d n q c0 n0 p f0 f1 f2 f3 f5 f6 acc pre Q X hD ht hp hL hf hq hI hc hn k
    rw [w_X3_hash_b31]
    refine lo_each hf hL hq hI (by simp [fi_rt]) (fun _ => ?_) (fun h => by simp [fi_rt] at h)
    refine ⟨_, _, _, rfl, hf.k hp, rfl, lo_rc (lo_Lx hf hL), lo_size (lo_Lx hf hL) ?_⟩
    rw [List.length_map]
    exact k σ hf
  | inner s w u kids rest ih1 ih2 =>
    intro D σ0 σ c d n q c0 n0 p f0 f1 f2 f3 f5 f6 acc pre Q X hD ht hp hL hf hq hI hc hn k
    obtain ⟨⟨c1, d1, n1, e3, e5, e6, ha, hL1⟩, hk, hr⟩ := ht
    simp only [fi_sz, fi_er, fo_size, fo_h] at hD hc hn k
    simp only [fi_sz] at ih1 ih2
    rw [w_X3_hash_b31]
    refine lo_each hf hL hq hI (by simp [fi_rt]) (fun h => by simp [fi_rt] at h) (fun _ σ1 hI1 hf1 => ?_)
    rw [fi_rt, gd_mid]
    have ha1 := hf1.k ha
    obtain ⟨D', rfl⟩ : ∃ D', D = D' + 1 := ⟨D - 1, by omega⟩
    have := hf1.c
    have := hf1.s
    refine ⟨Or.inr ⟨_, _, rfl, ha1⟩, ⟨_, _, rfl, ha1⟩, ?_⟩
    rw [w_X3_hash]
    refine ⟨_, _, _, rfl, ha1, rfl, _, _, _, rfl, ha1, rfl, _, _, _, rfl, ha1, rfl, _, _, _, rfl, ha1, rfl, lo_iterB (fx.rf σ1) (lo_Lx hf1 hL1) (by omega) (by omega) (fun q1 σ2 hq1 _ hI2 hf2 _ => ⟨_, ih1 D' σ1 σ2 c1 d1 n1 q1 _ _ w.1 _ _ _ _ _ _ _ [] _ X (by omega) (tk.x hf1 _ hk) ha1 (lo_Lx hf1 hL1) hf2 hq1 hI2 (by omega) (by omega) (fun σ3 hf3 => ?_)⟩)⟩
    refine ih2 (D' + 1) σ0 σ3 c d n q _ _ p _ _ _ _ _ _ _ (pre ++ [w.1]) Q X (by omega) hr hp (by simpa [fi_rt] using hL) (hf1.tr hf3) hq (by simpa using lo_Itx hf3 hI1) (by omega) (by omega) (fun σ' hf' => ?_)
    have h := k σ' (hf'.mo (by omega) (by omega))
    simp only [fo_hl, fi_rt, List.nil_append, fi_rt_len, List.append_assoc, List.singleton_append] at h ⊢
    exact h
theorem tk_hash {σ : Tst} {a D : Nat} {w : Tnw} {K : Tfi} (ha : nk σ a w (fi_rt K)) (hk : tk σ K) (hD : fo_h (fi_er K) < D) (hc : 1 + fi_sz K ≤ σ.2.1) (hn : 4 * (1 + fi_sz K) ≤ σ.2.2.1) {Q : Int32 → Tst → Prop} {X : String → Nat → Tst → Prop}
    (k : ∀ σ' : Tst, fx σ σ' (1 + fi_sz K) (4 * (1 + fi_sz K)) → Q (fo_hash w (fi_er K)) σ') : w_X3_hash D (some a) Q X σ := by
  obtain ⟨c, d, n, e3, e5, e6, h1, h2⟩ := ha
  obtain ⟨D', rfl⟩ : ∃ D', D = D' + 1 := ⟨D - 1, by omega⟩
  rw [w_X3_hash]
  refine ⟨_, _, _, rfl, h1, rfl, _, _, _, rfl, h1, rfl, _, _, _, rfl, h1, rfl, _, _, _, rfl, h1, rfl, lo_iterB (fx.rf σ) h2 (by omega) (by omega) (fun q1 σ2 hq1 _ hI2 hf2 _ => ⟨_, tk_hashL K D' σ σ2 c d n q1 _ _ a _ _ _ _ _ _ _ [] Q X (by omega) hk h1 h2 hf2 hq1 hI2 (by omega) (by omega) (fun σ3 hf3 => ?_)⟩)⟩
  have h := k σ3 (hf3.mo (by omega) (by omega))
  simp only [fo_hash, List.nil_append, fi_rt_len] at h ⊢
  exact h
/-- a child with this key -/
def fo_has (key : Int32) : Fo → Bool
  | .leaf => false
  | .inner _ v _ _ r => decide (v.2.1 = key) || fo_has key r
theorem tk_hasL (key : Int32) : ∀ (F : Tfi) (σ0 σ : Tst) (c d n q c0 n0 : Nat) (pre : List Nat) (Q : Int32 → Tst → Prop) (X : String → Nat → Tst → Prop), tk σ0 F → lo_L σ0 c d n ((pre ++ fi_rt F).map some) → fx σ0 σ c0 n0 → σ0.1 q = none → lo_It σ q c pre.length →
    (∀ σ' : Tst, fx σ0 σ' c0 n0 → Q (if fo_has key (fi_er F) then 1 else 0) σ') → w_X3_hasChildWithKey_b10 Q X ((fi_rt F).length + 1) key (some q) σ := by
  intro F
  induction F with
  | leaf =>
    intro σ0 σ c d n q c0 n0 pre Q X ht hL hf hq hI k
    rw [w_X3_hasChildWithKey_b10]
    exact lo_each hf hL hq hI (by simp [fi_rt]) (fun _ => ⟨rfl, k σ hf⟩) (fun h => by simp [fi_rt] at h)
  | inner s w u kids rest ih1 ih2 =>
    intro σ0 σ c d n q c0 n0 pre Q X ht hL hf hq hI k
    obtain ⟨⟨c1, d1, n1, e3, e5, e6, ha, hL1⟩, hk, hr⟩ := ht
    rw [w_X3_hasChildWithKey_b10]
    refine lo_each hf hL hq hI (by simp [fi_rt]) (fun h => by simp [fi_rt] at h) (fun _ σ1 hI1 hf1 => ?_)
    rw [fi_rt, gd_mid]
    have ha1 := hf1.k ha
    refine ⟨Or.inr ⟨_, _, rfl, ha1⟩, _, _, _, rfl, ha1, rfl, fun hk => ?_, fun hk => ?_⟩
    · have h := k σ1 hf1
      rw [show fo_has key (fi_er (.inner s w u kids rest)) = true by simp [fi_er, fo_has, hk]] at h
      exact ⟨rfl, h⟩
    · refine ih2 σ0 σ1 c d n q _ _ (pre ++ [w.1]) Q X hr (by simpa [fi_rt] using hL) hf1 hq (by simpa using hI1) (fun σ' hf' => ?_)
      have h := k σ' hf'
      rw [show fo_has key (fi_er (.inner s w u kids rest)) = fo_has key (fi_er rest) by simp [fi_er, fo_has, hk]] at h
      exact h
theorem tk_has {σ : Tst} {a : Nat} {w : Tnw} {K : Tfi} {key : Int32} (ha : nk σ a w (fi_rt K)) (hk : tk σ K) (hc : 1 ≤ σ.2.1) (hn : 4 ≤ σ.2.2.1) {Q : Int32 → Tst → Prop} {X : String → Nat → Tst → Prop}
    (k : ∀ σ' : Tst, fx σ σ' 1 4 → Q (if fo_has key (fi_er K) then 1 else 0) σ') : w_X3_hasChildWithKey (some a) key Q X σ := by
  obtain ⟨c, d, n, e3, e5, e6, h1, h2⟩ := ha
  unfold w_X3_hasChildWithKey
  exact ⟨_, _, _, rfl, h1, rfl, lo_iterB (fx.rf σ) h2 hc hn (fun q1 σ2 hq1 _ hI2 hf2 _ => ⟨_, tk_hasL key K σ σ2 c d n q1 _ _ [] Q X hk h2 hf2 hq1 hI2 (fun σ3 hf3 => k σ3 (hf3.mo (by omega) (by omega)))⟩)⟩
-- Node.isLike(other, isShapeEnough)
def fo_eqs (fl : Int32) : Fo → Fo → Bool
  | .leaf, .leaf => true
  | .inner _ v _ k r, .inner _ v' _ k' r' => (!decide (fl = 0) || decide (v = v')) && (fo_eqs fl k k' && fo_eqs fl r r')
  | _, _ => false
/-- two trees are like -/
def fo_like (fl : Int32) (v : Int32 × Int32 × Int32) (K : Fo) (v' : Int32 × Int32 × Int32) (K' : Fo) : Bool := (!decide (fl = 0) || decide (v = v')) && fo_eqs fl K K'
theorem fo_eqs_cnt (fl : Int32) : ∀ F G : Fo, fo_eqs fl F G = true → fo_cnt F = fo_cnt G := by
  intro F
  induction F with
  | leaf =>
    intro G h
    cases G with
    | leaf => rfl
    | inner s v u k r => simp [fo_eqs] at h
  | inner s v u k r ih1 ih2 =>
    intro G h
    cases G with
    | leaf => simp [fo_eqs] at h
    | inner s' v' u' k' r' =>
      simp only [fo_eqs, Bool.and_eq_true] at h
      simp only [fo_cnt, ih2 _ h.2.2]
theorem tk_like1 {σ : Tst} {a b D : Nat} {w w' : Tnw} {K K' : Tfi} {fl : Int32} (ha : nk σ a w (fi_rt K)) (hb : nk σ b w' (fi_rt K'))
    (H : fo_cnt (fi_er K) = fo_cnt (fi_er K') → ∀ (Q : Int32 → Tst → Prop) (X : String → Nat → Tst → Prop), Q (if fo_eqs fl (fi_er K) (fi_er K') then 1 else 0) σ → ∃ z, w_X3_isLike_b62 (w_X3_isLike D) Q X z (some a) (some b) fl 0 σ) {Q : Int32 → Tst → Prop} {X : String → Nat → Tst → Prop}
    (k : Q (if fo_like fl w (fi_er K) w' (fi_er K') then 1 else 0) σ) : w_X3_isLike (D + 1) (some a) (some b) fl Q X σ := by
  obtain ⟨c, d, n, e3, e5, e6, h1, h2⟩ := ha
  obtain ⟨c', d', n', e3', e5', e6', h1', h2'⟩ := hb
  have hl := fi_rt_len K
  have hl' := fi_rt_len K'
  rw [w_X3_isLike]
  have hn : (fi_rt K).length < 1000 := by obtain ⟨_, _, _, _, g1, g2, -⟩ := h2; rw [List.length_map] at g1; omega
  have hn' : (fi_rt K').length < 1000 := by obtain ⟨_, _, _, _, g1, g2, -⟩ := h2'; rw [List.length_map] at g1; omega
  refine ⟨_, _, _, rfl, h1, rfl, lo_rc h2, lo_size h2 ⟨_, _, _, rfl, h1', rfl, lo_rc h2', lo_size h2' ⟨fun e => ?_, fun e => ?_⟩⟩⟩
  · simp only [List.length_map] at e
    have e := (ni_inj (by omega) (by omega)).mp e
    rw [hl, hl'] at e
    have H' := H e Q X
    unfold fo_like at k
    refine ⟨fun hfl => ?_, fun hfl => ?_⟩
    · subst hfl
      simp only [decide_true, Bool.not_true, Bool.false_or] at k
      refine ⟨_, _, _, rfl, h1, rfl, _, _, _, rfl, h1', rfl, fun c0 => ⟨_, _, _, rfl, h1, rfl, _, _, _, rfl, h1', rfl, fun c1 => ⟨_, _, _, rfl, h1, rfl, _, _, _, rfl, h1', rfl, fun c2 => ?_, fun c2 => ?_⟩, fun c1 => ?_⟩, fun c0 => ?_⟩
      · have hw : w = w' := Prod.ext c0 (Prod.ext c1 c2)
        rw [decide_eq_true hw, Bool.true_and] at k
        exact H' k
      all_goals
        have hw : w ≠ w' := by intro e; subst e; exact absurd rfl ‹_›
        rw [decide_eq_false hw, Bool.false_and] at k
        exact ⟨rfl, k⟩
    · rw [decide_eq_false hfl] at k
      simp only [Bool.not_false, Bool.true_or, Bool.true_and] at k
      exact H' k
  · have hne : fo_cnt (fi_er K) ≠ fo_cnt (fi_er K') := by
      intro h
      apply e
      simp only [List.length_map, hl, hl', h]
    have h0 : fo_eqs fl (fi_er K) (fi_er K') = false := by
      cases hh : fo_eqs fl (fi_er K) (fi_er K') with
      | false => rfl
      | true => exact absurd (fo_eqs_cnt _ _ _ hh) hne
    unfold fo_like at k
    rw [h0, Bool.and_false] at k
    exact ⟨rfl, k⟩
theorem tk_likeL {fl : Int32} : ∀ (F G : Tfi) (D : Nat) (σ : Tst) (a b c d n c' d' n' : Nat) (f0 f1 f2 f3 f5 f6 g0 g1 g2 g3 g5 g6 : Tfv) (pre pre' : List Nat) (Q : Int32 → Tst → Prop) (X : String → Nat → Tst → Prop), fo_h (fi_er F) ≤ D → tk σ F → tk σ G → σ.1 a = some (.inr (cX3, [f0, f1, f2, f3, .inr (some c), f5, f6])) → lo_L σ c d n ((pre ++ fi_rt F).map some) → σ.1 b = some (.inr (cX3, [g0, g1, g2, g3, .inr (some c'), g5, g6])) → lo_L σ c' d' n' ((pre' ++ fi_rt G).map some) → pre'.length = pre.length → fo_cnt (fi_er F) = fo_cnt (fi_er G) →
    Q (if fo_eqs fl (fi_er F) (fi_er G) then 1 else 0) σ → w_X3_isLike_b62 (w_X3_isLike D) Q X ((fi_rt F).length + 1) (some a) (some b) fl (nI pre.length) σ := by
  intro F
  induction F with
  | leaf =>
    intro G D σ a b c d n c' d' n' f0 f1 f2 f3 f5 f6 g0 g1 g2 g3 g5 g6 pre pre' Q X hD hF hG ha hL hb hL' hp hc k
    cases G with
    | leaf =>
      obtain ⟨_, _, _, _, l1, l2, -⟩ := id hL
      simp only [fi_rt, List.append_nil, List.length_map] at l1
      rw [w_X3_isLike_b62]
      refine ⟨_, _, _, rfl, ha, rfl, lo_rc hL, lo_size hL ⟨fun _ => ⟨rfl, k⟩, fun h => ?_⟩⟩
      simp only [fi_rt, List.append_nil, List.length_map] at h
      exact absurd ((ni_le (by omega) (by omega)).mpr (Nat.le_refl _)) h
    | inner s w u kids rest => simp [fi_er, fo_cnt] at hc
  | inner s w u kids rest ih1 ih2 =>
    intro G D σ a b c d n c' d' n' f0 f1 f2 f3 f5 f6 g0 g1 g2 g3 g5 g6 pre pre' Q X hD hF hG ha hL hb hL' hp hc k
    cases G with
    | leaf => simp [fi_er, fo_cnt] at hc
    | inner s' w' u' kids' rest' =>
      obtain ⟨hw, hk, hr⟩ := hF
      obtain ⟨hw', hk', hr'⟩ := hG
      obtain ⟨_, _, _, _, l1, l2, -⟩ := id hL
      simp only [fi_er, fo_cnt, fo_h] at hc hD
      simp only [fi_rt, List.length_map, List.length_append, List.length_cons] at l1
      obtain ⟨D', rfl⟩ : ∃ D', D = D' + 1 := ⟨D - 1, by omega⟩
      obtain ⟨_, _, _, _, _, _, i1, -⟩ := id hw
      obtain ⟨_, _, _, _, _, _, i1', -⟩ := id hw'
      rw [w_X3_isLike_b62]
      refine ⟨_, _, _, rfl, ha, rfl, lo_rc hL, lo_size hL ⟨fun h => ?_, fun _ => ?_⟩⟩
      · simp only [fi_rt, List.length_map, List.length_append, List.length_cons] at h
        exact absurd ((ni_le (by omega) (by omega)).mp h) (by omega)
      have e1 : ((pre ++ fi_rt (.inner s w u kids rest)).map some).getD pre.length none = some w.1 := gd_mid _ _ _
      have e2 : ((pre' ++ fi_rt (.inner s' w' u' kids' rest')).map some).getD pre.length none = some w'.1 := by rw [← hp]; exact gd_mid _ _ _
      refine ⟨_, _, _, rfl, ha, rfl, lo_rc hL, lo_get hL (by simp [fi_rt]) ?_⟩
      rw [e1]
      refine ⟨Or.inr ⟨_, _, rfl, i1⟩, _, _, _, rfl, hb, rfl, lo_rc hL', lo_get hL' (by simp [fi_rt]; omega) ?_⟩
      rw [e2]
      refine ⟨Or.inr ⟨_, _, rfl, i1'⟩, ⟨_, _, rfl, i1⟩, tk_like1 hw hw' (fun hcc Q X kk => ?_) ⟨fun h0 => ?_, fun h0 => ?_⟩⟩
      · obtain ⟨c1, d1, n1, _, _, _, j1, j2⟩ := hw
        obtain ⟨c1', d1', n1', _, _, _, j1', j2'⟩ := hw'
        exact ⟨_, ih1 kids' D' σ w.1 w'.1 c1 d1 n1 c1' d1' n1' _ _ _ _ _ _ _ _ _ _ _ _ [] [] Q X (by omega) hk hk' j1 j2 j1' j2' rfl hcc kk⟩
      · have hz : fo_like fl w.2 (fi_er kids) w'.2 (fi_er kids') = false := by
          cases hh : fo_like fl w.2 (fi_er kids) w'.2 (fi_er kids') with
          | false => rfl
          | true => rw [hh] at h0; exact absurd h0 (by decide)
        have hz2 : fo_eqs fl (fi_er (.inner s w u kids rest)) (fi_er (.inner s' w' u' kids' rest')) = false := by
          simp only [fi_er, fo_eqs, ← Bool.and_assoc]
          unfold fo_like at hz
          rw [hz, Bool.false_and]
        rw [hz2] at k
        exact ⟨rfl, k⟩
      · have hz : fo_like fl w.2 (fi_er kids) w'.2 (fi_er kids') = true := by
          cases hh : fo_like fl w.2 (fi_er kids) w'.2 (fi_er kids') with
          | true => rfl
          | false => rw [hh] at h0; exact absurd rfl h0
        have hz2 : fo_eqs fl (fi_er (.inner s w u kids rest)) (fi_er (.inner s' w' u' kids' rest')) = fo_eqs fl (fi_er rest) (fi_er rest') := by
          simp only [fi_er, fo_eqs, ← Bool.and_assoc]
          unfold fo_like at hz
          rw [hz, Bool.true_and]
        rw [hz2] at k
        have h := ih2 rest' (D' + 1) σ a b c d n c' d' n' _ _ _ _ _ _ _ _ _ _ _ _ (pre ++ [w.1]) (pre' ++ [w'.1]) Q X (by omega) hr hr' ha (by simpa [fi_rt] using hL) hb (by simpa [fi_rt] using hL') (by simp [hp]) (by omega) k
        rw [ni_1, ni_add]
        simpa [fi_rt] using h
theorem tk_like {σ : Tst} {a b D : Nat} {w w' : Tnw} {K K' : Tfi} {fl : Int32} (ha : nk σ a w (fi_rt K)) (hb : nk σ b w' (fi_rt K')) (hk : tk σ K) (hk' : tk σ K') (hD : fo_h (fi_er K) < D) {Q : Int32 → Tst → Prop} {X : String → Nat → Tst → Prop}
    (k : Q (if fo_like fl w (fi_er K) w' (fi_er K') then 1 else 0) σ) : w_X3_isLike D (some a) (some b) fl Q X σ := by
  obtain ⟨D', rfl⟩ : ∃ D', D = D' + 1 := ⟨D - 1, by omega⟩
  refine tk_like1 ha hb (fun hcc Q X kk => ?_) k
  obtain ⟨c1, d1, n1, _, _, _, j1, j2⟩ := ha
  obtain ⟨c1', d1', n1', _, _, _, j1', j2'⟩ := hb
  exact ⟨_, tk_likeL K K' D' σ a b c1 d1 n1 c1' d1' n1' _ _ _ _ _ _ _ _ _ _ _ _ [] [] Q X (by omega) hk hk' j1 j2 j1' j2' rfl hcc kk⟩
