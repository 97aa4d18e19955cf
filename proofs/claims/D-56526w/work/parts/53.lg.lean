-- ArrayDeque as a stack; the iterator over a tree in preorder
/-- a deque at q, its array es, holding xs (the last one on top) -/
def lo_Q (σ : Tst) (q es cap head : Nat) (xs : List Nat) : Prop := ∃ f : Nat → Option Nat, σ.1 q = some (.inr (cJ20, [.inr (some es), .inl (nI head), .inl (nI ((head + xs.length) % cap))])) ∧ σ.1 es = some (.inl (5, cap, .inr (.inr (.inr (.inr f))))) ∧ ((cap = 17 ∧ head = 0 ∧ xs.length ≤ 16) ∨ (cap = 36 ∧ head = 19 ∧ xs.length ≤ 30)) ∧ ∀ i, i < xs.length → f ((head + i) % cap) = some (xs.getD i 0)
theorem lo_Q.ne {σ : Tst} {q es cap head : Nat} {xs : List Nat} (h : lo_Q σ q es cap head xs) : es ≠ q := by
  obtain ⟨f, h1, h2, -⟩ := h
  intro e; subst e; rw [h1] at h2; cases h2
theorem lo_Q.ofr {A : Nat → Prop} {σ σ' : Tst} {c m : Nat} (hf : fr A σ σ' c m) {q es cap head : Nat} {xs : List Nat} (h : lo_Q σ q es cap head xs) (h1 : ¬ A q) (h2 : ¬ A es) : lo_Q σ' q es cap head xs := by
  obtain ⟨f, g1, g2, g3, g4⟩ := h
  exact ⟨f, hf.1 _ _ h1 g1, hf.1 _ _ h2 g2, g3, g4⟩
theorem lo_Qfill {σ0 : Tst} {es : Nat} {Q : Tst → Prop} {X : String → Nat → Tst → Prop} : ∀ (m i : Nat) (σ : Tst) (f : Nat → Option Nat), i + m = 19 → fr (fun z => z = es) σ0 σ 0 0 → σ.1 es = some (.inl (5, 36, .inr (.inr (.inr (.inr f))))) →
    (∀ (σ' : Tst) (f' : Nat → Option Nat), fr (fun z => z = es) σ0 σ' 0 0 → σ'.1 es = some (.inl (5, 36, .inr (.inr (.inr (.inr f'))))) → (∀ j, 19 ≤ j → f' j = f j) → Q σ') → w_J20_grow_b145 Q X (m + 1) (some es) (nI i) (nI 19) σ := by
  intro m
  induction m with
  | zero =>
    intro i σ f hi hf he k
    rw [w_J20_grow_b145]
    refine ⟨fun _ => ?_, fun c => absurd ((ni_le (by omega) (by omega)).mpr (by omega)) c⟩
    exact k σ f hf he (fun _ _ => rfl)
  | succ m ih =>
    intro i σ f hi hf he k
    rw [w_J20_grow_b145]
    refine ⟨fun c => absurd ((ni_le (by omega) (by omega)).mp c) (by omega), fun _ => ⟨_, _, _, _, _, rfl, he, ⟨by omega, by omega, by omega⟩, rfl, (by omega), (by omega), Or.inl rfl, ?_⟩⟩
    rw [ni_1, ni_add]
    refine ih (i + 1) _ _ (by omega) ((hf.tr (fr.up σ es _) (fun b e h _ => h)).mono (fun _ _ h _ => h) (by omega) (by omega)) (up_at _ _ _) (fun σ' f' h1 h2 h3 => k σ' f' h1 h2 (fun j hj => ?_))
    rw [h3 j hj]
    have e : ¬ j = i := by omega
    simp only [va_up, if_neg e]
theorem lo_Qgrow {σ : Tst} {q es : Nat} {xs : List Nat} {f : Nat → Option Nat} (h1 : σ.1 q = some (.inr (cJ20, [.inr (some es), .inl (nI 0), .inl (nI 0)]))) (h2 : σ.1 es = some (.inl (5, 17, .inr (.inr (.inr (.inr f)))))) (hl : xs.length = 17) (hx : ∀ i, i < 17 → f i = some (xs.getD i 0)) (hm : ∀ y ∈ xs, w_may σ 5 (some y)) (hmq : ∀ y ∈ xs, y ≠ q) (hc : 1 ≤ σ.2.1) (hs : 36 ≤ σ.2.2.1) {Q : Tst → Prop} {X : String → Nat → Tst → Prop}
    (k : ∀ (σ' : Tst) (es' : Nat), lo_Q σ' q es' 36 19 xs → σ.1 es' = none → fr (fun z => z = q) σ σ' 1 36 → Q σ') : w_J20_grow (some q) 1 Q X σ := by
  have hne : es ≠ q := by intro e; subst e; rw [h1] at h2; cases h2
  have hmf : ∀ j, j < 17 → w_may σ 5 (f j) := fun j hj => by
    rw [hx j hj]
    have hj' : j < xs.length := by omega
    rw [List.getD_eq_getElem?_getD, List.getElem?_eq_getElem hj']
    exact hm _ (List.getElem_mem hj')
  unfold w_J20_grow
  refine ⟨_, _, _, rfl, h1, rfl, _, _, _, _, rfl, h2, (by decide), fun c => absurd c (by decide), fun _ => ?_⟩
  unfold w_J20_grow_b21
  refine ⟨fun c => absurd c (by decide), fun _ => ⟨fun _ => ?_, fun c => absurd c (by decide)⟩⟩
  show w_J20_grow_b49 Q X (some q) (nI 17) (nI 36) σ
  unfold w_J20_grow_b49
  refine ⟨_, _, _, rfl, h1, rfl, lo_copyOf h2 (by decide) (by decide) (by decide) (by decide) hmf hc hs (fun p σ1 g hp hp1 hg hf1 => ?_)⟩
  have f1 : fx σ σ1 1 36 := hf1
  have hqp : q ≠ p := kn_ne h1 hp
  refine ⟨_, _, rfl, f1.k h1, (by simp), ?_⟩
  have a1 := up_at σ1 q (.inr (cJ20, ([.inr (some es), .inl (nI 0), .inl (nI 0)] : List Tfv).set 0 (.inr (some p))))
  have a2 := (up_ne σ1 (.inr (cJ20, ([.inr (some es), .inl (nI 0), .inl (nI 0)] : List Tfv).set 0 (.inr (some p)))) (Ne.symm hqp)).trans hp1
  have f2 := (f1.mono (B := fun z => z = q) (fun _ _ h _ => h.elim) (Nat.le_refl _) (Nat.le_refl _)).tr (fr.up σ1 q (.inr (cJ20, ([.inr (some es), .inl (nI 0), .inl (nI 0)] : List Tfv).set 0 (.inr (some p))))) (fun _ _ h _ => h)
  generalize st_up σ1 q (.inr (cJ20, ([.inr (some es), .inl (nI 0), .inl (nI 0)] : List Tfv).set 0 (.inr (some p)))) = σ2 at *
  refine ⟨_, _, _, rfl, a1, rfl, _, _, _, rfl, a1, rfl, fun c => absurd c (by decide), fun _ => ⟨_, _, _, rfl, a1, rfl, _, _, _, rfl, a1, rfl, fun _ => ⟨_, _, _, rfl, a1, rfl, _, _, _, _, 0, rfl, a2, ⟨by omega, by omega⟩, rfl, (by omega), (by omega), fun c => ?_, fun _ => ?_⟩, fun c => absurd rfl c⟩⟩
  · rw [hg 0 (by decide), hx 0 (by decide)] at c
    cases c
  unfold w_J20_grow_b96
  refine ⟨_, _, _, rfl, a1, rfl, _, _, _, rfl, a1, rfl, _, _, _, rfl, a1, rfl, _, _, g, _, _, g, 0, 19, 17, rfl, a2, rfl, a2, rfl, rfl, rfl, by decide, by decide, by decide, by decide, Or.inl (by decide), Or.inl (by decide), fun j hj => ?_, ?_⟩
  · rw [Nat.zero_add, hg j hj]
    exact w_mayfr f2 (hmf j hj) (fun b hb e => by
      rw [hx j hj] at hb
      cases hb
      subst e
      have hj' : j < xs.length := by omega
      rw [List.getD_eq_getElem?_getD, List.getElem?_eq_getElem hj'] at *
      exact hmq _ (List.getElem_mem hj') rfl)
  have b1 := (up_ne σ2 (.inl (5, 36, .inr (.inr (.inr (.inr (va_cpy g g 0 19 17)))))) hqp).trans a1
  have b2 := up_at σ2 p (.inl (5, 36, .inr (.inr (.inr (.inr (va_cpy g g 0 19 17))))))
  have hpA : ∀ (b : Nat) (e : Tce), b = p → σ.1 b = some e → b = q := fun b e hb h => by rw [hb, hp] at h; cases h
  have f3 := f2.tr (fr.up σ2 p (.inl (5, 36, .inr (.inr (.inr (.inr (va_cpy g g 0 19 17))))))) hpA
  generalize st_up σ2 p (.inl (5, 36, .inr (.inr (.inr (.inr (va_cpy g g 0 19 17)))))) = σ3 at *
  refine ⟨_, _, _, rfl, b1, rfl, _, _, _, rfl, b1, rfl, _, _, rfl, b1, (by simp), ?_⟩
  have c1 := up_at σ3 q (.inr (cJ20, [.inr (some p), .inl (nI 19), .inl (nI 0)]))
  have c2 := (up_ne σ3 (.inr (cJ20, [.inr (some p), .inl (nI 19), .inl (nI 0)])) (Ne.symm hqp)).trans b2
  have f4 := f3.tr (fr.up σ3 q (.inr (cJ20, [.inr (some p), .inl (nI 19), .inl (nI 0)]))) (fun _ _ h _ => h)
  show ∃ z, w_J20_grow_b145 Q X z (some p) (nI 0) (nI 19) (st_up σ3 q (.inr (cJ20, [.inr (some p), .inl (nI 19), .inl (nI 0)])))
  generalize st_up σ3 q (.inr (cJ20, [.inr (some p), .inl (nI 19), .inl (nI 0)])) = σ4 at *
  refine ⟨20, lo_Qfill 19 0 σ4 _ (by decide) (fr.rf _ σ4) c2 (fun σ5 f5 h5 h6 h7 => ?_)⟩
  refine k σ5 p ⟨f5, ?_, h6, Or.inr ⟨rfl, rfl, by omega⟩, fun i hi => ?_⟩ hp ((f4.tr h5 hpA).mono (fun _ _ h _ => h) (by omega) (by omega))
  · have := h5.1 _ _ hqp c1
    rw [hl]
    exact this
  · rw [hl] at hi
    rw [Nat.mod_eq_of_lt (by omega), h7 _ (by omega)]
    have e : 19 ≤ 19 + i ∧ 19 + i < 19 + 17 := by omega
    simp only [va_cpy, if_pos e]
    rw [show 0 + (19 + i - 19) = i by omega, hg i (by omega), hx i (by omega)]
/-- one cell and 36 slots were used to grow -/
def gq (cap : Nat) : Nat := if cap = 36 then 1 else 0
theorem lo_addLast {σ : Tst} {q es cap head x : Nat} {xs : List Nat} (h : lo_Q σ q es cap head xs) (hm : ∀ y ∈ xs, w_may σ 5 (some y)) (hmq : ∀ y ∈ xs, y ≠ q) (hx : w_may σ 5 (some x)) (hxq : x ≠ q) (hl : xs.length ≤ 20) (hc : 1 - gq cap ≤ σ.2.1) (hs : 36 * (1 - gq cap) ≤ σ.2.2.1) {Q : Tst → Prop} {X : String → Nat → Tst → Prop}
    (k : ∀ (σ' : Tst) (es' cap' head' : Nat), lo_Q σ' q es' cap' head' (xs ++ [x]) → (es' = es ∨ σ.1 es' = none) → fr (fun z => z = q ∨ z = es) σ σ' (gq cap' - gq cap) (36 * (gq cap' - gq cap)) → gq cap ≤ gq cap' → Q σ') : w_J20_addLast (some q) (some x) Q X σ := by
  have hne := h.ne
  obtain ⟨f, h1, h2, h3, h4⟩ := h
  have hcap : (head + xs.length) % cap < cap ∧ cap < 1000 := by
    rcases h3 with ⟨rfl, rfl, h3⟩ | ⟨rfl, rfl, h3⟩ <;> omega
  unfold w_J20_addLast
  refine ⟨fun c => (by cases c), fun _ => ⟨_, _, _, rfl, h1, rfl, _, _, _, rfl, h1, rfl, _, _, _, _, _, rfl, h2, ⟨by omega, by omega, by omega⟩, rfl, (by omega), (by omega), hx, ?_⟩⟩
  have a1 := (up_ne σ (.inl (5, cap, .inr (.inr (.inr (.inr (va_up f ((head + xs.length) % cap) (some x))))))) (Ne.symm hne)).trans h1
  have a2 := up_at σ es (.inl (5, cap, .inr (.inr (.inr (.inr (va_up f ((head + xs.length) % cap) (some x)))))))
  have f1 := fr.up σ es (.inl (5, cap, .inr (.inr (.inr (.inr (va_up f ((head + xs.length) % cap) (some x)))))))
  generalize st_up σ es (.inl (5, cap, .inr (.inr (.inr (.inr (va_up f ((head + xs.length) % cap) (some x))))))) = σ1 at *
  refine ⟨_, _, _, rfl, a1, rfl, _, _, _, rfl, a1, rfl, _, _, _, _, rfl, a2, (by decide), ?_⟩
  unfold w_J20_inc w_J20_inc_b10
  rw [ni_1, ni_add]
  have key : ∀ t : Nat, t = (head + (xs.length + 1)) % cap → w_p σ1 (some q) cJ20 2 (.inl (nI t)) (fun σ => w_if (nI head = nI t) (w_rc σ (some q) cJ20 (w_J20_grow (some q) (nI 1) (fun σ => w_J20_addLast_b50 Q X σ) X σ)) (w_J20_addLast_b50 Q X σ)) := by
    intro t ht
    refine ⟨_, _, rfl, a1, (by simp), ?_⟩
    have ht2 : t < 1000 := by rw [ht]; exact Nat.lt_of_lt_of_le (Nat.mod_lt _ (by omega)) (by omega)
    have b1 := up_at σ1 q (.inr (cJ20, [.inr (some es), .inl (nI head), .inl (nI t)]))
    have b2 := (up_ne σ1 (.inr (cJ20, [.inr (some es), .inl (nI head), .inl (nI t)])) hne).trans a2
    have f2 := (f1.mono (B := fun z => z = q ∨ z = es) (fun _ _ h _ => Or.inr h) (Nat.le_refl _) (Nat.le_refl _)).tr (fr.up σ1 q (.inr (cJ20, [.inr (some es), .inl (nI head), .inl (nI t)]))) (fun _ _ h _ => Or.inl h)
    show w_if _ _ _
    have hsimp : st_up σ1 q (.inr (cJ20, ([.inr (some es), .inl (nI head), .inl (nI ((head + xs.length) % cap))] : List Tfv).set 2 (.inl (nI t)))) = st_up σ1 q (.inr (cJ20, [.inr (some es), .inl (nI head), .inl (nI t)])) := rfl
    rw [hsimp]
    generalize st_up σ1 q (.inr (cJ20, [.inr (some es), .inl (nI head), .inl (nI t)])) = σ2 at *
    unfold w_J20_addLast_b50
    have hval : ∀ i, i < (xs ++ [x]).length → va_up f ((head + xs.length) % cap) (some x) ((head + i) % cap) = some ((xs ++ [x]).getD i 0) := fun i hi => by
      simp only [List.length_append, List.length_cons, List.length_nil] at hi
      by_cases e : i = xs.length
      · subst e
        simp [va_up]
      · have hi' : i < xs.length := by omega
        have e2 : ¬ (head + i) % cap = (head + xs.length) % cap := by
          rcases h3 with ⟨rfl, rfl, h3⟩ | ⟨rfl, rfl, h3⟩ <;> omega
        simp only [va_up, if_neg e2]
        rw [h4 i hi', List.getD_eq_getElem?_getD, List.getD_eq_getElem?_getD, List.getElem?_append_left hi']
    refine ⟨fun c => ?_, fun c => ?_⟩
    · have c := (ni_inj (by omega) (by omega)).mp c
      have hfull : cap = 17 ∧ head = 0 ∧ xs.length = 16 := by
        rcases h3 with ⟨rfl, rfl, h3⟩ | ⟨rfl, rfl, h3⟩ <;> omega
      obtain ⟨rfl, rfl, hl16⟩ := hfull
      have ht0 : t = 0 := by rw [ht, hl16]
      subst ht0
      have hg17 : gq 17 = 0 := rfl
      rw [hg17] at hc hs
      have := f2.2.2.1
      have := f2.2.2.2.1
      refine ⟨⟨_, _, rfl, b1⟩, lo_Qgrow (xs := xs ++ [x]) b1 b2 (by simp [hl16]) (fun i hi => ?_) (fun y hy => ?_) (fun y hy => ?_) (by omega) (by omega) (fun σ3 es' hQ3 hes hf3 => ?_)⟩
      · have q1 := hval i (by simp [hl16]; omega)
        rw [show (0 + i) % 17 = i by omega] at q1
        exact q1
      · have q1 : w_may σ 5 (some y) := by
          rcases List.mem_append.mp hy with hy | hy
          · exact hm y hy
          · rw [List.mem_singleton.mp hy]; exact hx
        rcases q1 with q1 | ⟨b, ci, vs, q1, q2, q3⟩
        · cases q1
        · cases q1
          refine Or.inr ⟨y, ci, vs, rfl, f2.1 _ _ (fun hz => ?_) q2, q3⟩
          rcases hz with hz | hz
          · rcases List.mem_append.mp hy with hy | hy
            · exact hmq y hy hz
            · rw [List.mem_singleton.mp hy] at hz; exact hxq hz
          · rw [hz, h2] at q2; cases q2
      · rcases List.mem_append.mp hy with hy | hy
        · exact hmq y hy
        · rw [List.mem_singleton.mp hy]; exact hxq
      · refine k σ3 es' 36 19 hQ3 (Or.inr ?_) ((f2.tr hf3 (fun _ _ h _ => Or.inl h)).mono (fun _ _ h _ => h) (by decide) (by decide)) (by decide)
        cases hz : σ.1 es' with
        | none => rfl
        | some e =>
          obtain ⟨e', he'⟩ := f2.2.1 es' e hz
          rw [hes] at he'
          cases he'
    · have hnf : ¬ (cap = 17 ∧ xs.length = 16) := fun hh => by
        apply c
        rcases h3 with ⟨rfl, rfl, h3⟩ | ⟨rfl, rfl, h3⟩
        · rw [ht, hh.2]
        · omega
      refine k σ2 es cap head ⟨_, ?_, b2, ?_, hval⟩ (Or.inl rfl) ((f2).mono (fun _ _ h _ => h) (by omega) (by omega)) (Nat.le_refl _)
      · rw [List.length_append, List.length_singleton, ← ht]; exact b1
      · rw [List.length_append, List.length_singleton]
        rcases h3 with ⟨rfl, rfl, h3⟩ | ⟨rfl, rfl, h3⟩
        · exact Or.inl ⟨rfl, rfl, by omega⟩
        · exact Or.inr ⟨rfl, rfl, by omega⟩
  refine ⟨fun c => key _ ?_, fun c => key 0 ?_⟩
  · have c := (lo_lt (by omega) (by omega)).mp c
    rcases h3 with ⟨rfl, rfl, h3⟩ | ⟨rfl, rfl, h3⟩ <;> omega
  · have c : ¬ ((head + xs.length) % cap + 1 < cap) := fun h => c ((lo_lt (by omega) (by omega)).mpr h)
    rcases h3 with ⟨rfl, rfl, h3⟩ | ⟨rfl, rfl, h3⟩ <;> omega
theorem lo_removeLast {σ : Tst} {q es cap head x : Nat} {xs : List Nat} (h : lo_Q σ q es cap head (xs ++ [x])) {Q : Option Nat → Tst → Prop} {X : String → Nat → Tst → Prop}
    (k : ∀ σ' : Tst, lo_Q σ' q es cap head xs → fr (fun z => z = q ∨ z = es) σ σ' 0 0 → Q (some x) σ') : w_J20_removeLast (some q) Q X σ := by
  have hne := h.ne
  obtain ⟨f, h1, h2, h3, h4⟩ := h
  have hcap : (head + (xs ++ [x]).length) % cap < cap ∧ (head + xs.length) % cap < cap ∧ cap < 1000 := by
    rcases h3 with ⟨rfl, rfl, h3⟩ | ⟨rfl, rfl, h3⟩ <;> omega
  have hx := h4 xs.length (by simp)
  have hgx : (xs ++ [x]).getD xs.length 0 = x := by simp
  rw [hgx] at hx
  unfold w_J20_removeLast
  refine ⟨⟨_, _, rfl, h1⟩, ?_⟩
  unfold w_J20_pollLast
  refine ⟨_, _, _, rfl, h1, rfl, _, _, _, rfl, h1, rfl, _, _, _, _, rfl, h2, (by decide), ?_⟩
  have key : ∀ t : Nat, t = (head + xs.length) % cap → w_J20_elementAt (some es) (nI t) (fun x5 σ => w_if (x5 = none) (w_J20_pollLast_b34 (fun x1 σ => w_if (x1 = none) False (Q x1 σ)) X x5 σ) (w_p σ (some q) cJ20 2 (.inl (nI t)) fun σ => w_sr σ (some es) (nI t) none fun σ => w_J20_pollLast_b34 (fun x1 σ => w_if (x1 = none) False (Q x1 σ)) X x5 σ)) X σ := by
    intro t ht
    unfold w_J20_elementAt w_J20_pollLast_b34
    refine ⟨_, _, _, _, t, rfl, h2, ⟨by omega, by omega⟩, rfl, (by omega), (by omega), ?_⟩
    rw [ht, hx]
    refine ⟨fun c => (by cases c), fun _ => ⟨_, _, rfl, h1, (by simp), ?_⟩⟩
    have b1 := up_at σ q (.inr (cJ20, [.inr (some es), .inl (nI head), .inl (nI ((head + xs.length) % cap))]))
    have b2 := (up_ne σ (.inr (cJ20, [.inr (some es), .inl (nI head), .inl (nI ((head + xs.length) % cap))])) hne).trans h2
    have f2 := (fr.up σ q (.inr (cJ20, [.inr (some es), .inl (nI head), .inl (nI ((head + xs.length) % cap))])))
    show w_sr (st_up σ q (.inr (cJ20, [.inr (some es), .inl (nI head), .inl (nI ((head + xs.length) % cap))]))) _ _ _ _
    generalize st_up σ q (.inr (cJ20, [.inr (some es), .inl (nI head), .inl (nI ((head + xs.length) % cap))])) = σ1 at *
    refine ⟨_, _, _, _, _, rfl, b2, ⟨by omega, by omega, by omega⟩, rfl, (by omega), (by omega), Or.inl rfl, fun c => (by cases c), fun _ => ?_⟩
    refine k _ ⟨_, (up_ne _ _ (Ne.symm hne)).trans b1, up_at _ _ _, ?_, fun i hi => ?_⟩ (((f2.mono (B := fun z => z = q ∨ z = es) (fun _ _ h _ => Or.inl h) (Nat.le_refl _) (Nat.le_refl _)).tr (fr.up σ1 es _) (fun _ _ h _ => Or.inr h)))
    · simp only [List.length_append, List.length_singleton] at h3
      rcases h3 with ⟨rfl, rfl, h3⟩ | ⟨rfl, rfl, h3⟩
      · exact Or.inl ⟨rfl, rfl, by omega⟩
      · exact Or.inr ⟨rfl, rfl, by omega⟩
    · have e2 : ¬ (head + i) % cap = (head + xs.length) % cap := by
        simp only [List.length_append, List.length_singleton] at h3
        rcases h3 with ⟨rfl, rfl, h3⟩ | ⟨rfl, rfl, h3⟩ <;> omega
      simp only [va_up, if_neg e2]
      rw [h4 i (by simp; omega), List.getD_eq_getElem?_getD, List.getD_eq_getElem?_getD, List.getElem?_append_left hi]
  unfold w_J20_dec w_J20_dec_b11
  simp only [List.length_append, List.length_singleton] at h3 hcap
  have hz : nI ((head + (xs ++ [x]).length) % cap) + (-1) = nI ((head + (xs ++ [x]).length) % cap) - nI 1 := by
    rw [Int32.sub_eq_add_neg]; rfl
  rw [hz]
  simp only [List.length_append, List.length_singleton]
  by_cases h0 : (head + (xs.length + 1)) % cap = 0
  · rw [h0]
    refine ⟨fun c => absurd c (by decide), fun _ => ?_⟩
    rw [ni_1, ni_sub (by omega)]
    refine key _ ?_
    rcases h3 with ⟨rfl, rfl, h3⟩ | ⟨rfl, rfl, h3⟩ <;> omega
  · rw [ni_sub (by omega)]
    refine ⟨fun _ => key _ ?_, fun c => absurd ((ni_le (a := 0) (by decide) (by omega)).mpr (Nat.zero_le _)) c⟩
    rcases h3 with ⟨rfl, rfl, h3⟩ | ⟨rfl, rfl, h3⟩ <;> omega
theorem lo_addLast' {σ : Tst} {q es x : Nat} (h : lo_Q σ q es 17 0 []) (hx : w_may σ 5 (some x)) (hxq : x ≠ q) {Q : Tst → Prop} {X : String → Nat → Tst → Prop}
    (k : ∀ (σ' : Tst), lo_Q σ' q es 17 0 [x] → fr (fun z => z = q ∨ z = es) σ σ' 0 0 → Q σ') : w_J20_addLast (some q) (some x) Q X σ := by
  have hne := h.ne
  obtain ⟨f, h1, h2, h3, h4⟩ := h
  unfold w_J20_addLast
  refine ⟨fun c => (by cases c), fun _ => ⟨_, _, _, rfl, h1, rfl, _, _, _, rfl, h1, rfl, _, _, _, _, 0, rfl, h2, ⟨by omega, by omega, by omega⟩, rfl, (by omega), (by omega), hx, ?_⟩⟩
  have a1 := (up_ne σ (.inl (5, 17, .inr (.inr (.inr (.inr (va_up f 0 (some x))))))) (Ne.symm hne)).trans h1
  have a2 := up_at σ es (.inl (5, 17, .inr (.inr (.inr (.inr (va_up f 0 (some x)))))))
  have f1 := fr.up σ es (.inl (5, 17, .inr (.inr (.inr (.inr (va_up f 0 (some x)))))))
  generalize st_up σ es (.inl (5, 17, .inr (.inr (.inr (.inr (va_up f 0 (some x))))))) = σ1 at *
  refine ⟨_, _, _, rfl, a1, rfl, _, _, _, rfl, a1, rfl, _, _, _, _, rfl, a2, (by decide), ?_⟩
  unfold w_J20_inc w_J20_inc_b10
  refine ⟨fun _ => ⟨_, _, rfl, a1, (by simp), ?_⟩, fun c => absurd (by decide) c⟩
  refine ⟨fun c => absurd c (by decide), fun _ => ?_⟩
  unfold w_J20_addLast_b50
  refine k _ ⟨_, up_at _ _ _, (up_ne _ _ hne).trans a2, Or.inl ⟨rfl, rfl, by simp⟩, fun i hi => ?_⟩ ((f1.mono (B := fun z => z = q ∨ z = es) (fun _ _ h _ => Or.inr h) (Nat.le_refl _) (Nat.le_refl _)).tr (fr.up σ1 q _) (fun _ _ h _ => Or.inl h))
  have hi0 : i = 0 := by simp at hi; exact hi
  subst hi0
  simp [va_up]
