-- the preorder iterator; Tree.node, Tree.number; exceptions made and thrown
def isn (σ : Tst) (y : Nat) : Prop := ∃ fs : List Tfv, σ.1 y = some (.inr (cX3, fs))
theorem isn.ofr {A : Nat → Prop} {σ σ' : Tst} {c m : Nat} (hf : fr A σ σ' c m) {y : Nat} (h : isn σ y) (hA : ¬ A y) : isn σ' y := by
  obtain ⟨fs, h⟩ := h
  exact ⟨fs, hf.1 _ _ hA h⟩
theorem isn.may {σ : Tst} {y : Nat} (h : isn σ y) : w_may σ 5 (some y) := by
  obtain ⟨fs, h⟩ := h
  exact Or.inr ⟨y, cX3, fs, rfl, h, by decide⟩
theorem lo_Q.isn {σ : Tst} {q es cap head y : Nat} {xs : List Nat} (h : lo_Q σ q es cap head xs) (hy : isn σ y) : y ≠ q ∧ y ≠ es := by
  obtain ⟨f, h1, h2, -⟩ := h
  obtain ⟨fs, h3⟩ := hy
  constructor
  · intro e; subst e; rw [h1] at h3; cases h3
  · intro e; subst e; rw [h2] at h3; cases h3
/-- the iterator p with its deque q stands before the forest G -/
def pit (σ : Tst) (p q es cap head : Nat) (G : Tfi) : Prop := (∃ e1 : Tfv, σ.1 p = some (.inr (cX8, [.inr (some q), e1]))) ∧ lo_Q σ q es cap head (fi_rt G).reverse
theorem pit.ofr {A : Nat → Prop} {σ σ' : Tst} {c m : Nat} (hf : fr A σ σ' c m) {p q es cap head : Nat} {G : Tfi} (h : pit σ p q es cap head G) (h0 : ¬ A p) (h1 : ¬ A q) (h2 : ¬ A es) : pit σ' p q es cap head G := by
  obtain ⟨⟨e1, g1⟩, g2⟩ := h
  exact ⟨⟨e1, hf.1 _ _ h0 g1⟩, g2.ofr hf h1 h2⟩
theorem pit.ne {σ : Tst} {p q es cap head : Nat} {G : Tfi} (h : pit σ p q es cap head G) : p ≠ q ∧ p ≠ es := by
  obtain ⟨⟨e1, h1⟩, f, g1, g2, -⟩ := h
  constructor
  · intro e; subst e; rw [h1] at g1; cases g1
  · intro e; subst e; rw [h1] at g2; cases g2
theorem lo_Qempty {σ : Tst} {q es cap head : Nat} {xs : List Nat} (h : lo_Q σ q es cap head xs) {Q : Int32 → Tst → Prop} {X : String → Nat → Tst → Prop} (k0 : xs = [] → Q 1 σ) (k1 : xs ≠ [] → Q 0 σ) : w_J20_isEmpty (some q) Q X σ := by
  obtain ⟨f, h1, h2, h3, h4⟩ := h
  have hcap : head < 1000 ∧ (head + xs.length) % cap < 1000 := by
    rcases h3 with ⟨rfl, rfl, h3⟩ | ⟨rfl, rfl, h3⟩ <;> omega
  unfold w_J20_isEmpty
  refine ⟨_, _, _, rfl, h1, rfl, _, _, _, rfl, h1, rfl, fun c => ?_, fun c => ?_⟩
  · have c := (ni_inj (by omega) (by omega)).mp c
    refine ⟨rfl, k0 (List.length_eq_zero_iff.mp ?_)⟩
    rcases h3 with ⟨rfl, rfl, h3⟩ | ⟨rfl, rfl, h3⟩ <;> omega
  · refine ⟨rfl, k1 (fun e => c ?_)⟩
    subst e
    rcases h3 with ⟨rfl, rfl, h3⟩ | ⟨rfl, rfl, h3⟩ <;> rfl
theorem pi_hasNext {σ : Tst} {p q es cap head : Nat} {G : Tfi} (h : pit σ p q es cap head G) {Q : Int32 → Tst → Prop} {X : String → Nat → Tst → Prop} (k0 : fi_rt G = [] → Q 0 σ) (k1 : fi_rt G ≠ [] → Q 1 σ) : w_X8_hasNext (some p) Q X σ := by
  obtain ⟨⟨e1, h1⟩, hQ⟩ := h
  obtain ⟨f, g1, -⟩ := id hQ
  unfold w_X8_hasNext
  refine ⟨_, _, _, rfl, h1, rfl, ⟨_, _, rfl, g1⟩, lo_Qempty hQ (fun e => ⟨fun c => absurd c (by decide), fun _ => ⟨rfl, k0 (List.reverse_eq_nil_iff.mp e)⟩⟩) (fun e => ⟨fun _ => ⟨rfl, k1 (fun h => e (by rw [h]; rfl))⟩, fun c => absurd rfl c⟩)⟩
theorem fr2_tr {q es es' : Nat} {σ σ' σ'' : Tst} {c c' n n' : Nat} (h : fr (fun z => z = q ∨ z = es) σ σ' c n) (he : es' = es ∨ σ.1 es' = none) (h' : fr (fun z => z = q ∨ z = es') σ' σ'' c' n') : fr (fun z => z = q ∨ z = es) σ σ'' (c + c') (n + n') :=
  h.tr h' (fun b e hb hk => by
    rcases hb with hb | hb
    · exact Or.inl hb
    · rcases he with he | he
      · exact Or.inr (hb.trans he)
      · rw [hb, he] at hk; cases hk)
theorem fr2_no {A : Nat → Prop} {σ σ' : Tst} {c n z : Nat} (h : fr A σ σ' c n) (hz : σ'.1 z = none) : σ.1 z = none := by
  cases e : σ.1 z with
  | none => rfl
  | some x =>
    obtain ⟨y, hy⟩ := h.2.1 z x e
    rw [hz] at hy
    cases hy
theorem pi_push {p a c d n q : Nat} {f0 f1 f2 f3 f5 f6 e1 : Tfv} {ks base : List Nat} {Q : Option Nat → Tst → Prop} {X : String → Nat → Tst → Prop} : ∀ (m : Nat) (σ : Tst) (es cap head : Nat), m ≤ ks.length → base.length + ks.length ≤ 20 → σ.1 p = some (.inr (cX8, [.inr (some q), e1])) → lo_Q σ q es cap head (base ++ (ks.drop m).reverse) → σ.1 a = some (.inr (cX3, [f0, f1, f2, f3, .inr (some c), f5, f6])) → lo_L σ c d n (ks.map some) → d ≠ es → (∀ y ∈ base ++ ks, isn σ y) → 1 - gq cap ≤ σ.2.1 → 36 * (1 - gq cap) ≤ σ.2.2.1 →
    (∀ (σ' : Tst) (es' cap' head' : Nat), lo_Q σ' q es' cap' head' (base ++ ks.reverse) → (es' = es ∨ σ.1 es' = none) → fr (fun z => z = q ∨ z = es) σ σ' (gq cap' - gq cap) (36 * (gq cap' - gq cap)) → gq cap ≤ gq cap' → Q (some a) σ') → w_X8_next_2_b41 Q X (m + 1) (some p) (some a) (nI m + (-1)) σ := by
  intro m
  induction m with
  | zero =>
    intro σ es cap head hm hlen hp hQ ha hL hd hn hc hs k
    rw [w_X8_next_2_b41]
    refine ⟨fun _ => ?_, fun c => absurd (by decide) c⟩
    simp only [List.drop_zero] at hQ
    exact k σ es cap head hQ (Or.inl rfl) ((fr.rf _ σ).mono (fun _ _ h _ => h) (by omega) (by omega)) (Nat.le_refl _)
  | succ m ih =>
    intro σ es cap head hm hlen hp hQ ha hL hd hn hc hs k
    have hz : nI (m + 1) + (-1) = nI m := by
      have : nI (m + 1) - nI 1 = nI m := by rw [ni_sub (by omega)]; congr 1
      rw [← this, Int32.sub_eq_add_neg]
      rfl
    rw [hz, w_X8_next_2_b41]
    have hmk : m < ks.length := by omega
    have hks : (ks.map some).getD m none = some (ks.getD m 0) := by
      simp [List.getD_eq_getElem?_getD, List.getElem?_eq_getElem hmk]
    have hmem : ks.getD m 0 ∈ ks := by
      rw [List.getD_eq_getElem?_getD, List.getElem?_eq_getElem hmk]
      exact List.getElem_mem hmk
    refine ⟨fun c => absurd ((lo_lt (j := 0) (by omega) (by decide)).mp c) (by omega), fun _ => ⟨_, _, _, rfl, hp, rfl, _, _, _, rfl, ha, rfl, lo_rc hL, lo_get hL (by simpa using hmk) ?_⟩⟩
    rw [hks]
    have hy := hn _ (List.mem_append_right _ hmem)
    obtain ⟨fy, gy⟩ := id hy
    obtain ⟨fq, g1, -⟩ := id hQ
    have hmem2 : ∀ y ∈ base ++ (ks.drop (m + 1)).reverse, y ∈ base ++ ks := fun y hy => by
      rcases List.mem_append.mp hy with h | h
      · exact List.mem_append_left _ h
      · exact List.mem_append_right _ (List.mem_of_mem_drop (List.mem_reverse.mp h))
    have hll : (base ++ (ks.drop (m + 1)).reverse).length ≤ 20 := by
      simp only [List.length_append, List.length_reverse, List.length_drop]; omega
    refine ⟨Or.inr ⟨_, _, rfl, gy⟩, ⟨_, _, rfl, g1⟩, ?_⟩
    have fin : ∀ (σ1 : Tst) (es1 cap1 head1 : Nat), lo_Q σ1 q es1 cap1 head1 (base ++ (ks.drop (m + 1)).reverse ++ [ks.getD m 0]) → (es1 = es ∨ σ.1 es1 = none) → fr (fun z => z = q ∨ z = es) σ σ1 (gq cap1 - gq cap) (36 * (gq cap1 - gq cap)) → gq cap ≤ gq cap1 → w_X8_next_2_b41 Q X (m + 1) (some p) (some a) (nI m + (-1)) σ1 := by
      intro σ1 es1 cap1 head1 hQ1 he1 hf1 hg1
      have hpq : p ≠ q := by intro e; subst e; rw [hp] at g1; cases g1
      have hpe : p ≠ es := by
        obtain ⟨_, _, g2, _⟩ := hQ
        intro e; subst e; rw [hp] at g2; cases g2
      have haA := hQ.isn ⟨_, ha⟩
      obtain ⟨mc, f, gc, gd, -⟩ := id hL
      have hcA : c ≠ q ∧ c ≠ es := by
        obtain ⟨_, q1, q2, _⟩ := hQ
        constructor
        · intro e; subst e; rw [q1] at gc; cases gc
        · intro e; subst e; rw [q2] at gc; cases gc
      have hdq : d ≠ q := by
        obtain ⟨_, q1, q2, _⟩ := hQ
        intro e; subst e; rw [q1] at gd; cases gd
      have nA : ∀ {z : Nat}, z ≠ q → z ≠ es → ¬ (z = q ∨ z = es) := fun h1 h2 h => h.elim h1 h2
      refine ih σ1 es1 cap1 head1 (by omega) hlen (hf1.1 _ _ (nA hpq hpe) hp) ?_ (hf1.1 _ _ (nA haA.1 haA.2) ha) (lo_Lfr hf1 hL (nA hcA.1 hcA.2) (nA hdq hd)) ?_ (fun y hy => (hn y hy).ofr hf1 (nA (hQ.isn (hn y hy)).1 (hQ.isn (hn y hy)).2)) ?_ ?_ (fun σ2 es2 cap2 head2 hQ2 he2 hf2 hg2 => ?_)
      · rw [List.append_assoc] at hQ1
        have e : (ks.drop m).reverse = (ks.drop (m + 1)).reverse ++ [ks.getD m 0] := by
          rw [List.drop_eq_getElem_cons hmk, List.reverse_cons]
          simp [List.getD_eq_getElem?_getD, List.getElem?_eq_getElem hmk]
        rw [e]; exact hQ1
      · rcases he1 with e | e
        · rw [e]; exact hd
        · intro h; rw [← h, gd] at e; cases e
      · have := hf1.2.2.1; have : gq cap1 ≤ 1 := by unfold gq; split <;> omega
        omega
      · have := hf1.2.2.2.1; have : gq cap1 ≤ 1 := by unfold gq; split <;> omega
        omega
      · refine k σ2 es2 cap2 head2 hQ2 ?_ ((fr2_tr hf1 he1 hf2).mono (fun _ _ h _ => h) (by omega) (by omega)) (by omega)
        rcases he2 with e | e
        · rw [e]; exact he1
        · exact Or.inr (fr2_no hf1 e)
    exact lo_addLast hQ (fun y hy => (hn y (hmem2 y hy)).may) (fun y hy => (hQ.isn (hn y (hmem2 y hy))).1) hy.may (hQ.isn hy).1 hll hc hs (fun σ1 es1 cap1 head1 hQ1 he1 hf1 hg1 => fin σ1 es1 cap1 head1 hQ1 he1 hf1 hg1)
theorem pi_nextR {σ : Tst} {p q es cap head s c d n : Nat} {w : Nat × Tnw} {u : Unit} {kids rest : Tfi} {f0 f1 f2 f3 f5 f6 : Tfv} (hP : pit σ p q es cap head (.inner s w u kids rest)) (ha : σ.1 w.1 = some (.inr (cX3, [f0, f1, f2, f3, .inr (some c), f5, f6]))) (hL : lo_L σ c d n ((fi_rt kids).map some)) (hd : d ≠ es) (hn : ∀ y ∈ fi_rt rest, isn σ y) (hk : ∀ y ∈ fi_rt kids, isn σ y) (hl : (fi_rt rest).length + (fi_rt kids).length ≤ 20) (hc : 1 - gq cap ≤ σ.2.1) (hs : 36 * (1 - gq cap) ≤ σ.2.2.1) {Q : Option Nat → Tst → Prop} {X : String → Nat → Tst → Prop}
    (k : ∀ (σ' : Tst) (es' cap' head' : Nat), pit σ' p q es' cap' head' (fi_app kids rest) → (es' = es ∨ σ.1 es' = none) → fr (fun z => z = q ∨ z = es) σ σ' (gq cap' - gq cap) (36 * (gq cap' - gq cap)) → gq cap ≤ gq cap' → Q (some w.1) σ') : w_X8_next (some p) Q X σ := by
  obtain ⟨hpq, hpe⟩ := hP.ne
  obtain ⟨⟨e1, h1⟩, hQ⟩ := hP
  obtain ⟨f, g1, g2, -⟩ := id hQ
  have nA : ∀ {z : Nat}, z ≠ q → z ≠ es → ¬ (z = q ∨ z = es) := fun h1 h2 h => h.elim h1 h2
  have hin : isn σ w.1 := ⟨_, ha⟩
  have haA := hQ.isn hin
  obtain ⟨mc, fL, gc, gd, -⟩ := id hL
  have hcA : c ≠ q ∧ c ≠ es := by
    constructor
    · intro e; subst e; rw [g1] at gc; cases gc
    · intro e; subst e; rw [g2] at gc; cases gc
  have hdq : d ≠ q := by intro e; subst e; rw [g1] at gd; cases gd
  unfold w_X8_next
  refine ⟨⟨_, _, rfl, h1⟩, ?_⟩
  unfold w_X8_next_2
  refine ⟨_, _, _, rfl, h1, rfl, ⟨_, _, rfl, g1⟩, lo_Qempty hQ (fun e => ?_) (fun _ => ⟨fun _ => ?_, fun c => absurd rfl c⟩)⟩
  · simp [fi_rt] at e
  rw [fi_rt, List.reverse_cons] at hQ
  refine ⟨_, _, _, rfl, h1, rfl, ⟨_, _, rfl, g1⟩, lo_removeLast hQ (fun σ1 hQ1 hf1 => ?_)⟩
  have a1 := hf1.1 _ _ (nA haA.1 haA.2) ha
  have L1 := lo_Lfr hf1 hL (nA hcA.1 hcA.2) (nA hdq hd)
  refine ⟨Or.inr ⟨_, _, rfl, a1⟩, _, _, _, rfl, a1, rfl, lo_rc L1, lo_size L1 ⟨(fi_rt kids).length + 1, ?_⟩⟩
  have hz : nI ((fi_rt kids).map some).length - 1 = nI (fi_rt kids).length + (-1) := by
    rw [List.length_map, Int32.sub_eq_add_neg]
  rw [hz]
  have := hf1.2.2.1
  have := hf1.2.2.2.1
  refine pi_push (base := (fi_rt rest).reverse) (ks := fi_rt kids) (fi_rt kids).length σ1 es cap head (Nat.le_refl _) (by rw [List.length_reverse]; exact hl) (hf1.1 _ _ (nA hpq hpe) h1) (by simpa using hQ1) a1 L1 hd (fun y hy => ?_) (by omega) (by omega) (fun σ2 es2 cap2 head2 hQ2 he2 hf2 hg2 => ?_)
  · have hy' : isn σ y := by
      rcases List.mem_append.mp hy with h | h
      · exact hn y (List.mem_reverse.mp h)
      · exact hk y h
    exact hy'.ofr hf1 (nA (by obtain ⟨fs, h⟩ := hy'; intro e; subst e; rw [g1] at h; cases h) (by obtain ⟨fs, h⟩ := hy'; intro e; subst e; rw [g2] at h; cases h))
  · have he2' : es2 = es ∨ σ.1 es2 = none := he2.imp id (fun e => fr2_no hf1 e)
    have hf12 := fr2_tr hf1 (Or.inl rfl) hf2
    refine k σ2 es2 cap2 head2 ⟨⟨e1, ?_⟩, ?_⟩ he2' (hf12.mono (fun _ _ h _ => h) (by omega) (by omega)) hg2
    · exact hf12.1 _ _ (nA hpq hpe) h1
    · rw [fi_app_rt, List.reverse_append]; exact hQ2
/-- the iterator over a base state -/
def pitB (σ0 σ : Tst) (p c0 n0 : Nat) (G : Tfi) : Prop := ∃ q es cap head : Nat, pit σ p q es cap head G ∧ σ0.1 p = none ∧ σ0.1 q = none ∧ σ0.1 es = none ∧ fx σ0 σ (c0 + gq cap) (n0 + 36 * gq cap)
theorem gq_le (cap : Nat) : gq cap ≤ 1 := by unfold gq; split <;> omega
theorem pitB.x {σ0 σ σ' : Tst} {p c0 n0 c n : Nat} {G : Tfi} (h : pitB σ0 σ p c0 n0 G) (hf : fx σ σ' c n) : pitB σ0 σ' p (c0 + c) (n0 + n) G := by
  obtain ⟨q, es, cap, head, h1, h2, h3, h4, h5⟩ := h
  exact ⟨q, es, cap, head, h1.ofr hf (fun f => f) (fun f => f) (fun f => f), h2, h3, h4, (h5.tr hf).mo (by omega) (by omega)⟩
theorem pitB.f {σ0 σ : Tst} {p c0 n0 : Nat} {G : Tfi} (h : pitB σ0 σ p c0 n0 G) : fx σ0 σ (c0 + 1) (n0 + 36) := by
  obtain ⟨q, es, cap, head, h1, h2, h3, h4, h5⟩ := h
  have := gq_le cap
  exact h5.mo (by omega) (by omega)
theorem tk_isn {σ : Tst} : ∀ F : Tfi, tk σ F → ∀ y ∈ fi_rt F, isn σ y := by
  intro F
  induction F with
  | leaf => intro h y hy; simp [fi_rt] at hy
  | inner s w u k r ih1 ih2 =>
    intro h y hy
    simp only [fi_rt, List.mem_cons] at hy
    rcases hy with rfl | hy
    · obtain ⟨⟨_, _, _, _, _, _, h1, _⟩, -⟩ := h
      exact ⟨_, h1⟩
    · exact ih2 h.2.2 y hy
/-- one turn of a for-each loop over a tree -/
theorem pi_each {σ0 σ : Tst} {p c0 n0 : Nat} {G : Tfi} (hB : pitB σ0 σ p c0 n0 G) (ht : tk σ0 G) (hsz : fi_sz G ≤ 20) (hc : c0 + 1 ≤ σ0.2.1) (hs : n0 + 36 ≤ σ0.2.2.1) {X : String → Nat → Tst → Prop} {E : Tst → Prop} {B : Option Nat → Tst → Prop}
    (kE : G = .leaf → E σ) (kB : ∀ (s : Nat) (w : Nat × Tnw) (u : Unit) (kids rest : Tfi), G = .inner s w u kids rest → ∀ σ1 : Tst, pitB σ0 σ1 p c0 n0 (fi_app kids rest) → fx σ0 σ1 (c0 + 1) (n0 + 36) → B (some w.1) σ1) :
    w_rc σ (some p) cX8 (w_X8_hasNext (some p) (fun x1 σ => w_if (x1 = 0) (E σ) (w_rc σ (some p) cX8 (w_X8_next (some p) B X σ))) X σ) := by
  obtain ⟨q, es, cap, head, hP, hp0, hq0, he0, hf⟩ := hB
  obtain ⟨e1, g1⟩ := id hP.1
  cases G with
  | leaf => exact ⟨⟨_, _, rfl, g1⟩, pi_hasNext hP (fun _ => ⟨fun _ => kE rfl, fun c => absurd rfl c⟩) (fun h => absurd rfl h)⟩
  | inner s w u kids rest =>
    refine ⟨⟨_, _, rfl, g1⟩, pi_hasNext hP (fun h => by simp [fi_rt] at h) (fun _ => ⟨fun c => absurd c (by decide), fun _ => ⟨⟨_, _, rfl, g1⟩, ?_⟩⟩)⟩
    obtain ⟨hw, hk, hr⟩ := ht
    obtain ⟨c, d, n, e3, e5, e6, a1, aL⟩ := hw
    obtain ⟨_, _, _, ad, -⟩ := id aL
    have hk1 := fi_rt_len kids
    have hr1 := fi_rt_len rest
    have hk2 := fo_cnt_le (fi_er kids)
    have hr2 := fo_cnt_le (fi_er rest)
    have hsz' : 1 + fo_size (fi_er kids) + fo_size (fi_er rest) ≤ 20 := hsz
    have := hf.c
    have := hf.s
    have := gq_le cap
    refine pi_nextR hP (hf.k a1) (lo_Lx hf aL) (kn_ne ad he0) (fun y hy => (tk_isn rest hr y hy).ofr hf (fun f => f)) (fun y hy => (tk_isn kids hk y hy).ofr hf (fun f => f)) (by omega) (by omega) (by omega) (fun σ1 es1 cap1 head1 hP1 he1 hf1 hg1 => ?_)
    have he1' : σ0.1 es1 = none := by
      rcases he1 with e | e
      · rw [e]; exact he0
      · exact hf.no e
    have f1 := hf.ofr hf1 (fun z hz => by
      rcases hz with hz | hz
      · rw [hz]; exact hq0
      · rw [hz]; exact he0)
    have := gq_le cap1
    have hB1 : pitB σ0 σ1 p c0 n0 (fi_app kids rest) := ⟨q, es1, cap1, head1, hP1, hp0, hq0, he1', f1.mo (by omega) (by omega)⟩
    exact kB s w u kids rest rfl σ1 hB1 hB1.f
/-- the iterator made -/
theorem pi_iter {σ : Tst} {t s r : Nat} {w : Nat × Tnw} {u : Unit} {kids : Tfi} (ht : σ.1 t = some (.inr (cX2, [.inr (some w.1)]))) (hw : isn σ w.1) (hc : 3 ≤ σ.2.1) (hs : 22 ≤ σ.2.2.1) {Q : Option Nat → Tst → Prop} {X : String → Nat → Tst → Prop}
    (k : ∀ (p : Nat) (σ' : Tst), pitB σ σ' p 3 22 (.inner s w u kids .leaf) → (∃ q es, pit σ' p q es 17 0 (.inner s w u kids .leaf) ∧ σ.1 p = none ∧ σ.1 q = none ∧ σ.1 es = none) → fx σ σ' 3 22 → Q (some p) σ') : w_X2_iterator (some t) Q X σ := by
  unfold w_X2_iterator
  refine ⟨by omega, by omega, fun q hq hb => ⟨⟨_, rfl⟩, ?_⟩⟩
  have f1 := (fx.rf σ).al hq (.inr (cJ20, [.inr none, .inl 0, .inl 0])) (m := 3) (by omega) (by omega)
  have q1 := al_at σ q (.inr (cJ20, [.inr none, .inl 0, .inl 0])) 3
  generalize st_al σ q (.inr (cJ20, [.inr none, .inl 0, .inl 0])) 3 = σ1 at *
  have := f1.c
  have := f1.s
  unfold w_J20_init w_J4_init
  refine ⟨⟨_, rfl⟩, ⟨_, rfl⟩, 17, rfl, by decide, by omega, by omega, fun es hes hb2 => ?_⟩
  have hqe : q ≠ es := kn_ne q1 hes
  have he0 := f1.no hes
  have f2 := f1.al hes (.inl (5, 17, .inr (.inr (.inr (.inr fun _ => none))))) (m := 17) (by omega) (by omega)
  have e2 := al_at σ1 es (.inl (5, 17, .inr (.inr (.inr (.inr fun _ => none))))) 17
  have q2 := (al_ne σ1 (.inl (5, 17, .inr (.inr (.inr (.inr fun _ => none))))) 17 hqe).trans q1
  generalize st_al σ1 es (.inl (5, 17, .inr (.inr (.inr (.inr fun _ => none))))) 17 = σ2 at *
  refine ⟨_, _, rfl, q2, (by simp), ?_⟩
  have q3 := up_at σ2 q (.inr (cJ20, ([.inr none, .inl 0, .inl 0] : List Tfv).set 0 (.inr (some es))))
  have e3 := (up_ne σ2 (.inr (cJ20, ([.inr none, .inl 0, .inl 0] : List Tfv).set 0 (.inr (some es)))) (Ne.symm hqe)).trans e2
  have f3 := f2.up hq (.inr (cJ20, ([.inr none, .inl 0, .inl 0] : List Tfv).set 0 (.inr (some es))))
  generalize st_up σ2 q (.inr (cJ20, ([.inr none, .inl 0, .inl 0] : List Tfv).set 0 (.inr (some es)))) = σ3 at *
  refine ⟨_, _, _, rfl, f3.k ht, rfl, ⟨_, _, rfl, q3⟩, ?_⟩
  have hQ3 : lo_Q σ3 q es 17 0 [] := ⟨_, q3, e3, Or.inl ⟨rfl, rfl, by decide⟩, fun i hi => absurd hi (Nat.not_lt_zero _)⟩
  have hw3 : isn σ3 w.1 := hw.ofr f3 (fun f => f)
  have hg17 : gq 17 = 0 := rfl
  have := f3.c
  have := f3.s
  refine lo_addLast' hQ3 hw3.may (hQ3.isn hw3).1 (fun σ4 hQ4 hf4 => ?_)
  have f4 := f3.ofr hf4 (fun z hz => by
    rcases hz with hz | hz
    · rw [hz]; exact hq
    · rw [hz]; exact he0)
  have := f4.c
  have := f4.s
  refine ⟨by omega, by omega, fun p hp hb3 => ⟨⟨_, rfl⟩, ?_⟩⟩
  have hp0 := f4.no hp
  have f5 := f4.al hp (.inr (cX8, [.inr none, .inr none])) (m := 2) (by omega) (by omega)
  have p5 := al_at σ4 p (.inr (cX8, [.inr none, .inr none])) 2
  have hQ5 : lo_Q (st_al σ4 p (.inr (cX8, [.inr none, .inr none])) 2) q es 17 0 [w.1] := hQ4.ofr (fr.al hp (.inr (cX8, [.inr none, .inr none])) (n := 2) (by omega) (by omega)) (fun f => f) (fun f => f)
  generalize st_al σ4 p (.inr (cX8, [.inr none, .inr none])) 2 = σ5 at *
  unfold w_X8_init
  refine ⟨_, _, rfl, p5, (by simp), ?_⟩
  have p6 := up_at σ5 p (.inr (cX8, ([.inr none, .inr none] : List Tfv).set 1 (.inr (some t))))
  have hpq : ¬ q = p := by obtain ⟨_, g1, _⟩ := hQ5; intro e; subst e; rw [p5] at g1; cases g1
  have hpe : ¬ es = p := by obtain ⟨_, _, g1, _⟩ := hQ5; intro e; subst e; rw [p5] at g1; cases g1
  have hQ6 : lo_Q (st_up σ5 p (.inr (cX8, ([.inr none, .inr none] : List Tfv).set 1 (.inr (some t))))) q es 17 0 [w.1] := hQ5.ofr (fr.up σ5 p _) hpq hpe
  have f6 := f5.up hp0 (.inr (cX8, ([.inr none, .inr none] : List Tfv).set 1 (.inr (some t))))
  generalize st_up σ5 p (.inr (cX8, ([.inr none, .inr none] : List Tfv).set 1 (.inr (some t)))) = σ6 at *
  refine ⟨_, _, rfl, p6, (by simp), ⟨_, rfl⟩, ?_⟩
  have hP : pit (st_up σ6 p (.inr (cX8, (([.inr none, .inr none] : List Tfv).set 1 (.inr (some t))).set 0 (.inr (some q))))) p q es 17 0 (.inner s w u kids .leaf) := ⟨⟨_, up_at _ _ _⟩, hQ6.ofr (fr.up σ6 p _) hpq hpe⟩
  have f7 := f6.up hp0 (.inr (cX8, (([.inr none, .inr none] : List Tfv).set 1 (.inr (some t))).set 0 (.inr (some q))))
  exact k p _ ⟨q, es, 17, 0, hP, hp0, hq, he0, f7.mo (by omega) (by omega)⟩ ⟨q, es, hP, hp0, hq, he0⟩ (f7.mo (by omega) (by omega))
