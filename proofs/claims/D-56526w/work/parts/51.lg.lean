-- the ghost map of nodes: what the heap holds of every live node
/-- (label, key, value), parent, children, partner, image -/
abbrev Tnr : Type := Tnw × Option Nat × List Nat × Option Nat × Option Nat
abbrev Tnm : Type := Nat → Option Tnr
def nf (r : Tnr) (c : Nat) : List Tfv := [.inl r.1.1, .inl r.1.2.1, .inl r.1.2.2, .inr r.2.1, .inr (some c), .inr r.2.2.2.1, .inr r.2.2.2.2]
/-- node a is r; its list's cells belong to it -/
def ivn (σ : Tst) (own : Nat → Option Nat) (a : Nat) (r : Tnr) : Prop := own a = some a ∧ w_ok .char r.1.1 ∧ ∃ c d n : Nat, σ.1 a = some (.inr (cX3, nf r c)) ∧ lo_L σ c d n (r.2.2.1.map some) ∧ own c = some a ∧ (n ≠ 0 → own d = some a) ∧ n ≤ 60
def iv (σ : Tst) (own : Nat → Option Nat) (N : Tnm) : Prop := (∀ d, σ.2.2.2 0 = some d → own d = none ∧ ∃ e, σ.1 d = some e) ∧ (∀ z a, own z = some a → (∃ r, N a = some r) ∧ ∃ e, σ.1 z = some e) ∧ ∀ a r, N a = some r → ivn σ own a r
/-- the nodes of a forest in the map, with their parents -/
def tr (N : Tnm) : Option Nat → Tfi → Prop
  | _, .leaf => True
  | par, .inner _ w _ k r => (∃ pt im, N w.1 = some (w.2, par, fi_rt k, pt, im)) ∧ tr N (some w.1) k ∧ tr N par r
theorem map_eraseIdx : ∀ (xs : List Nat) (i : Nat), (xs.map some).eraseIdx i = (xs.eraseIdx i).map some := by
  intro xs
  induction xs with
  | nil => intro i; rfl
  | cons x t ih =>
    intro i
    cases i with
    | zero => rfl
    | succ i => simp only [List.map_cons, List.eraseIdx_cons_succ, ih]
theorem lo_ncd {σ : Tst} {a c d n : Nat} {fs : List Tfv} {xs : List (Option Nat)} (h : σ.1 a = some (.inr (cX3, fs))) (hL : lo_L σ c d n xs) : c ≠ a ∧ d ≠ a := by
  obtain ⟨mc, f, h1, h2, -⟩ := hL
  constructor
  · intro e; subst e; rw [h] at h1; cases h1
  · intro e; subst e; rw [h] at h2; cases h2
theorem lo_Lup {σ : Tst} {a c d n : Nat} {e : Tce} {xs : List (Option Nat)} (hL : lo_L σ c d n xs) (hc : c ≠ a) (hd : d ≠ a) : lo_L (st_up σ a e) c d n xs := lo_Lfr (fr.up σ a e) hL hc hd
theorem ivn.ofr {A : Nat → Prop} {σ σ' : Tst} {c m : Nat} (hf : fr A σ σ' c m) {own : Nat → Option Nat} {a : Nat} {r : Tnr} (h : ivn σ own a r) (hA : ∀ z, own z = some a → ¬ A z) (hE : ∀ d, σ.2.2.2 0 = some d → ¬ A d) : ivn σ' own a r := by
  obtain ⟨h0, hw, c, d, n, h1, h2, h3, h4, h5⟩ := h
  refine ⟨h0, hw, c, d, n, hf.1 _ _ (hA a h0) h1, lo_Lfr hf h2 (hA c h3) ?_, h3, h4, h5⟩
  by_cases hn : n = 0
  · obtain ⟨_, _, _, _, _, _, _, g6⟩ := h2
    exact hE d (g6 hn)
  · exact hA d (h4 hn)
theorem iv.ofr {A : Nat → Prop} {σ σ' : Tst} {c m : Nat} {own : Nat → Option Nat} {N : Tnm} (h : iv σ own N) (hf : fr A σ σ' c m) (hA : ∀ z a, own z = some a → ¬ A z) (hE : ∀ d, σ.2.2.2 0 = some d → ¬ A d) : iv σ' own N :=
  ⟨fun d hd => by
    rw [hf.2.2.2.2] at hd
    obtain ⟨h1, e, h2⟩ := h.1 d hd
    exact ⟨h1, hf.2.1 d e h2⟩, fun z a hz => ⟨(h.2.1 z a hz).1, by
    obtain ⟨-, e, h2⟩ := h.2.1 z a hz
    exact hf.2.1 z e h2⟩, fun a r ha => (h.2.2 a r ha).ofr hf (fun z hz => hA z a hz) hE⟩
theorem iv.x {σ σ' : Tst} {c m : Nat} {own : Nat → Option Nat} {N : Tnm} (h : iv σ own N) (hf : fx σ σ' c m) : iv σ' own N := h.ofr hf (fun _ _ _ f => f) (fun _ _ f => f)
theorem iv.n {σ : Tst} {own : Nat → Option Nat} {N : Tnm} (h : iv σ own N) {a : Nat} {r : Tnr} (ha : N a = some r) : nk σ a r.1 r.2.2.1 := by
  obtain ⟨h0, hw, c, d, n, h1, h2, h3, h4, h5⟩ := h.2.2 a r ha
  exact ⟨c, d, n, _, _, _, h1, h2⟩
theorem iv.cell {σ : Tst} {own : Nat → Option Nat} {N : Tnm} (h : iv σ own N) {a : Nat} {r : Tnr} (ha : N a = some r) : ∃ c d n : Nat, σ.1 a = some (.inr (cX3, nf r c)) ∧ lo_L σ c d n (r.2.2.1.map some) := by
  obtain ⟨h0, hw, c, d, n, h1, h2, -⟩ := h.2.2 a r ha
  exact ⟨c, d, n, h1, h2⟩
theorem iv.t {σ : Tst} {own : Nat → Option Nat} {N : Tnm} (h : iv σ own N) : ∀ (F : Tfi) (par : Option Nat), tr N par F → tk σ F := by
  intro F
  induction F with
  | leaf => intro par _; trivial
  | inner s w u k r ih1 ih2 =>
    intro par ht
    obtain ⟨⟨pt, im, h1⟩, h2, h3⟩ := ht
    exact ⟨h.n h1, ih1 _ h2, ih2 _ h3⟩
theorem iv.may {σ : Tst} {own : Nat → Option Nat} {N : Tnm} (h : iv σ own N) {a : Nat} {r : Tnr} (ha : N a = some r) (t : Nat) (ht : (t, cX3) ∈ tw_may) : w_may σ t (some a) := by
  obtain ⟨h0, hw, c, d, n, h1, -⟩ := h.2.2 a r ha
  exact Or.inr ⟨a, cX3, _, rfl, h1, ht⟩
/-- a field of a node written, but not its list -/
theorem iv.p {σ : Tst} {own : Nat → Option Nat} {N : Tnm} (h : iv σ own N) {a k : Nat} {r r' : Tnr} {x : Tfv} {K : Tst → Prop} (ha : N a = some r) (hr : ∀ c, (nf r c).set k x = nf r' c) (hk : k < 7) (hl : r'.2.2.1 = r.2.2.1) (hok : w_ok .char r'.1.1)
    (kk : ∀ σ' : Tst, iv σ' own (va_up N a (some r')) → fr (fun b => b = a) σ σ' 0 0 → K σ') : w_p σ (some a) cX3 k x K := by
  obtain ⟨hE, hp, H⟩ := h
  obtain ⟨h0, hw, c, d, n, h1, hL, h3, h4, h5⟩ := H a r ha
  refine ⟨a, _, rfl, h1, hk, ?_⟩
  rw [hr c]
  have hf := fr.up σ a (.inr (cX3, nf r' c))
  refine kk _ ⟨fun d hd => ⟨(hE d hd).1, by
    obtain ⟨e, he⟩ := (hE d hd).2
    exact hf.2.1 d e he⟩, fun z b hz => ⟨?_, by
    obtain ⟨-, e, he⟩ := hp z b hz
    exact hf.2.1 z e he⟩, fun b rb hb => ?_⟩ hf
  · obtain ⟨⟨rz, hrz⟩, -⟩ := hp z b hz
    by_cases e : b = a
    · exact ⟨r', by simp [va_up, e]⟩
    · exact ⟨rz, by simp [va_up, e, hrz]⟩
  · obtain ⟨hca, hda⟩ := lo_ncd h1 hL
    by_cases e : b = a
    · subst e
      simp only [va_up, if_true] at hb
      cases hb
      refine ⟨h0, hok, c, d, n, up_at _ _ _, ?_, h3, h4, h5⟩
      rw [hl]
      exact lo_Lup hL hca hda
    · simp only [va_up, if_neg e] at hb
      obtain ⟨g0, gw, c', d', n', g1, gL, g3, g4, g5⟩ := H b rb hb
      obtain ⟨hca', hda'⟩ := lo_ncd h1 gL
      exact ⟨g0, gw, c', d', n', (up_ne _ _ e).trans g1, lo_Lup gL hca' hda', g3, g4, g5⟩
/-- the cells of two nodes' lists are apart -/
theorem iv.ne {σ : Tst} {own : Nat → Option Nat} {N : Tnm} (h : iv σ own N) {a z : Nat} {r : Tnr} (ha : N a = some r) (hz : own z = some a) {b : Nat} (hb : own z = some b) : b = a := by
  rw [hz] at hb
  exact (Option.some.inj hb).symm
/-- add(i, b) at a -/
theorem iv.add {σ : Tst} {own : Nat → Option Nat} {N : Tnm} (h : iv σ own N) {a b i : Nat} {ra rb : Tnr} (ha : N a = some ra) (hb : N b = some rb) (hab : b ≠ a) (hm : ∀ y ∈ ra.2.2.1, ∃ r, N y = some r) (hi : i ≤ ra.2.2.1.length) (hlen : ra.2.2.1.length ≤ 25) (hc : 1 ≤ σ.2.1) (hs : 10 + 2 * ra.2.2.1.length ≤ σ.2.2.1) {Q : Tst → Prop} {X : String → Nat → Tst → Prop}
    (k : ∀ (σ' : Tst) (own' : Nat → Option Nat), iv σ' own' (va_up (va_up N a (some (ra.1, ra.2.1, ra.2.2.1.take i ++ b :: ra.2.2.1.drop i, ra.2.2.2))) b (some (rb.1, some a, rb.2.2))) → fr (fun z => own z = some a ∨ z = b) σ σ' 1 (10 + 2 * ra.2.2.1.length) → (∀ z, own' z = own z ∨ (σ.1 z = none ∧ own z = none ∧ own' z = some a)) → Q σ') : w_X3_add (some a) (nI i) (some b) Q X σ := by
  obtain ⟨hE, hp, H⟩ := id h
  obtain ⟨h0, hw, c, d, n, h1, hL, h3, h4, h5⟩ := H a ra ha
  obtain ⟨g0, gw, cb, db, nb, g1, gL, g3, g4, g5⟩ := H b rb hb
  obtain ⟨hca, hda⟩ := lo_ncd h1 hL
  obtain ⟨hcb, hdb⟩ := lo_ncd g1 hL
  obtain ⟨hcbb, hdbb⟩ := lo_ncd g1 gL
  obtain ⟨mcx, fx', gx1, gx2, gx3, gx4, gx5, gx6⟩ := id hL
  refine nd_add h1 g1 hL (fun y hy => ?_) (fun y hy => ?_) (by rw [List.length_map]; exact hi) (by omega) hc (by rw [List.length_map]; exact hs) (fun d' n' σ' hL' hn' hd' hb' hf => ?_)
  · obtain ⟨x, hx, rfl⟩ := List.mem_map.mp hy
    obtain ⟨r, hr⟩ := hm x hx
    exact h.may hr 5 (by decide)
  · intro e
    subst e
    obtain ⟨x, hx, e⟩ := List.mem_map.mp hy
    cases e
    obtain ⟨r, hr⟩ := hm _ hx
    obtain ⟨_, _, _, _, _, k1, -⟩ := H _ _ hr
    rw [gx1] at k1
    cases k1
  rw [List.length_map] at hn' hf
  have hf0 : fr (fun z => own z = some a ∨ z = b) σ σ' 1 (10 + 2 * ra.2.2.1.length) := hf.mono (fun z e hz _ => by
    rcases hz with (hz | hz) | hz
    · exact Or.inl (by rw [hz]; exact h3)
    · exact Or.inl (by rw [hz.1]; exact h4 (by omega))
    · exact Or.inr hz) (Nat.le_refl _) (Nat.le_refl _)
  have hEA : ∀ x, σ.2.2.2 0 = some x → ¬ (own x = some a ∨ x = b) := fun x hx hz => by
    have hx0 := (hE x hx).1
    rcases hz with hz | hz
    · rw [hx0] at hz; cases hz
    · rw [hz, g0] at hx0; cases hx0
  -- a new array, or the old one
  have hdn : d' = d → n ≠ 0 := fun e hn0 => by
    subst e
    subst hn0
    have q1 := hf.1 d' _ (by
      intro hz
      rcases hz with (hz | hz) | hz
      · rw [hz, gx1] at gx2; cases gx2
      · exact absurd hz.2 (by omega)
      · exact hdb hz) gx2
    obtain ⟨_, f2, _, q2, q3, -⟩ := hL'
    rw [q1] at q2
    cases q2
    simp at q3
  have hnew : d' ≠ d → σ.1 d' = none ∧ own d' = none := fun e => by
    have q : σ.1 d' = none := hd'.resolve_left e
    refine ⟨q, ?_⟩
    cases ho : own d' with
    | none => rfl
    | some y =>
      obtain ⟨-, x, hx⟩ := hp d' y ho
      rw [q] at hx
      cases hx
  have hod : ∀ z, va_up own d' (some a) z = own z ∨ (σ.1 z = none ∧ own z = none ∧ va_up own d' (some a) z = some a) := fun z => by
    by_cases e : z = d'
    · subst e
      by_cases e2 : z = d
      · left
        subst e2
        simp only [va_up, if_true]
        exact (h4 (hdn rfl)).symm
      · right
        exact ⟨(hnew e2).1, (hnew e2).2, by simp [va_up]⟩
    · left
      simp [va_up, e]
  have hown : ∀ z y, own z = some y → va_up own d' (some a) z = some y := fun z y hz => by
    rcases hod z with q | q
    · rw [q]; exact hz
    · rw [q.2.1] at hz; cases hz
  refine k σ' (va_up own d' (some a)) ⟨fun x hx => ?_, fun z y hz => ?_, fun x rx hx => ?_⟩ hf0 hod
  · rw [hf.2.2.2.2] at hx
    obtain ⟨q1, e, q2⟩ := hE x hx
    refine ⟨?_, hf.2.1 x e q2⟩
    rcases hod x with q | q
    · rw [q]; exact q1
    · rw [q.1] at q2; cases q2
  · have hN : ∀ y, (∃ r, N y = some r) → ∃ r, va_up (va_up N a (some (ra.1, ra.2.1, ra.2.2.1.take i ++ b :: ra.2.2.1.drop i, ra.2.2.2))) b (some (rb.1, some a, rb.2.2)) y = some r := fun y hy => by
      by_cases e : y = b
      · exact ⟨_, by simp only [va_up, if_pos e]; rfl⟩
      · by_cases e2 : y = a
        · exact ⟨_, by simp only [va_up, if_neg e, if_pos e2]; rfl⟩
        · obtain ⟨r, hr⟩ := hy
          exact ⟨r, by simp only [va_up, if_neg e, if_neg e2]; exact hr⟩
    rcases hod z with q | q
    · rw [q] at hz
      obtain ⟨q1, e, q2⟩ := hp z y hz
      exact ⟨hN y q1, hf.2.1 z e q2⟩
    · rw [q.2.2] at hz
      cases hz
      refine ⟨hN a ⟨_, ha⟩, ?_⟩
      have hzd : z = d' := by
        by_cases e : z = d'
        · exact e
        · have q3 := q.2.2
          simp only [va_up, if_neg e] at q3
          rw [q.2.1] at q3
          cases q3
      obtain ⟨_, f2, _, q2, -⟩ := hL'
      exact ⟨_, by rw [hzd]; exact q2⟩
  · by_cases e : x = b
    · simp only [va_up, if_pos e] at hx
      cases hx
      subst e
      refine ⟨hown _ _ g0, gw, cb, db, nb, hb', lo_Lfr hf0 gL ?_ ?_, hown _ _ g3, fun q => hown _ _ (g4 q), g5⟩
      · intro hz
        rcases hz with hz | hz
        · rw [g3] at hz; exact hab (Option.some.inj hz)
        · exact hcbb hz
      · by_cases hn0 : nb = 0
        · obtain ⟨_, _, _, _, _, _, _, q6⟩ := gL
          exact hEA db (q6 hn0)
        · intro hz
          rcases hz with hz | hz
          · rw [g4 hn0] at hz; exact hab (Option.some.inj hz)
          · exact hdbb hz
    · by_cases e2 : x = a
      · simp only [va_up, if_neg e, if_pos e2] at hx
        cases hx
        subst e2
        refine ⟨hown _ _ h0, hw, c, d', n', hf.1 _ _ ?_ h1, ?_, hown _ _ h3, fun _ => by simp [va_up], by omega⟩
        · intro hz
          rcases hz with (hz | hz) | hz
          · exact hca hz.symm
          · exact hda hz.1.symm
          · exact hab hz.symm
        · simpa [List.map_take, List.map_drop] using hL'
      · simp only [va_up, if_neg e, if_neg e2] at hx
        have q := (H x rx hx).ofr hf0 (fun z hz hA => by
          rcases hA with hA | hA
          · rw [hz] at hA; exact e2 (Option.some.inj hA)
          · rw [hA, g0] at hz; exact e (Option.some.inj hz).symm) hEA
        obtain ⟨q0, qw, c', d2, n2, q1, q2, q3, q4, q5⟩ := q
        exact ⟨hown _ _ q0, qw, c', d2, n2, q1, q2, hown _ _ q3, fun q => hown _ _ (q4 q), q5⟩
/-- a child taken out of its parent's list (List.remove(place)) -/
theorem iv.rem {σ : Tst} {own : Nat → Option Nat} {N : Tnm} (h : iv σ own N) {a i c d n : Nat} {ra : Tnr} (ha : N a = some ra) (hcell : σ.1 a = some (.inr (cX3, nf ra c))) (hL : lo_L σ c d n (ra.2.2.1.map some)) (hm : ∀ y ∈ ra.2.2.1, ∃ r, N y = some r) (hi : i < ra.2.2.1.length) {Q : Option Nat → Tst → Prop} {X : String → Nat → Tst → Prop}
    (k : ∀ σ' : Tst, iv σ' own (va_up N a (some (ra.1, ra.2.1, ra.2.2.1.eraseIdx i, ra.2.2.2))) → fr (fun z => own z = some a) σ σ' 0 0 → Q ((ra.2.2.1.map some).getD i none) σ') : w_J6_remove (some c) (nI i) Q X σ := by
  obtain ⟨hE, hp, H⟩ := id h
  obtain ⟨h0, hw, c1, d1, n1, h1, hL1, h3, h4, h5⟩ := H a ra ha
  have hcc : c1 = c := by
    rw [h1] at hcell
    simp only [nf, Option.some.injEq, Sum.inr.injEq, Prod.mk.injEq, List.cons.injEq, Sum.inr.injEq, true_and, and_true] at hcell
    exact hcell
  subst hcc
  have hdd : d1 = d ∧ n1 = n := by
    obtain ⟨_, _, q1, q2, -⟩ := id hL
    obtain ⟨_, _, q3, q4, -⟩ := id hL1
    rw [q1] at q3
    cases q3
    rw [q2] at q4
    cases q4
    exact ⟨rfl, rfl⟩
  obtain ⟨rfl, rfl⟩ := hdd
  obtain ⟨hca, hda⟩ := lo_ncd h1 hL
  obtain ⟨mcx, fx', gx1, gx2, gx3, gx4, gx5, gx6⟩ := id hL
  refine lo_remove hL (fun y hy => ?_) (fun y hy => ?_) (by rw [List.length_map]; exact hi) (fun σ' hL' hf => ?_)
  · obtain ⟨x, hx, rfl⟩ := List.mem_map.mp hy
    obtain ⟨r, hr⟩ := hm x hx
    exact h.may hr 5 (by decide)
  · intro e
    subst e
    obtain ⟨x, hx, e⟩ := List.mem_map.mp hy
    cases e
    obtain ⟨r, hr⟩ := hm _ hx
    obtain ⟨_, _, _, _, _, k1, -⟩ := H _ _ hr
    rw [gx1] at k1
    cases k1
  have hf0 : fr (fun z => own z = some a) σ σ' 0 0 := hf.mono (fun z e hz _ => by
    rcases hz with hz | hz
    · rw [hz]; exact h3
    · rw [hz.1]; exact h4 (by omega)) (Nat.le_refl _) (Nat.le_refl _)
  have hEA : ∀ x, σ.2.2.2 0 = some x → ¬ (own x = some a) := fun x hx hz => by
    rw [(hE x hx).1] at hz; cases hz
  refine k σ' ⟨fun x hx => ?_, fun z y hz => ?_, fun x rx hx => ?_⟩ hf0
  · rw [hf.2.2.2.2] at hx
    obtain ⟨q1, e, q2⟩ := hE x hx
    exact ⟨q1, hf.2.1 x e q2⟩
  · obtain ⟨⟨r, q1⟩, e, q2⟩ := hp z y hz
    refine ⟨?_, hf.2.1 z e q2⟩
    by_cases e2 : y = a
    · exact ⟨_, by simp only [va_up, if_pos e2]; rfl⟩
    · exact ⟨r, by simp only [va_up, if_neg e2]; exact q1⟩
  · by_cases e2 : x = a
    · simp only [va_up, if_pos e2] at hx
      cases hx
      subst e2
      refine ⟨h0, hw, c1, d1, n1, hf.1 _ _ ?_ h1, ?_, h3, h4, h5⟩
      · intro hz
        rcases hz with hz | hz
        · exact hca hz.symm
        · exact hda hz.1.symm
      · have q : (ra.2.2.1.map some).eraseIdx i = (ra.2.2.1.eraseIdx i).map some := map_eraseIdx _ _
        rw [q] at hL'
        exact hL'
    · simp only [va_up, if_neg e2] at hx
      exact (H x rx hx).ofr hf0 (fun z hz hA => by rw [hz] at hA; exact e2 (Option.some.inj hA)) hEA
/-- new Node(label) -/
theorem iv.new {σ : Tst} {own : Nat → Option Nat} {N : Tnm} (h : iv σ own N) {l : Int32} {E : Nat} {fE : Nat → Option Nat} (hE0 : σ.2.2.2 0 = some E) (hE1 : σ.1 E = some (.inl (5, 0, .inr (.inr (.inr (.inr fE)))))) (hl : w_ok .char l) (hc : 2 ≤ σ.2.1) (hs : 10 ≤ σ.2.2.1) {K : Option Nat → Tst → Prop} {X : String → Nat → Tst → Prop}
    (k : ∀ (q : Nat) (σ' : Tst) (own' : Nat → Option Nat), σ.1 q = none → iv σ' own' (va_up N q (some ((l, 0, 0), none, [], none, none))) → fx σ σ' 2 10 → (∀ z, own' z = own z ∨ (σ.1 z = none ∧ own z = none ∧ own' z = some q)) → K (some q) σ') :
    w_nw σ cX3 7 [.inl 0, .inl 0, .inl 0, .inr none, .inr none, .inr none, .inr none] (fun q1 σ => w_rf q1 (w_X3_init q1 l (fun σ => K q1 σ) X σ)) := by
  obtain ⟨hE, hp, H⟩ := id h
  refine ⟨by omega, by omega, fun q hq hb => ⟨⟨q, rfl⟩, ?_⟩⟩
  unfold w_X3_init
  have f1 := (fx.rf σ).al hq (.inr (cX3, [.inl 0, .inl 0, .inl 0, .inr none, .inr none, .inr none, .inr none])) (n := 0) (m := 7) (by omega) (by omega)
  have a1 := al_at σ q (.inr (cX3, [.inl 0, .inl 0, .inl 0, .inr none, .inr none, .inr none, .inr none])) 7
  generalize st_al σ q (.inr (cX3, [.inl 0, .inl 0, .inl 0, .inr none, .inr none, .inr none, .inr none])) 7 = σ1 at *
  have := f1.c
  have := f1.s
  refine ⟨⟨q, rfl⟩, by omega, by omega, fun p hp1 hb1 => ⟨⟨p, rfl⟩, ?_⟩⟩
  have f2 := f1.al hp1 (.inr (cJ6, [.inl 0, .inr none, .inl 0])) (m := 3) (by omega) (by omega)
  have hqp : q ≠ p := kn_ne a1 hp1
  have a2 := (al_ne σ1 (.inr (cJ6, [.inl 0, .inr none, .inl 0])) 3 hqp).trans a1
  have b2 := al_at σ1 p (.inr (cJ6, [.inl 0, .inr none, .inl 0])) 3
  generalize st_al σ1 p (.inr (cJ6, [.inl 0, .inr none, .inl 0])) 3 = σ2 at *
  have hpq0 : σ.1 p = none := f1.no hp1
  have hEp : ¬ E = p := kn_ne hE1 hpq0
  refine lo_new b2 rfl (by rw [f2.kk]; exact hE0) (f2.k hE1) (fun σ3 hL3 hf3 => ?_)
  have f3 := f2.q hf3 hpq0
  have a3 := hf3.1 _ _ hqp a2
  refine ⟨_, _, rfl, a3, by decide, ?_⟩
  have f4 := f3.up hq (.inr (cX3, ([.inl 0, .inl 0, .inl 0, .inr none, .inr none, .inr none, .inr none] : List Tfv).set 4 (.inr (some p))))
  have L4 := lo_Lup (e := .inr (cX3, ([.inl 0, .inl 0, .inl 0, .inr none, .inr none, .inr none, .inr none] : List Tfv).set 4 (.inr (some p)))) hL3 (Ne.symm hqp) (kn_ne hE1 hq)
  have a4 := up_at σ3 q (.inr (cX3, ([.inl 0, .inl 0, .inl 0, .inr none, .inr none, .inr none, .inr none] : List Tfv).set 4 (.inr (some p))))
  generalize st_up σ3 q (.inr (cX3, ([.inl 0, .inl 0, .inl 0, .inr none, .inr none, .inr none, .inr none] : List Tfv).set 4 (.inr (some p)))) = σ4 at *
  refine ⟨hl, _, _, rfl, a4, by simp, ?_⟩
  have f5 := f4.up hq (.inr (cX3, nf ((l, 0, 0), none, [], none, none) p))
  have L5 := lo_Lup (e := .inr (cX3, nf ((l, 0, 0), none, [], none, none) p)) L4 (Ne.symm hqp) (kn_ne hE1 hq)
  have a5 := up_at σ4 q (.inr (cX3, nf ((l, 0, 0), none, [], none, none) p))
  show K (some q) (st_up σ4 q (.inr (cX3, nf ((l, 0, 0), none, [], none, none) p)))
  generalize st_up σ4 q (.inr (cX3, nf ((l, 0, 0), none, [], none, none) p)) = σ5 at *
  have hoq : ∀ z, σ.1 z = none → own z = none := fun z hz => by
    cases ho : own z with
    | none => rfl
    | some y =>
      obtain ⟨-, x, hx⟩ := hp z y ho
      rw [hz] at hx
      cases hx
  have hod : ∀ z, va_up (va_up own q (some q)) p (some q) z = own z ∨ (σ.1 z = none ∧ own z = none ∧ va_up (va_up own q (some q)) p (some q) z = some q) := fun z => by
    by_cases e : z = p
    · right; exact ⟨by rw [e]; exact hpq0, hoq z (by rw [e]; exact hpq0), by simp [va_up, e]⟩
    · by_cases e2 : z = q
      · right; exact ⟨by rw [e2]; exact hq, hoq z (by rw [e2]; exact hq), by simp [va_up, e2]⟩
      · left; simp [va_up, e, e2]
  have hown : ∀ z y, own z = some y → va_up (va_up own q (some q)) p (some q) z = some y := fun z y hz => by
    rcases hod z with q | q
    · rw [q]; exact hz
    · rw [q.2.1] at hz; cases hz
  have hNq : N q = none := by
    cases hn : N q with
    | none => rfl
    | some r =>
      have := (H q r hn).1
      rw [hoq q hq] at this
      cases this
  refine k q σ5 (va_up (va_up own q (some q)) p (some q)) hq ⟨fun x hx => ?_, fun z y hz => ?_, fun x rx hx => ?_⟩ (f5.mo (by omega) (by omega)) hod
  · rw [f5.kk] at hx
    obtain ⟨q1, e, q2⟩ := hE x hx
    refine ⟨?_, e, f5.k q2⟩
    rcases hod x with q | q
    · rw [q]; exact q1
    · rw [q.1] at q2; cases q2
  · rcases hod z with q1 | q1
    · rw [q1] at hz
      obtain ⟨⟨r, q2⟩, e, q3⟩ := hp z y hz
      refine ⟨⟨r, ?_⟩, e, f5.k q3⟩
      have hyq : y ≠ q := by intro e; subst e; rw [hNq] at q2; cases q2
      simp only [va_up, if_neg hyq]
      exact q2
    · rw [q1.2.2] at hz
      cases hz
      refine ⟨⟨_, by simp only [va_up, if_true]; rfl⟩, ?_⟩
      by_cases e : z = p
      · obtain ⟨_, _, q2, -⟩ := L5
        exact ⟨_, by rw [e]; exact q2⟩
      · by_cases e2 : z = q
        · exact ⟨_, by rw [e2]; exact a5⟩
        · have q3 := q1.2.2
          simp only [va_up, if_neg e, if_neg e2] at q3
          rw [q1.2.1] at q3
          cases q3
  · by_cases e : x = q
    · subst e
      simp only [va_up, if_true] at hx
      cases hx
      exact ⟨by simp [va_up], hl, p, E, 0, a5, L5, by simp [va_up], fun q => absurd rfl q, by decide⟩
    · simp only [va_up, if_neg e] at hx
      obtain ⟨q0, qw, c', d2, n2, q1, q2, q3, q4, q5⟩ := (H x rx hx).ofr f5 (fun _ _ f => f) (fun _ _ f => f)
      exact ⟨hown _ _ q0, qw, c', d2, n2, q1, q2, hown _ _ q3, fun q => hown _ _ (q4 q), q5⟩
