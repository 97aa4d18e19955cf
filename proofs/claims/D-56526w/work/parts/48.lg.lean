-- forests with addresses; what a step leaves alone, from a base state on
abbrev Tnw : Type := Int32 × Int32 × Int32
/-- ordered forests whose nodes carry an address and (label, key, value) -/
abbrev Tfi : Type := Std.DTreeMap.Internal.Impl (Nat × Tnw) (fun _ => Unit)
def fi_er : Tfi → Fo
  | .leaf => .leaf
  | .inner _ w _ k r => .inner 0 w.2 () (fi_er k) (fi_er r)
/-- the roots' addresses -/
def fi_rt : Tfi → List Nat
  | .leaf => []
  | .inner _ w _ _ r => w.1 :: fi_rt r
/-- all addresses, in preorder -/
def fi_ids : Tfi → List Nat
  | .leaf => []
  | .inner _ w _ k r => w.1 :: (fi_ids k ++ fi_ids r)
def fi_app : Tfi → Tfi → Tfi
  | .leaf, g => g
  | .inner s w u k r, g => .inner s w u k (fi_app r g)
def fo_h : Fo → Nat
  | .leaf => 0
  | .inner _ _ _ k r => max (1 + fo_h k) (fo_h r)
def fo_cnt : Fo → Nat
  | .leaf => 0
  | .inner _ _ _ _ r => fo_cnt r + 1
abbrev fi_sz (F : Tfi) : Nat := fo_size (fi_er F)
theorem fi_ids_len (F : Tfi) : (fi_ids F).length = fi_sz F := by
  induction F with
  | leaf => rfl
  | inner s w u k r ih1 ih2 => simp only [fi_ids, fi_sz, fi_er, fo_size, List.length_cons, List.length_append]; simp only [fi_sz] at ih1 ih2; omega
theorem fi_rt_len (F : Tfi) : (fi_rt F).length = fo_cnt (fi_er F) := by
  induction F with
  | leaf => rfl
  | inner s w u k r ih1 ih2 => simp only [fi_rt, fi_er, fo_cnt, List.length_cons, ih2]
theorem fo_h_le (F : Fo) : fo_h F ≤ fo_size F := by
  induction F with
  | leaf => exact Nat.le_refl _
  | inner s w u k r ih1 ih2 => simp only [fo_h, fo_size]; omega
theorem fo_cnt_le (F : Fo) : fo_cnt F ≤ fo_size F := by
  induction F with
  | leaf => exact Nat.le_refl _
  | inner s w u k r ih1 ih2 => simp only [fo_cnt, fo_size]; omega
theorem fi_app_rt (F G : Tfi) : fi_rt (fi_app F G) = fi_rt F ++ fi_rt G := by
  induction F with
  | leaf => rfl
  | inner s w u k r ih1 ih2 => simp only [fi_app, fi_rt, ih2, List.cons_append]
theorem fi_app_ids (F G : Tfi) : fi_ids (fi_app F G) = fi_ids F ++ fi_ids G := by
  induction F with
  | leaf => rfl
  | inner s w u k r ih1 ih2 => simp only [fi_app, fi_ids, ih2, List.cons_append, List.append_assoc]
theorem fi_app_sz (F G : Tfi) : fi_sz (fi_app F G) = fi_sz F + fi_sz G := by
  rw [← fi_ids_len, ← fi_ids_len, ← fi_ids_len, fi_app_ids, List.length_append]
-- what is known stays known
abbrev fx (σ σ' : Tst) (c n : Nat) : Prop := fr (fun _ => False) σ σ' c n
theorem fx.k {σ σ' : Tst} {c n : Nat} (h : fx σ σ' c n) {a : Nat} {e : Tce} (ha : σ.1 a = some e) : σ'.1 a = some e := h.1 a e (fun f => f) ha
theorem fx.rf (σ : Tst) : fx σ σ 0 0 := fr.rf _ σ
theorem fx.tr {σ σ' σ'' : Tst} {c c' n n' : Nat} (h : fx σ σ' c n) (h' : fx σ' σ'' c' n') : fx σ σ'' (c + c') (n + n') := fr.tr h h' (fun _ _ f _ => f)
theorem fx.mo {σ σ' : Tst} {c c' n n' : Nat} (h : fx σ σ' c n) (hc : c ≤ c') (hn : n ≤ n') : fx σ σ' c' n' := fr.mono h (fun _ _ f _ => f) hc hn
theorem fx.no {σ σ' : Tst} {c n : Nat} (h : fx σ σ' c n) {q : Nat} (hq : σ'.1 q = none) : σ.1 q = none := by
  cases e : σ.1 q with
  | none => rfl
  | some x => rw [h.k e] at hq; cases hq
theorem fx.ofr {A : Nat → Prop} {σ σ' σ'' : Tst} {c c' n n' : Nat} (h : fx σ σ' c n) (h' : fr A σ' σ'' c' n') (hA : ∀ b, A b → σ.1 b = none) : fx σ σ'' (c + c') (n + n') :=
  fr.tr h h' (fun b e hb he => by rw [hA b hb] at he; cases he)
theorem fx.q {σ σ' σ'' : Tst} {c c' n n' q : Nat} (h : fx σ σ' c n) (h' : fr (fun b => b = q) σ' σ'' c' n') (hq : σ.1 q = none) : fx σ σ'' (c + c') (n + n') :=
  h.ofr h' (fun b hb => by rw [hb]; exact hq)
theorem fx.up {σ σ' : Tst} {c n q : Nat} (h : fx σ σ' c n) (hq : σ.1 q = none) (e : Tce) : fx σ (st_up σ' q e) c n := h.q (fr.up σ' q e) hq
theorem fx.al {σ σ' : Tst} {c n m q : Nat} (h : fx σ σ' c n) (hq : σ'.1 q = none) (e : Tce) (h1 : 1 ≤ σ'.2.1) (h2 : m ≤ σ'.2.2.1) : fx σ (st_al σ' q e m) (c + 1) (n + m) := h.tr (fr.al hq e h1 h2)
theorem fx.c {σ σ' : Tst} {c n : Nat} (h : fx σ σ' c n) : σ.2.1 ≤ σ'.2.1 + c := h.2.2.1
theorem fx.s {σ σ' : Tst} {c n : Nat} (h : fx σ σ' c n) : σ.2.2.1 ≤ σ'.2.2.1 + n := h.2.2.2.1
theorem fx.kk {σ σ' : Tst} {c n : Nat} (h : fx σ σ' c n) : σ'.2.2.2 = σ.2.2.2 := h.2.2.2.2
theorem up_at (σ : Tst) (q : Nat) (e : Tce) : (st_up σ q e).1 q = some e := lo_up _ _ _
theorem al_at (σ : Tst) (q : Nat) (e : Tce) (n : Nat) : (st_al σ q e n).1 q = some e := lo_up _ _ _
theorem up_ne (σ : Tst) {q a : Nat} (e : Tce) (h : a ≠ q) : (st_up σ q e).1 a = σ.1 a := lo_ne _ _ h
theorem al_ne (σ : Tst) {q a : Nat} (e : Tce) (n : Nat) (h : a ≠ q) : (st_al σ q e n).1 a = σ.1 a := lo_ne _ _ h
/-- known cells are not new ones -/
theorem kn_ne {σ : Tst} {a q : Nat} {e : Tce} (h : σ.1 a = some e) (hq : σ.1 q = none) : a ≠ q := by intro x; subst x; rw [hq] at h; cases h
theorem lo_Lx {σ σ' : Tst} {c m : Nat} (hf : fx σ σ' c m) {a d n : Nat} {xs : List (Option Nat)} (h : lo_L σ a d n xs) : lo_L σ' a d n xs := lo_Lfr hf h (fun f => f) (fun f => f)
theorem lo_Itx {σ σ' : Tst} {c m : Nat} (hf : fx σ σ' c m) {q a i : Nat} (h : lo_It σ q a i) : lo_It σ' q a i := lo_Itfr hf h (fun f => f) (fun f => f)
theorem lo_rc {σ : Tst} {a d n : Nat} {xs : List (Option Nat)} (h : lo_L σ a d n xs) : ∃ (x : Nat) (fs : List Tfv), some a = some x ∧ σ.1 x = some (.inr (cJ6, fs)) := by
  obtain ⟨mc, f, h1, -⟩ := h
  exact ⟨a, _, rfl, h1⟩
/-- one turn of a for-each loop over an ArrayList -/
theorem lo_each {σ0 σ : Tst} {c0 n0 c d n q i : Nat} {xs : List (Option Nat)} (hf : fx σ0 σ c0 n0) (hL : lo_L σ0 c d n xs) (hq : σ0.1 q = none) (hI : lo_It σ q c i) (hi : i ≤ xs.length) {X : String → Nat → Tst → Prop} {E : Tst → Prop} {B : Option Nat → Tst → Prop}
    (kE : i = xs.length → E σ) (kB : i < xs.length → ∀ σ1 : Tst, lo_It σ1 q c (i + 1) → fx σ0 σ1 c0 n0 → B (xs.getD i none) σ1) :
    w_rc σ (some q) cJ18 (w_J18_hasNext (some q) (fun x1 σ => w_if (x1 = 0) (E σ) (w_rc σ (some q) cJ18 (w_J18_next (some q) B X σ))) X σ) := by
  have hL1 := lo_Lx hf hL
  obtain ⟨lr, mc, e, l, g1, g2⟩ := id hI
  refine ⟨⟨q, _, rfl, g1⟩, lo_hasNext hL1 hI hi (fun e => ⟨fun _ => kE e, fun c => absurd rfl c⟩) (fun hlt => ⟨fun h => absurd h (by decide), fun _ => ⟨⟨q, _, rfl, g1⟩, lo_next hL1 hI hlt (fun σ1 hI1 hf1 => kB hlt σ1 hI1 ?_)⟩⟩)⟩
  exact hf.q hf1 hq
/-- an iterator made, the base state kept -/
theorem lo_iterB {σ0 σ : Tst} {c0 n0 c d n : Nat} {xs : List (Option Nat)} (hf : fx σ0 σ c0 n0) (hL : lo_L σ0 c d n xs) (hc : 1 ≤ σ.2.1) (hs : 4 ≤ σ.2.2.1) {Q : Option Nat → Tst → Prop} {X : String → Nat → Tst → Prop}
    (k : ∀ (q : Nat) (σ1 : Tst), σ0.1 q = none → σ.1 q = none → lo_It σ1 q c 0 → fx σ0 σ1 (c0 + 1) (n0 + 4) → fx σ σ1 1 4 → Q (some q) σ1) : w_rc σ (some c) cJ6 (w_J6_iterator (some c) Q X σ) :=
  ⟨lo_rc (lo_Lx hf hL), lo_iter (lo_Lx hf hL) hc hs (fun q σ1 hq hI h1 => k q σ1 (hf.no hq) hq hI (hf.tr h1) h1)⟩
-- nodes
/-- a node at a with (label, key, value) w and children ks -/
def nk (σ : Tst) (a : Nat) (w : Tnw) (ks : List Nat) : Prop := ∃ (c d n : Nat) (e3 e5 e6 : Tfv), σ.1 a = some (.inr (cX3, [.inl w.1, .inl w.2.1, .inl w.2.2, e3, .inr (some c), e5, e6])) ∧ lo_L σ c d n (ks.map some)
/-- the nodes of a forest, as to labels and children -/
def tk (σ : Tst) : Tfi → Prop
  | .leaf => True
  | .inner _ w _ k r => nk σ w.1 w.2 (fi_rt k) ∧ tk σ k ∧ tk σ r
theorem nk.x {σ σ' : Tst} {c n : Nat} (hf : fx σ σ' c n) {a : Nat} {w : Tnw} {ks : List Nat} (h : nk σ a w ks) : nk σ' a w ks := by
  obtain ⟨c, d, n, e3, e5, e6, h1, h2⟩ := h
  exact ⟨c, d, n, e3, e5, e6, hf.k h1, lo_Lx hf h2⟩
theorem tk.x {σ σ' : Tst} {c n : Nat} (hf : fx σ σ' c n) : ∀ F : Tfi, tk σ F → tk σ' F := by
  intro F
  induction F with
  | leaf => intro h; exact h
  | inner s w u k r ih1 ih2 => intro h; exact ⟨h.1.x hf, ih1 h.2.1, ih2 h.2.2⟩
theorem tk_app {σ : Tst} (F G : Tfi) : tk σ (fi_app F G) ↔ tk σ F ∧ tk σ G := by
  induction F with
  | leaf => simp [fi_app, tk]
  | inner s w u k r ih1 ih2 => simp only [fi_app, tk, ih2, and_assoc]
theorem gd_mid (pre : List Nat) (a : Nat) (as : List Nat) : ((pre ++ a :: as).map some).getD pre.length none = some a := by simp
theorem nk.may {σ : Tst} {a : Nat} {w : Tnw} {ks : List Nat} (h : nk σ a w ks) : w_may σ 5 (some a) := by
  obtain ⟨c, d, n, e3, e5, e6, h1, h2⟩ := h
  exact Or.inr ⟨a, cX3, _, rfl, h1, by decide⟩
theorem tk_may {σ : Tst} : ∀ F : Tfi, tk σ F → ∀ y ∈ (fi_rt F).map some, w_may σ 5 y := by
  intro F
  induction F with
  | leaf => intro h y hy; simp [fi_rt] at hy
  | inner s w u k r ih1 ih2 =>
    intro h y hy
    simp only [fi_rt, List.map_cons, List.mem_cons] at hy
    rcases hy with rfl | hy
    · exact h.1.may
    · exact ih2 h.2.2 y hy
