-- Node.copy()
/-- one turn of a for-each loop, with what the step changes -/
theorem lo_each2 {σ0 σ : Tst} {c0 n0 c d n q i : Nat} {xs : List (Option Nat)} (hf : fx σ0 σ c0 n0) (hL : lo_L σ0 c d n xs) (hq : σ0.1 q = none) (hI : lo_It σ q c i) (hi : i ≤ xs.length) {X : String → Nat → Tst → Prop} {E : Tst → Prop} {B : Option Nat → Tst → Prop}
    (kE : i = xs.length → E σ) (kB : i < xs.length → ∀ σ1 : Tst, lo_It σ1 q c (i + 1) → fx σ0 σ1 c0 n0 → fr (fun b => b = q) σ σ1 0 0 → B (xs.getD i none) σ1) :
    w_rc σ (some q) cJ18 (w_J18_hasNext (some q) (fun x1 σ => w_if (x1 = 0) (E σ) (w_rc σ (some q) cJ18 (w_J18_next (some q) B X σ))) X σ) := by
  have hL1 := lo_Lx hf hL
  obtain ⟨lr, mc, e, l, g1, g2⟩ := id hI
  refine ⟨⟨q, _, rfl, g1⟩, lo_hasNext hL1 hI hi (fun e => ⟨fun _ => kE e, fun c => absurd rfl c⟩) (fun hlt => ⟨fun h => absurd h (by decide), fun _ => ⟨⟨q, _, rfl, g1⟩, lo_next hL1 hI hlt (fun σ1 hI1 hf1 => kB hlt σ1 hI1 (hf.q hf1 hq) hf1)⟩⟩)⟩
/-- the map grew by nodes that were not there -/
def xe (σ0 : Tst) (own0 : Nat → Option Nat) (N0 : Tnm) (own : Nat → Option Nat) (N : Tnm) : Prop := (∀ z, own z = own0 z ∨ (σ0.1 z = none ∧ own0 z = none)) ∧ (∀ a r, N0 a = some r → N a = some r) ∧ (∀ a, N0 a = none → N a = none ∨ σ0.1 a = none)
theorem xe.rf (σ : Tst) (own : Nat → Option Nat) (N : Tnm) : xe σ own N own N := ⟨fun _ => Or.inl rfl, fun _ _ h => h, fun _ h => Or.inl h⟩
theorem xe.tr {σ0 σ : Tst} {c n : Nat} {own0 own own' : Nat → Option Nat} {N0 N N' : Tnm} (hf : fx σ0 σ c n) (h : xe σ0 own0 N0 own N) (h' : xe σ own N own' N') : xe σ0 own0 N0 own' N' := by
  refine ⟨fun z => ?_, fun a r ha => h'.2.1 a r (h.2.1 a r ha), fun a ha => ?_⟩
  · rcases h'.1 z with e | ⟨e1, e2⟩
    · rw [e]; exact h.1 z
    · refine Or.inr ⟨hf.no e1, ?_⟩
      rcases h.1 z with e | e
      · rw [← e]; exact e2
      · exact e.2
  · rcases h.2.2 a ha with e | e
    · rcases h'.2.2 a e with e | e
      · exact Or.inl e
      · exact Or.inr (hf.no e)
    · exact Or.inr e
theorem iv.own_no {σ : Tst} {own : Nat → Option Nat} {N : Tnm} (h : iv σ own N) {z : Nat} (hz : σ.1 z = none) : own z = none := by
  cases e : own z with
  | none => rfl
  | some a =>
    obtain ⟨-, x, hx⟩ := h.2.1 z a e
    rw [hz] at hx
    cases hx
theorem iv.N_no {σ : Tst} {own : Nat → Option Nat} {N : Tnm} (h : iv σ own N) {z : Nat} (hz : σ.1 z = none) : N z = none := by
  cases e : N z with
  | none => rfl
  | some r =>
    obtain ⟨-, -, c, d, n, h1, -⟩ := h.2.2 z r e
    rw [hz] at h1
    cases h1
theorem iv.kn {σ : Tst} {own : Nat → Option Nat} {N : Tnm} (h : iv σ own N) {z : Nat} {r : Tnr} (hz : N z = some r) : ∃ e, σ.1 z = some e := by
  obtain ⟨-, -, c, d, n, h1, -⟩ := h.2.2 z r hz
  exact ⟨_, h1⟩
/-- fresh nodes: no partner, no image -/
def tr0 (N : Tnm) : Option Nat → Tfi → Prop
  | _, .leaf => True
  | par, .inner _ w _ k r => N w.1 = some (w.2, par, fi_rt k, none, none) ∧ tr0 N (some w.1) k ∧ tr0 N par r
theorem tr0.tr {N : Tnm} : ∀ (F : Tfi) (par : Option Nat), tr0 N par F → tr N par F := by
  intro F
  induction F with
  | leaf => intro par _; trivial
  | inner s w u k r ih1 ih2 => intro par h; exact ⟨⟨_, _, h.1⟩, ih1 _ h.2.1, ih2 _ h.2.2⟩
theorem tr0_ag {N N' : Tnm} : ∀ (F : Tfi) (par : Option Nat), (∀ i ∈ fi_ids F, N' i = N i) → tr0 N par F → tr0 N' par F := by
  intro F
  induction F with
  | leaf => intro par _ _; trivial
  | inner s w u k r ih1 ih2 =>
    intro par ha h
    simp only [fi_ids, List.mem_cons, List.mem_append] at ha
    exact ⟨by rw [ha w.1 (Or.inl rfl)]; exact h.1, ih1 _ (fun i hi => ha i (Or.inr (Or.inl hi))) h.2.1, ih2 _ (fun i hi => ha i (Or.inr (Or.inr hi))) h.2.2⟩
theorem tr_ag {N N' : Tnm} : ∀ (F : Tfi) (par : Option Nat), (∀ i ∈ fi_ids F, N' i = N i) → tr N par F → tr N' par F := by
  intro F
  induction F with
  | leaf => intro par _ _; trivial
  | inner s w u k r ih1 ih2 =>
    intro par ha h
    simp only [fi_ids, List.mem_cons, List.mem_append] at ha
    exact ⟨by rw [ha w.1 (Or.inl rfl)]; exact h.1, ih1 _ (fun i hi => ha i (Or.inr (Or.inl hi))) h.2.1, ih2 _ (fun i hi => ha i (Or.inr (Or.inr hi))) h.2.2⟩
theorem tr_mem {N : Tnm} : ∀ (F : Tfi) (par : Option Nat), tr N par F → ∀ i ∈ fi_ids F, ∃ r, N i = some r := by
  intro F
  induction F with
  | leaf => intro par _ i hi; simp [fi_ids] at hi
  | inner s w u k r ih1 ih2 =>
    intro par h i hi
    simp only [fi_ids, List.mem_cons, List.mem_append] at hi
    obtain ⟨⟨pt, im, h1⟩, h2, h3⟩ := h
    rcases hi with rfl | hi | hi
    · exact ⟨_, h1⟩
    · exact ih1 _ h2 i hi
    · exact ih2 _ h3 i hi
theorem tr_mo {N N' : Tnm} (hN : ∀ a r, N a = some r → N' a = some r) : ∀ (F : Tfi) (par : Option Nat), tr N par F → tr N' par F := by
  intro F
  induction F with
  | leaf => intro par _; trivial
  | inner s w u k r ih1 ih2 =>
    intro par h
    obtain ⟨⟨pt, im, h1⟩, h2, h3⟩ := h
    exact ⟨⟨pt, im, hN _ _ h1⟩, ih1 _ h2, ih2 _ h3⟩
theorem fi_rt_ids : ∀ (F : Tfi), ∀ i ∈ fi_rt F, i ∈ fi_ids F := by
  intro F
  induction F with
  | leaf => intro i hi; simp [fi_rt] at hi
  | inner s w u k r ih1 ih2 =>
    intro i hi
    simp only [fi_rt, List.mem_cons] at hi
    simp only [fi_ids, List.mem_cons, List.mem_append]
    rcases hi with rfl | hi
    · exact Or.inl rfl
    · exact Or.inr (Or.inr (ih2 i hi))
/-- the empty array is known -/
def kE (σ : Tst) : Prop := ∃ (E : Nat) (fE : Nat → Option Nat), σ.2.2.2 0 = some E ∧ σ.1 E = some (.inl (5, 0, .inr (.inr (.inr (.inr fE)))))
theorem kE.x {σ σ' : Tst} {c n : Nat} (hf : fx σ σ' c n) (h : kE σ) : kE σ' := by
  obtain ⟨E, fE, h1, h2⟩ := h
  exact ⟨E, fE, by rw [hf.kk]; exact h1, hf.k h2⟩
/-- what copy() of one node gives -/
def cpN (D : Nat) (K : Tfi) : Prop := ∀ (σ : Tst) (own : Nat → Option Nat) (N : Tnm) (a : Nat) (w : Tnw) (par pt im : Option Nat) (Q : Option Nat → Tst → Prop) (X : String → Nat → Tst → Prop), iv σ own N → kE σ → N a = some (w, par, fi_rt K, pt, im) → tr N (some a) K → fi_sz K ≤ 19 → 3 + 4 * fi_sz K ≤ σ.2.1 → 14 + 64 * fi_sz K ≤ σ.2.2.1 →
  (∀ (σ' : Tst) (own' : Nat → Option Nat) (N' : Tnm) (a' : Nat) (K' : Tfi), iv σ' own' N' → xe σ own N own' N' → fx σ σ' (3 + 4 * fi_sz K) (14 + 64 * fi_sz K) → N' a' = some (w, none, fi_rt K', none, none) → tr0 N' (some a') K' → fi_er K' = fi_er K → (a' :: fi_ids K').Nodup → (∀ i ∈ a' :: fi_ids K', N i = none) → Q (some a') σ') → w_X3_copy D (some a) Q X σ
def cpL (D : Nat) (F : Tfi) : Prop := ∀ (σ0 : Tst) (own0 : Nat → Option Nat) (N0 : Tnm) (σ : Tst) (own : Nat → Option Nat) (N : Tnm) (q c d n : Nat) (pre : List Nat) (p : Nat) (w : Tnw) (ks : List Nat) (c0 n0 : Nat) (par : Option Nat) (Q : Option Nat → Tst → Prop) (X : String → Nat → Tst → Prop),
  iv σ0 own0 N0 → kE σ0 → tr N0 par F → lo_L σ0 c d n ((pre ++ fi_rt F).map some) → fx σ0 σ c0 n0 → σ0.1 q = none → lo_It σ q c pre.length → own q = none → iv σ own N → xe σ0 own0 N0 own N → N p = some (w, none, ks, none, none) → N0 p = none → (∀ y ∈ ks, ∃ r, N y = some r) → ks.length + fi_sz F ≤ 19 → c0 + 4 * fi_sz F ≤ σ0.2.1 → n0 + 64 * fi_sz F ≤ σ0.2.2.1 →
  (∀ (σ' : Tst) (own' : Nat → Option Nat) (N' : Tnm) (G : Tfi), iv σ' own' N' → xe σ0 own0 N0 own' N' → fx σ0 σ' (c0 + 4 * fi_sz F) (n0 + 64 * fi_sz F) → N' p = some (w, none, ks ++ fi_rt G, none, none) → tr0 N' (some p) G → fi_er G = fi_er F → (∀ y r, y ≠ p → N y = some r → N' y = some r) → (fi_ids G).Nodup → (∀ i ∈ fi_ids G, N i = none) → Q (some p) σ') → w_X3_copy_b38 (w_X3_copy D) Q X ((fi_rt F).length + 1) (some p) (some q) σ
theorem cp_1 {D : Nat} {K : Tfi} (H : cpL D K) : cpN (D + 1) K := by
  intro σ own N a w par pt im Q X hI hE ha hK hsz hc hs k
  obtain ⟨E, fE, hE0, hE1⟩ := id hE
  obtain ⟨ca, da, na, a1, aL⟩ := hI.cell ha
  have hok : w_ok .char w.1 := (hI.2.2 a _ ha).2.1
  rw [w_X3_copy]
  refine ⟨by omega, by omega, fun q hq hb => ?_⟩
  have f1 := (fx.rf σ).al hq (.inr (cX3, [.inl 0, .inl 0, .inl 0, .inr none, .inr none, .inr none, .inr none])) (m := 7) (by omega) (by omega)
  refine ⟨_, _, _, rfl, f1.k a1, rfl, ?_⟩
  suffices hgoal : w_nw σ cX3 7 [.inl 0, .inl 0, .inl 0, .inr none, .inr none, .inr none, .inr none] (fun q1 σ => w_rf q1 (w_X3_init q1 w.1 (fun σ => w_gi σ (some a) cX3 1 fun x4 => w_p σ q1 cX3 1 (.inl x4) fun σ => w_gi σ (some a) cX3 2 fun x5 => w_p σ q1 cX3 2 (.inl x5) fun σ => w_gr σ (some a) cX3 4 fun x6 => w_rc σ x6 cJ6 <| w_J6_iterator x6 (fun x7 σ => ∃ z, w_X3_copy_b38 (w_X3_copy D) Q X z q1 x7 σ) X σ) X σ)) from (hgoal.2.2 q hq hb)
  refine hI.new hE0 hE1 hok (by omega) (by omega) (fun q σ1 own1 hq hI1 hf1 ho1 => ?_)
  have hqa : a ≠ q := kn_ne a1 hq
  have hNq : N q = none := hI.N_no hq
  refine ⟨_, _, _, rfl, hf1.k a1, rfl, ?_⟩
  refine hI1.p (r := ((w.1, 0, 0), none, [], none, none)) (r' := ((w.1, w.2.1, 0), none, [], none, none)) (by simp only [va_up, if_true]) (fun c => rfl) (by decide) rfl hok (fun σ2 hI2 hf2 => ?_)
  have f2 := hf1.q hf2 hq
  refine ⟨_, _, _, rfl, f2.k a1, rfl, ?_⟩
  refine hI2.p (r := ((w.1, w.2.1, 0), none, [], none, none)) (r' := ((w.1, w.2.1, w.2.2), none, [], none, none)) (by simp only [va_up, if_true]) (fun c => rfl) (by decide) rfl hok (fun σ3 hI3 hf3 => ?_)
  have f3 := f2.q hf3 hq
  have hN3 : ∀ x, va_up (va_up (va_up N q (some ((w.1, 0, 0), none, [], none, none))) q (some ((w.1, w.2.1, 0), none, [], none, none))) q (some ((w.1, w.2.1, w.2.2), none, [], none, none)) x = va_up N q (some (w, none, [], none, none)) x := fun x => by
    by_cases e : x = q
    · simp only [va_up, if_pos e]
    · simp only [va_up, if_neg e]
  have hN3' := funext hN3
  rw [hN3'] at hI3
  have := f3.c
  have := f3.s
  refine ⟨_, _, _, rfl, f3.k a1, rfl, lo_iterB f3 aL (by omega) (by omega) (fun q1 σ4 hq0 hq1 hI4 hf4 hf4' => ⟨_, H σ own N σ4 own1 _ q1 ca da na [] q w [] _ _ _ Q X hI hE hK aL hf4 hq0 hI4 (hI3.own_no hq1) (hI3.x hf4') ?_ (by simp only [va_up, if_true]) hNq (by simp) (by simpa using hsz) (by omega) (by omega) ?_⟩)⟩
  · refine ⟨fun z => ?_, fun x r hx => ?_, fun x hx => ?_⟩
    · rcases ho1 z with e | e
      · exact Or.inl e
      · exact Or.inr ⟨e.1, e.2.1⟩
    · have e : x ≠ q := by intro e; subst e; rw [hNq] at hx; cases hx
      simp only [va_up, if_neg e]
      exact hx
    · by_cases e : x = q
      · exact Or.inr (by rw [e]; exact hq)
      · exact Or.inl (by simp only [va_up, if_neg e]; exact hx)
  · intro σ5 own5 N5 G hI5 hx5 hf5 hp5 hG5 he5 hk5 hn5 hi5
    have hqG : q ∉ fi_ids G := fun hm => by
      have := hi5 q hm
      simp only [va_up, if_true] at this
      cases this
    refine k σ5 own5 N5 q G hI5 hx5 (hf5.mo (by omega) (by omega)) (by simpa using hp5) hG5 he5 (List.nodup_cons.mpr ⟨hqG, hn5⟩) (fun i hi => ?_)
    rcases List.mem_cons.mp hi with rfl | hi
    · exact hNq
    · have e : i ≠ q := fun e => hqG (by rw [← e]; exact hi)
      have := hi5 i hi
      simp only [va_up, if_neg e] at this
      exact this
theorem cp_L : ∀ (F : Tfi) (D : Nat), fo_h (fi_er F) ≤ D → cpL D F := by
  intro F
  induction F with
  | leaf =>
    intro D hD σ0 own0 N0 σ own N q c d n pre p w ks c0 n0 par Q X hI0 hE0 hT hL hf hq hIt hoq hI hx hp hp0 hks hsz hc hs k
    rw [w_X3_copy_b38]
    refine lo_each hf hL hq hIt (by simp [fi_rt]) (fun _ => ?_) (fun h => by simp [fi_rt] at h)
    exact k σ own N .leaf hI hx (hf.mo (by omega) (by omega)) (by simpa [fi_rt] using hp) trivial rfl (fun y r _ hy => hy) List.nodup_nil (fun i hi => by simp [fi_ids] at hi)
  | inner s v u kids rest ih1 ih2 =>
    intro D hD σ0 own0 N0 σ own N q c d n pre p w ks c0 n0 par Q X hI0 hE0 hT hL hf hq hIt hoq hI hx hp hp0 hks hsz hc hs k
    obtain ⟨⟨pt, im, hv⟩, hK, hR⟩ := hT
    simp only [fi_er, fo_h] at hD
    have hsz0 : fi_sz (.inner s v u kids rest) = 1 + fi_sz kids + fi_sz rest := rfl
    rw [hsz0] at hsz hc hs k
    obtain ⟨D', rfl⟩ : ∃ D', D = D' + 1 := ⟨D - 1, by omega⟩
    rw [w_X3_copy_b38]
    refine lo_each2 hf hL hq hIt (by simp [fi_rt]) (fun h => by simp [fi_rt] at h) (fun _ σ1 hIt1 hf1 hfq => ?_)
    rw [fi_rt, gd_mid]
    have hEq : ∀ d, σ.2.2.2 0 = some d → ¬ d = q := fun d hd e => by
      rw [hf.kk] at hd
      obtain ⟨-, x, hx⟩ := hI0.1 d hd
      rw [e, hq] at hx
      cases hx
    have hI1 : iv σ1 own N := hI.ofr hfq (fun z b hz e => by rw [e, hoq] at hz; cases hz) hEq
    have hvN := hx.2.1 _ _ hv
    obtain ⟨cv, dv, nv, v1, vL⟩ := hI1.cell hvN
    obtain ⟨cp, dp, np, p1, pL⟩ := hI1.cell hp
    refine ⟨Or.inr ⟨_, _, rfl, v1⟩, _, _, _, rfl, p1, rfl, lo_rc pL, lo_size pL ⟨⟨_, _, rfl, v1⟩, ?_⟩⟩
    have := hf1.c
    have := hf1.s
    refine cp_1 (ih1 D' (by omega)) σ1 own N v.1 v.2 par pt im _ X hI1 (hE0.x hf1) hvN (tr_mo hx.2.1 _ _ hK) (by omega) (by omega) (by omega) (fun σ2 own2 N2 a' K' hI2 hx2 hf2 ha2 hK2 he2 hn2 hi2 => ?_)
    have hp2 := hx2.2.1 _ _ hp
    obtain ⟨c2, d2, n2, p2, pL2⟩ := hI2.cell hp2
    have hap : a' ≠ p := fun e => by
      have := hi2 a' (List.mem_cons_self)
      rw [e, hp] at this
      cases this
    have f12 := hf1.tr hf2
    have := f12.c
    have := f12.s
    rw [List.length_map]
    refine ⟨⟨_, _, rfl, p2⟩, hI2.add hp2 ha2 hap (fun y hy => ?_) (Nat.le_refl _) (by show ks.length ≤ 25; omega) (by omega) (by show 10 + 2 * ks.length ≤ _; omega) (fun σ3 own3 hI3 hf3 ho3 => ?_)⟩
    · obtain ⟨r, hr⟩ := hks y hy
      exact ⟨r, hx2.2.1 _ _ hr⟩
    have hxx2 : xe σ0 own0 N0 own2 N2 := hx.tr hf1 hx2
    have hp0s : ∀ z, own2 z = some p → σ0.1 z = none := fun z hz => by
      rcases hxx2.1 z with e | e
      · rw [e] at hz
        obtain ⟨⟨r, hr⟩, -⟩ := hI0.2.1 z p hz
        rw [hp0] at hr
        cases hr
      · exact e.1
    have ha0 : σ0.1 a' = none := by
      have hN0a : N0 a' = none := by
        cases e : N0 a' with
        | none => rfl
        | some r =>
          have := hi2 a' (List.mem_cons_self)
          rw [hx.2.1 _ _ e] at this
          cases this
      rcases hxx2.2.2 a' hN0a with e | e
      · rw [ha2] at e; cases e
      · exact e
    have hf3 : fr (fun z => own2 z = some p ∨ z = a') σ2 σ3 1 (10 + 2 * ks.length) := hf3
    have f3 := f12.ofr hf3 (fun z hz => by
      rcases hz with hz | hz
      · exact hp0s z hz
      · rw [hz]; exact ha0)
    have hag : ∀ i, i ≠ p → i ≠ a' → va_up (va_up N2 p (some (w, none, ks.take ks.length ++ a' :: ks.drop ks.length, none, none))) a' (some (v.2, some p, fi_rt K', none, none)) i = N2 i := fun i h1 h2 => by simp only [va_up, if_neg h1, if_neg h2]
    have hKp : ∀ i ∈ fi_ids K', i ≠ p ∧ i ≠ a' := fun i hi => by
      refine ⟨fun e => ?_, fun e => ?_⟩
      · have := hi2 i (List.mem_cons_of_mem _ hi)
        rw [e, hp] at this
        cases this
      · have := (List.nodup_cons.mp hn2).1
        rw [← e] at this
        exact this hi
    have hK3 := tr0_ag K' (some a') (fun i hi => hag i (hKp i hi).1 (hKp i hi).2) hK2
    have hp3 : va_up (va_up N2 p (some (w, none, ks.take ks.length ++ a' :: ks.drop ks.length, none, none))) a' (some (v.2, some p, fi_rt K', none, none)) p = some (w, none, ks ++ [a'], none, none) := by
      simp only [va_up, if_neg (Ne.symm hap), if_true, List.take_length, List.drop_length]
    have ha3 : va_up (va_up N2 p (some (w, none, ks.take ks.length ++ a' :: ks.drop ks.length, none, none))) a' (some (v.2, some p, fi_rt K', none, none)) a' = some (v.2, some p, fi_rt K', none, none) := by
      simp only [va_up, if_true]
    have hI3' : iv σ3 own3 (va_up (va_up N2 p (some (w, none, ks.take ks.length ++ a' :: ks.drop ks.length, none, none))) a' (some (v.2, some p, fi_rt K', none, none))) := hI3
    generalize va_up (va_up N2 p (some (w, none, ks.take ks.length ++ a' :: ks.drop ks.length, none, none))) a' (some (v.2, some p, fi_rt K', none, none)) = N3 at *
    have hN23 : ∀ y r, y ≠ p → N y = some r → N3 y = some r := fun y r hy hr => by
      have hya : y ≠ a' := fun e => by
        have := hi2 a' (List.mem_cons_self)
        rw [← e, hr] at this
        cases this
      rw [hag y hy hya]
      exact hx2.2.1 _ _ hr
    have hqo : own3 q = none := by
      have h2 : own2 q = none := by
        rcases hx2.1 q with e | e
        · rw [e]; exact hoq
        · obtain ⟨_, _, _, _, gq, _⟩ := hIt1
          rw [e.1] at gq; cases gq
      rcases ho3 q with e | e
      · rw [e]; exact h2
      · obtain ⟨_, _, _, _, gq, _⟩ := lo_Itx hf2 hIt1
        rw [e.1] at gq; cases gq
    have hqA : ¬ (own2 q = some p ∨ q = a') := fun hz => by
      rcases hz with hz | hz
      · rcases ho3 q with e | e
        · rw [← e, hqo] at hz; cases hz
        · rw [e.2.1] at hz; cases hz
      · obtain ⟨_, _, _, _, gq, _⟩ := hIt1
        obtain ⟨x, hx⟩ : ∃ x, N2 q = some x := ⟨_, by rw [hz]; exact ha2⟩
        obtain ⟨_, _, _, gg, -⟩ := hI2.cell hx
        rw [hf2.k gq] at gg
        cases gg
    have hcA : ¬ (own2 c = some p ∨ c = a') := fun hz => by
      obtain ⟨_, _, gc, -⟩ := hL
      rcases hz with hz | hz
      · have := hp0s c hz
        rw [gc] at this; cases this
      · rw [hz, ha0] at gc; cases gc
    have hx3 : xe σ0 own0 N0 own3 N3 := by
      refine ⟨fun z => ?_, fun y r hy => ?_, fun y hy => ?_⟩
      · rcases ho3 z with e | e
        · rw [e]; exact hxx2.1 z
        · refine Or.inr ⟨f12.no e.1, ?_⟩
          exact hI0.own_no (f12.no e.1)
      · have hyp : y ≠ p := fun e => by rw [e, hp0] at hy; cases hy
        exact hN23 y r hyp (hx.2.1 _ _ hy)
      · by_cases e1 : y = p
        · subst e1
          rcases hx.2.2 y hy with e | e
          · rw [e] at hp; cases hp
          · exact Or.inr e
        · by_cases e2 : y = a'
          · exact Or.inr (by rw [e2]; exact ha0)
          · rw [hag y e1 e2]
            exact hxx2.2.2 y hy
    refine ih2 (D' + 1) (by omega) σ0 own0 N0 σ3 own3 N3 q c d n (pre ++ [v.1]) p w (ks ++ [a']) _ _ par Q X hI0 hE0 hR (by simpa [fi_rt] using hL) f3 hq (by simpa using lo_Itfr hf3 (lo_Itx hf2 hIt1) hqA hcA) hqo hI3' hx3 hp3 hp0 ?_ (by simp only [List.length_append, List.length_cons, List.length_nil]; omega) (by omega) (by omega) ?_
    · intro y hy
      rcases List.mem_append.mp hy with hy | hy
      · obtain ⟨r, hr⟩ := hks y hy
        by_cases e : y = p
        · exact ⟨_, by rw [e]; exact hp3⟩
        · exact ⟨r, hN23 y r e hr⟩
      · rw [List.mem_singleton.mp hy]
        exact ⟨_, ha3⟩
    · intro σ' own' N' G hI' hx' hf' hp' hG' he' hk' hn' hi'
      have hal : N' a' = some (v.2, some p, fi_rt K', none, none) := hk' _ _ hap ha3
      have hK' : tr0 N' (some a') K' := by
        refine tr0_ag K' (some a') (fun i hi => ?_) hK3
        obtain ⟨r, hr⟩ := tr_mem K' _ (tr0.tr _ _ hK3) i hi
        rw [hr]
        exact hk' _ _ (hKp i hi).1 hr
      refine k σ' own' N' (.inner 0 (a', v.2) () K' G) hI' hx' (hf'.mo (by omega) (by omega)) (by simpa [fi_rt] using hp') ⟨hal, hK', hG'⟩ (by simp only [fi_er, he2, he']) (fun y r hy hr => hk' y r hy (hN23 y r hy hr)) ?_ ?_
      · simp only [fi_ids]
        rw [← List.cons_append, List.nodup_append]
        refine ⟨hn2, hn', fun x hx y hy e => ?_⟩
        subst e
        have := hi' x hy
        rcases List.mem_cons.mp hx with rfl | hx
        · rw [ha3] at this; cases this
        · obtain ⟨r, hr⟩ := tr_mem K' _ (tr0.tr _ _ hK3) x hx
          rw [hr] at this; cases this
      · intro i hi
        simp only [fi_ids, List.mem_cons, List.mem_append] at hi
        rcases hi with rfl | hi | hi
        · exact hi2 _ List.mem_cons_self
        · exact hi2 _ (List.mem_cons_of_mem _ hi)
        · have h3 := hi' i hi
          cases e : N i with
          | none => rfl
          | some r =>
            by_cases e1 : i = p
            · rw [e1, hp3] at h3; cases h3
            · rw [hN23 i r e1 e] at h3; cases h3
theorem cp_node {D : Nat} {K : Tfi} (hD : fo_h (fi_er K) < D) : cpN D K := by
  obtain ⟨D', rfl⟩ : ∃ D', D = D' + 1 := ⟨D - 1, by omega⟩
  exact cp_1 (cp_L K D' (by omega))
