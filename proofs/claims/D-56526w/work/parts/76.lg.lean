-- the script's visitor
/-- partner of a node set -/
def spt (N : Tnm) (a : Nat) (p : Option Nat) : Tnm := fun z => if z = a then (N z).map (fun r => (r.1, r.2.1, r.2.2.1, p, r.2.2.2.2)) else N z
def ev1 (aX aY : Nat → Nat) (N : Tnm) (e : Top) : Tnm := if e.1 = 112 then match e.2.1, e.2.2 with | some v, some w => spt (spt N (aX v) (some (aY w))) (aY w) (some (aX v)) | _, _ => N else N
def evN (aX aY : Nat → Nat) (N : Tnm) (es : List Top) : Tnm := es.foldl (ev1 aX aY) N
theorem evN_app (aX aY : Nat → Nat) (N : Tnm) (es es' : List Top) : evN aX aY N (es ++ es') = evN aX aY (evN aX aY N es) es' := by
  unfold evN
  rw [List.foldl_append]
theorem evN_op (aX aY : Nat → Nat) (N : Tnm) (e : Top) (h : ¬ e.1 = 112) : evN aX aY N [e] = N := by
  show ev1 aX aY N e = N
  unfold ev1
  rw [if_neg h]
theorem evN_1 (aX aY : Nat → Nat) (N : Tnm) (e : Top) : evN aX aY N [e] = ev1 aX aY N e := rfl
theorem spt_eq {N : Tnm} {a : Nat} {r : Tnr} (h : N a = some r) (p : Option Nat) : spt N a p = va_up N a (some (r.1, r.2.1, r.2.2.1, p, r.2.2.2.2)) := by
  funext z
  unfold spt
  by_cases e : z = a
  · subst e
    simp only [if_true, va_up, h, Option.map_some]
  · simp only [if_neg e, va_up]
theorem tr_spt {N : Tnm} (a : Nat) (p : Option Nat) : ∀ (F : Tfi) (par : Option Nat), tr N par F → tr (spt N a p) par F := by
  intro F
  induction F with
  | leaf => intro par _; trivial
  | inner s w u k r ih1 ih2 =>
    intro par h
    obtain ⟨⟨pt, im, h1⟩, h2, h3⟩ := h
    refine ⟨?_, ih1 _ h2, ih2 _ h3⟩
    by_cases e : w.1 = a
    · exact ⟨p, im, by unfold spt; rw [if_pos e, h1]; rfl⟩
    · exact ⟨pt, im, by unfold spt; rw [if_neg e]; exact h1⟩
theorem tr_ev {aX aY : Nat → Nat} : ∀ (es : List Top) (N : Tnm) (F : Tfi) (par : Option Nat), tr N par F → tr (evN aX aY N es) par F := by
  intro es
  induction es with
  | nil => intro N F par h; exact h
  | cons e t ih =>
    intro N F par h
    refine ih (ev1 aX aY N e) F par ?_
    unfold ev1
    split
    · split
      · exact tr_spt _ _ F par (tr_spt _ _ F par h)
      · exact h
    · exact h
/-- an operation as an object's fields -/
def opf (aX aY : Nat → Nat) (e : Top) : List Tfv := [.inl e.1, .inr (e.2.1.map aX), .inr (e.2.2.map aY)]
/-- a list of operation objects, all made since the state b -/
def opL (σb σ : Tst) (own : Nat → Option Nat) (ol : Nat) (oas : List Nat) (fss : List (List Tfv)) : Prop := (∃ d n : Nat, lo_L σ ol d n (oas.map some) ∧ n ≤ 100 ∧ (n ≠ 0 → own d = none ∧ σb.1 d = none)) ∧ own ol = none ∧ σb.1 ol = none ∧ oas.length = fss.length ∧ (∀ i, i < oas.length → σ.1 (oas.getD i 0) = some (.inr (cX12, fss.getD i [])) ∧ σb.1 (oas.getD i 0) = none) ∧ oas.Nodup
theorem opL.ofr {A : Nat → Prop} {σb σ σ' : Tst} {c m : Nat} {own : Nat → Option Nat} {ol : Nat} {oas : List Nat} {fss : List (List Tfv)} (h : opL σb σ own ol oas fss) (hf : fr A σ σ' c m) (hk : ∀ z e, A z → σ.1 z = some e → (∃ fs, e = .inr (cX3, fs)) ∨ (∃ fs, e = .inr (cJ18, fs))) : opL σb σ' own ol oas fss := by
  obtain ⟨⟨d, n, h1, h2, h3⟩, h4, h5, h6, h7, h8⟩ := h
  obtain ⟨mc, f, g1, g2, -⟩ := id h1
  refine ⟨⟨d, n, lo_Lfr hf h1 (fun hz => ?_) (fun hz => ?_), h2, h3⟩, h4, h5, h6, fun i hi => ⟨hf.1 _ _ (fun hz => ?_) (h7 i hi).1, (h7 i hi).2⟩, h8⟩
  · rcases hk _ _ hz g1 with ⟨fs, q⟩ | ⟨fs, q⟩ <;> cases q
  · rcases hk _ _ hz g2 with ⟨fs, q⟩ | ⟨fs, q⟩ <;> cases q
  · rcases hk _ _ hz (h7 i hi).1 with ⟨fs, q⟩ | ⟨fs, q⟩ <;> cases q
theorem opL.x {σb σ σ' : Tst} {c m : Nat} {own : Nat → Option Nat} {ol : Nat} {oas : List Nat} {fss : List (List Tfv)} (h : opL σb σ own ol oas fss) (hf : fx σ σ' c m) : opL σb σ' own ol oas fss := h.ofr hf (fun _ _ f _ => f.elim)
theorem mem_gd {oas : List Nat} {y : Nat} (h : y ∈ oas) : ∃ i, i < oas.length ∧ oas.getD i 0 = y := by
  obtain ⟨i, hi, e⟩ := List.getElem_of_mem h
  exact ⟨i, hi, by rw [List.getD_eq_getElem?_getD, List.getElem?_eq_getElem hi]; exact e⟩
/-- operations.add(new Operation(kind, node, target)) -/
theorem op_add {σb σ : Tst} {own : Nat → Option Nat} {N : Tnm} {ol cb nb : Nat} {oas : List Nat} {fss : List (List Tfv)} {kd : Int32} {nd tg : Option Nat} (hb : fx σb σ cb nb) (hE : kE σb) (hI : iv σ own N) (hL : opL σb σ own ol oas fss) (hk : w_ok .char kd) (hlen : oas.length ≤ 42) (hc : 2 ≤ σ.2.1) (hs : 100 ≤ σ.2.2.1) {Q : Tst → Prop} {X : String → Nat → Tst → Prop}
    (k : ∀ (σ' : Tst) (q : Nat), fx σb σ' (cb + 2) (nb + 100) → iv σ' own N → opL σb σ' own ol (oas ++ [q]) (fss ++ [[.inl kd, .inr nd, .inr tg]]) → σb.1 q = none → tkp σ σ' → (∀ z fs c, σ.1 z = some (.inr (c, fs)) → c ≠ cJ6 → σ'.1 z = some (.inr (c, fs))) → Q σ') :
    w_nw σ cX12 3 [.inl 0, .inr none, .inr none] (fun q5 σ => w_rf q5 (w_X12_init q5 kd nd tg (fun σ => w_rc σ (some ol) cJ6 (w_J6_add_2 (some ol) q5 (fun _ σ => Q σ) X σ)) X σ)) := by
  refine ⟨by omega, by omega, fun q hq hqb => ⟨⟨_, rfl⟩, ?_⟩⟩
  unfold w_X12_init
  have f1 := (fx.rf σ).al hq (.inr (cX12, [.inl 0, .inr none, .inr none])) (m := 3) (by omega) (by omega)
  have q1 := al_at σ q (.inr (cX12, [.inl 0, .inr none, .inr none])) 3
  generalize st_al σ q (.inr (cX12, [.inl 0, .inr none, .inr none])) 3 = σ1 at *
  refine ⟨⟨_, rfl⟩, hk, _, _, rfl, q1, (by simp), ?_⟩
  simp only [List.set_cons_zero]
  have f2 := f1.up hq (.inr (cX12, [.inl kd, .inr none, .inr none]))
  have q2 := up_at σ1 q (.inr (cX12, [.inl kd, .inr none, .inr none]))
  generalize st_up σ1 q (.inr (cX12, [.inl kd, .inr none, .inr none])) = σ2 at *
  refine ⟨_, _, rfl, q2, (by simp), ?_⟩
  simp only [List.set_cons_zero, List.set_cons_succ]
  have f3 := f2.up hq (.inr (cX12, [.inl kd, .inr nd, .inr none]))
  have q3 := up_at σ2 q (.inr (cX12, [.inl kd, .inr nd, .inr none]))
  generalize st_up σ2 q (.inr (cX12, [.inl kd, .inr nd, .inr none])) = σ3 at *
  refine ⟨_, _, rfl, q3, (by simp), ?_⟩
  simp only [List.set_cons_zero, List.set_cons_succ]
  have f4 := f3.up hq (.inr (cX12, [.inl kd, .inr nd, .inr tg]))
  have q4 := up_at σ3 q (.inr (cX12, [.inl kd, .inr nd, .inr tg]))
  generalize st_up σ3 q (.inr (cX12, [.inl kd, .inr nd, .inr tg])) = σ4 at *
  have := f4.c
  have := f4.s
  have hL4 := hL.x f4
  have hI4 := hI.x f4
  obtain ⟨⟨d, n, h1, h2, h3⟩, h4, h5, h6, h7, h8⟩ := hL4
  obtain ⟨mc, f, g1, g2, -⟩ := id h1
  have hmay : ∀ y ∈ oas.map some, w_may σ4 5 y ∧ y ≠ some ol := fun y hy => by
    obtain ⟨x, hx, rfl⟩ := List.mem_map.mp hy
    obtain ⟨i, hi, e⟩ := mem_gd hx
    have := (h7 i hi).1
    rw [e] at this
    exact ⟨Or.inr ⟨x, cX12, _, rfl, this, by decide⟩, fun e2 => by cases e2; rw [g1] at this; cases this⟩
  have hqo : q ≠ ol := fun e => by rw [e, g1] at q4; cases q4
  have hqd : q ≠ d := fun e => by rw [e, g2] at q4; cases q4
  refine ⟨lo_rc h1, lo_add h1 (fun y hy => (hmay y hy).1) (fun y hy => (hmay y hy).2) (Or.inr ⟨q, cX12, _, rfl, q4, by decide⟩) (fun e => hqo (Option.some.inj e)) (by omega) (by omega) (by rw [List.length_map]; omega) (fun d' n' σ5 hL5 hn' hd' hf5 => ?_)⟩
  rw [List.length_map] at hn' hf5
  have hb0 : σb.1 q = none := hb.no hq
  have fb4 := hb.tr f4
  have hA : ∀ z, z = ol ∨ (z = d ∧ 0 < n) → σb.1 z = none := fun z hz => by
    rcases hz with hz | hz
    · rw [hz]; exact h5
    · rw [hz.1]; exact (h3 (by omega)).2
  have fb5 := fb4.ofr hf5 hA
  have hownA : ∀ z a, own z = some a → ¬ (z = ol ∨ (z = d ∧ 0 < n)) := fun z a hz hh => by
    rcases hh with hh | hh
    · rw [hh, h4] at hz; cases hz
    · rw [hh.1, (h3 (by omega)).1] at hz; cases hz
  obtain ⟨E, fE, hE1, hE2⟩ := hE.x fb4
  have hEA : ¬ (E = ol ∨ (E = d ∧ 0 < n)) := fun hh => by
    rcases hh with hh | hh
    · rw [hh, g1] at hE2; cases hE2
    · rw [hh.1, g2] at hE2
      cases hE2
      exact absurd hh.2 (Nat.lt_irrefl _)
  have hI5 : iv σ5 own N := hI4.ofr hf5 hownA (fun E' hE' => by
    rw [hE1] at hE'
    cases hE'
    exact hEA)
  have hkeep : ∀ z fs c, σ.1 z = some (.inr (c, fs)) → c ≠ cJ6 → σ5.1 z = some (.inr (c, fs)) := fun z fs c hz hc => by
    refine hf5.1 _ _ (fun hh => ?_) (f4.k hz)
    have hz4 := f4.k hz
    rcases hh with hh | hh
    · rw [hh, g1] at hz4; cases hz4; exact hc rfl
    · rw [hh.1, g2] at hz4; cases hz4
  have hk0 : ∀ z x, σ.1 z = some (.inl (0, x)) → σ5.1 z = some (.inl (0, x)) := fun z x hz => by
    refine hf5.1 _ _ (fun hh => ?_) (f4.k hz)
    have hz4 := f4.k hz
    rcases hh with hh | hh
    · rw [hh, g1] at hz4; cases hz4
    · rw [hh.1, g2] at hz4; cases hz4
  have hq5 : σ5.1 q = some (.inr (cX12, [.inl kd, .inr nd, .inr tg])) := hf5.1 _ _ (fun hh => by
    rcases hh with hh | hh
    · exact hqo hh
    · exact hqd hh.1) q4
  have hqn : q ∉ oas := fun hm => by
    obtain ⟨i, hi, e⟩ := mem_gd hm
    have := (hL.2.2.2.2.1 i hi).1
    rw [e, hq] at this
    cases this
  refine k σ5 q (fb5.mo (by omega) (by omega)) hI5 ⟨⟨d', n', by rw [List.map_append]; exact hL5, by omega, fun hn0 => ?_⟩, h4, h5, by rw [List.length_append, List.length_append, h6]; rfl, fun i hi => ?_, ?_⟩ hb0 ⟨fun z fs hz => hkeep z fs _ hz (by decide), hk0⟩ hkeep
  · rcases hd' with e | e
    · by_cases hn : n = 0
      · exfalso
        have := hf5.1 d _ (fun hh => by
          rcases hh with hh | hh
          · rw [hh, g1] at g2; cases g2
          · omega) g2
        obtain ⟨_, _, _, r2, r3, _⟩ := hL5
        rw [e, this] at r2
        cases r2
        rw [List.length_append, List.length_singleton] at r3
        omega
      · rw [e]; exact h3 hn
    · exact ⟨hI4.own_no e, fb4.no e⟩
  · rw [List.length_append, List.length_singleton] at hi
    by_cases e : i = oas.length
    · subst e
      rw [gd_last]
      refine ⟨?_, hb0⟩
      rw [h6, List.getD_eq_getElem?_getD, List.getElem?_append_right (Nat.le_refl _), Nat.sub_self]
      exact hq5
    · have hi' : i < oas.length := by omega
      rw [gd_snoc _ _ _ hi']
      obtain ⟨r1, r2⟩ := hL.2.2.2.2.1 i hi'
      refine ⟨?_, r2⟩
      have e2 : (fss ++ [[Sum.inl kd, Sum.inr nd, Sum.inr tg]]).getD i [] = fss.getD i [] := by
        rw [List.getD_eq_getElem?_getD, List.getD_eq_getElem?_getD, List.getElem?_append_left (by omega)]
      rw [e2]
      exact hkeep _ _ _ r1 (by decide)
  · rw [List.nodup_append]
    exact ⟨h8, by simp, fun x hx y hy e => by
      rw [List.mem_singleton.mp hy] at e
      rw [e] at hx
      exact hqn hx⟩
/-- the state while a script is found -/
def vSt (σb : Tst) (own : Nat → Option Nat) (N : Tnm) (aX aY : Nat → Nat) (vis sc ol : Nat) (es : List Top) (σ : Tst) (c n : Nat) : Prop := fx σb σ c n ∧ iv σ own (evN aX aY N es) ∧ σ.1 vis = some (.inr (cX11, [.inr (some sc)])) ∧ (∃ e1 e2 : Tfv, σ.1 sc = some (.inr (cX10, [e1, e2, .inr (some ol)]))) ∧ ∃ oas : List Nat, opL σb σ own ol oas ((es.filter (fun e => !decide (e.1 = 112))).map (opf aX aY))
theorem vs_St {σb : Tst} {own : Nat → Option Nat} {N : Tnm} {vis sc ol : Nat} {FX FY : Tfi} {pX pY : Option Nat} (hE : kE σb) (hX : tr N pX FX) (hY : tr N pY FY) (hnX : ∀ i ∈ fi_ids FX, σb.1 i = none) (hnY : ∀ i ∈ fi_ids FY, σb.1 i = none) :
    vsOk_S FX FY (vSt σb own N (fun v => (fi_ids FX).getD v 0) (fun v => (fi_ids FY).getD v 0) vis sc ol) vis σb.2.1 σb.2.2.1 := by
  -- an operation noted
  have note : ∀ (es : List Top) (σ : Tst) (c n : Nat) (kd : Int32) (nd tg : Option Nat) (Q : Tst → Prop) (X : String → Nat → Tst → Prop), ¬ kd = 112 → w_ok .char kd → vSt σb own N (fun v => (fi_ids FX).getD v 0) (fun v => (fi_ids FY).getD v 0) vis sc ol es σ c n → nop es + 1 ≤ 43 → c + 2 ≤ σb.2.1 → n + 100 ≤ σb.2.2.1 → (∀ σ', vSt σb own N (fun v => (fi_ids FX).getD v 0) (fun v => (fi_ids FY).getD v 0) vis sc ol (es ++ [(kd, nd, tg)]) σ' (c + 2) (n + 100) → tkp σ σ' → Q σ') →
      w_gr σ (some vis) cX11 0 (fun x1 => w_gr σ x1 cX10 2 fun x2 => w_nw σ cX12 3 [.inl 0, .inr none, .inr none] (fun q3 σ => w_rf q3 (w_X12_init q3 kd (nd.map (fun v => (fi_ids FX).getD v 0)) (tg.map (fun v => (fi_ids FY).getD v 0)) (fun σ => w_rc σ x2 cJ6 (w_J6_add_2 x2 q3 (fun _ σ => Q σ) X σ)) X σ))) := by
    intro es σ c n kd nd tg Q X hkd hok hS hel hc hn kk
    obtain ⟨h1, h2, h3, ⟨e1, e2, h4⟩, oas, h5⟩ := hS
    have hl : oas.length = nop es := by rw [h5.2.2.2.1, List.length_map]; rfl
    have := h1.c
    have := h1.s
    refine ⟨_, _, _, rfl, h3, rfl, _, _, _, rfl, h4, rfl, op_add h1 hE h2 h5 hok (by omega) (by omega) (by omega) (fun σ' q g1 g2 g3 g4 g5 g6 => ?_)⟩
    refine kk σ' ⟨g1, ?_, g6 _ _ _ h3 (by decide), ⟨e1, e2, g6 _ _ _ h4 (by decide)⟩, oas ++ [q], ?_⟩ g5
    · rw [evN_app, evN_op _ _ _ _ hkd]; exact g2
    · rw [List.filter_append, List.map_append, List.filter_cons_of_pos (by simpa using hkd)]
      exact g3
  have hexX : ∀ {es : List Top} {v : Nat} {x : Nat × Tnw} {k : Tfi}, g_nth FX v = some (x, k) → (∃ par pt im, evN (fun v => (fi_ids FX).getD v 0) (fun v => (fi_ids FY).getD v 0) N es x.1 = some (x.2, par, fi_rt k, pt, im)) ∧ (fi_ids FX).getD v 0 = x.1 ∧ σb.1 x.1 = none := fun {es v x k} h => by
    obtain ⟨⟨pt, im, q1⟩, -⟩ := tr_nth FX pX v x k (tr_ev es N FX pX hX |> fun h => h) h
    obtain ⟨q2, q3, -⟩ := ids_nth FX v x k h
    exact ⟨⟨_, pt, im, q1⟩, q2, hnX _ q3⟩
  have hexY : ∀ {es : List Top} {v : Nat} {x : Nat × Tnw} {k : Tfi}, g_nth FY v = some (x, k) → (∃ par pt im, evN (fun v => (fi_ids FX).getD v 0) (fun v => (fi_ids FY).getD v 0) N es x.1 = some (x.2, par, fi_rt k, pt, im)) ∧ (fi_ids FY).getD v 0 = x.1 ∧ σb.1 x.1 = none := fun {es v x k} h => by
    obtain ⟨⟨pt, im, q1⟩, -⟩ := tr_nth FY pY v x k (tr_ev es N FY pY hY) h
    obtain ⟨q2, q3, -⟩ := ids_nth FY v x k h
    exact ⟨⟨_, pt, im, q1⟩, q2, hnY _ q3⟩
  refine ⟨fun es σ c n hS => ?_, fun es σ σ' c n c' n' hS hf => ?_, fun es σ c n c' n' hS h1 h2 => ?_, fun es σ c n v w x k y k' Q X hS hv hw hel hc hn kk => ?_, fun es σ c n v x k Q X hS hv hel hc hn kk => ?_, fun es σ c n w y k Q X hS hw hel hc hn kk => ?_⟩
  · obtain ⟨h1, h2, h3, -⟩ := hS
    exact ⟨h2.t FX pX (tr_ev es N FX pX hX), h2.t FY pY (tr_ev es N FY pY hY), ⟨_, h3⟩, h1.c, h1.s⟩
  · obtain ⟨h1, h2, h3, ⟨e1, e2, h4⟩, oas, h5⟩ := hS
    exact ⟨h1.tr hf, h2.x hf, hf.k h3, ⟨e1, e2, hf.k h4⟩, oas, h5.x hf⟩
  · obtain ⟨g1, g⟩ := hS
    exact ⟨g1.mo h1 h2, g⟩
  · obtain ⟨h1, h2, h3, ⟨e1, e2, h4⟩, oas, h5⟩ := hS
    obtain ⟨⟨p1, pt1, im1, q1⟩, aX1, bX1⟩ := hexX (es := es) hv
    obtain ⟨-, aY1, bY1⟩ := hexY (es := es) hw
    have hokx := (h2.2.2 _ _ q1).2.1
    unfold w_X11_pair
    refine h2.p (r' := (x.2, p1, fi_rt k, some y.1, im1)) q1 (fun c => rfl) (by decide) rfl hokx (fun σ1 hI1 hf1 => ?_)
    rw [← spt_eq q1] at hI1
    obtain ⟨⟨pt2, im2, q2⟩, -⟩ := tr_nth FY pY w y k' (tr_spt x.1 (some y.1) FY pY (tr_ev es N FY pY hY)) hw
    have hoky := (hI1.2.2 _ _ q2).2.1
    refine hI1.p (r' := (y.2, g_pad FY pY w, fi_rt k', some x.1, im2)) q2 (fun c => rfl) (by decide) rfl hoky (fun σ2 hI2 hf2 => ?_)
    rw [← spt_eq q2] at hI2
    have hev : spt (spt (evN (fun v => (fi_ids FX).getD v 0) (fun v => (fi_ids FY).getD v 0) N es) x.1 (some y.1)) y.1 (some x.1) = evN (fun v => (fi_ids FX).getD v 0) (fun v => (fi_ids FY).getD v 0) N (es ++ [(112, some v, some w)]) := by
      rw [evN_app]
      rw [evN_1]
      unfold ev1
      rw [if_pos rfl]
      simp only [aX1, aY1]
    rw [hev] at hI2
    obtain ⟨cx, _, _, x1c, _⟩ := h2.cell q1
    obtain ⟨cy, _, _, y1c, _⟩ := hI1.cell q2
    have k1 : ∀ z c fs, σ.1 z = some (.inr (c, fs)) → c ≠ cX3 → σ2.1 z = some (.inr (c, fs)) := fun z c fs hz hc => by
      have h1 := hf1.1 _ _ (fun e => by rw [e, x1c] at hz; cases hz; exact hc rfl) hz
      exact hf2.1 _ _ (fun e => by rw [e, y1c] at h1; cases h1; exact hc rfl) h1
    have k2 : ∀ z a, σ.1 z = some (.inl a) → σ2.1 z = some (.inl a) := fun z a hz => by
      have h1 := hf1.1 _ _ (fun e => by rw [e, x1c] at hz; cases hz) hz
      exact hf2.1 _ _ (fun e => by rw [e, y1c] at h1; cases h1) h1
    have hS2 : vSt σb own N (fun v => (fi_ids FX).getD v 0) (fun v => (fi_ids FY).getD v 0) vis sc ol (es ++ [(112, some v, some w)]) σ2 c n := by
      refine ⟨((h1.ofr hf1 (fun z hz => by rw [hz]; exact bX1)).ofr hf2 (fun z hz => by rw [hz]; exact bY1)).mo (by omega) (by omega), hI2, k1 _ _ _ h3 (by decide), ⟨e1, e2, k1 _ _ _ h4 (by decide)⟩, oas, ?_⟩
      have hfil : ((es ++ [((112 : Int32), some v, some w)]).filter (fun e => !decide (e.1 = 112))) = es.filter (fun e => !decide (e.1 = 112)) := by
        rw [List.filter_append, List.filter_cons_of_neg (by simp)]
        simp
      rw [hfil]
      exact (h5.ofr hf1 (fun z e hz he => by rw [hz, x1c] at he; cases he; exact Or.inl ⟨_, rfl⟩)).ofr hf2 (fun z e hz he => by rw [hz, y1c] at he; cases he; exact Or.inl ⟨_, rfl⟩)
    have hk12 : tkp σ σ2 := ⟨fun z f hz => k1 _ _ _ hz (by decide), fun z a hz => k2 _ _ hz⟩
    have hn112 : nop [((112 : Int32), some v, some w)] = 0 := rfl
    -- the labels and values of the two nodes, at any later state
    have cells : ∀ {es' : List Top} {σ' : Tst} {c' n' : Nat}, vSt σb own N (fun v => (fi_ids FX).getD v 0) (fun v => (fi_ids FY).getD v 0) vis sc ol es' σ' c' n' → (∃ f3 f4 f5 f6 : Tfv, σ'.1 x.1 = some (.inr (cX3, [.inl x.2.1, .inl x.2.2.1, .inl x.2.2.2, f3, f4, f5, f6]))) ∧ (∃ f3 f4 f5 f6 : Tfv, σ'.1 y.1 = some (.inr (cX3, [.inl y.2.1, .inl y.2.2.1, .inl y.2.2.2, f3, f4, f5, f6]))) := fun {es' σ' c' n'} h => by
      obtain ⟨⟨_, _, _, r1⟩, -⟩ := hexX (es := es') hv
      obtain ⟨⟨_, _, _, r2⟩, -⟩ := hexY (es := es') hw
      obtain ⟨_, _, _, c1, _⟩ := h.2.1.cell r1
      obtain ⟨_, _, _, c2, _⟩ := h.2.1.cell r2
      exact ⟨⟨_, _, _, _, c1⟩, ⟨_, _, _, _, c2⟩⟩
    have b45 : ∀ (σ3 : Tst) (ls : List Top), (nop (es ++ [(112, some v, some w)] ++ ls) + 1 ≤ 43) → vSt σb own N (fun v => (fi_ids FX).getD v 0) (fun v => (fi_ids FY).getD v 0) vis sc ol (es ++ [(112, some v, some w)] ++ ls) σ3 (c + 2) (n + 100) → ls = (if x.2.1 = y.2.1 then [] else [(108, some v, some w)]) → tkp σ σ3 → w_X11_pair_b45 Q X (some vis) (some x.1) (some y.1) σ3 := by
      intro σ3 ls hno hS3 hls hk3
      obtain ⟨⟨_, _, _, _, c1⟩, ⟨_, _, _, _, c2⟩⟩ := cells hS3
      unfold w_X11_pair_b45 w_X11_pair_b80
      refine ⟨_, _, _, rfl, c1, rfl, _, _, _, rfl, c2, rfl, fun ce => ?_, fun ce => ?_⟩
      · obtain ⟨g1, g⟩ := hS3
        refine kk σ3 ⟨g1.mo (by omega) (by omega), ?_⟩ hk3
        have hpe : es ++ pev x.2 y.2 v w = es ++ [(112, some v, some w)] ++ ls := by
          unfold pev
          rw [if_pos ce, hls]
          simp
        rw [hpe]
        exact g
      · have := note (es ++ [(112, some v, some w)] ++ ls) σ3 (c + 2) (n + 100) 118 (some v) (some w) Q X (by decide) ⟨rfl, rfl⟩ hS3 hno (by omega) (by omega) (fun σ4 hS4 hk4 => kk σ4 (by
          have hpe : es ++ pev x.2 y.2 v w = es ++ [(112, some v, some w)] ++ ls ++ [(118, some v, some w)] := by
            unfold pev
            rw [if_neg ce, hls]
            simp
          rw [hpe]
          exact hS4) (hk3.tr hk4))
        simp only [Option.map_some, aX1, aY1] at this
        exact this
    obtain ⟨⟨_, _, _, _, c1⟩, ⟨_, _, _, _, c2⟩⟩ := cells hS2
    refine ⟨_, _, _, rfl, c1, rfl, _, _, _, rfl, c2, rfl, fun ce => ?_, fun ce => ?_⟩
    · refine b45 σ2 [] (by rw [List.append_nil, nop_app, hn112]; omega) ?_ (by rw [if_pos ce]) hk12
      obtain ⟨g1, g⟩ := hS2
      rw [List.append_nil]
      exact ⟨g1.mo (by omega) (by omega), g⟩
    · have := note (es ++ [(112, some v, some w)]) σ2 c n 108 (some v) (some w) (fun σ => w_X11_pair_b45 Q X (some vis) (some x.1) (some y.1) σ) X (by decide) ⟨rfl, rfl⟩ hS2 (by rw [nop_app, hn112]; omega) (by omega) (by omega) (fun σ4 hS4 hk4 => b45 σ4 [(108, some v, some w)] (by rw [nop_app, nop_app, hn112]; show nop es + 0 + 1 + 1 ≤ 43; omega) hS4 (by rw [if_neg ce]) (hk12.tr hk4))
      simp only [Option.map_some, aX1, aY1] at this
      exact this
  · obtain ⟨-, a1, -⟩ := hexX (es := es) hv
    unfold w_X11_deletion
    have := note es σ c n 100 (some v) none Q X (by decide) ⟨rfl, rfl⟩ hS hel hc hn kk
    simp only [Option.map_some, Option.map_none, a1] at this
    exact this
  · obtain ⟨-, a1, -⟩ := hexY (es := es) hw
    unfold w_X11_insertion
    have := note es σ c n 105 none (some w) Q X (by decide) ⟨rfl, rfl⟩ hS hel hc hn kk
    simp only [Option.map_some, Option.map_none, a1] at this
    exact this
