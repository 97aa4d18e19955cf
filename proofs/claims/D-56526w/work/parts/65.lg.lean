-- Node.write(line)
def ti (x : Int32) : Nat := x.toInt.toNat
theorem ti_n {n : Nat} (h : n < 2147483648) : ti (nI n) = n := by
  unfold ti
  rw [nI_toInt h]
  rfl
def okw (w : Int32 × Int32 × Int32) : Prop := ∃ l k v : Nat, w = (nI l, nI k, nI v) ∧ 97 ≤ l ∧ l ≤ 122 ∧ k ≤ 9 ∧ v ≤ 99
def okF : Fo → Prop
  | .leaf => True
  | .inner _ w _ k r => okw w ∧ okF k ∧ okF r
def wr1 (w : Int32 × Int32 × Int32) : List Nat := [ti w.1] ++ ((if 0 < ti w.2.1 then 35 :: dg (ti w.2.1) else []) ++ (if 0 < ti w.2.2 then 61 :: dg (ti w.2.2) else []))
def wrs : Fo → List Nat
  | .leaf => []
  | .inner _ w _ k r => wr1 w ++ (if fo_cnt k = 0 then [] else 40 :: (wrs k ++ [41])) ++ wrs r
def wrT (w : Int32 × Int32 × Int32) (K : Fo) : List Nat := wr1 w ++ (if fo_cnt K = 0 then [] else 40 :: (wrs K ++ [41]))
theorem dg_len (v : Nat) : (dg v).length ≤ 2 := by unfold dg; split <;> simp
theorem wr1_len {w : Int32 × Int32 × Int32} (h : okw w) : (wr1 w).length ≤ 6 := by
  obtain ⟨l, k, v, rfl, h1, h2, h3, h4⟩ := h
  unfold wr1
  rw [ti_n (by omega), ti_n (by omega), ti_n (by omega)]
  have e1 : (dg k).length = 1 := by unfold dg; rw [if_pos (by omega)]; rfl
  have e2 := dg_len v
  split <;> split <;> simp only [List.length_append, List.length_cons, List.length_nil] <;> omega
theorem wrs_len : ∀ F : Fo, okF F → (wrs F).length ≤ 8 * fo_size F := by
  intro F
  induction F with
  | leaf => intro _; exact Nat.le_refl _
  | inner s w u k r ih1 ih2 =>
    intro h
    obtain ⟨h1, h2, h3⟩ := h
    have a1 := wr1_len h1
    have a2 := ih1 h2
    have a3 := ih2 h3
    simp only [wrs, fo_size, List.length_append]
    split
    · simp only [List.length_nil]; omega
    · simp only [List.length_cons, List.length_append, List.length_nil]; omega
theorem lo_B.node {σ : Tst} {a b cd cap : Nat} {xs : List Nat} (h : lo_B σ a b cd cap xs) {z : Nat} {e : Tce} (hz : σ.1 z = some e) (h1 : ∀ fs, e ≠ .inr (cJ1, fs)) (h2 : ∀ x, e ≠ .inl (2, x)) : ¬ (z = a ∨ z = b) := by
  obtain ⟨mb, f, g1, g2, -⟩ := h
  intro hh
  rcases hh with hh | hh
  · rw [hh, g1] at hz; exact h1 _ (Option.some.inj hz).symm
  · rw [hh, g2] at hz; exact h2 _ (Option.some.inj hz).symm
theorem lo_L.B {σ σ' : Tst} {a b cd cap c n : Nat} {xs : List Nat} (h : lo_B σ a b cd cap xs) (hf : fr (fun z => z = a ∨ z = b) σ σ' c n) {l d m : Nat} {ys : List (Option Nat)} (hL : lo_L σ l d m ys) : lo_L σ' l d m ys := by
  obtain ⟨mc, f, g1, g2, -⟩ := id hL
  exact lo_Lfr hf hL (h.node g1 (fun _ e => by cases e) (fun _ e => by cases e)) (h.node g2 (fun _ e => by cases e) (fun _ e => by cases e))
theorem nk.B {σ σ' : Tst} {a b cd cap c n : Nat} {xs : List Nat} (h : lo_B σ a b cd cap xs) (hf : fr (fun z => z = a ∨ z = b) σ σ' c n) {p : Nat} {w : Tnw} {ks : List Nat} (hk : nk σ p w ks) : nk σ' p w ks := by
  obtain ⟨l, d, m, e3, e5, e6, h1, h2⟩ := hk
  exact ⟨l, d, m, e3, e5, e6, hf.1 _ _ (h.node h1 (fun _ e => by cases e) (fun _ e => by cases e)) h1, lo_L.B h hf h2⟩
theorem tk.B {σ σ' : Tst} {a b cd cap c n : Nat} {xs : List Nat} (h : lo_B σ a b cd cap xs) (hf : fr (fun z => z = a ∨ z = b) σ σ' c n) : ∀ F : Tfi, tk σ F → tk σ' F := by
  intro F
  induction F with
  | leaf => intro _; trivial
  | inner s w u k r ih1 ih2 => intro hk; exact ⟨nk.B h hf hk.1, ih1 hk.2.1, ih2 hk.2.2⟩
theorem kD.B {σ σ' : Tst} {a b cd cap c n : Nat} {xs : List Nat} (h : lo_B σ a b cd cap xs) (hf : fr (fun z => z = a ∨ z = b) σ σ' c n) (hD : kD σ) : kD σ' := by
  obtain ⟨O, T, B, h1, h2, h3, h4, h5⟩ := hD
  exact ⟨O, T, B, by rw [hf.2.2.2.2]; exact h1, by rw [hf.2.2.2.2]; exact h2, by rw [hf.2.2.2.2]; exact h3, hf.1 _ _ (h.node h4 (fun _ e => by cases e) (fun _ e => by cases e)) h4, hf.1 _ _ (h.node h5 (fun _ e => by cases e) (fun _ e => by cases e)) h5⟩
/-- one turn of a for-each loop over an ArrayList, at the present state -/
theorem lo_each0 {σ : Tst} {c d n q i : Nat} {xs : List (Option Nat)} (hL : lo_L σ c d n xs) (hI : lo_It σ q c i) (hi : i ≤ xs.length) {X : String → Nat → Tst → Prop} {E : Tst → Prop} {B : Option Nat → Tst → Prop}
    (kE : i = xs.length → E σ) (kB : i < xs.length → ∀ σ1 : Tst, lo_It σ1 q c (i + 1) → fr (fun b => b = q) σ σ1 0 0 → B (xs.getD i none) σ1) :
    w_rc σ (some q) cJ18 (w_J18_hasNext (some q) (fun x1 σ => w_if (x1 = 0) (E σ) (w_rc σ (some q) cJ18 (w_J18_next (some q) B X σ))) X σ) := by
  obtain ⟨lr, mc, e, l, g1, g2⟩ := id hI
  exact ⟨⟨q, _, rfl, g1⟩, lo_hasNext hL hI hi (fun e => ⟨fun _ => kE e, fun c => absurd rfl c⟩) (fun hlt => ⟨fun h => absurd h (by decide), fun _ => ⟨⟨q, _, rfl, g1⟩, lo_next hL hI hlt (fun σ1 hI1 hf1 => kB hlt σ1 hI1 hf1)⟩⟩)⟩
/-- while the builder a is written, from the state σ0 on -/
def wst (σ0 : Tst) (a b0 cap0 : Nat) (σ : Tst) (b cap : Nat) (xs : List Nat) (c n : Nat) : Prop := lo_B σ a b 0 cap xs ∧ (b = b0 ∨ σ0.1 b = none) ∧ cap0 ≤ cap ∧ cap ≤ max cap0 404 ∧ fr (fun z => z = a ∨ z = b0) σ0 σ (c + (cap - cap0)) (n + 2 * (cap - cap0))
theorem wst.tr {σ0 σ1 σ2 : Tst} {a b0 cap0 b1 cap1 b2 cap2 c n c' n' : Nat} {xs xs' : List Nat} (h : wst σ0 a b0 cap0 σ1 b1 cap1 xs c n) (h' : wst σ1 a b1 cap1 σ2 b2 cap2 xs' c' n') : wst σ0 a b0 cap0 σ2 b2 cap2 xs' (c + c') (n + n') := by
  obtain ⟨h1, h2, h3, h4, h5⟩ := h
  obtain ⟨g1, g2, g3, g4, g5⟩ := h'
  refine ⟨g1, ?_, by omega, by omega, (fr2_tr h5 h2 g5).mono (fun _ _ h _ => h) (by omega) (by omega)⟩
  rcases g2 with g2 | g2
  · rw [g2]; exact h2
  · exact Or.inr (fr2_no h5 g2)
theorem wst.cap {σ0 σ : Tst} {a b0 cap0 b cap c n : Nat} {xs : List Nat} (h : wst σ0 a b0 cap0 σ b cap xs c n) : cap ≤ 900 := by
  obtain ⟨⟨mb, f, _, _, _, h4, _⟩, -⟩ := h
  exact h4
theorem wst.app {σ0 σ : Tst} {a b0 cap0 b cap c n x : Nat} {xs : List Nat} (h : wst σ0 a b0 cap0 σ b cap xs c n) (hx : x < 256) (hl : xs.length < 200) (hc : c + (max cap0 404 - cap0) + 1 ≤ σ0.2.1) (hs : n + 2 * (max cap0 404 - cap0) + 900 ≤ σ0.2.2.1) {Q : Option Nat → Tst → Prop} {X : String → Nat → Tst → Prop}
    (k : ∀ (σ' : Tst) (b' cap' : Nat), wst σ0 a b0 cap0 σ' b' cap' (xs ++ [x]) c n → wst σ a b cap σ' b' cap' (xs ++ [x]) 0 0 → Q (some a) σ') : w_rc σ (some a) cJ1 (w_J1_append_3 (some a) (nI x) Q X σ) := by
  have hcap := h.cap
  obtain ⟨h1, h2, h3, h4, h5⟩ := id h
  have := h5.2.2.1
  have := h5.2.2.2.1
  refine sb_appL h1 hx hl (by omega) (by omega) (fun σ' b' cap' g1 g2 g3 g4 g5 => ?_)
  have hw : wst σ a b cap σ' b' cap' (xs ++ [x]) 0 0 := ⟨g1, g4, g2, by omega, g5.mono (fun _ _ h _ => h) (by omega) (by omega)⟩
  exact k σ' b' cap' (by have := h.tr hw; simpa using this) hw
theorem wst.int {σ0 σ : Tst} {a b0 cap0 b cap c n v : Nat} {xs : List Nat} (h : wst σ0 a b0 cap0 σ b cap xs c n) (hD : kD σ) (hv : v < 100) (hl : xs.length ≤ 190) (hc : c + (max cap0 404 - cap0) + 1 ≤ σ0.2.1) (hs : n + 2 * (max cap0 404 - cap0) + 900 ≤ σ0.2.2.1) {Q : Option Nat → Tst → Prop} {X : String → Nat → Tst → Prop}
    (k : ∀ (σ' : Tst) (b' cap' : Nat), wst σ0 a b0 cap0 σ' b' cap' (xs ++ dg v) c n → wst σ a b cap σ' b' cap' (xs ++ dg v) 0 0 → Q (some a) σ') : w_rc σ (some a) cJ1 (w_J1_append_2 (some a) (nI v) Q X σ) := by
  have hcap := h.cap
  obtain ⟨h1, h2, h3, h4, h5⟩ := id h
  have := h5.2.2.1
  have := h5.2.2.2.1
  refine sb_int h1 hD hv hl (by omega) (by omega) (fun σ' b' cap' g1 g2 g3 g4 g5 => ?_)
  have hw : wst σ a b cap σ' b' cap' (xs ++ dg v) 0 0 := ⟨g1, g4, g2, by omega, g5.mono (fun _ _ h _ => h) (by omega) (by omega)⟩
  exact k σ' b' cap' (by have := h.tr hw; simpa using this) hw
theorem wst.rf {σ : Tst} {a b cap : Nat} {xs : List Nat} (h : lo_B σ a b 0 cap xs) : wst σ a b cap σ b cap xs 0 0 := ⟨h, Or.inl rfl, Nat.le_refl _, Nat.le_max_left _ _, (fr.rf _ σ).mono (fun _ _ h _ => h) (by omega) (by omega)⟩
theorem wst.x {σ0 σ σ' : Tst} {a b0 cap0 b cap c n c' n' : Nat} {xs : List Nat} (h : wst σ0 a b0 cap0 σ b cap xs c n) (hf : fx σ σ' c' n') : wst σ0 a b0 cap0 σ' b cap xs (c + c') (n + n') := by
  obtain ⟨h1, h2, h3, h4, h5⟩ := h
  exact ⟨h1.ofr hf (fun f => f) (fun f => f), h2, h3, h4, (h5.tr hf (fun _ _ f _ => f.elim)).mono (fun _ _ h _ => h) (by omega) (by omega)⟩
/-- a cell that is neither the builder nor its bytes -/
theorem wst.q {σ0 σ σ' : Tst} {a b0 cap0 b cap c n q : Nat} {xs : List Nat} (h : wst σ0 a b0 cap0 σ b cap xs c n) (hf : fr (fun z => z = q) σ σ' 0 0) (hq : σ0.1 q = none) {e : Tce} (he : σ.1 q = some e) (h1 : ∀ fs, e ≠ .inr (cJ1, fs)) (h2 : ∀ x, e ≠ .inl (2, x)) : wst σ0 a b0 cap0 σ' b cap xs c n := by
  obtain ⟨g1, g2, g3, g4, g5⟩ := h
  have hn := g1.node he h1 h2
  exact ⟨g1.ofr hf (fun e => hn (Or.inl e.symm)) (fun e => hn (Or.inr e.symm)), g2, g3, g4, (g5.tr hf (fun b e hb hk => by rw [hb, hq] at hk; cases hk)).mono (fun _ _ h _ => h) (by omega) (by omega)⟩
def wrN (D : Nat) (K : Tfi) : Prop := ∀ (σ0 : Tst) (p a b0 cap0 : Nat) (w : Tnw) (xs : List Nat) (Q : Tst → Prop) (X : String → Nat → Tst → Prop), nk σ0 p w (fi_rt K) → tk σ0 K → okw w → okF (fi_er K) → lo_B σ0 a b0 0 cap0 xs → kD σ0 → xs.length + 8 * (1 + fi_sz K) ≤ 180 → 1 + fi_sz K + (max cap0 404 - cap0) + 1 ≤ σ0.2.1 → 4 * (1 + fi_sz K) + 2 * (max cap0 404 - cap0) + 900 ≤ σ0.2.2.1 →
  (∀ (σ : Tst) (b cap : Nat), wst σ0 a b0 cap0 σ b cap (xs ++ wrT w (fi_er K)) (1 + fi_sz K) (4 * (1 + fi_sz K)) → Q σ) → w_X3_write D (some p) (some a) Q X σ0
def wrL (D : Nat) (F : Tfi) : Prop := ∀ (σ0 σ : Tst) (a b0 cap0 b cap : Nat) (xs0 xs : List Nat) (c d n q c0 n0 : Nat) (pre : List Nat) (Q : Tst → Prop) (X : String → Nat → Tst → Prop), tk σ0 F → okF (fi_er F) → lo_B σ0 a b0 0 cap0 xs0 → kD σ0 → lo_L σ0 c d n ((pre ++ fi_rt F).map some) → σ0.1 q = none → wst σ0 a b0 cap0 σ b cap xs c0 n0 → lo_It σ q c pre.length → xs.length + 8 * fi_sz F ≤ 180 → c0 + fi_sz F + (max cap0 404 - cap0) + 1 ≤ σ0.2.1 → n0 + 4 * fi_sz F + 2 * (max cap0 404 - cap0) + 900 ≤ σ0.2.2.1 →
  (∀ (σ' : Tst) (b' cap' : Nat), wst σ0 a b0 cap0 σ' b' cap' (xs ++ (wrs (fi_er F) ++ [41])) (c0 + fi_sz F) (n0 + 4 * fi_sz F) → Q σ') → w_X3_write_b80 (w_X3_write D) Q X ((fi_rt F).length + 1) (some a) (some q) σ
theorem wr_1 {D : Nat} {K : Tfi} (H : wrL D K) : wrN (D + 1) K := by
  intro σ0 p a b0 cap0 w xs Q X hk hK hw hKo hB hD hl hc hs kk
  obtain ⟨l, ke, v, rfl, hw1, hw2, hw3, hw4⟩ := hw
  obtain ⟨pc, pd, pn, e3, e5, e6, p1, pL⟩ := id hk
  have hpn := hB.node p1 (fun _ e => by cases e) (fun _ e => by cases e)
  have hcell : ∀ {σ : Tst} {b cap c n : Nat} {ys : List Nat}, wst σ0 a b0 cap0 σ b cap ys c n → σ.1 p = some (.inr (cX3, [.inl (nI l), .inl (nI ke), .inl (nI v), e3, .inr (some pc), e5, e6])) := fun h => h.2.2.2.2.1 _ _ hpn p1
  -- the children
  have hb51 : ∀ (σ : Tst) (b cap : Nat), wst σ0 a b0 cap0 σ b cap (xs ++ wr1 (nI l, nI ke, nI v)) 0 0 → w_X3_write_b51 (w_X3_write D) Q X (some p) (some a) σ := by
    intro σ b cap hw
    have hL := lo_L.B hB hw.2.2.2.2 pL
    obtain ⟨mc, f, g1, g2, g3, g4, -⟩ := id hL
    have hlen := wr1_len ⟨l, ke, v, rfl, hw1, hw2, hw3, hw4⟩
    unfold w_X3_write_b51 w_X3_write_b114
    refine ⟨_, _, _, rfl, hcell hw, rfl, ⟨_, _, rfl, g1⟩, ?_⟩
    unfold w_J6_isEmpty w_J6_isEmpty_b12
    have hcnt : (fi_rt K).length = fo_cnt (fi_er K) := fi_rt_len K
    rw [List.length_map] at g1 g3
    refine ⟨_, _, _, rfl, g1, rfl, fun c => ⟨rfl, fun q => absurd q (by decide), fun _ => ?_⟩, fun c => ⟨rfl, fun _ => ?_, fun q => absurd rfl q⟩⟩
    · have c := (ni_inj (b := 0) (by omega) (by decide)).mp c
      refine kk σ b cap ?_
      have e : xs ++ wrT (nI l, nI ke, nI v) (fi_er K) = xs ++ wr1 (nI l, nI ke, nI v) := by unfold wrT; rw [if_pos (by omega), List.append_nil]
      rw [e]
      obtain ⟨q1, q2, q3, q4, q5⟩ := hw
      exact ⟨q1, q2, q3, q4, q5.mono (fun _ _ h _ => h) (by omega) (by omega)⟩
    · have c : ¬ (fi_rt K).length = 0 := fun e => c (by rw [e]; rfl)
      refine hw.app (x := 40) (by decide) (by rw [List.length_append]; omega) (by omega) (by omega) (fun σ1 b1 cap1 hw1 _ => ?_)
      have hL1 := lo_L.B hB hw1.2.2.2.2 pL
      have hcap := hw1.cap
      have := hw1.2.2.1
      have := hw1.2.2.2.1
      have := hw1.2.2.2.2.2.2.1
      have := hw1.2.2.2.2.2.2.2.1
      refine ⟨_, _, _, rfl, hcell hw1, rfl, lo_rc hL1, lo_iter hL1 (by omega) (by omega) (fun q σ2 hq hI hf => ⟨_, H σ0 σ2 a b0 cap0 b1 cap1 xs _ pc pd pn q _ _ [] Q X hK hKo hB hD pL (fr2_no hw1.2.2.2.2 hq) (hw1.x hf) hI ?_ (by omega) (by omega) (fun σ' b' cap' hw' => ?_)⟩)⟩
      · simp only [List.length_append, List.length_cons, List.length_nil]; omega
      · refine kk σ' b' cap' ?_
        have e : xs ++ wrT (nI l, nI ke, nI v) (fi_er K) = xs ++ wr1 (nI l, nI ke, nI v) ++ [40] ++ (wrs (fi_er K) ++ [41]) := by
          unfold wrT
          rw [if_neg (by omega)]
          simp
        rw [e]
        obtain ⟨q1, q2, q3, q4, q5⟩ := hw'
        exact ⟨q1, q2, q3, q4, q5.mono (fun _ _ h _ => h) (by omega) (by omega)⟩
  -- the value
  have hb30 : ∀ (σ : Tst) (b cap : Nat), wst σ0 a b0 cap0 σ b cap (xs ++ ([l] ++ (if 0 < ke then 35 :: dg ke else []))) 0 0 → w_X3_write_b30 (w_X3_write D) Q X (some p) (some a) σ := by
    intro σ b cap hw
    have hkl : (if 0 < ke then 35 :: dg ke else []).length ≤ 3 := by
      have := dg_len ke
      split <;> simp only [List.length_cons, List.length_nil] <;> omega
    have e1 : wr1 (nI l, nI ke, nI v) = [l] ++ ((if 0 < ke then 35 :: dg ke else []) ++ (if 0 < v then 61 :: dg v else [])) := by
      unfold wr1
      rw [ti_n (by omega), ti_n (by omega), ti_n (by omega)]
    unfold w_X3_write_b30
    refine ⟨_, _, _, rfl, hcell hw, rfl, fun c => ?_, fun c => ?_⟩
    · have c := (ni_le (b := 0) (by omega) (by decide)).mp c
      refine hb51 σ b cap ?_
      rw [e1, if_neg (show ¬ 0 < v by omega), List.append_nil]
      exact hw
    · have c : 0 < v := Nat.lt_of_not_le (fun h => c ((ni_le (b := 0) (by omega) (by decide)).mpr h))
      refine hw.app (x := 61) (by decide) (by simp only [List.length_append, List.length_cons, List.length_nil]; omega) (by omega) (by omega) (fun σ1 b1 cap1 hw1 _ => ⟨_, _, _, rfl, hcell hw1, rfl, ?_⟩)
      refine hw1.int (kD.B hB hw1.2.2.2.2 hD) (by omega) (by simp only [List.length_append, List.length_cons, List.length_nil]; omega) (by omega) (by omega) (fun σ2 b2 cap2 hw2 _ => hb51 σ2 b2 cap2 ?_)
      rw [e1, if_pos c]
      simpa using hw2
  rw [w_X3_write]
  have hw0 := wst.rf hB
  refine ⟨_, _, _, rfl, p1, rfl, hw0.app (x := l) (by omega) (by omega) (by omega) (by omega) (fun σ1 b1 cap1 hw1 _ => ⟨_, _, _, rfl, hcell hw1, rfl, fun c => ?_, fun c => ?_⟩)⟩
  · have c := (ni_le (b := 0) (by omega) (by decide)).mp c
    refine hb30 σ1 b1 cap1 ?_
    rw [if_neg (show ¬ 0 < ke by omega), List.append_nil]
    exact hw1
  · have c : 0 < ke := Nat.lt_of_not_le (fun h => c ((ni_le (b := 0) (by omega) (by decide)).mpr h))
    refine hw1.app (x := 35) (by decide) (by simp only [List.length_append, List.length_cons, List.length_nil]; omega) (by omega) (by omega) (fun σ2 b2 cap2 hw2 _ => ⟨_, _, _, rfl, hcell hw2, rfl, ?_⟩)
    refine hw2.int (kD.B hB hw2.2.2.2.2 hD) (by omega) (by simp only [List.length_append, List.length_cons, List.length_nil]; omega) (by omega) (by omega) (fun σ3 b3 cap3 hw3 _ => hb30 σ3 b3 cap3 ?_)
    rw [if_pos c]
    simpa using hw3
theorem wr_L : ∀ (F : Tfi) (D : Nat), fo_h (fi_er F) ≤ D → wrL D F := by
  intro F
  induction F with
  | leaf =>
    intro D hD σ0 σ a b0 cap0 b cap xs0 xs c d n q c0 n0 pre Q X hT hok hB hkD hL hq hw hI hl hc hs k
    rw [w_X3_write_b80]
    refine lo_each0 (lo_L.B hB hw.2.2.2.2 hL) hI (by simp [fi_rt]) (fun _ => ?_) (fun h => by simp [fi_rt] at h)
    unfold w_X3_write_b114
    have hl' : xs.length ≤ 180 := by omega
    refine hw.app (x := 41) (by decide) (by omega) (by omega) (by omega) (fun σ1 b1 cap1 hw1 _ => k σ1 b1 cap1 ?_)
    obtain ⟨q1, q2, q3, q4, q5⟩ := hw1
    exact ⟨q1, q2, q3, q4, q5.mono (fun _ _ h _ => h) (by omega) (by omega)⟩
  | inner s v u kids rest ih1 ih2 =>
    intro D hD σ0 σ a b0 cap0 b cap xs0 xs c d n q c0 n0 pre Q X hT hok hB hkD hL hq hw hI hl hc hs k
    obtain ⟨hv, hK, hR⟩ := hT
    obtain ⟨ho1, ho2, ho3⟩ := hok
    have hsz0 : fi_sz (.inner s v u kids rest) = 1 + fi_sz kids + fi_sz rest := rfl
    rw [hsz0] at hl hc hs k
    simp only [fi_er, fo_h] at hD
    obtain ⟨D', rfl⟩ : ∃ D', D = D' + 1 := ⟨D - 1, by omega⟩
    rw [w_X3_write_b80]
    refine lo_each0 (lo_L.B hB hw.2.2.2.2 hL) hI (by simp [fi_rt]) (fun h => by simp [fi_rt] at h) (fun _ σ1 hI1 hf1 => ?_)
    rw [fi_rt, gd_mid]
    obtain ⟨_, _, _, _, gq, _⟩ := id hI
    have hw1 := hw.q hf1 hq gq (fun _ e => by cases e) (fun _ e => by cases e)
    have hv1 := nk.B hB hw1.2.2.2.2 hv
    obtain ⟨_, _, _, _, _, _, v1, _⟩ := id hv1
    have hcap := hw1.cap
    have := hw1.2.2.1
    have := hw1.2.2.2.1
    have := hw1.2.2.2.2.2.2.1
    have := hw1.2.2.2.2.2.2.2.1
    refine ⟨Or.inr ⟨_, _, rfl, v1⟩, ⟨_, _, rfl, v1⟩, ?_⟩
    have hlw := wr1_len ho1
    have hlk := wrs_len _ ho2
    have hcap0 : cap ≤ max cap0 404 := hw.2.2.2.1
    have hszk : fi_sz kids = fo_size (fi_er kids) := rfl
    have hwT : (wrT v.2 (fi_er kids)).length ≤ 8 * (1 + fi_sz kids) := by
      unfold wrT
      split
      · simp only [List.length_append, List.length_nil]; omega
      · simp only [List.length_append, List.length_cons, List.length_nil]; omega
    refine wr_1 (ih1 D' (by omega)) σ1 v.1 a b cap v.2 xs _ X hv1 (tk.B hB hw1.2.2.2.2 _ hK) ho1 ho2 hw1.1 (kD.B hB hw1.2.2.2.2 hkD) (by omega) (by omega) (by omega) (fun σ2 b2 cap2 hw2 => ?_)
    have hI2 := lo_Itfr hw2.2.2.2.2 hI1 (by
      obtain ⟨_, _, _, _, gq, _⟩ := id hI1
      exact hw1.1.node gq (fun _ e => by cases e) (fun _ e => by cases e)) (by
      obtain ⟨_, _, gc, -⟩ := lo_L.B hB hw1.2.2.2.2 hL
      exact hw1.1.node gc (fun _ e => by cases e) (fun _ e => by cases e))
    refine ih2 (D' + 1) (by omega) σ0 σ2 a b0 cap0 b2 cap2 xs0 (xs ++ wrT v.2 (fi_er kids)) c d n q (c0 + (1 + fi_sz kids)) (n0 + 4 * (1 + fi_sz kids)) (pre ++ [v.1]) Q X hR ho3 hB hkD (by simpa [fi_rt] using hL) hq (hw1.tr hw2) (by simpa using hI2) (by rw [List.length_append]; omega) (by omega) (by omega) (fun σ' b' cap' hw' => ?_)
    refine k σ' b' cap' ?_
    have e : xs ++ (wrs (fi_er (.inner s v u kids rest)) ++ [41]) = xs ++ wrT v.2 (fi_er kids) ++ (wrs (fi_er rest) ++ [41]) := by
      simp only [fi_er, wrs, wrT, List.append_assoc]
    rw [e]
    obtain ⟨q1, q2, q3, q4, q5⟩ := hw'
    exact ⟨q1, q2, q3, q4, q5.mono (fun _ _ h _ => h) (by omega) (by omega)⟩
theorem wr_node {D : Nat} {K : Tfi} (hD : fo_h (fi_er K) < D) : wrN D K := by
  obtain ⟨D', rfl⟩ : ∃ D', D = D' + 1 := ⟨D - 1, by omega⟩
  exact wr_1 (wr_L K D' (by omega))
