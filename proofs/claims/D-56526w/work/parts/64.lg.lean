-- append(int); String
def kD (σ : Tst) : Prop := ∃ O T B : Nat, σ.2.2.2 1 = some O ∧ σ.2.2.2 2 = some T ∧ σ.2.2.2 99 = some B ∧ σ.1 O = some (.inl (10, 100, .inl st_one)) ∧ σ.1 T = some (.inl (10, 100, .inl st_ten))
def dg (v : Nat) : List Nat := if v < 10 then [48 + v] else [48 + v / 10, 48 + v % 10]
theorem dg_1 : ∀ v : Nat, v < 100 → ((-nI v ≤ -10) ↔ 10 ≤ v) ∧ ¬ (-nI v ≤ 10 * (-10)) ∧ (-100 < -nI v) ∧ ((-9 ≤ -nI v) ↔ v < 10) ∧ ¬ nI v < 0 ∧ 0 ≤ nI v := by decide +kernel
theorem dg_size {σ : Tst} {v : Nat} (hv : v < 100) {Q : Int32 → Tst → Prop} {X : String → Nat → Tst → Prop} (k : Q (nI (dg v).length) σ) : w_J22_stringSize (nI v) Q X σ := by
  obtain ⟨d1, d2, d3, d4, d5, d6⟩ := dg_1 v hv
  unfold w_J22_stringSize w_J22_stringSize_b11
  refine ⟨fun c => absurd c d5, fun _ => ⟨3, ?_⟩⟩
  rw [w_J22_stringSize_b16]
  refine ⟨fun c => absurd c (by decide), fun _ => ⟨fun c => ?_, fun c => ?_⟩⟩
  · rw [w_J22_stringSize_b16]
    refine ⟨fun c => absurd c (by decide), fun _ => ⟨fun c => absurd c d2, fun _ => ?_⟩⟩
    have : (dg v).length = 2 := by unfold dg; rw [if_neg (by have := d1.mp c; omega)]; rfl
    rw [this] at k
    exact k
  · have : (dg v).length = 1 := by unfold dg; rw [if_pos (Nat.lt_of_not_le (fun h => c (d1.mpr h)))]; rfl
    rw [this] at k
    exact k
theorem ni_pred {n : Nat} : nI (n + 1) + (-1) = nI n := by
  have : nI (n + 1) - nI 1 = nI n := by rw [ni_sub (by omega)]; congr 1
  rw [← this, Int32.sub_eq_add_neg]
  rfl
theorem kD.ofr {A : Nat → Prop} {σ σ' : Tst} {c m : Nat} (hf : fr A σ σ' c m) (h : kD σ) (hA : ∀ k d, k < 10 → σ.2.2.2 k = some d → ¬ A d) : kD σ' := by
  obtain ⟨O, T, B, h1, h2, h3, h4, h5⟩ := h
  exact ⟨O, T, B, by rw [hf.2.2.2.2]; exact h1, by rw [hf.2.2.2.2]; exact h2, by rw [hf.2.2.2.2]; exact h3, hf.1 _ _ (hA 1 O (by decide) h1) h4, hf.1 _ _ (hA 2 T (by decide) h2) h5⟩
/-- append(v) of a small number, Latin1 -/
theorem sb_int {σ : Tst} {a b cap v : Nat} {xs : List Nat} (h : lo_B σ a b 0 cap xs) (hD : kD σ) (hv : v < 100) (hl : xs.length ≤ 190) (hc : 1 ≤ σ.2.1) (hs : 900 ≤ σ.2.2.1) {Q : Option Nat → Tst → Prop} {X : String → Nat → Tst → Prop}
    (k : ∀ (σ' : Tst) (b' cap' : Nat), lo_B σ' a b' 0 cap' (xs ++ dg v) → cap ≤ cap' → cap' ≤ max cap (2 * (xs.length + 2) + 4) → (b' = b ∨ σ.1 b' = none) → fr (fun z => z = a ∨ z = b) σ σ' (cap' - cap) (2 * (cap' - cap)) → Q (some a) σ') : w_rc σ (some a) cJ1 (w_J1_append_2 (some a) (nI v) Q X σ) := by
  obtain ⟨d1, d2, d3, d4, d5, d6⟩ := dg_1 v hv
  have hne := h.ne
  obtain ⟨mb, f, h1, h2, h3, h4, h5, h6, h7, h8⟩ := id h
  have hdl : (dg v).length ≤ 2 ∧ 1 ≤ (dg v).length := by unfold dg; split <;> simp
  unfold w_J1_append_2
  refine ⟨⟨_, _, rfl, h1⟩, ⟨_, _, rfl, h1⟩, ?_⟩
  unfold w_J0_append_2
  refine ⟨_, _, _, rfl, h1, rfl, dg_size hv ?_⟩
  rw [ni_add]
  refine sb_ec h (by omega) (by omega) (by omega) (fun σ1 b1 cap1 hB1 hroom hcap1 hb1 _ hle hf1 => ?_)
  have hne1 := hB1.ne
  obtain ⟨mb1, f1, h11, h12, h13, h14, h15, h16, h17, h18⟩ := id hB1
  obtain ⟨g1, g2, g3⟩ : xs.length ≤ cap1 ∧ (∀ x ∈ xs, x < 256) ∧ ∀ i, i < xs.length → f1 i = (nI (xs.getD i 0)).toInt8.toInt32 := by
    rcases h18 with ⟨-, g⟩ | ⟨g, -⟩
    · exact g
    · cases g
  have hf1' := hf1.mono (B := fun z => z = a ∨ z = b) (fun _ _ h _ => Or.inl h) (Nat.le_refl _) (Nat.le_refl _)
  have hbA : ∀ (b2 : Nat) (e : Tce), b2 = b1 → σ.1 b2 = some e → b2 = a ∨ b2 = b := fun b2 e hb he => by
    rcases hb1 with q | q
    · exact Or.inr (hb.trans q)
    · rw [hb, q] at he; cases he
  obtain ⟨O, T, B, o1, o2, o3, o4, o5⟩ := hD
  have hOa : ∀ (O : Nat) (f : Nat → Int32), σ.1 O = some (.inl (10, 100, .inl f)) → O ≠ a ∧ O ≠ b1 ∧ O ≠ b := fun O f ho => by
    refine ⟨fun e => ?_, fun e => ?_, fun e => ?_⟩
    · rw [e, h1] at ho; cases ho
    · rcases hb1 with q | q
      · rw [e, q, h2] at ho; cases ho
      · rw [e, q] at ho; cases ho
    · rw [e, h2] at ho; cases ho
  obtain ⟨oa, ob, obb⟩ := hOa O _ o4
  obtain ⟨ta, tb, tbb⟩ := hOa T _ o5
  have o4' := hf1.1 _ _ oa o4
  have o5' := hf1.1 _ _ ta o5
  refine sb_lat hB1 ⟨fun c => absurd c (by decide), fun _ => ⟨_, _, _, rfl, h11, rfl, ?_⟩⟩
  unfold w_J22_getChars w_J22_getChars_b12
  refine ⟨fun _ => ⟨fun _ => ⟨1, ?_⟩, fun c => absurd rfl c⟩, fun c => absurd d6 c⟩
  rw [w_J22_getChars_b22]
  unfold w_J22_getChars_b104 w_J22_getChars_b118 w_J0_append_2_b48 w_k
  obtain ⟨e, he⟩ : ∃ e, xs.length + (dg v).length = e + 1 := ⟨xs.length + (dg v).length - 1, by omega⟩
  rw [he]
  refine ⟨fun _ => ?_, fun c => absurd d3 c⟩
  have hk1 : σ1.2.2.2 1 = some O := by rw [hf1.2.2.2.2]; exact o1
  have hk2 : ∀ e, (st_up σ1 b1 e).2.2.2 2 = some T := fun _ => by show σ1.2.2.2 2 = _; rw [hf1.2.2.2.2]; exact o2
  refine ⟨O, 10, _, _, v, hk1, o4', Or.inr rfl, by rw [Int32.neg_neg], by omega, by omega, ?_⟩
  refine ⟨_, _, _, e, rfl, h12, ni_pred, by omega, by omega, ?_⟩
  have q1 : st_one v = nI (48 + v % 10) := rfl
  have q2 : st_ten v = nI (48 + v / 10) := rfl
  have fin : ∀ (g : Nat → Int32) (σ2 : Tst), (∀ j, j < cap1 → fits .byte (.int (g j)) = true) → (∀ i, i < xs.length → g i = f1 i) → (∀ i, i < (dg v).length → g (xs.length + i) = (nI ((dg v).getD i 0)).toInt8.toInt32) → σ2.1 a = some (.inr (cJ1, [.inr (some b1), .inl (nI 0), .inl mb1, .inl (nI xs.length)])) → σ2.1 b1 = some (.inl (2, cap1, .inl g)) → fr (fun z => z = a ∨ z = b) σ σ2 (cap1 - cap) (2 * (cap1 - cap)) → w_p σ2 (some a) cJ1 3 (.inl (nI (e + 1))) (fun σ => Q (some a) σ) := by
    intro g σ2 hgf hg0 hg1 ha2 hb2 hf2
    refine ⟨_, _, rfl, ha2, (by simp), ?_⟩
    have hmem : ∀ x ∈ dg v, x < 256 := by
      intro x hx
      unfold dg at hx
      split at hx
      · rw [List.mem_singleton.mp hx]; omega
      · rcases List.mem_cons.mp hx with hx | hx
        · rw [hx]; omega
        · rw [List.mem_singleton.mp hx]; omega
    refine k _ b1 cap1 ⟨mb1, g, (up_at _ _ _).trans ?_, (up_ne _ _ hne1).trans hb2, h13, h14, by rw [List.length_append]; omega, ?_, hgf, Or.inl ⟨rfl, by rw [List.length_append]; omega, ?_, fun i hi => ?_⟩⟩ hle (by omega) hb1 ((hf2.tr (fr.up σ2 a _) (fun _ _ h _ => Or.inl h)).mono (fun _ _ h _ => h) (by omega) (by omega))
    · rw [List.length_append, he]; rfl
    · intro x hx
      rcases List.mem_append.mp hx with hx | hx
      · exact h16 x hx
      · have := hmem x hx; omega
    · intro x hx
      rcases List.mem_append.mp hx with hx | hx
      · exact g2 x hx
      · exact hmem x hx
    · rw [List.length_append] at hi
      by_cases hix : i < xs.length
      · rw [hg0 i hix, g3 i hix, List.getD_eq_getElem?_getD, List.getD_eq_getElem?_getD, List.getElem?_append_left hix]
      · have hh := hg1 (i - xs.length) (by omega)
        rw [show xs.length + (i - xs.length) = i by omega] at hh
        rw [hh, List.getD_eq_getElem?_getD, List.getD_eq_getElem?_getD, List.getElem?_append_right (by omega)]
  have a2 := (up_ne σ1 (.inl (2, cap1, .inl (upd f1 e (st_one v).toInt8.toInt32))) (Ne.symm hne1)).trans h11
  have b2 := up_at σ1 b1 (.inl (2, cap1, .inl (upd f1 e (st_one v).toInt8.toInt32)))
  have hf2 := (hf1'.tr (fr.up σ1 b1 (.inl (2, cap1, .inl (upd f1 e (st_one v).toInt8.toInt32)))) hbA)
  have o52 := (up_ne σ1 (.inl (2, cap1, .inl (upd f1 e (st_one v).toInt8.toInt32))) tb).trans o5'
  refine ⟨fun c => ⟨fun _ => ?_, fun c => absurd rfl c⟩, fun c => ?_⟩
  · have hv10 := d4.mp c
    have hd1 : dg v = [48 + v] := by unfold dg; rw [if_pos hv10]
    have he1 : e = xs.length := by rw [hd1] at he; simp at he; omega
    refine fin _ _ (fun j hj => ?_) (fun i hi => ?_) (fun i hi => ?_) a2 b2 (hf2.mono (fun _ _ h _ => h) (by omega) (by omega))
    · by_cases q : j = e
      · simp only [upd, if_pos q]; exact by_fits _
      · simp only [upd, if_neg q]; exact h17 j hj
    · have q : ¬ i = e := by omega
      simp only [upd, if_neg q]
    · rw [hd1] at hi ⊢
      have hi0 : i = 0 := by simp at hi; exact hi
      subst hi0
      rw [Nat.add_zero, ← he1]
      simp only [upd, if_true, q1]
      rw [show v % 10 = v by omega]
      rfl
  · have hv10 : ¬ v < 10 := fun q => c (d4.mpr q)
    have hd1 : dg v = [48 + v / 10, 48 + v % 10] := by unfold dg; rw [if_neg hv10]
    have he1 : e = xs.length + 1 := by rw [hd1] at he; simp at he; omega
    refine ⟨T, 10, _, _, v, hk2 _, o52, Or.inr rfl, by rw [Int32.neg_neg], by omega, by omega, ?_⟩
    refine ⟨_, _, _, xs.length, rfl, b2, by rw [ni_pred, he1, ni_pred], by omega, by omega, fun _ => ?_, fun c => absurd rfl c⟩
    refine fin _ _ (fun j hj => ?_) (fun i hi => ?_) (fun i hi => ?_) ((up_ne _ _ (Ne.symm hne1)).trans a2) (up_at _ _ _) ((hf2.tr (fr.up _ b1 _) hbA).mono (fun _ _ h _ => h) (by omega) (by omega))
    · by_cases q : j = xs.length
      · simp only [upd, if_pos q]; exact by_fits _
      · by_cases q' : j = e
        · simp only [upd, if_neg q, if_pos q']; exact by_fits _
        · simp only [upd, if_neg q, if_neg q']; exact h17 j hj
    · have q : ¬ i = e := by omega
      have q' : ¬ i = xs.length := by omega
      simp only [upd, if_neg q, if_neg q']
    · rw [hd1] at hi ⊢
      simp only [List.length_cons, List.length_nil] at hi
      have hi0 : i = 0 ∨ i = 1 := by omega
      rcases hi0 with rfl | rfl
      · rw [Nat.add_zero]
        simp only [upd, if_true, q2]
        rfl
      · have q : ¬ e = xs.length := by omega
        rw [← he1]
        simp only [upd, if_neg q, if_true, q1]
        rfl
/-- a Latin1 String at q over the bytes s -/
def lo_S (σ : Tst) (q s : Nat) (xs : List Nat) : Prop := ∃ (f : Nat → Int32) (e2 e3 : Tfv), σ.1 q = some (.inr (cJ2, [.inr (some s), .inl 0, e2, e3])) ∧ σ.1 s = some (.inl (2, xs.length, .inl f)) ∧ xs.length ≤ 200 ∧ (∀ x ∈ xs, x < 256) ∧ ∀ i, i < xs.length → f i = (nI (xs.getD i 0)).toInt8.toInt32
theorem ss_len {σ : Tst} {q s : Nat} {xs : List Nat} (h : lo_S σ q s xs) {Q : Int32 → Tst → Prop} {X : String → Nat → Tst → Prop} (k : Q (nI xs.length) σ) : w_rc σ (some q) cJ2 (w_J2_length (some q) Q X σ) := by
  obtain ⟨f, e2, e3, h1, h2, h3, h4, h5⟩ := h
  unfold w_J2_length w_J2_coder w_J2_coder_b14
  refine ⟨⟨_, _, rfl, h1⟩, _, _, _, rfl, h1, rfl, _, _, _, _, rfl, h2, (by decide), ⟨_, _, rfl, h1⟩, fun c => absurd c (by decide), fun _ => ⟨_, _, _, rfl, h1, rfl, rfl, ?_⟩⟩
  have e1 : nI xs.length >>> (0 &&& 31) = nI xs.length := (sh_n _ (by omega)).2.2.1
  dsimp only
  rw [e1]
  exact k
theorem ss_charAt {σ : Tst} {q s i : Nat} {xs : List Nat} (h : lo_S σ q s xs) (hi : i < xs.length) {Q : Int32 → Tst → Prop} {X : String → Nat → Tst → Prop} (k : Q (nI (xs.getD i 0)) σ) : w_rc σ (some q) cJ2 (w_J2_charAt (some q) (nI i) Q X σ) := by
  obtain ⟨f, e2, e3, h1, h2, h3, h4, h5⟩ := h
  have hx2 : xs.getD i 0 < 256 := by
    rw [List.getD_eq_getElem?_getD, List.getElem?_eq_getElem hi]
    exact h4 _ (List.getElem_mem hi)
  unfold w_J2_charAt w_J2_isLatin1 w_J2_isLatin1_b17 w_J2_isLatin1_b18 w_J14_charAt
  refine ⟨⟨_, _, rfl, h1⟩, ⟨_, _, rfl, h1⟩, fun c => absurd c (by decide), fun _ => ⟨_, _, _, rfl, h1, rfl, fun _ => ⟨rfl, fun c => absurd c (by decide), fun _ => ⟨_, _, _, rfl, h1, rfl, _, _, _, _, rfl, h2, (by decide), ?_⟩⟩, fun c => absurd rfl c⟩⟩
  refine sb_idx hi (by omega) ⟨_, 2, _, _, i, rfl, h2, Or.inl rfl, rfl, hi, by omega, ?_⟩
  rw [h5 i hi]
  dsimp only
  rw [by_l hx2]
  exact ⟨ch_nar (by omega), ch_nar (by omega), k⟩
/-- toString() -/
theorem sb_str {σ : Tst} {a b cap : Nat} {xs : List Nat} (h : lo_B σ a b 0 cap xs) (hD : kD σ) (hc : 2 ≤ σ.2.1) (hs : 910 ≤ σ.2.2.1) {Q : Option Nat → Tst → Prop} {X : String → Nat → Tst → Prop}
    (k : ∀ (q s : Nat) (σ' : Tst), σ.1 q = none → σ.1 s = none → lo_S σ' q s xs → fx σ σ' 2 910 → Q (some q) σ') : w_rc σ (some a) cJ1 (w_J1_toString (some a) Q X σ) := by
  obtain ⟨mb, f, h1, h2, h3, h4, h5, h6, h7, h8⟩ := id h
  obtain ⟨g1, g2, g3⟩ : xs.length ≤ cap ∧ (∀ x ∈ xs, x < 256) ∧ ∀ i, i < xs.length → f i = (nI (xs.getD i 0)).toInt8.toInt32 := by
    rcases h8 with ⟨-, g⟩ | ⟨g, -⟩
    · exact g
    · cases g
  obtain ⟨O, T, B, o1, o2, o3, o4, o5⟩ := hD
  refine ⟨⟨_, _, rfl, h1⟩, ?_⟩
  unfold w_J1_toString
  refine ⟨by omega, by omega, fun q hq hqb => ⟨⟨_, rfl⟩, ?_⟩⟩
  have f1 := (fx.rf σ).al hq (.inr (cJ2, [.inr none, .inl 0, .inl 0, .inl 0])) (m := 4) (by omega) (by omega)
  have q1 := al_at σ q (.inr (cJ2, [.inr none, .inl 0, .inl 0, .inl 0])) 4
  have hnb : ∀ (σ2 : Tst), σ2.2.2.2 = σ.2.2.2 → tw_nbs σ2 (some q) := fun σ2 hk a ha => by
    cases ha
    exact ⟨B, by rw [hk]; exact o3, hqb B o3⟩
  generalize st_al σ q (.inr (cJ2, [.inr none, .inl 0, .inl 0, .inl 0])) 4 = σ1 at *
  have := f1.c
  have := f1.s
  unfold w_J2_init w_J2_init_2 w_J0_getValue
  have hB1 : lo_B σ1 a b 0 cap xs := h.ofr f1 (fun f => f) (fun f => f)
  refine ⟨⟨_, rfl⟩, ⟨_, rfl⟩, ⟨_, _, rfl, f1.k h1⟩, _, _, _, rfl, f1.k h1, rfl, sb_len hB1 (sb_lat hB1 ⟨fun c => absurd c (by decide), fun _ => ⟨⟨rfl, rfl⟩, hnb σ1 f1.kk, _, _, rfl, q1, (by simp), ?_⟩⟩)⟩
  have q2 := up_at σ1 q (.inr (cJ2, ([.inr none, .inl 0, .inl 0, .inl 0] : List Tfv).set 1 (.inl 0)))
  have f2 := f1.up hq (.inr (cJ2, ([.inr none, .inl 0, .inl 0, .inl 0] : List Tfv).set 1 (.inl 0)))
  have hb2 : (st_up σ1 q (.inr (cJ2, ([.inr none, .inl 0, .inl 0, .inl 0] : List Tfv).set 1 (.inl 0)))).1 b = some (.inl (2, cap, .inl f)) := f2.k h2
  generalize st_up σ1 q (.inr (cJ2, ([.inr none, .inl 0, .inl 0, .inl 0] : List Tfv).set 1 (.inl 0))) = σ2 at *
  have := f2.c
  have := f2.s
  unfold w_J13_copyOfRange w_J2_init_2_b97
  have fin : ∀ (s : Nat) (σ3 : Tst) (g : Nat → Int32), σ.1 s = none → fx σ σ3 2 910 → σ3.1 q = some (.inr (cJ2, ([.inr none, .inl 0, .inl 0, .inl 0] : List Tfv).set 1 (.inl 0))) → σ3.1 s = some (.inl (2, xs.length, .inl g)) → (∀ i, i < xs.length → g i = f i) → tw_nbs σ3 (some q) ∧ w_p σ3 (some q) cJ2 0 (.inr (some s)) (fun σ => Q (some q) σ) := by
    intro s σ3 g hs3 f3 q3 s3 hg
    refine ⟨hnb σ3 f3.kk, _, _, rfl, q3, (by simp), ?_⟩
    have hsq : s ≠ q := by intro e; subst e; rw [s3] at q3; cases q3
    exact k q s _ hq hs3 ⟨g, .inl 0, .inl 0, up_at _ _ _, (up_ne _ _ hsq).trans s3, h5, g2, fun i hi => by rw [hg i hi]; exact g3 i hi⟩ (f3.up hq _)
  refine ⟨fun _ => ⟨_, _, _, _, rfl, hb2, (by decide), fun c => ?_, fun c => ?_⟩, fun c => absurd rfl c⟩
  · have c := (ni_inj (by omega) (by omega)).mp c
    refine ⟨_, _, f, rfl, h3, hb2, h7, by omega, by omega, fun s hs3 hsb => ?_⟩
    have f3 := f2.al hs3 (.inl (2, cap, .inl f)) (m := cap) (by omega) (by omega)
    have s3 := al_at σ2 s (.inl (2, cap, .inl f)) cap
    have q3 := (al_ne σ2 (.inl (2, cap, .inl f)) cap (kn_ne q2 hs3)).trans q2
    refine ⟨Or.inr ⟨_, _, _, rfl, s3⟩, fin s _ f (f2.no hs3) (f3.mo (by omega) (by omega)) q3 (by rw [c]; exact s3) (fun _ _ => rfl)⟩
  · have c : ¬ xs.length = cap := fun e => c (by rw [e])
    unfold w_J13_copyOfRange_b10 w_J13_copyOfRangeByte w_J13_checkLength
    refine ⟨fun _ => ?_, fun q => absurd ((ni_le (a := 0) (by decide) (by omega)).mpr (Nat.zero_le _)) q⟩
    rw [show nI xs.length - 0 = nI xs.length from Int32.sub_zero _]
    refine ⟨xs.length, rfl, by omega, by omega, by omega, fun s hs3 hsb => ?_⟩
    have f3 := f2.al hs3 (.inl (2, xs.length, .inl fun _ => 0)) (m := xs.length) (by omega) (by omega)
    have s3 := al_at σ2 s (.inl (2, xs.length, .inl fun _ => 0)) xs.length
    have q3 := (al_ne σ2 (.inl (2, xs.length, .inl fun _ => 0)) xs.length (kn_ne q2 hs3)).trans q2
    have b3 := f3.k h2
    have hs0 := f2.no hs3
    have hsb' : ∀ B, σ.2.2.2 99 = some B → B ≤ s := fun B' hB' => hsb B' (by rw [f2.kk]; exact hB')
    generalize st_al σ2 s (.inl (2, xs.length, .inl fun _ => 0)) xs.length = σ3 at *
    refine ⟨_, _, _, _, rfl, b3, (by decide), ?_⟩
    have em : (if nI xs.length < nI cap - 0 then nI xs.length else nI cap - 0) = nI xs.length := by
      rw [show nI cap - 0 = nI cap from Int32.sub_zero _, if_pos ((lo_lt (by omega) (by omega)).mpr (by omega))]
    dsimp only
    rw [em]
    refine ⟨_, _, f, _, _, fun _ => 0, 0, 0, xs.length, rfl, b3, rfl, s3, rfl, rfl, rfl, by omega, by omega, by omega, by omega, Or.inl h3, Or.inr (fun a ha => ?_), fun j hj => by rw [Nat.zero_add]; exact h7 j (by omega), ?_⟩
    · cases ha
      exact ⟨B, by rw [f3.kk]; exact o3, hsb' B o3⟩
    · have hsq : q ≠ s := by intro e; subst e; rw [s3] at q3; cases q3
      refine fin s _ (va_cpy f (fun _ => 0) 0 0 xs.length) hs0 ((f3.up hs0 _).mo (by omega) (by omega)) ((up_ne _ _ hsq).trans q3) (up_at _ _ _) (fun i hi => by simp [va_cpy, hi])
