-- recognizeMoves: mathematics, and the component's loop
def nilT : Top := (45, none, none)
def rcF (lk : Top → Top → Bool) (d : Top) (as : List Top) : Option Nat := as.findIdx? (fun o => decide (o.1 = 105) && lk d o)
/-- operation k, if a deletion, made a move with the first insertion of a like subtree -/
def rc1 (lk : Top → Top → Bool) (as : List Top) (k : Nat) : List Top := if (as.getD k nilT).1 = 100 then match rcF lk (as.getD k nilT) as with | none => as | some q => (as.set q (109, (as.getD k nilT).2.1, (as.getD q nilT).2.2)).set k (45, (as.getD k nilT).2) else as
def rcN (lk : Top → Top → Bool) (as : List Top) : Nat → List Top
  | 0 => as
  | m + 1 => rc1 lk (rcN lk as m) m
theorem rc1_len (lk : Top → Top → Bool) (as : List Top) (k : Nat) : (rc1 lk as k).length = as.length := by
  unfold rc1
  split
  · split
    · rfl
    · rw [List.length_set, List.length_set]
  · rfl
theorem rcN_len (lk : Top → Top → Bool) (as : List Top) : ∀ m, (rcN lk as m).length = as.length := by
  intro m
  induction m with
  | zero => rfl
  | succ m ih => rw [rcN, rc1_len, ih]
theorem rcF_some {lk : Top → Top → Bool} {d : Top} {as : List Top} {q : Nat} (h : rcF lk d as = some q) : q < as.length ∧ (as.getD q nilT).1 = 105 ∧ lk d (as.getD q nilT) = true ∧ ∀ i, i < q → ¬ ((as.getD i nilT).1 = 105 ∧ lk d (as.getD i nilT) = true) := by
  unfold rcF at h
  rw [List.findIdx?_eq_some_iff_getElem] at h
  obtain ⟨hq, h1, h2⟩ := h
  have e : ∀ i, (hi : i < as.length) → as.getD i nilT = as[i] := fun i hi => by rw [List.getD_eq_getElem?_getD, List.getElem?_eq_getElem hi]; rfl
  rw [e q hq]
  simp only [Bool.and_eq_true, decide_eq_true_eq] at h1
  refine ⟨hq, h1.1, h1.2, fun i hi => ?_⟩
  rw [e i (by omega)]
  have := h2 i hi
  intro hh
  apply this
  simp only [Bool.and_eq_true, decide_eq_true_eq]
  exact hh
theorem rcF_none {lk : Top → Top → Bool} {d : Top} {as : List Top} (h : rcF lk d as = none) : ∀ i, i < as.length → ¬ ((as.getD i nilT).1 = 105 ∧ lk d (as.getD i nilT) = true) := by
  unfold rcF at h
  rw [List.findIdx?_eq_none_iff] at h
  intro i hi
  have e : as.getD i nilT = as[i] := by rw [List.getD_eq_getElem?_getD, List.getElem?_eq_getElem hi]; rfl
  rw [e]
  have := h _ (List.getElem_mem hi)
  intro hh
  simp only [Bool.and_eq_false_iff, decide_eq_false_iff_not] at this
  rcases this with t | t
  · exact t hh.1
  · rw [hh.2] at t; cases t
/-- the objects of the operations that are left -/
def fl : List Nat → List Top → List Nat
  | o :: os, a :: as => if a.1 = 45 then fl os as else o :: fl os as
  | _, _ => []
theorem fl_app : ∀ (os : List Nat) (as : List Top) (os' : List Nat) (as' : List Top), os.length = as.length → fl (os ++ os') (as ++ as') = fl os as ++ fl os' as' := by
  intro os
  induction os with
  | nil => intro as os' as' h; cases as with | nil => rfl | cons a t => simp at h
  | cons o t ih =>
    intro as os' as' h
    cases as with
    | nil => simp at h
    | cons a t' =>
      simp only [List.cons_append, fl]
      rw [ih t' os' as' (by simpa using h)]
      split <;> rfl
theorem fl_split {os : List Nat} {as : List Top} (h : os.length = as.length) {k : Nat} (hk : k < as.length) (h45 : (as.getD k nilT).1 ≠ 45) : fl os as = fl (os.take k) (as.take k) ++ os.getD k 0 :: fl (os.drop (k + 1)) (as.drop (k + 1)) := by
  have e1 : os = os.take k ++ os.getD k 0 :: os.drop (k + 1) := by
    rw [List.getD_eq_getElem?_getD, List.getElem?_eq_getElem (by omega)]
    simp
  have e2 : as = as.take k ++ as.getD k nilT :: as.drop (k + 1) := by
    rw [List.getD_eq_getElem?_getD, List.getElem?_eq_getElem hk]
    simp
  conv => lhs; rw [e1, e2]
  rw [fl_app _ _ _ _ (by rw [List.length_take, List.length_take]; omega), fl, if_neg h45]
theorem fl_kind : ∀ (os : List Nat) (as bs : List Top), as.length = bs.length → (∀ i, i < as.length → ((as.getD i nilT).1 = 45 ↔ (bs.getD i nilT).1 = 45)) → fl os as = fl os bs := by
  intro os
  induction os with
  | nil => intro as bs _ _; cases as <;> cases bs <;> rfl
  | cons o t ih =>
    intro as bs hl h
    cases as with
    | nil => cases bs with | nil => rfl | cons b u => simp at hl
    | cons a s =>
      cases bs with
      | nil => simp at hl
      | cons b u =>
        have h0 := h 0 (by simp)
        simp only [List.getD_cons_zero] at h0
        have hr := ih s u (by simpa using hl) (fun i hi => by have := h (i + 1) (by simp; omega); simpa using this)
        simp only [fl, hr, h0]
theorem fl_set45 {os : List Nat} {as : List Top} (h : os.length = as.length) {k : Nat} (hk : k < as.length) (h45 : (as.getD k nilT).1 ≠ 45) (x : Option Nat × Option Nat) : fl os (as.set k (45, x)) = (fl os as).eraseIdx (fl (os.take k) (as.take k)).length := by
  rw [fl_split h hk h45]
  have e1 : os = os.take k ++ os.getD k 0 :: os.drop (k + 1) := by
    rw [List.getD_eq_getElem?_getD, List.getElem?_eq_getElem (by omega)]
    simp
  have e2 : as.set k (45, x) = as.take k ++ (45, x) :: as.drop (k + 1) := by
    rw [List.set_eq_take_append_cons_drop, if_pos hk]
  conv => lhs; rw [e1, e2]
  rw [fl_app _ _ _ _ (by rw [List.length_take, List.length_take]; omega), fl, if_pos rfl, List.eraseIdx_append_of_length_le (Nat.le_refl _), Nat.sub_self, List.eraseIdx_cons_zero]
theorem set_gd (as : List Top) (q i : Nat) (x : Top) (hq : q < as.length) : (as.set q x).getD i nilT = if i = q then x else as.getD i nilT := by
  rw [List.getD_eq_getElem?_getD, List.getElem?_set, List.getD_eq_getElem?_getD]
  by_cases e : q = i
  · subst e; rw [if_pos rfl, if_pos hq, if_pos rfl]; rfl
  · rw [if_neg e, if_neg (Ne.symm e)]
/-- the iterator with its last place, the list not changed since -/
def lo_It2 (σ : Tst) (q a i : Nat) (lr : Int32) : Prop := ∃ (mc : Int32) (e l : Tfv), σ.1 q = some (.inr (cJ18, [.inl (nI i), .inl lr, .inl mc, .inr (some a)])) ∧ σ.1 a = some (.inr (cJ6, [.inl mc, e, l]))
theorem lo_It2.it {σ : Tst} {q a i : Nat} {lr : Int32} (h : lo_It2 σ q a i lr) : lo_It σ q a i := by
  obtain ⟨mc, e, l, h1, h2⟩ := h
  exact ⟨lr, mc, e, l, h1, h2⟩
theorem lo_It2.ofr {A : Nat → Prop} {σ σ' : Tst} {c m : Nat} (hf : fr A σ σ' c m) {q a i : Nat} {lr : Int32} (h : lo_It2 σ q a i lr) (h1 : ¬ A q) (h2 : ¬ A a) : lo_It2 σ' q a i lr := by
  obtain ⟨mc, e, l, g1, g2⟩ := h
  exact ⟨mc, e, l, hf.1 _ _ h1 g1, hf.1 _ _ h2 g2⟩
theorem lo_next2 {σ : Tst} {q a d n i : Nat} {xs : List (Option Nat)} (h : lo_L σ a d n xs) (hI : lo_It σ q a i) (hi : i < xs.length) {Q : Option Nat → Tst → Prop} {X : String → Nat → Tst → Prop}
    (k : ∀ σ' : Tst, lo_It2 σ' q a (i + 1) (nI i) → fr (fun b => b = q) σ σ' 0 0 → Q (xs.getD i none) σ') : w_J18_next (some q) Q X σ := by
  have had := lo_ad h
  obtain ⟨mc, f, h1, h2, h3, h4, h5, -⟩ := h
  obtain ⟨lr, mc', e, l, g1, g2⟩ := hI
  cases h1.symm.trans g2
  have hqa : a ≠ q := by intro e; subst e; rw [h1] at g1; cases g1
  have hqd : d ≠ q := by intro e; subst e; rw [h2] at g1; cases g1
  unfold w_J18_next
  refine ⟨⟨q, _, rfl, g1⟩, ?_⟩
  unfold w_J18_checkForComodification
  refine ⟨q, _, _, rfl, g1, rfl, a, _, _, rfl, h1, rfl, q, _, _, rfl, g1, rfl, fun _ => ?_, fun c => absurd rfl c⟩
  refine ⟨q, _, _, rfl, g1, rfl, q, _, _, rfl, g1, rfl, a, _, _, rfl, h1, rfl, fun _ => ?_, fun c => absurd ((lo_lt (by omega) (by omega)).mpr hi) c⟩
  refine ⟨q, _, _, rfl, g1, rfl, a, _, _, rfl, h1, rfl, d, 5, n, _, rfl, h2, by decide, fun _ => ?_, fun c => absurd ((lo_lt (by omega) (by omega)).mpr (by omega)) c⟩
  refine ⟨q, _, rfl, g1, by simp, q, _, rfl, lo_up _ _ _, by simp, ?_⟩
  refine ⟨d, 5, n, f, i, rfl, (lo_ne _ _ hqd).trans ((lo_ne _ _ hqd).trans h2), by omega, rfl, by omega, by omega, ?_⟩
  rw [h5 i hi]
  refine k _ ⟨mc, _, _, (lo_up _ _ _).trans ?_, (lo_ne _ _ hqa).trans ((lo_ne _ _ hqa).trans h1)⟩ ((fr.up σ q _).tr (fr.up _ q _) (fun b e hb h => hb))
  rw [← ni_add]
  rfl
/-- Iterator.remove() -/
theorem lo_itRemove {σ : Tst} {q a d n i : Nat} {xs : List (Option Nat)} (h : lo_L σ a d n xs) (hI : lo_It2 σ q a (i + 1) (nI i)) (hi : i < xs.length) (hm : ∀ y ∈ xs, w_may σ 5 y) (hma : ∀ y ∈ xs, y ≠ some a) {Q : Tst → Prop} {X : String → Nat → Tst → Prop}
    (k : ∀ σ' : Tst, lo_L σ' a d n (xs.eraseIdx i) → lo_It σ' q a i → fr (fun z => z = q ∨ z = a ∨ (z = d ∧ 0 < n)) σ σ' 0 0 → Q σ') : w_rc σ (some q) cJ18 (w_J18_remove (some q) Q X σ) := by
  obtain ⟨mc0, f0, h1, h2, h3, h4, h5, h6⟩ := id h
  obtain ⟨mc, e, l, g1, g2⟩ := hI
  cases h1.symm.trans g2
  have hqa : a ≠ q := by intro e; subst e; rw [h1] at g1; cases g1
  have hqd : d ≠ q := by intro e; subst e; rw [h2] at g1; cases g1
  refine ⟨⟨_, _, rfl, g1⟩, ?_⟩
  unfold w_J18_remove w_J18_checkForComodification
  refine ⟨_, _, _, rfl, g1, rfl, fun _ => ?_, fun c => absurd ((ni_le (a := 0) (by decide) (by omega)).mpr (Nat.zero_le _)) c⟩
  refine ⟨⟨_, _, rfl, g1⟩, _, _, _, rfl, g1, rfl, _, _, _, rfl, h1, rfl, _, _, _, rfl, g1, rfl, fun _ => ?_, fun c => absurd rfl c⟩
  refine ⟨_, _, _, rfl, g1, rfl, _, _, _, rfl, g1, rfl, ⟨_, _, rfl, h1⟩, lo_remove h hm hma hi (fun σ1 hL1 hf1 => ?_)⟩
  have q1 := hf1.1 _ _ (fun hz => by
    rcases hz with hz | hz
    · exact hqa hz.symm
    · exact hqd hz.1.symm) g1
  obtain ⟨mc1, f1, r1, r2, r3, r4, r5, r6⟩ := id hL1
  refine ⟨_, _, _, rfl, q1, rfl, _, _, rfl, q1, (by simp), ?_⟩
  simp only [List.set_cons_zero]
  have q2 := up_at σ1 q (.inr (cJ18, [.inl (nI i), .inl (nI i), .inl mc0, .inr (some a)]))
  have L2 := lo_Lup (e := .inr (cJ18, [.inl (nI i), .inl (nI i), .inl mc0, .inr (some a)])) hL1 hqa hqd
  have a2 := (up_ne σ1 (.inr (cJ18, [.inl (nI i), .inl (nI i), .inl mc0, .inr (some a)])) hqa).trans r1
  have f2 := (hf1.mono (B := fun z => z = q ∨ z = a ∨ (z = d ∧ 0 < n)) (fun _ _ h _ => Or.inr h) (Nat.le_refl _) (Nat.le_refl _)).tr (fr.up σ1 q (.inr (cJ18, [.inl (nI i), .inl (nI i), .inl mc0, .inr (some a)]))) (fun _ _ h _ => Or.inl h)
  generalize st_up σ1 q (.inr (cJ18, [.inl (nI i), .inl (nI i), .inl mc0, .inr (some a)])) = σ2 at *
  refine ⟨_, _, rfl, q2, (by simp), ?_⟩
  simp only [List.set_cons_zero, List.set_cons_succ]
  have q3 := up_at σ2 q (.inr (cJ18, [.inl (nI i), .inl (-1), .inl mc0, .inr (some a)]))
  have L3 := lo_Lup (e := .inr (cJ18, [.inl (nI i), .inl (-1), .inl mc0, .inr (some a)])) L2 hqa hqd
  have a3 := (up_ne σ2 (.inr (cJ18, [.inl (nI i), .inl (-1), .inl mc0, .inr (some a)])) hqa).trans a2
  have f3 := f2.tr (fr.up σ2 q (.inr (cJ18, [.inl (nI i), .inl (-1), .inl mc0, .inr (some a)]))) (fun _ _ h _ => Or.inl h)
  generalize st_up σ2 q (.inr (cJ18, [.inl (nI i), .inl (-1), .inl mc0, .inr (some a)])) = σ3 at *
  refine ⟨_, _, _, rfl, q3, rfl, _, _, _, rfl, a3, rfl, _, _, rfl, q3, (by simp), ?_⟩
  simp only [List.set_cons_zero, List.set_cons_succ]
  have f4 := f3.tr (fr.up σ3 q (.inr (cJ18, [.inl (nI i), .inl (-1), .inl mc1, .inr (some a)]))) (fun _ _ h _ => Or.inl h)
  exact k _ (lo_Lup L3 hqa hqd) ⟨-1, mc1, _, _, up_at _ _ _, (up_ne _ _ hqa).trans a3⟩ f4
