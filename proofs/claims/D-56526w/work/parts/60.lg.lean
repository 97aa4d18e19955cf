-- the component's forests by number; detach
theorem ids_len (F : Tfi) : (fi_ids F).length = gz F := by rw [fi_ids_len, gz_i]
theorem ids_nth : ∀ (F : Tfi) (j : Nat) (x : Nat × Tnw) (K : Tfi), g_nth F j = some (x, K) → (fi_ids F).getD j 0 = x.1 ∧ x.1 ∈ fi_ids F ∧ ∀ i ∈ fi_ids K, i ∈ fi_ids F := by
  intro F
  induction F with
  | leaf => intro j x K h; cases h
  | inner s w u k r ih1 ih2 =>
    intro j x K h
    cases j with
    | zero =>
      simp only [g_nth, Option.some.injEq, Prod.mk.injEq] at h
      obtain ⟨rfl, rfl⟩ := h
      exact ⟨rfl, by simp [fi_ids], fun i hi => by simp [fi_ids, hi]⟩
    | succ j =>
      simp only [g_nth] at h
      simp only [fi_ids]
      split at h
      · rename_i c
        obtain ⟨h1, h2, h3⟩ := ih1 _ _ _ h
        refine ⟨?_, by simp [h2], fun i hi => by simp [h3 i hi]⟩
        rw [List.getD_cons_succ, List.getD_eq_getElem?_getD, List.getElem?_append_left (by rw [ids_len]; exact c), ← List.getD_eq_getElem?_getD]
        exact h1
      · rename_i c
        obtain ⟨h1, h2, h3⟩ := ih2 _ _ _ h
        refine ⟨?_, by simp [h2], fun i hi => by simp [h3 i hi]⟩
        rw [List.getD_cons_succ, List.getD_eq_getElem?_getD, List.getElem?_append_right (by rw [ids_len]; omega), ids_len, ← List.getD_eq_getElem?_getD]
        exact h1
theorem tk_nth {σ : Tst} : ∀ (F : Tfi) (j : Nat) (x : Nat × Tnw) (K : Tfi), tk σ F → g_nth F j = some (x, K) → nk σ x.1 x.2 (fi_rt K) ∧ tk σ K := by
  intro F
  induction F with
  | leaf => intro j x K _ h; cases h
  | inner s w u k r ih1 ih2 =>
    intro j x K ht h
    cases j with
    | zero =>
      simp only [g_nth, Option.some.injEq, Prod.mk.injEq] at h
      obtain ⟨rfl, rfl⟩ := h
      exact ⟨ht.1, ht.2.1⟩
    | succ j =>
      simp only [g_nth] at h
      split at h
      · exact ih1 _ _ _ ht.2.1 h
      · exact ih2 _ _ _ ht.2.2 h
/-- the parent's address -/
def g_pad (F : Tfi) (par : Option Nat) (j : Nat) : Option Nat := match g_pix F j with | none => par | some p => some ((fi_ids F).getD p 0)
theorem g_pix_lt {β : Type} : ∀ (F : Tpf β) (j p : Nat), g_pix F j = some p → p < j ∧ j < gz F ∨ gz F ≤ j := by
  intro F
  induction F with
  | leaf => intro j p h; cases h
  | inner s w u k r ih1 ih2 =>
    intro j p h
    cases j with
    | zero => cases h
    | succ j =>
      simp only [g_pix] at h
      simp only [gz]
      by_cases c : j < gz k
      · rw [if_pos c] at h
        cases e : g_pix k j with
        | none => rw [e] at h; simp at h; omega
        | some q =>
          rw [e] at h
          have := ih1 _ _ e
          simp at h
          omega
      · rw [if_neg c] at h
        cases e : g_pix r (j - gz k) with
        | none => rw [e] at h; simp at h
        | some q =>
          rw [e] at h
          have := ih2 _ _ e
          simp at h
          omega
theorem tr_nth {N : Tnm} : ∀ (F : Tfi) (par : Option Nat) (j : Nat) (x : Nat × Tnw) (K : Tfi), tr N par F → g_nth F j = some (x, K) → (∃ pt im, N x.1 = some (x.2, g_pad F par j, fi_rt K, pt, im)) ∧ tr N (some x.1) K := by
  intro F
  induction F with
  | leaf => intro par j x K _ h; cases h
  | inner s w u k r ih1 ih2 =>
    intro par j x K ht h
    obtain ⟨h1, h2, h3⟩ := ht
    cases j with
    | zero =>
      simp only [g_nth, Option.some.injEq, Prod.mk.injEq] at h
      obtain ⟨rfl, rfl⟩ := h
      exact ⟨h1, h2⟩
    | succ j =>
      have hsz := g_nth_sz _ _ _ _ h
      simp only [gz] at hsz
      simp only [g_nth] at h
      have hpad : g_pad (.inner s w u k r) par (j + 1) = if j < gz k then g_pad k (some w.1) j else g_pad r par (j - gz k) := by
        simp only [g_pad, g_pix]
        by_cases c : j < gz k
        · rw [if_pos c, if_pos c]
          cases e : g_pix k j with
          | none => rfl
          | some p =>
            have hp := g_pix_lt _ _ _ e
            simp only [fi_ids, List.getD_cons_succ]
            rw [List.getD_eq_getElem?_getD, List.getElem?_append_left (by rw [ids_len]; omega), ← List.getD_eq_getElem?_getD]
        · rw [if_neg c, if_neg c]
          cases e : g_pix r (j - gz k) with
          | none => rfl
          | some p =>
            simp only [Option.map_some, fi_ids]
            rw [show p + 1 + gz k = gz k + p + 1 by omega, List.getD_cons_succ, List.getD_eq_getElem?_getD, List.getElem?_append_right (by rw [ids_len]; omega), ids_len, Nat.add_sub_cancel_left, ← List.getD_eq_getElem?_getD]
      rw [hpad]
      split at h
      · rename_i c
        rw [if_pos c]
        exact ih1 _ _ _ _ h2 h
      · rename_i c
        rw [if_neg c]
        exact ih2 _ _ _ _ h3 h
theorem ids_set (f : Nat × Tnw → Nat × Tnw) (hf : ∀ w, (f w).1 = w.1) : ∀ (F : Tfi) (j : Nat), fi_ids (g_set f F j) = fi_ids F ∧ fi_rt (g_set f F j) = fi_rt F := by
  intro F
  induction F with
  | leaf => intro j; exact ⟨rfl, rfl⟩
  | inner s w u k r ih1 ih2 =>
    intro j
    cases j with
    | zero => simp only [g_set, fi_ids, fi_rt, hf, and_self]
    | succ j =>
      simp only [g_set]
      split
      · simp only [fi_ids, fi_rt, (ih1 _).1, and_self]
      · simp only [fi_ids, fi_rt, (ih2 _).1, (ih2 _).2, and_self]
theorem tr_set {N N' : Tnm} (f : Nat × Tnw → Nat × Tnw) (hf : ∀ w, (f w).1 = w.1) : ∀ (F : Tfi) (par : Option Nat) (j : Nat) (x : Nat × Tnw) (K : Tfi), tr N par F → g_nth F j = some (x, K) → (fi_ids F).Nodup → (∀ z ∈ fi_ids F, z ≠ x.1 → N' z = N z) → (∀ r, N x.1 = some r → N' x.1 = some ((f x).2, r.2)) → tr N' par (g_set f F j) := by
  intro F
  induction F with
  | leaf => intro par j x K _ h; cases h
  | inner s w u k r ih1 ih2 =>
    intro par j x K ht h hnd ho hx
    obtain ⟨⟨pt, im, h1⟩, h2, h3⟩ := ht
    simp only [fi_ids, List.nodup_cons, List.mem_append, List.nodup_append, not_or] at hnd
    obtain ⟨⟨n1, n2⟩, n3, n4, n5⟩ := hnd
    simp only [fi_ids, List.mem_cons, List.mem_append] at ho
    cases j with
    | zero =>
      simp only [g_nth, Option.some.injEq, Prod.mk.injEq] at h
      obtain ⟨rfl, rfl⟩ := h
      simp only [g_set]
      refine ⟨⟨pt, im, ?_⟩, ?_, ?_⟩
      · rw [hf]; exact hx _ h1
      · rw [hf]; exact tr_ag _ _ (fun i hi => ho i (Or.inr (Or.inl hi)) (fun e => n1 (e ▸ hi))) h2
      · exact tr_ag _ _ (fun i hi => ho i (Or.inr (Or.inr hi)) (fun e => n2 (e ▸ hi))) h3
    | succ j =>
      simp only [g_nth] at h
      simp only [g_set]
      split at h
      · rename_i c
        have hm := (ids_nth _ _ _ _ h).2.1
        rw [if_pos c]
        refine ⟨⟨pt, im, ?_⟩, ih1 _ _ _ _ h2 h n3 (fun z hz => ho z (Or.inr (Or.inl hz))) hx, tr_ag _ _ (fun i hi => ho i (Or.inr (Or.inr hi)) (fun e => n5 _ hm _ hi e.symm)) h3⟩
        rw [(ids_set f hf _ _).2, ho w.1 (Or.inl rfl) (fun e => n1 (e ▸ hm))]
        exact h1
      · rename_i c
        have hm := (ids_nth _ _ _ _ h).2.1
        rw [if_neg c]
        refine ⟨⟨pt, im, ?_⟩, tr_ag _ _ (fun i hi => ho i (Or.inr (Or.inl hi)) (fun e => n5 _ hi _ hm e)) h2, ih2 _ _ _ _ h3 h n4 (fun z hz => ho z (Or.inr (Or.inr hz))) hx⟩
        rw [ho w.1 (Or.inl rfl) (fun e => n2 (e ▸ hm))]
        exact h1
theorem rt_insK (x : Nat × Tnw) (kx : Tfi) : ∀ (p : Nat) (K : Tfi), p ≤ (fi_rt K).length → fi_rt (g_insK x kx p K) = (fi_rt K).take p ++ x.1 :: (fi_rt K).drop p := by
  intro p
  induction p with
  | zero => intro K _; simp [g_insK, fi_rt]
  | succ p ih =>
    intro K h
    cases K with
    | leaf => simp [fi_rt] at h
    | inner s w u k r =>
      simp only [fi_rt, List.length_cons] at h
      simp only [g_insK, fi_rt, ih r (by omega), List.take_succ_cons, List.drop_succ_cons, List.cons_append]
theorem ids_insK (x : Nat × Tnw) (kx : Tfi) : ∀ (p : Nat) (K : Tfi), fi_ids (g_insK x kx p K) = (fi_ids K).take (g_ksz p K) ++ (x.1 :: fi_ids kx) ++ (fi_ids K).drop (g_ksz p K) := by
  intro p
  induction p with
  | zero => intro K; simp [g_insK, g_ksz, fi_ids]
  | succ p ih =>
    intro K
    cases K with
    | leaf => simp [g_insK, g_ksz, fi_ids]
    | inner s w u k r =>
      simp only [g_insK, g_ksz, fi_ids, ih r]
      have e : 1 + gz k + g_ksz p r = (gz k + g_ksz p r) + 1 := by omega
      rw [e, List.take_succ_cons, List.drop_succ_cons, List.take_append, List.drop_append, ids_len]
      have e1 : (fi_ids k).take (gz k + g_ksz p r) = fi_ids k := List.take_of_length_le (by rw [ids_len]; omega)
      have e2 : (fi_ids k).drop (gz k + g_ksz p r) = [] := List.drop_eq_nil_of_le (by rw [ids_len]; omega)
      rw [e1, e2, Nat.add_sub_cancel_left]
      simp
theorem ids_ins (x : Nat × Tnw) (kx : Tfi) (p : Nat) : ∀ (F : Tfi) (j : Nat) (y : Nat × Tnw) (K : Tfi), g_nth F j = some (y, K) → fi_ids (g_kid (g_insK x kx p) F j) = (fi_ids F).take (j + 1 + g_ksz p K) ++ (x.1 :: fi_ids kx) ++ (fi_ids F).drop (j + 1 + g_ksz p K) ∧ fi_rt (g_kid (g_insK x kx p) F j) = fi_rt F := by
  intro F
  induction F with
  | leaf => intro j y K h; cases h
  | inner s w u k r ih1 ih2 =>
    intro j y K h
    have hkl : ∀ (p : Nat) (K : Tfi), g_ksz p K ≤ gz K := fun p K => by
      rw [← er_ksz, ← gz_er, gz_o]; exact g_ksz_le _ _
    cases j with
    | zero =>
      simp only [g_nth, Option.some.injEq, Prod.mk.injEq] at h
      obtain ⟨rfl, rfl⟩ := h
      simp only [g_kid, fi_ids, ids_insK, fi_rt]
      refine ⟨?_, trivial⟩
      rw [show 0 + 1 + g_ksz p k = g_ksz p k + 1 by omega, List.take_succ_cons, List.drop_succ_cons, List.take_append, List.drop_append, ids_len]
      have := hkl p k
      rw [show g_ksz p k - gz k = 0 by omega]
      simp
    | succ j =>
      simp only [g_nth] at h
      simp only [g_kid]
      split at h
      · rename_i c
        have hs := g_nth_sz _ _ _ _ h
        have := hkl p K
        obtain ⟨e1, e2⟩ := ih1 _ _ _ h
        rw [if_pos c]
        simp only [fi_ids, e1, fi_rt, and_true]
        rw [show j + 1 + 1 + g_ksz p K = (j + 1 + g_ksz p K) + 1 by omega, List.take_succ_cons, List.drop_succ_cons, List.take_append, List.drop_append, ids_len, show j + 1 + g_ksz p K - gz k = 0 by omega]
        simp
      · rename_i c
        obtain ⟨e1, e2⟩ := ih2 _ _ _ h
        rw [if_neg c]
        simp only [fi_ids, e1, fi_rt, e2, and_true]
        rw [show j + 1 + 1 + g_ksz p K = (gz k + (j - gz k + 1 + g_ksz p K)) + 1 by omega, List.take_succ_cons, List.drop_succ_cons, List.take_append, List.drop_append, ids_len]
        have e3 : (fi_ids k).take (gz k + (j - gz k + 1 + g_ksz p K)) = fi_ids k := List.take_of_length_le (by rw [ids_len]; omega)
        have e4 : (fi_ids k).drop (gz k + (j - gz k + 1 + g_ksz p K)) = [] := List.drop_eq_nil_of_le (by rw [ids_len]; omega)
        rw [e3, e4, Nat.add_sub_cancel_left]
        simp
theorem tr_insK {N : Tnm} {x : Nat × Tnw} {kx : Tfi} {par : Option Nat} (hx : ∃ pt im, N x.1 = some (x.2, par, fi_rt kx, pt, im)) (hk : tr N (some x.1) kx) : ∀ (p : Nat) (K : Tfi), tr N par K → tr N par (g_insK x kx p K) := by
  intro p
  induction p with
  | zero => intro K h; exact ⟨hx, hk, h⟩
  | succ p ih =>
    intro K h
    cases K with
    | leaf => exact ⟨hx, hk, trivial⟩
    | inner s w u k r => exact ⟨h.1, h.2.1, ih r h.2.2⟩
theorem tr_ins {N N' : Tnm} {q : Nat × Tnw} {kx : Tfi} {p : Nat} : ∀ (F : Tfi) (par : Option Nat) (j : Nat) (x : Nat × Tnw) (K : Tfi), tr N par F → g_nth F j = some (x, K) → (fi_ids F).Nodup → p ≤ (fi_rt K).length → (∀ z ∈ fi_ids F, z ≠ x.1 → N' z = N z) → (∀ r, N x.1 = some r → N' x.1 = some (r.1, r.2.1, (fi_rt K).take p ++ q.1 :: (fi_rt K).drop p, r.2.2.2)) → (∃ pt im, N' q.1 = some (q.2, some x.1, fi_rt kx, pt, im)) → tr N' (some q.1) kx → tr N' par (g_kid (g_insK q kx p) F j) := by
  intro F
  induction F with
  | leaf => intro par j x K _ h; cases h
  | inner s w u k r ih1 ih2 =>
    intro par j x K ht h hnd hp ho hx hq hkx
    obtain ⟨⟨pt, im, h1⟩, h2, h3⟩ := ht
    simp only [fi_ids, List.nodup_cons, List.mem_append, List.nodup_append, not_or] at hnd
    obtain ⟨⟨n1, n2⟩, n3, n4, n5⟩ := hnd
    simp only [fi_ids, List.mem_cons, List.mem_append] at ho
    cases j with
    | zero =>
      simp only [g_nth, Option.some.injEq, Prod.mk.injEq] at h
      obtain ⟨rfl, rfl⟩ := h
      simp only [g_kid]
      refine ⟨⟨pt, im, ?_⟩, tr_insK hq hkx p k (tr_ag _ _ (fun i hi => ho i (Or.inr (Or.inl hi)) (fun e => n1 (e ▸ hi))) h2), tr_ag _ _ (fun i hi => ho i (Or.inr (Or.inr hi)) (fun e => n2 (e ▸ hi))) h3⟩
      rw [rt_insK q kx p k hp]
      exact hx _ h1
    | succ j =>
      simp only [g_nth] at h
      simp only [g_kid]
      split at h
      · rename_i c
        have hm := (ids_nth _ _ _ _ h).2.1
        rw [if_pos c]
        refine ⟨⟨pt, im, ?_⟩, ih1 _ _ _ _ h2 h n3 hp (fun z hz => ho z (Or.inr (Or.inl hz))) hx hq hkx, tr_ag _ _ (fun i hi => ho i (Or.inr (Or.inr hi)) (fun e => n5 _ hm _ hi e.symm)) h3⟩
        rw [(ids_ins q kx p _ _ _ _ h).2, ho w.1 (Or.inl rfl) (fun e => n1 (e ▸ hm))]
        exact h1
      · rename_i c
        have hm := (ids_nth _ _ _ _ h).2.1
        rw [if_neg c]
        refine ⟨⟨pt, im, ?_⟩, tr_ag _ _ (fun i hi => ho i (Or.inr (Or.inl hi)) (fun e => n5 _ hi _ hm e)) h2, ih2 _ _ _ _ h3 h n4 hp (fun z hz => ho z (Or.inr (Or.inr hz))) hx hq hkx⟩
        rw [ho w.1 (Or.inl rfl) (fun e => n2 (e ▸ hm))]
        exact h1
theorem ids_rm : ∀ (F : Tfi) (j : Nat) (x : Nat × Tnw) (K : Tfi), g_nth F j = some (x, K) → fi_ids (g_rm F j) = (fi_ids F).take j ++ (fi_ids F).drop (j + 1 + gz K) ∧ (fi_ids F) = (fi_ids F).take j ++ (x.1 :: fi_ids K) ++ (fi_ids F).drop (j + 1 + gz K) := by
  intro F
  induction F with
  | leaf => intro j x K h; cases h
  | inner s w u k r ih1 ih2 =>
    intro j x K h
    cases j with
    | zero =>
      simp only [g_nth, Option.some.injEq, Prod.mk.injEq] at h
      obtain ⟨rfl, rfl⟩ := h
      simp only [g_rm, fi_ids]
      have e : (w.1 :: (fi_ids k ++ fi_ids r)).drop (0 + 1 + gz k) = fi_ids r := by
        rw [show 0 + 1 + gz k = gz k + 1 by omega, List.drop_succ_cons, List.drop_append, ids_len, Nat.sub_self, List.drop_eq_nil_of_le (by rw [ids_len]; omega)]
        rfl
      rw [e]
      simp
    | succ j =>
      simp only [g_nth] at h
      simp only [g_rm]
      split at h
      · rename_i c
        have hs := g_nth_sz _ _ _ _ h
        obtain ⟨e1, e2⟩ := ih1 _ _ _ h
        rw [if_pos c]
        have q1 : (fi_ids (.inner s w u k r)).take (j + 1) = w.1 :: (fi_ids k).take j := by
          simp only [fi_ids, List.take_succ_cons, List.take_append, ids_len, show j - gz k = 0 by omega, List.take_zero, List.append_nil]
        have q2 : (fi_ids (.inner s w u k r)).drop (j + 1 + 1 + gz K) = (fi_ids k).drop (j + 1 + gz K) ++ fi_ids r := by
          rw [show j + 1 + 1 + gz K = (j + 1 + gz K) + 1 by omega]
          simp only [fi_ids, List.drop_succ_cons, List.drop_append, ids_len, show j + 1 + gz K - gz k = 0 by omega, List.drop_zero]
        rw [q1, q2]
        simp only [fi_ids, e1]
        refine ⟨by simp, ?_⟩
        have e3 : w.1 :: (fi_ids k ++ fi_ids r) = w.1 :: (((fi_ids k).take j ++ (x.1 :: fi_ids K) ++ (fi_ids k).drop (j + 1 + gz K)) ++ fi_ids r) := by rw [← e2]
        rw [e3]
        simp
      · rename_i c
        obtain ⟨e1, e2⟩ := ih2 _ _ _ h
        rw [if_neg c]
        have q1 : (fi_ids (.inner s w u k r)).take (j + 1) = w.1 :: (fi_ids k ++ (fi_ids r).take (j - gz k)) := by
          simp only [fi_ids, List.take_succ_cons, List.take_append, ids_len, List.take_of_length_le (show (fi_ids k).length ≤ j by rw [ids_len]; omega)]
        have q2 : (fi_ids (.inner s w u k r)).drop (j + 1 + 1 + gz K) = (fi_ids r).drop (j - gz k + 1 + gz K) := by
          rw [show j + 1 + 1 + gz K = (j + 1 + gz K) + 1 by omega]
          simp only [fi_ids, List.drop_succ_cons, List.drop_append, ids_len, List.drop_eq_nil_of_le (show (fi_ids k).length ≤ j + 1 + gz K by rw [ids_len]; omega), List.nil_append]
          rw [show j + 1 + gz K - gz k = j - gz k + 1 + gz K by omega]
        rw [q1, q2]
        simp only [fi_ids, e1]
        refine ⟨by simp, ?_⟩
        have e3 : w.1 :: (fi_ids k ++ fi_ids r) = w.1 :: (fi_ids k ++ ((fi_ids r).take (j - gz k) ++ (x.1 :: fi_ids K) ++ (fi_ids r).drop (j - gz k + 1 + gz K))) := by rw [← e2]
        rw [e3]
        simp
theorem rt_rm : ∀ (F : Tfi) (j : Nat) (x : Nat × Tnw) (K : Tfi), g_nth F j = some (x, K) → (fi_ids F).Nodup → fi_rt (g_rm F j) = (fi_rt F).erase x.1 := by
  intro F
  induction F with
  | leaf => intro j x K h; cases h
  | inner s w u k r ih1 ih2 =>
    intro j x K h hnd
    simp only [fi_ids, List.nodup_cons, List.mem_append, List.nodup_append, not_or] at hnd
    obtain ⟨⟨n1, n2⟩, n3, n4, n5⟩ := hnd
    cases j with
    | zero =>
      simp only [g_nth, Option.some.injEq, Prod.mk.injEq] at h
      obtain ⟨rfl, rfl⟩ := h
      simp only [g_rm, fi_rt, List.erase_cons_head]
    | succ j =>
      simp only [g_nth] at h
      simp only [g_rm]
      split at h
      · rename_i c
        have hm := (ids_nth _ _ _ _ h).2.1
        rw [if_pos c]
        simp only [fi_rt]
        rw [List.erase_of_not_mem]
        simp only [List.mem_cons, not_or]
        exact ⟨fun e => n1 (e ▸ hm), fun hr => n5 _ hm _ (fi_rt_ids r _ hr) rfl⟩
      · rename_i c
        have hm := (ids_nth _ _ _ _ h).2.1
        rw [if_neg c]
        simp only [fi_rt]
        rw [List.erase_cons_tail (by simpa using fun e => n2 (by rw [e]; exact hm)), ih2 _ _ _ h n4]
theorem tr_rm {N N' : Tnm} : ∀ (F : Tfi) (par : Option Nat) (j : Nat) (x : Nat × Tnw) (K : Tfi), tr N par F → g_nth F j = some (x, K) → (fi_ids F).Nodup → (∀ z ∈ fi_ids F, z ≠ x.1 → z ∉ fi_ids K → ∀ r, N z = some r → N' z = some (r.1, r.2.1, r.2.2.1.erase x.1, r.2.2.2)) → tr N' par (g_rm F j) := by
  have same : ∀ (b : Nat) (F : Tfi) (par : Option Nat), tr N par F → b ∉ fi_ids F → (∀ z ∈ fi_ids F, ∀ r, N z = some r → N' z = some (r.1, r.2.1, r.2.2.1.erase b, r.2.2.2)) → tr N' par F := by
    intro b F
    induction F with
    | leaf => intro par _ _ _; trivial
    | inner s w u k r ih1 ih2 =>
      intro par ht hb ho
      obtain ⟨⟨pt, im, h1⟩, h2, h3⟩ := ht
      simp only [fi_ids, List.mem_cons, List.mem_append, not_or] at hb ho
      refine ⟨⟨pt, im, ?_⟩, ih1 _ h2 hb.2.1 (fun z hz => ho z (Or.inr (Or.inl hz))), ih2 _ h3 hb.2.2 (fun z hz => ho z (Or.inr (Or.inr hz)))⟩
      have := ho w.1 (Or.inl rfl) _ h1
      rw [List.erase_of_not_mem (fun hm => hb.2.1 (fi_rt_ids k _ hm))] at this
      exact this
  intro F
  induction F with
  | leaf => intro par j x K _ h; cases h
  | inner s w u k r ih1 ih2 =>
    intro par j x K ht h hnd ho
    obtain ⟨⟨pt, im, h1⟩, h2, h3⟩ := ht
    simp only [fi_ids, List.nodup_cons, List.mem_append, List.nodup_append, not_or] at hnd
    obtain ⟨⟨n1, n2⟩, n3, n4, n5⟩ := hnd
    simp only [fi_ids, List.mem_cons, List.mem_append] at ho
    cases j with
    | zero =>
      simp only [g_nth, Option.some.injEq, Prod.mk.injEq] at h
      obtain ⟨rfl, rfl⟩ := h
      exact same w.1 r par h3 n2 (fun z hz => ho z (Or.inr (Or.inr hz)) (fun e => n2 (e ▸ hz)) (fun hk => n5 _ hk _ hz rfl))
    | succ j =>
      simp only [g_nth] at h
      simp only [g_rm]
      split at h
      · rename_i c
        obtain ⟨-, hm, hKm⟩ := ids_nth _ _ _ _ h
        rw [if_pos c]
        refine ⟨⟨pt, im, ?_⟩, ih1 _ _ _ _ h2 h n3 (fun z hz => ho z (Or.inr (Or.inl hz))), same x.1 r par h3 (fun hr => n5 _ hm _ hr rfl) (fun z hz => ho z (Or.inr (Or.inr hz)) (fun e => n5 _ hm _ hz e.symm) (fun hk => n5 _ (hKm _ hk) _ hz rfl))⟩
        rw [rt_rm _ _ _ _ h n3]
        exact ho w.1 (Or.inl rfl) (fun e => n1 (e ▸ hm)) (fun hk => n1 (hKm _ hk)) _ h1
      · rename_i c
        obtain ⟨-, hm, hKm⟩ := ids_nth _ _ _ _ h
        rw [if_neg c]
        refine ⟨⟨pt, im, ?_⟩, same x.1 k _ h2 (fun hk => n5 _ hk _ hm rfl) (fun z hz => ho z (Or.inr (Or.inl hz)) (fun e => n5 _ hz _ hm e) (fun hk => n5 _ hz _ (hKm _ hk) rfl)), ih2 _ _ _ _ h3 h n4 (fun z hz => ho z (Or.inr (Or.inr hz)))⟩
        have := ho w.1 (Or.inl rfl) (fun e => n2 (e ▸ hm)) (fun hk => n2 (hKm _ hk)) _ h1
        rw [List.erase_of_not_mem (fun hk => n5 _ (fi_rt_ids k _ hk) _ hm rfl)] at this
        exact this
theorem idx_first (b : Nat) : ∀ xs : List Nat, b ∈ xs → ∃ i, i < xs.length ∧ xs.getD i 0 = b ∧ (∀ j, j < i → xs.getD j 0 ≠ b) ∧ xs.eraseIdx i = xs.erase b := by
  intro xs
  induction xs with
  | nil => intro h; cases h
  | cons x t ih =>
    intro h
    by_cases e : x = b
    · exact ⟨0, by simp, by simp [e], fun j hj => by omega, by simp [e]⟩
    · have ht : b ∈ t := by
        rcases List.mem_cons.mp h with h | h
        · exact absurd h.symm e
        · exact h
      obtain ⟨i, h1, h2, h3, h4⟩ := ih ht
      refine ⟨i + 1, by simp; omega, by simpa using h2, fun j hj => ?_, ?_⟩
      · cases j with
        | zero => simpa using e
        | succ j => simpa using h3 j (by omega)
      · rw [List.eraseIdx_cons_succ, h4, List.erase_cons_tail (by simpa using e)]
/-- detach() -/
theorem iv.detach {σ : Tst} {own : Nat → Option Nat} {N : Tnm} (h : iv σ own N) {a b : Nat} {ra rb : Tnr} (ha : N a = some ra) (hb : N b = some rb) (hp : rb.2.1 = some a) (hab : b ≠ a) (hmem : b ∈ ra.2.2.1) (hm : ∀ y ∈ ra.2.2.1, ∃ r, N y = some r) {Q : Tst → Prop} {X : String → Nat → Tst → Prop}
    (k : ∀ σ' : Tst, iv σ' own (va_up (va_up N a (some (ra.1, ra.2.1, ra.2.2.1.erase b, ra.2.2.2))) b (some (rb.1, none, rb.2.2))) → fr (fun z => own z = some a ∨ z = b) σ σ' 0 0 → Q σ') : w_X3_detach (some b) Q X σ := by
  obtain ⟨i, hi, hib, hlt, her⟩ := idx_first b _ hmem
  obtain ⟨c, d, n, h1, hL⟩ := h.cell ha
  obtain ⟨cb, db, nb, g1, gL⟩ := h.cell hb
  have hgd : ∀ j, j < ra.2.2.1.length → (ra.2.2.1.map some).getD j none = some (ra.2.2.1.getD j 0) := fun j hj => by
    simp [List.getD_eq_getElem?_getD, List.getElem?_eq_getElem hj]
  have g1' : σ.1 b = some (.inr (cX3, [.inl rb.1.1, .inl rb.1.2.1, .inl rb.1.2.2, .inr (some a), .inr (some cb), .inr rb.2.2.2.1, .inr rb.2.2.2.2])) := by rw [← hp]; exact g1
  unfold w_X3_detach
  refine ⟨_, _, _, rfl, g1', rfl, _, _, _, rfl, h1, rfl, _, _, _, rfl, g1', rfl, ⟨_, _, rfl, h1⟩, nd_place h1 hL (i := i) (by rw [List.length_map]; exact hi) (by rw [hgd i hi, hib]) (fun j hj => by rw [hgd j (by omega)]; intro e; exact hlt j hj (Option.some.inj e)) ⟨lo_rc hL, h.rem ha h1 hL hm hi (fun σ1 hI1 hf1 => ?_)⟩⟩
  rw [hgd i hi, hib]
  rw [her] at hI1
  have hb1 : va_up N a (some (ra.1, ra.2.1, ra.2.2.1.erase b, ra.2.2.2)) b = some rb := by simp only [va_up, if_neg hab]; exact hb
  obtain ⟨cb', db', nb', k1, kL⟩ := hI1.cell hb1
  refine ⟨Or.inr ⟨_, _, rfl, k1⟩, hI1.p (r' := (rb.1, none, rb.2.2)) hb1 (fun c => rfl) (by decide) rfl (h.2.2 b rb hb).2.1 (fun σ2 hI2 hf2 => ?_)⟩
  exact k σ2 hI2 ((hf1.mono (B := fun z => own z = some a ∨ z = b) (fun _ _ h _ => Or.inl h) (Nat.le_refl _) (Nat.le_refl _)).tr hf2 (fun _ _ h _ => Or.inr h))
