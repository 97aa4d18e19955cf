-- visit, over any visitor (of a script)
section VS
variable {FX FY : Tfi} {St : List Top → Tst → Nat → Nat → Prop} {vis Cb Sb : Nat}
/-- what the visitor's calls do to the state, as the events go on -/
def vsOk_S (FX FY : Tfi) (St : List Top → Tst → Nat → Nat → Prop) (vis Cb Sb : Nat) : Prop :=
  (∀ es σ c n, St es σ c n → tk σ FX ∧ tk σ FY ∧ (∃ fs, σ.1 vis = some (.inr (cX11, fs))) ∧ Cb ≤ σ.2.1 + c ∧ Sb ≤ σ.2.2.1 + n) ∧
  (∀ es σ σ' c n c' n', St es σ c n → fx σ σ' c' n' → St es σ' (c + c') (n + n')) ∧
  (∀ es σ c n c' n', St es σ c n → c ≤ c' → n ≤ n' → St es σ c' n') ∧
  (∀ es σ c n v w x k y k' (Q : Tst → Prop) (X : String → Nat → Tst → Prop), St es σ c n → g_nth FX v = some (x, k) → g_nth FY w = some (y, k') → nop es + 2 ≤ 43 → c + 4 ≤ Cb → n + 200 ≤ Sb → (∀ σ', St (es ++ pev x.2 y.2 v w) σ' (c + 4) (n + 200) → tkp σ σ' → Q σ') → w_X11_pair (some vis) (some x.1) (some y.1) Q X σ) ∧
  (∀ es σ c n v x k (Q : Tst → Prop) (X : String → Nat → Tst → Prop), St es σ c n → g_nth FX v = some (x, k) → nop es + 1 ≤ 43 → c + 2 ≤ Cb → n + 100 ≤ Sb → (∀ σ', St (es ++ [(100, some v, none)]) σ' (c + 2) (n + 100) → tkp σ σ' → Q σ') → w_X11_deletion (some vis) (some x.1) Q X σ) ∧
  (∀ es σ c n w y k (Q : Tst → Prop) (X : String → Nat → Tst → Prop), St es σ c n → g_nth FY w = some (y, k) → nop es + 1 ≤ 43 → c + 2 ≤ Cb → n + 100 ≤ Sb → (∀ σ', St (es ++ [(105, none, some w)]) σ' (c + 2) (n + 100) → tkp σ σ' → Q σ') → w_X11_insertion (some vis) (some y.1) Q X σ)
def vsS_S (FX FY : Tfi) (St : List Top → Tst → Nat → Nat → Prop) (vis Cb Sb d : Nat) : Prop := ∀ (v w : Nat) (x y : Nat × Tnw) (k k' : Tfi) (es : List Top) (σ : Tst) (c n : Nat) (Q : Tst → Prop) (X : String → Nat → Tst → Prop), g_nth FX v = some (x, k) → g_nth FY w = some (y, k') → fo_h (fi_er k) < d → fi_sz k ≤ 19 → fi_sz k' ≤ 19 → St es σ c n → nop es + (fi_sz k + fi_sz k' + 2) ≤ 43 → c + vH (fi_sz k + fi_sz k' + 2) ≤ Cb → n + vHS (fi_sz k + fi_sz k' + 2) ≤ Sb →
  (∀ σ', St (es ++ (pev x.2 y.2 v w ++ visE (fi_er k) (fi_er k') (v + 1) (w + 1))) σ' (c + vH (fi_sz k + fi_sz k' + 2)) (n + vHS (fi_sz k + fi_sz k' + 2)) → tkp σ σ' → Q σ') → w_X1_visitS d (some x.1) (some y.1) (some vis) Q X σ
theorem h_drop : ∀ (i : Nat) (F : Tfi), fo_h (fi_er (g_drop i F)) ≤ fo_h (fi_er F) := by
  intro i
  induction i with
  | zero => intro F; exact Nat.le_refl _
  | succ i ih =>
    intro F
    cases F with
    | leaf => exact Nat.le_refl _
    | inner s w u k r => have := ih r; simp only [g_drop, fi_er, fo_h]; omega
theorem ksz_succ {β : Type} : ∀ (i : Nat) (K : Tpf β) (s : Nat) (w : β) (u : Unit) (k r : Tpf β), g_drop i K = .inner s w u k r → g_ksz (i + 1) K = g_ksz i K + (1 + gz k) := by
  intro i
  induction i with
  | zero => intro K s w u k r h; simp only [g_drop] at h; subst h; simp [g_ksz]
  | succ i ih =>
    intro K s w u k r h
    cases K with
    | leaf => simp [g_drop] at h
    | inner s' w' u' k' r' =>
      simp only [g_drop] at h
      have := ih r' s w u k r h
      rw [g_ksz, this, g_ksz]
      omega
theorem vsL_S (hO : vsOk_S FX FY St vis Cb Sb) {d : Nat} (H : vsS_S FX FY St vis Cb Sb d) {v w : Nat} {x y : Nat × Tnw} {KX KY : Tfi} (hv : g_nth FX v = some (x, KX)) (hw : g_nth FY w = some (y, KY)) (hszx : fi_sz KX ≤ 19) (hszy : fi_sz KY ≤ 19) (hd : fo_h (fi_er KX) ≤ d) {q e : Nat} {f : Nat → Int32}
    (hfv : ∀ i' j', i' ≤ (fi_rt KX).length → j' ≤ (fi_rt KY).length → f (i' * ((fi_rt KY).length + 1) + j') = nI (fo_L (fi_er (g_drop i' KX)) (fi_er (g_drop j' KY)))) {Q : Tst → Prop} {X : String → Nat → Tst → Prop} : ∀ (m i j : Nat) (es : List Top) (σ : Tst) (c n : Nat), ((fi_rt KX).length - i) + ((fi_rt KY).length - j) ≤ m → i ≤ (fi_rt KX).length → j ≤ (fi_rt KY).length → St es σ c n → tbl σ q e x.1 y.1 (fi_rt KX).length (fi_rt KY).length f → nop es + (fi_sz (g_drop i KX) + fi_sz (g_drop j KY)) ≤ 43 → c + (pP (fi_sz (g_drop i KX)) (fi_sz (g_drop j KY)) + vH (fi_sz (g_drop i KX) + fi_sz (g_drop j KY))) ≤ Cb → n + (pS (fi_sz (g_drop i KX)) (fi_sz (g_drop j KY)) + vHS (fi_sz (g_drop i KX) + fi_sz (g_drop j KY))) ≤ Sb →
    (∀ σ', St (es ++ visE (fi_er (g_drop i KX)) (fi_er (g_drop j KY)) (v + 1 + g_ksz i KX) (w + 1 + g_ksz j KY)) σ' (c + (pP (fi_sz (g_drop i KX)) (fi_sz (g_drop j KY)) + vH (fi_sz (g_drop i KX) + fi_sz (g_drop j KY)))) (n + (pS (fi_sz (g_drop i KX)) (fi_sz (g_drop j KY)) + vHS (fi_sz (g_drop i KX) + fi_sz (g_drop j KY)))) → tkp σ σ' → Q σ') → w_X1_visitS_b24 (w_X1_visitS d) Q X (m + 1) (some x.1) (some y.1) (some vis) (some q) (nI i) (nI j) σ := by
  obtain ⟨hx, hfx, hmo, hpair, hdel, hins⟩ := hO
  have hcx := fo_cnt_le (fi_er KX)
  have hrx := fi_rt_len KX
  have s1 : fo_size (fi_er KX) = fi_sz KX := rfl
  have hcy := fo_cnt_le (fi_er KY)
  have hry := fi_rt_len KY
  have s2 : fo_size (fi_er KY) = fi_sz KY := rfl
  have nodes : ∀ {es : List Top} {σ : Tst} {c n : Nat}, St es σ c n → nk σ x.1 x.2 (fi_rt KX) ∧ tk σ KX ∧ nk σ y.1 y.2 (fi_rt KY) ∧ tk σ KY := fun h => by
    obtain ⟨a1, a2, -⟩ := hx _ _ _ _ h
    have b1 := tk_nth FX v x KX a1 hv
    have b2 := tk_nth FY w y KY a2 hw
    exact ⟨b1.1, b1.2, b2.1, b2.2⟩
  have room : ∀ {es : List Top} {σ : Tst} {c n : Nat}, St es σ c n → Cb ≤ σ.2.1 + c ∧ Sb ≤ σ.2.2.1 + n := fun h => (hx _ _ _ _ h).2.2.2
  have hvis : ∀ {es : List Top} {σ : Tst} {c n : Nat}, St es σ c n → ∃ fs, σ.1 vis = some (.inr (cX11, fs)) := fun h => (hx _ _ _ _ h).2.2.1
  intro m
  induction m with
  | zero =>
    intro i j es σ c n hm hi hj hS ht hel hc hn kk
    obtain ⟨n1, n2, n3, n4⟩ := nodes hS
    obtain ⟨_, _, _, _, _, _, x1, xL⟩ := n1
    obtain ⟨_, _, _, _, _, _, y1, yL⟩ := n3
    have d1 : g_drop i KX = .leaf := drop_end i KX (by rw [cnt_rt]; omega)
    have d2 : g_drop j KY = .leaf := drop_end j KY (by rw [cnt_rt]; omega)
    rw [w_X1_visitS_b24]
    refine ⟨_, _, _, rfl, x1, rfl, lo_rc xL, lo_size xL ⟨fun cc => ?_, fun _ => ⟨_, _, _, rfl, y1, rfl, lo_rc yL, lo_size yL ⟨fun _ => ?_, fun cc => ?_⟩⟩⟩⟩
    · rw [List.length_map] at cc
      exact absurd ((lo_lt (by omega) (by omega)).mp cc) (by omega)
    · refine kk σ (hmo _ _ c n _ _ ?_ (by omega) (by omega)) (tkp.rf σ)
      rw [d1, d2]
      simp only [fi_er, visE_00, List.append_nil]
      exact hS
    · rw [List.length_map] at cc
      exact absurd ((ni_le (by omega) (by omega)).mpr (by omega)) cc
  | succ m ih =>
    intro i j es σ c n hm hi hj hS ht hel hc hn kk
    obtain ⟨n1, n2, n3, n4⟩ := nodes hS
    obtain ⟨_, _, _, _, _, _, x1, xL⟩ := id n1
    obtain ⟨_, _, _, _, _, _, y1, yL⟩ := id n3
    obtain ⟨r1, r2⟩ := room hS
    have hsxi := drop_sz i KX
    rw [gz_i, gz_i] at hsxi
    have hsyj := drop_sz j KY
    rw [gz_i, gz_i] at hsyj
    -- an insertion
    have insert : ∀ (σ1 : Tst) (c1 n1' : Nat) (s' : Nat) (w' : Nat × Tnw) (u' : Unit) (k' r' : Tfi), g_drop j KY = .inner s' w' u' k' r' → g_drop (j + 1) KY = r' → visE (fi_er (g_drop i KX)) (fi_er (g_drop j KY)) (v + 1 + g_ksz i KX) (w + 1 + g_ksz j KY) = (105, none, some (w + 1 + g_ksz j KY)) :: visE (fi_er (g_drop i KX)) (fi_er r') (v + 1 + g_ksz i KX) (w + 1 + g_ksz j KY + 1 + fi_sz k') → St es σ1 (c + c1) (n + n1') → tkp σ σ1 → c1 + pP (fi_sz (g_drop i KX)) (fi_sz r') ≤ pP (fi_sz (g_drop i KX)) (fi_sz (g_drop j KY)) → n1' + pS (fi_sz (g_drop i KX)) (fi_sz r') ≤ pS (fi_sz (g_drop i KX)) (fi_sz (g_drop j KY)) → w_X1_visitS_b182 (w_X1_visitS d) (w_X1_visitS_b24 (w_X1_visitS d) Q X (m + 1)) Q X (some x.1) (some y.1) (some vis) (some q) (nI i) (nI j) σ1 := by
      intro σ1 c1 n1' s' w' u' k' r' d2 d2' hE hS1 hk1 hc1 hn1
      have hds := drop_sz2 d2
      obtain ⟨g1, g2⟩ := rt_some d2
      obtain ⟨_, _, m3, m4⟩ := nodes hS1
      obtain ⟨_, _, _, _, _, _, y11, yL1⟩ := m3
      have ht' := tk_drop j KY m4
      rw [d2] at ht'
      obtain ⟨hw', -, -⟩ := ht'
      obtain ⟨_, _, _, _, _, _, w1', _⟩ := id hw'
      obtain ⟨fs, v1⟩ := hvis hS1
      have hnth := nth_kid _ _ _ _ _ _ _ _ _ _ hw d2
      have e1 : fi_sz (g_drop j KY) = 1 + fi_sz k' + fi_sz r' := by rw [d2]; rfl
      rw [e1] at hel hc hn kk hc1 hn1 hsyj
      have hlin := vH_lin (fi_sz (g_drop i KX) + fi_sz r') (by omega) (1 + fi_sz k') (by omega)
      rw [show fi_sz (g_drop i KX) + fi_sz r' + (1 + fi_sz k') = fi_sz (g_drop i KX) + (1 + fi_sz k' + fi_sz r') by omega] at hlin
      unfold w_X1_visitS_b182
      refine ⟨_, _, _, rfl, y11, rfl, lo_rc yL1, lo_get yL1 g2 ?_⟩
      rw [g1]
      refine ⟨Or.inr ⟨_, _, rfl, w1'⟩, ⟨_, _, rfl, v1⟩, hins es σ1 _ _ (w + 1 + g_ksz j KY) w' k' _ X hS1 hnth (by omega) (by omega) (by omega) (fun σ2 hS2 hk2 => ?_)⟩
      rw [ni_1, ni_add]
      rw [List.length_map] at g2
      refine ih i (j + 1) _ σ2 _ _ (by omega) hi (by omega) hS2 ((ht.kp hk1).kp hk2) (by rw [d2', nop_app, nop_i]; omega) (by rw [d2']; omega) (by rw [d2']; omega) (fun σ3 hS3 hk3 => ?_)
      rw [d2', ksz_succ j KY _ _ _ _ _ d2, gz_i] at hS3
      refine kk σ3 (hmo _ _ _ _ _ _ (show St _ _ _ _ from (?_ : St _ σ3 (c + c1 + 2 + (pP (fi_sz (g_drop i KX)) (fi_sz r') + vH (fi_sz (g_drop i KX) + fi_sz r'))) (n + n1' + 100 + (pS (fi_sz (g_drop i KX)) (fi_sz r') + vHS (fi_sz (g_drop i KX) + fi_sz r'))))) (by omega) (by omega)) ((hk1.tr hk2).tr hk3)
      rw [hE]
      rw [show w + 1 + g_ksz j KY + 1 + fi_sz k' = w + 1 + (g_ksz j KY + (1 + fi_sz k')) by omega]
      simpa [List.append_assoc] using hS3
    -- a deletion or an insertion
    have b123 : (i < (fi_rt KX).length ∨ j < (fi_rt KY).length) → ∀ (σ1 : Tst) (c1 n1' : Nat), St es σ1 (c + c1) (n + n1') → tkp σ σ1 → (j = (fi_rt KY).length → c1 = 0 ∧ n1' = 0) → (∀ (s : Nat) (w0 : Nat × Tnw) (u : Unit) (k r : Tfi) (s' : Nat) (w0' : Nat × Tnw) (u' : Unit) (k' r' : Tfi), g_drop i KX = .inner s w0 u k r → g_drop j KY = .inner s' w0' u' k' r' → c1 + (1 + fi_sz k) ≤ 4 * ((1 + fi_sz k) * (1 + fi_sz k')) ∧ n1' + 4 * (1 + fi_sz k) ≤ 18 * ((1 + fi_sz k) * (1 + fi_sz k')) ∧ ¬ (w0.2.2.1 = w0'.2.2.1 ∧ pc w0.2 w0'.2 + fo_L (fi_er k) (fi_er k') + fo_L (fi_er r) (fi_er r') = fo_L (fi_er (g_drop i KX)) (fi_er (g_drop j KY)))) → (i = (fi_rt KX).length → c1 = 0 ∧ n1' = 0) → w_X1_visitS_b123 (w_X1_visitS d) (w_X1_visitS_b24 (w_X1_visitS d) Q X (m + 1)) Q X (some x.1) (some y.1) (some vis) (some q) (nI i) (nI j) σ1 := by
      intro hne σ1 c1 n1' hS1 hk1 hj0 hboth hi0
      obtain ⟨m1, m2, m3, m4⟩ := nodes hS1
      obtain ⟨_, _, _, _, _, _, x11, xL1⟩ := id m1
      obtain ⟨q1, q2⟩ := room hS1
      unfold w_X1_visitS_b123
      refine ⟨_, _, _, rfl, x11, rfl, lo_rc xL1, lo_size xL1 ⟨fun cc => ?_, fun cc => ?_⟩⟩
      · rw [List.length_map] at cc
        have cc := (ni_le (by omega) (by omega)).mp cc
        have d1 : g_drop i KX = .leaf := drop_end i KX (by rw [cnt_rt]; omega)
        obtain ⟨s', w', u', k', r', d2, d2'⟩ := drop_in j KY (by rw [cnt_rt]; omega)
        obtain ⟨z1, z2⟩ := hi0 (by omega)
        have hp := pP_i0 (1 + fi_sz k') (fi_sz r')
        have e0 : fi_sz (g_drop i KX) = 0 := by rw [d1]; rfl
        have e1 : fi_sz (g_drop j KY) = 1 + fi_sz k' + fi_sz r' := by rw [d2]; rfl
        refine insert σ1 c1 n1' s' w' u' k' r' d2 d2' (by rw [d1, d2]; simp only [fi_er, visE_0i]) hS1 hk1 (by rw [e0, e1]; omega) (by rw [e0, e1]; omega)
      · rw [List.length_map] at cc
        have ci : i < (fi_rt KX).length := Nat.lt_of_not_le (fun h => cc ((ni_le (by omega) (by omega)).mpr h))
        obtain ⟨s, w0, u, k, r, d1, d1'⟩ := drop_in i KX (by rw [cnt_rt]; omega)
        have hds := drop_sz2 d1
        obtain ⟨g1, g2⟩ := rt_some d1
        have htx := tk_drop i KX m2
        rw [d1] at htx
        obtain ⟨hw0, -, -⟩ := htx
        obtain ⟨_, _, _, _, _, _, w1, _⟩ := id hw0
        have e1 : fi_sz (g_drop i KX) = 1 + fi_sz k + fi_sz r := by rw [d1]; rfl
        have hnth := nth_kid _ _ _ _ _ _ _ _ _ _ hv d1
        have hv1 := hfv (i + 1) j (by omega) hj
        have hv0 := hfv i j hi hj
        have b1 := fo_L_le (fi_er (g_drop (i + 1) KX)) (fi_er (g_drop j KY))
        have b2 := fo_L_le (fi_er (g_drop i KX)) (fi_er (g_drop j KY))
        have z1 : fo_size (fi_er (g_drop i KX)) = fi_sz (g_drop i KX) := rfl
        have z2 : fo_size (fi_er (g_drop j KY)) = fi_sz (g_drop j KY) := rfl
        have z3 : fo_size (fi_er (g_drop (i + 1) KX)) = fi_sz r := by rw [d1']
        -- costs of the step
        have hstep : c1 + (1 + fi_sz k) + pP (fi_sz r) (fi_sz (g_drop j KY)) ≤ pP (fi_sz (g_drop i KX)) (fi_sz (g_drop j KY)) ∧ n1' + 4 * (1 + fi_sz k) + pS (fi_sz r) (fi_sz (g_drop j KY)) ≤ pS (fi_sz (g_drop i KX)) (fi_sz (g_drop j KY)) ∧ (∀ (s' : Nat) (w' : Nat × Tnw) (u' : Unit) (k' r' : Tfi), g_drop j KY = .inner s' w' u' k' r' → c1 + (1 + fi_sz k) + pP (fi_sz (g_drop i KX)) (fi_sz r') ≤ pP (fi_sz (g_drop i KX)) (fi_sz (g_drop j KY)) ∧ n1' + 4 * (1 + fi_sz k) + pS (fi_sz (g_drop i KX)) (fi_sz r') ≤ pS (fi_sz (g_drop i KX)) (fi_sz (g_drop j KY))) := by
          rw [e1]
          cases hy0 : g_drop j KY with
          | leaf =>
            have hjn : j = (fi_rt KY).length := by
              by_cases h : j < (fi_rt KY).length
              · obtain ⟨_, _, _, _, _, d2, _⟩ := drop_in j KY (by rw [cnt_rt]; omega)
                rw [d2] at hy0; cases hy0
              · omega
            obtain ⟨z1, z2⟩ := hj0 hjn
            have hp := pP_d0 (1 + fi_sz k) (fi_sz r)
            have e0 : fi_sz (.leaf : Tfi) = 0 := rfl
            rw [e0]
            refine ⟨by omega, by omega, fun s' w' u' k' r' h => by cases h⟩
          | inner s' w' u' k' r' =>
            obtain ⟨h1, h2, -⟩ := hboth s w0 u k r s' w' u' k' r' d1 hy0
            have e2 : fi_sz (.inner s' w' u' k' r') = 1 + fi_sz k' + fi_sz r' := rfl
            have hp := pP_del (1 + fi_sz k) (1 + fi_sz k') (fi_sz r) (fi_sz r')
            have hp2 := pP_ins (1 + fi_sz k) (1 + fi_sz k') (fi_sz r) (fi_sz r')
            rw [e2]
            refine ⟨by omega, by omega, fun s2 w2 u2 k2 r2 h => ?_⟩
            cases h
            exact ⟨by omega, by omega⟩
        obtain ⟨st1, st2, st3⟩ := hstep
        have hlin := vH_lin (fi_sz r + fi_sz (g_drop j KY)) (by omega) (1 + fi_sz k) (by omega)
        rw [show fi_sz r + fi_sz (g_drop j KY) + (1 + fi_sz k) = fi_sz (g_drop i KX) + fi_sz (g_drop j KY) by omega] at hlin
        refine tb_del (ht.kp hk1) m1 m2 d1 rfl hj (by omega) hv1 (by omega) (by omega) (fun σ2 hf2 => ?_)
        have hS2 := hfx _ _ _ _ _ _ _ hS1 hf2
        have ht2 := ((ht.kp hk1).x hf2)
        refine tb_at ht2 hi hj ?_
        rw [hv0]
        refine ⟨fun ceq => ?_, fun ceq => ?_⟩
        · have ceq := (ni_inj (by omega) (by omega)).mp ceq
          obtain ⟨fs, v1⟩ := hvis hS2
          have xL2 := lo_Lx hf2 xL1
          refine ⟨_, _, _, rfl, hf2.k x11, rfl, lo_rc xL2, lo_get xL2 g2 ?_⟩
          rw [g1]
          rw [List.length_map] at g2
          refine ⟨Or.inr ⟨_, _, rfl, hf2.k w1⟩, ⟨_, _, rfl, v1⟩, hdel es σ2 _ _ (v + 1 + g_ksz i KX) w0 k _ X hS2 hnth (by omega) (by omega) (by omega) (fun σ3 hS3 hk3 => ?_)⟩
          rw [ni_1, ni_add]
          have hk12 := hk1.tr (tkp.x hf2)
          refine ih (i + 1) j _ σ3 _ _ (by omega) (by omega) hj hS3 (ht2.kp hk3) (by rw [d1', nop_app, nop_d]; omega) (by rw [d1']; omega) (by rw [d1']; omega) (fun σ4 hS4 hk4 => ?_)
          rw [d1', ksz_succ i KX _ _ _ _ _ d1, gz_i] at hS4
          refine kk σ4 (hmo _ _ _ _ _ _ (show St _ _ _ _ from (?_ : St _ σ4 (c + c1 + (1 + fi_sz k) + 2 + (pP (fi_sz r) (fi_sz (g_drop j KY)) + vH (fi_sz r + fi_sz (g_drop j KY)))) (n + n1' + 4 * (1 + fi_sz k) + 100 + (pS (fi_sz r) (fi_sz (g_drop j KY)) + vHS (fi_sz r + fi_sz (g_drop j KY)))))) (by omega) (by omega)) ((hk12.tr hk3).tr hk4)
          have hE : visE (fi_er (g_drop i KX)) (fi_er (g_drop j KY)) (v + 1 + g_ksz i KX) (w + 1 + g_ksz j KY) = (100, some (v + 1 + g_ksz i KX), none) :: visE (fi_er r) (fi_er (g_drop j KY)) (v + 1 + g_ksz i KX + 1 + fi_sz k) (w + 1 + g_ksz j KY) := by
            rw [d1'] at ceq
            cases hy0 : g_drop j KY with
            | leaf => rw [d1]; simp only [fi_er, visE_i0]
            | inner s' w' u' k' r' =>
              obtain ⟨-, -, h3⟩ := hboth s w0 u k r s' w' u' k' r' d1 hy0
              rw [d1, hy0] at h3 ceq
              rw [d1]
              simp only [fi_er] at h3 ceq ⊢
              rw [visE_ii, if_neg h3, if_pos ceq]
          rw [hE]
          rw [show v + 1 + g_ksz i KX + 1 + fi_sz k = v + 1 + (g_ksz i KX + (1 + fi_sz k)) by omega]
          simpa [List.append_assoc] using hS4
        · have ceq : ¬ 2 * (1 + fi_sz k) + fo_L (fi_er (g_drop (i + 1) KX)) (fi_er (g_drop j KY)) = fo_L (fi_er (g_drop i KX)) (fi_er (g_drop j KY)) := fun h => ceq (by rw [h])
          cases hy0 : g_drop j KY with
          | leaf =>
            exfalso
            apply ceq
            rw [d1', hy0, d1]
            rfl
          | inner s' w' u' k' r' =>
            obtain ⟨-, -, h3⟩ := hboth s w0 u k r s' w' u' k' r' d1 hy0
            have hjl := (rt_drop_gd hy0).1
            obtain ⟨s2, w2, u2, k2, r2, d2, d2'⟩ := drop_in j KY (by rw [cnt_rt]; exact hjl)
            rw [hy0] at d2
            cases d2
            obtain ⟨st4, st5⟩ := st3 _ _ _ _ _ hy0
            refine insert σ2 (c1 + (1 + fi_sz k)) (n1' + 4 * (1 + fi_sz k)) s' w' u' k' r' hy0 d2' ?_ (show St es σ2 (c + (c1 + (1 + fi_sz k))) (n + (n1' + 4 * (1 + fi_sz k))) from by rw [← Nat.add_assoc c c1, ← Nat.add_assoc n n1']; exact hS2) (hk1.tr (tkp.x hf2)) st4 st5
            rw [d1', hy0, d1] at ceq
            rw [d1, hy0] at h3 ⊢
            simp only [fi_er] at h3 ceq ⊢
            rw [visE_ii, if_neg h3, if_neg ceq]
    have b52 : (i < (fi_rt KX).length ∨ j < (fi_rt KY).length) → w_X1_visitS_b52 (w_X1_visitS d) (w_X1_visitS_b24 (w_X1_visitS d) Q X (m + 1)) Q X (some x.1) (some y.1) (some vis) (some q) (nI i) (nI j) σ := by
      intro hne
      unfold w_X1_visitS_b52
      refine tb_can ht n1 n2 n3 n4 rfl rfl hi hj (fun hh => ⟨fun _ => b123 hne σ 0 0 hS (tkp.rf σ) (fun _ => ⟨rfl, rfl⟩) (fun s w0 u k r s' w0' u' k' r' q1 q2 => ?_) (fun _ => ⟨rfl, rfl⟩), fun c => absurd rfl c⟩) (fun s w0 u k r s' w0' u' k' r' d1 d2 => ?_)
      · have := (rt_drop_gd q1).1
        have := (rt_drop_gd q2).1
        omega
      · have hds := drop_sz2 d1
        have hdt := drop_sz2 d2
        have n5 := entC (fi_sz k) (fi_sz k')
        have n6 := entS (fi_sz k) (fi_sz k')
        by_cases hkey : w0.2.2.1 = w0'.2.2.1
        · rw [if_pos hkey]
          refine ⟨fun c => absurd c (by decide), fun _ => ?_⟩
          have hil := (rt_drop_gd d1).1
          have hjl := (rt_drop_gd d2).1
          obtain ⟨s1', w1', u1', k1', r1', d1x, d1'⟩ := drop_in i KX (by rw [cnt_rt]; exact hil)
          rw [d1] at d1x
          cases d1x
          obtain ⟨s2', w2', u2', k2', r2', d2x, d2'⟩ := drop_in j KY (by rw [cnt_rt]; exact hjl)
          rw [d2] at d2x
          cases d2x
          have hhd := h_drop i KX
          rw [d1] at hhd
          simp only [fi_er, fo_h] at hhd
          have hvp := hfv (i + 1) (j + 1) (by omega) (by omega)
          have hv0 := hfv i j hi hj
          have b1 := fo_L_le (fi_er (g_drop (i + 1) KX)) (fi_er (g_drop (j + 1) KY))
          have b2 := fo_L_le (fi_er (g_drop i KX)) (fi_er (g_drop j KY))
          have b3 := fo_L_le (fi_er k) (fi_er k')
          have b4 := pc_le w0.2 w0'.2
          have z1 : fo_size (fi_er (g_drop i KX)) = fi_sz (g_drop i KX) := rfl
          have z2 : fo_size (fi_er (g_drop j KY)) = fi_sz (g_drop j KY) := rfl
          have z3 : fo_size (fi_er (g_drop (i + 1) KX)) = fi_sz r := by rw [d1']
          have z4 : fo_size (fi_er (g_drop (j + 1) KY)) = fi_sz r' := by rw [d2']
          have z5 : fo_size (fi_er k) = fi_sz k := rfl
          have z6 : fo_size (fi_er k') = fi_sz k' := rfl
          have e1 : fi_sz (g_drop i KX) = 1 + fi_sz k + fi_sz r := by rw [d1]; rfl
          have e2 : fi_sz (g_drop j KY) = 1 + fi_sz k' + fi_sz r' := by rw [d2]; rfl
          have hp := pP_both (1 + fi_sz k) (1 + fi_sz k') (fi_sz r) (fi_sz r')
          rw [← e1, ← e2] at hp
          refine tb_pair ht n1 n2 n3 n4 d1 d2 rfl rfl (cost_ok 64 k k' (sz64 (by omega)) (by omega) (by omega)) hvp (by omega) (by omega) (fun σ1 hf1 => ?_)
          have hS1 := hfx _ _ _ _ _ _ _ hS hf1
          have ht1 := ht.x hf1
          refine tb_at ht1 hi hj ?_
          rw [hv0]
          refine ⟨fun ceq => ?_, fun ceq => ?_⟩
          · have ceq := (ni_inj (by omega) (by omega)).mp ceq
            obtain ⟨g1, g2⟩ := rt_some d1
            obtain ⟨g1', g2'⟩ := rt_some d2
            obtain ⟨m1, m2, m3, m4⟩ := nodes hS1
            obtain ⟨_, _, _, _, _, _, x11, xL1⟩ := id m1
            obtain ⟨_, _, _, _, _, _, y11, yL1⟩ := id m3
            have htx := tk_drop i KX m2
            rw [d1] at htx
            obtain ⟨hw0, -, -⟩ := htx
            obtain ⟨_, _, _, _, _, _, w1, _⟩ := id hw0
            have hty := tk_drop j KY m4
            rw [d2] at hty
            obtain ⟨hw0', -, -⟩ := hty
            obtain ⟨_, _, _, _, _, _, w1', _⟩ := id hw0'
            have hadd := vH_add (fi_sz k + fi_sz k' + 2) (by omega) (fi_sz r + fi_sz r') (by omega)
            rw [show fi_sz k + fi_sz k' + 2 + (fi_sz r + fi_sz r') = fi_sz (g_drop i KX) + fi_sz (g_drop j KY) by omega] at hadd
            refine ⟨_, _, _, rfl, x11, rfl, lo_rc xL1, lo_get xL1 g2 ?_⟩
            rw [g1]
            refine ⟨Or.inr ⟨_, _, rfl, w1⟩, _, _, _, rfl, y11, rfl, lo_rc yL1, lo_get yL1 g2' ?_⟩
            rw [g1']
            refine ⟨Or.inr ⟨_, _, rfl, w1'⟩, H (v + 1 + g_ksz i KX) (w + 1 + g_ksz j KY) w0 w0' k k' es σ1 _ _ _ X (nth_kid _ _ _ _ _ _ _ _ _ _ hv d1) (nth_kid _ _ _ _ _ _ _ _ _ _ hw d2) (by omega) (by omega) (by omega) hS1 (by omega) (by omega) (by omega) (fun σ2 hS2 hk2 => ?_)⟩
            rw [ni_1, ni_add, ni_add]
            have hlv := visE_nop (fi_er k) (fi_er k') (v + 1 + g_ksz i KX + 1) (w + 1 + g_ksz j KY + 1)
            have hlp := pev_nop w0.2 w0'.2 (v + 1 + g_ksz i KX) (w + 1 + g_ksz j KY)
            refine ih (i + 1) (j + 1) _ σ2 _ _ (by omega) (by omega) (by omega) hS2 (ht1.kp hk2) (by rw [d1', d2', nop_app, nop_app]; omega) (by rw [d1', d2']; omega) (by rw [d1', d2']; omega) (fun σ3 hS3 hk3 => ?_)
            rw [d1', d2', ksz_succ i KX _ _ _ _ _ d1, ksz_succ j KY _ _ _ _ _ d2, gz_i, gz_i] at hS3
            refine kk σ3 (hmo _ _ _ _ _ _ (show St _ _ _ _ from (?_ : St _ σ3 (c + gC (fi_sz k) (fi_sz k') + vH (fi_sz k + fi_sz k' + 2) + (pP (fi_sz r) (fi_sz r') + vH (fi_sz r + fi_sz r'))) (n + gS (fi_sz k) (fi_sz k') + vHS (fi_sz k + fi_sz k' + 2) + (pS (fi_sz r) (fi_sz r') + vHS (fi_sz r + fi_sz r'))))) (by omega) (by omega)) (((tkp.x hf1).tr hk2).tr hk3)
            rw [d1', d2', d1, d2] at ceq
            rw [d1, d2]
            simp only [fi_er] at ceq ⊢
            rw [visE_ii, if_pos ⟨hkey, ceq⟩]
            rw [show v + 1 + g_ksz i KX + 1 + fo_size (fi_er k) = v + 1 + (g_ksz i KX + (1 + fi_sz k)) by omega, show w + 1 + g_ksz j KY + 1 + fo_size (fi_er k') = w + 1 + (g_ksz j KY + (1 + fi_sz k')) by omega]
            simpa [List.append_assoc] using hS3
          · have ceq : ¬ pc w0.2 w0'.2 + fo_L (fi_er k) (fi_er k') + fo_L (fi_er (g_drop (i + 1) KX)) (fi_er (g_drop (j + 1) KY)) = fo_L (fi_er (g_drop i KX)) (fi_er (g_drop j KY)) := fun h => ceq (by rw [h])
            refine b123 hne σ1 _ _ hS1 (tkp.x hf1) (fun h => by omega) (fun s3 w3 u3 k3 r3 s4 w4 u4 k4 r4 q1 q2 => ?_) (fun h => by omega)
            rw [d1] at q1
            rw [d2] at q2
            cases q1
            cases q2
            rw [d1', d2'] at ceq
            exact ⟨by omega, by omega, fun h => ceq h.2⟩
        · rw [if_neg hkey]
          refine ⟨fun _ => b123 hne σ 0 0 hS (tkp.rf σ) (fun _ => ⟨rfl, rfl⟩) (fun s3 w3 u3 k3 r3 s4 w4 u4 k4 r4 q1 q2 => ?_) (fun _ => ⟨rfl, rfl⟩), fun c => absurd rfl c⟩
          rw [d1] at q1
          rw [d2] at q2
          cases q1
          cases q2
          exact ⟨by omega, by omega, fun h => hkey h.1⟩
    rw [w_X1_visitS_b24]
    refine ⟨_, _, _, rfl, x1, rfl, lo_rc xL, lo_size xL ⟨fun cc => b52 (Or.inl ?_), fun cc => ⟨_, _, _, rfl, y1, rfl, lo_rc yL, lo_size yL ⟨fun cc2 => ?_, fun cc2 => b52 (Or.inr ?_)⟩⟩⟩⟩
    · rw [List.length_map] at cc
      exact (lo_lt (by omega) (by omega)).mp cc
    · rw [List.length_map] at cc cc2
      have h1 : ¬ i < (fi_rt KX).length := fun h => cc ((lo_lt (by omega) (by omega)).mpr h)
      have h2 := (ni_le (by omega) (by omega)).mp cc2
      have d1 : g_drop i KX = .leaf := drop_end i KX (by rw [cnt_rt]; omega)
      have d2 : g_drop j KY = .leaf := drop_end j KY (by rw [cnt_rt]; omega)
      refine kk σ (hmo _ _ c n _ _ ?_ (by omega) (by omega)) (tkp.rf σ)
      rw [d1, d2]
      simp only [fi_er, visE_00, List.append_nil]
      exact hS
    · rw [List.length_map] at cc2
      exact Nat.lt_of_not_le (fun h => cc2 ((ni_le (by omega) (by omega)).mpr h))
theorem vs_ok_S (hO : vsOk_S FX FY St vis Cb Sb) : ∀ d : Nat, vsS_S FX FY St vis Cb Sb d := by
  intro d
  induction d with
  | zero => intro v w x y k k' es σ c n Q X hv hw hd; omega
  | succ d ih =>
    intro v w x y k k' es σ c n Q X hv hw hd hsz hsz' hS hel hc hn kk
    obtain ⟨hx, hfx, hmo, hpair, hdel, hins⟩ := id hO
    obtain ⟨a1, a2, ⟨fs, a3⟩, a4, a5⟩ := hx _ _ _ _ hS
    have hl := vH_lvl (fi_sz k) (by omega) (fi_sz k') (by omega)
    rw [w_X1_visitS]
    refine ⟨⟨_, _, rfl, a3⟩, hpair es σ c n v w x k y k' _ X hS hv hw (by omega) (by omega) (by omega) (fun σ1 hS1 hk1 => ?_)⟩
    obtain ⟨b1, b2, -, b4, b5⟩ := hx _ _ _ _ hS1
    have t1 := tk_nth FX v x k b1 hv
    have t2 := tk_nth FY w y k' b2 hw
    refine tb_new t1.1 t1.2 t2.1 t2.2 hsz hsz' (fun i j s w2 u k2 r s' w2' u' k2' r' q1 q2 => ?_) (by omega) (by omega) (fun q e σ2 f hq he hf ht hv2 => ?_)
    · have b1 := drop_sz2 q1
      have b2 := drop_sz2 q2
      exact cost_ok 64 k2 k2' (sz64 (by omega)) (by omega) (by omega)
    · have hS2 := hfx _ _ _ _ _ _ _ hS1 hf
      have hp := pev_nop x.2 y.2 v w
      have hgo := vsL_S hO ih hv hw hsz hsz' (by omega) (Q := Q) (X := X) hv2 _ 0 0 _ σ2 _ _ (Nat.le_refl _) (Nat.zero_le _) (Nat.zero_le _) hS2 ht (by rw [nop_app]; simp only [g_drop]; omega) (by simp only [g_drop, pP]; omega) (by simp only [g_drop, pS]; omega) (fun σ3 hS3 hk3 => kk σ3 (hmo _ _ _ _ _ _ (by simpa [g_drop, g_ksz, List.append_assoc] using hS3) (by simp only [g_drop, pP]; omega) (by simp only [g_drop, pS]; omega)) ((hk1.tr (tkp.x hf)).tr hk3))
      exact ⟨_, hgo⟩
end VS
