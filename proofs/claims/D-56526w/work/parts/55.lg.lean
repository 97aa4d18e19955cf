-- exceptions made and thrown; Tree.node, Tree.number
theorem th_ti {σ : Tst} {c N q : Nat} {Cn : String} {Tn : u_T} {fs : List Tfv} {X : String → Nat → Tst → Prop} (hc : c ∈ tw_xc) (hj : c ≠ cJ2) (ht : tw_cl[c]? = some (Cn, Tn, N)) (hq : σ.1 q = some (.inr (c, .inr none :: .inr none :: .inr none :: .inr none :: .inr none :: .inl 0 :: fs)))
    (k : X Cn q (st_up σ q (.inr (c, .inr (some q) :: .inr (σ.2.2.2 5) :: .inr (σ.2.2.2 6) :: .inr none :: .inr none :: .inl 0 :: fs)))) : w_ti σ (some q) (fun σ => w_th σ (some q) X) :=
  ⟨q, c, fs, rfl, hc, hq, q, c, _, Cn, Tn, N, rfl, up_at _ _ _, ht, hj, k⟩
theorem th_J16 {σ : Tst} (hc : 1 ≤ σ.2.1) (hs : 6 ≤ σ.2.2.1) {X : String → Nat → Tst → Prop} (k : ∀ (q : Nat) (σ' : Tst), σ.1 q = none → (∃ fs, σ'.1 q = some (.inr (cJ16, fs))) → fx σ σ' 1 6 → X "java/lang/IndexOutOfBoundsException" q σ') : w_nw σ cJ16 6 [.inr none, .inr none, .inr none, .inr none, .inr none, .inl 0] (fun q1 σ => w_rf q1 (w_J16_init_2 q1 (fun σ => w_th σ q1 X) X σ)) := by
  refine ⟨by omega, by omega, fun q hq hb => ?_⟩
  have f1 := (fx.rf σ).al hq (.inr (cJ16, [.inr none, .inr none, .inr none, .inr none, .inr none, .inl 0])) (m := 6) (by omega) (by omega)
  unfold w_J16_init_2 w_J9_init w_J8_init
  exact ⟨⟨_, rfl⟩, ⟨_, rfl⟩, ⟨_, rfl⟩, th_ti (c := cJ16) (by decide) (by decide) rfl (al_at _ _ _ _) (k q _ hq ⟨_, up_at _ _ _⟩ ((f1.up hq _).mo (by omega) (by omega)))⟩
theorem th_J10 {σ : Tst} (hc : 1 ≤ σ.2.1) (hs : 6 ≤ σ.2.2.1) {X : String → Nat → Tst → Prop} (k : ∀ (q : Nat) (σ' : Tst), σ.1 q = none → (∃ fs, σ'.1 q = some (.inr (cJ10, fs))) → fx σ σ' 1 6 → X "java/lang/IllegalStateException" q σ') : w_nw σ cJ10 6 [.inr none, .inr none, .inr none, .inr none, .inr none, .inl 0] (fun q1 σ => w_rf q1 (w_J10_init_3 q1 (fun σ => w_th σ q1 X) X σ)) := by
  refine ⟨by omega, by omega, fun q hq hb => ?_⟩
  have f1 := (fx.rf σ).al hq (.inr (cJ10, [.inr none, .inr none, .inr none, .inr none, .inr none, .inl 0])) (m := 6) (by omega) (by omega)
  unfold w_J10_init_3 w_J9_init w_J8_init
  exact ⟨⟨_, rfl⟩, ⟨_, rfl⟩, ⟨_, rfl⟩, th_ti (c := cJ10) (by decide) (by decide) rfl (al_at _ _ _ _) (k q _ hq ⟨_, up_at _ _ _⟩ ((f1.up hq _).mo (by omega) (by omega)))⟩
theorem th_J19 {σ : Tst} (hc : 1 ≤ σ.2.1) (hs : 6 ≤ σ.2.2.1) {X : String → Nat → Tst → Prop} (k : ∀ (q : Nat) (σ' : Tst), σ.1 q = none → (∃ fs, σ'.1 q = some (.inr (cJ19, fs))) → fx σ σ' 1 6 → X "java/util/NoSuchElementException" q σ') : w_nw σ cJ19 6 [.inr none, .inr none, .inr none, .inr none, .inr none, .inl 0] (fun q1 σ => w_rf q1 (w_J19_init q1 (fun σ => w_th σ q1 X) X σ)) := by
  refine ⟨by omega, by omega, fun q hq hb => ?_⟩
  have f1 := (fx.rf σ).al hq (.inr (cJ19, [.inr none, .inr none, .inr none, .inr none, .inr none, .inl 0])) (m := 6) (by omega) (by omega)
  unfold w_J19_init w_J9_init w_J8_init
  exact ⟨⟨_, rfl⟩, ⟨_, rfl⟩, ⟨_, rfl⟩, th_ti (c := cJ19) (by decide) (by decide) rfl (al_at _ _ _ _) (k q _ hq ⟨_, up_at _ _ _⟩ ((f1.up hq _).mo (by omega) (by omega)))⟩
theorem th_J23 {σ : Tst} (hc : 1 ≤ σ.2.1) (hs : 6 ≤ σ.2.2.1) {X : String → Nat → Tst → Prop} (k : ∀ (q : Nat) (σ' : Tst), σ.1 q = none → (∃ fs, σ'.1 q = some (.inr (cJ23, fs))) → fx σ σ' 1 6 → X "java/lang/IllegalArgumentException" q σ') : w_nw σ cJ23 6 [.inr none, .inr none, .inr none, .inr none, .inr none, .inl 0] (fun q1 σ => w_rf q1 (w_J23_init_3 q1 (fun σ => w_th σ q1 X) X σ)) := by
  refine ⟨by omega, by omega, fun q hq hb => ?_⟩
  have f1 := (fx.rf σ).al hq (.inr (cJ23, [.inr none, .inr none, .inr none, .inr none, .inr none, .inl 0])) (m := 6) (by omega) (by omega)
  unfold w_J23_init_3 w_J9_init w_J8_init
  exact ⟨⟨_, rfl⟩, ⟨_, rfl⟩, ⟨_, rfl⟩, th_ti (c := cJ23) (by decide) (by decide) rfl (al_at _ _ _ _) (k q _ hq ⟨_, up_at _ _ _⟩ ((f1.up hq _).mo (by omega) (by omega)))⟩
theorem th_J25 {σ : Tst} (hc : 1 ≤ σ.2.1) (hs : 6 ≤ σ.2.2.1) {X : String → Nat → Tst → Prop} (k : ∀ (q : Nat) (σ' : Tst), σ.1 q = none → (∃ fs, σ'.1 q = some (.inr (cJ25, fs))) → fx σ σ' 1 6 → X "java/lang/UnsupportedOperationException" q σ') : w_nw σ cJ25 6 [.inr none, .inr none, .inr none, .inr none, .inr none, .inl 0] (fun q1 σ => w_rf q1 (w_J25_init q1 (fun σ => w_th σ q1 X) X σ)) := by
  refine ⟨by omega, by omega, fun q hq hb => ?_⟩
  have f1 := (fx.rf σ).al hq (.inr (cJ25, [.inr none, .inr none, .inr none, .inr none, .inr none, .inl 0])) (m := 6) (by omega) (by omega)
  unfold w_J25_init w_J9_init w_J8_init
  exact ⟨⟨_, rfl⟩, ⟨_, rfl⟩, ⟨_, rfl⟩, th_ti (c := cJ25) (by decide) (by decide) rfl (al_at _ _ _ _) (k q _ hq ⟨_, up_at _ _ _⟩ ((f1.up hq _).mo (by omega) (by omega)))⟩
theorem th_X15 {σ : Tst} (hc : 1 ≤ σ.2.1) (hs : 6 ≤ σ.2.2.1) {X : String → Nat → Tst → Prop} (k : ∀ (q : Nat) (σ' : Tst), σ.1 q = none → (∃ fs, σ'.1 q = some (.inr (cX15, fs))) → fx σ σ' 1 6 → X "TreeDiffer$Changed" q σ') : w_nw σ cX15 6 [.inr none, .inr none, .inr none, .inr none, .inr none, .inl 0] (fun q1 σ => w_rf q1 (w_X15_init q1 (fun σ => w_th σ q1 X) X σ)) := by
  refine ⟨by omega, by omega, fun q hq hb => ?_⟩
  have f1 := (fx.rf σ).al hq (.inr (cX15, [.inr none, .inr none, .inr none, .inr none, .inr none, .inl 0])) (m := 6) (by omega) (by omega)
  unfold w_X15_init w_J8_init
  exact ⟨⟨_, rfl⟩, ⟨_, rfl⟩, th_ti (c := cX15) (by decide) (by decide) rfl (al_at _ _ _ _) (k q _ hq ⟨_, up_at _ _ _⟩ ((f1.up hq _).mo (by omega) (by omega)))⟩
theorem th_X16 {σ : Tst} (hc : 1 ≤ σ.2.1) (hs : 6 ≤ σ.2.2.1) {X : String → Nat → Tst → Prop} (k : ∀ (q : Nat) (σ' : Tst), σ.1 q = none → (∃ fs, σ'.1 q = some (.inr (cX16, fs))) → fx σ σ' 1 6 → X "TreeDiffer$Missing" q σ') : w_nw σ cX16 6 [.inr none, .inr none, .inr none, .inr none, .inr none, .inl 0] (fun q1 σ => w_rf q1 (w_X16_init q1 (fun σ => w_th σ q1 X) X σ)) := by
  refine ⟨by omega, by omega, fun q hq hb => ?_⟩
  have f1 := (fx.rf σ).al hq (.inr (cX16, [.inr none, .inr none, .inr none, .inr none, .inr none, .inl 0])) (m := 6) (by omega) (by omega)
  unfold w_X16_init w_J8_init
  exact ⟨⟨_, rfl⟩, ⟨_, rfl⟩, th_ti (c := cX16) (by decide) (by decide) rfl (al_at _ _ _ _) (k q _ hq ⟨_, up_at _ _ _⟩ ((f1.up hq _).mo (by omega) (by omega)))⟩
theorem th_X17 {σ : Tst} (hc : 1 ≤ σ.2.1) (hs : 6 ≤ σ.2.2.1) {X : String → Nat → Tst → Prop} (k : ∀ (q : Nat) (σ' : Tst), σ.1 q = none → (∃ fs, σ'.1 q = some (.inr (cX17, fs))) → fx σ σ' 1 6 → X "TreeDiffer$Clash" q σ') : w_nw σ cX17 6 [.inr none, .inr none, .inr none, .inr none, .inr none, .inl 0] (fun q1 σ => w_rf q1 (w_X17_init q1 (fun σ => w_th σ q1 X) X σ)) := by
  refine ⟨by omega, by omega, fun q hq hb => ?_⟩
  have f1 := (fx.rf σ).al hq (.inr (cX17, [.inr none, .inr none, .inr none, .inr none, .inr none, .inl 0])) (m := 6) (by omega) (by omega)
  unfold w_X17_init w_J8_init
  exact ⟨⟨_, rfl⟩, ⟨_, rfl⟩, th_ti (c := cX17) (by decide) (by decide) rfl (al_at _ _ _ _) (k q _ hq ⟨_, up_at _ _ _⟩ ((f1.up hq _).mo (by omega) (by omega)))⟩
theorem th_X18 {σ : Tst} (hc : 1 ≤ σ.2.1) (hs : 6 ≤ σ.2.2.1) {X : String → Nat → Tst → Prop} (k : ∀ (q : Nat) (σ' : Tst), σ.1 q = none → (∃ fs, σ'.1 q = some (.inr (cX18, fs))) → fx σ σ' 1 6 → X "TreeDiffer$Full" q σ') : w_nw σ cX18 6 [.inr none, .inr none, .inr none, .inr none, .inr none, .inl 0] (fun q1 σ => w_rf q1 (w_X18_init q1 (fun σ => w_th σ q1 X) X σ)) := by
  refine ⟨by omega, by omega, fun q hq hb => ?_⟩
  have f1 := (fx.rf σ).al hq (.inr (cX18, [.inr none, .inr none, .inr none, .inr none, .inr none, .inl 0])) (m := 6) (by omega) (by omega)
  unfold w_X18_init w_J8_init
  exact ⟨⟨_, rfl⟩, ⟨_, rfl⟩, th_ti (c := cX18) (by decide) (by decide) rfl (al_at _ _ _ _) (k q _ hq ⟨_, up_at _ _ _⟩ ((f1.up hq _).mo (by omega) (by omega)))⟩
theorem rq_requireIndex {σ : Tst} {b : Int32} {Q : Tst → Prop} {X : String → Nat → Tst → Prop} (hc : 1 ≤ σ.2.1) (hs : 6 ≤ σ.2.2.1) (k0 : b = 0 → ∀ (q : Nat) (σ' : Tst), fx σ σ' 1 6 → X "java/lang/IndexOutOfBoundsException" q σ') (k1 : b ≠ 0 → Q σ) : w_X1_requireIndex b Q X σ := by
  unfold w_X1_requireIndex
  exact ⟨fun e => th_J16 hc hs (fun q σ' _ _ hf => k0 e q σ' hf), fun e => k1 e⟩
theorem rq_requireState {σ : Tst} {b : Int32} {Q : Tst → Prop} {X : String → Nat → Tst → Prop} (hc : 1 ≤ σ.2.1) (hs : 6 ≤ σ.2.2.1) (k0 : b = 0 → ∀ (q : Nat) (σ' : Tst), fx σ σ' 1 6 → X "java/lang/IllegalStateException" q σ') (k1 : b ≠ 0 → Q σ) : w_X1_requireState b Q X σ := by
  unfold w_X1_requireState
  exact ⟨fun e => th_J10 hc hs (fun q σ' _ _ hf => k0 e q σ' hf), fun e => k1 e⟩
theorem rq_requireElement {σ : Tst} {b : Int32} {Q : Tst → Prop} {X : String → Nat → Tst → Prop} (hc : 1 ≤ σ.2.1) (hs : 6 ≤ σ.2.2.1) (k0 : b = 0 → ∀ (q : Nat) (σ' : Tst), fx σ σ' 1 6 → X "java/util/NoSuchElementException" q σ') (k1 : b ≠ 0 → Q σ) : w_X1_requireElement b Q X σ := by
  unfold w_X1_requireElement
  exact ⟨fun e => th_J19 hc hs (fun q σ' _ _ hf => k0 e q σ' hf), fun e => k1 e⟩
theorem rq_requireArgument {σ : Tst} {b : Int32} {Q : Tst → Prop} {X : String → Nat → Tst → Prop} (hc : 1 ≤ σ.2.1) (hs : 6 ≤ σ.2.2.1) (k0 : b = 0 → ∀ (q : Nat) (σ' : Tst), fx σ σ' 1 6 → X "java/lang/IllegalArgumentException" q σ') (k1 : b ≠ 0 → Q σ) : w_X1_requireArgument b Q X σ := by
  unfold w_X1_requireArgument
  exact ⟨fun e => th_J23 hc hs (fun q σ' _ _ hf => k0 e q σ' hf), fun e => k1 e⟩
theorem rq_requireSupport {σ : Tst} {b : Int32} {Q : Tst → Prop} {X : String → Nat → Tst → Prop} (hc : 1 ≤ σ.2.1) (hs : 6 ≤ σ.2.2.1) (k0 : b = 0 → ∀ (q : Nat) (σ' : Tst), fx σ σ' 1 6 → X "java/lang/UnsupportedOperationException" q σ') (k1 : b ≠ 0 → Q σ) : w_X1_requireSupport b Q X σ := by
  unfold w_X1_requireSupport
  exact ⟨fun e => th_J25 hc hs (fun q σ' _ _ hf => k0 e q σ' hf), fun e => k1 e⟩
/-- between two bounds -/
def bt (v lo hi : Int32) : Bool := !decide (v < lo) && !decide (hi < v)
theorem bt_nat {v : Int32} {n : Nat} (hn : n < 2147483648) (h : bt v 0 (nI n) = true) : ∃ m : Nat, v = nI m ∧ m ≤ n := by
  simp only [bt, Bool.and_eq_true, Bool.not_eq_true', decide_eq_false_iff_not] at h
  obtain ⟨h1, h2⟩ := h
  rw [Int32.lt_iff_toInt_lt] at h1 h2
  rw [nI_toInt hn] at h2
  have h0 : (0 : Int32).toInt = 0 := rfl
  rw [h0] at h1
  refine ⟨v.toInt.toNat, ?_, by omega⟩
  apply Int32.toInt_inj.mp
  rw [nI_toInt (by omega)]
  omega
theorem bt_of {m n : Nat} (hn : n < 2147483648) (h : m ≤ n) : bt (nI m) 0 (nI n) = true := by
  simp only [bt, Bool.and_eq_true, Bool.not_eq_true', decide_eq_false_iff_not]
  constructor
  · intro c; have := (lo_lt (i := m) (j := 0) (by omega) (by decide)).mp c; omega
  · intro c; have := (lo_lt (by omega) (by omega)).mp c; omega
theorem rq_bt1 {v lo hi : Int32} {σ : Tst} {Q : Int32 → Tst → Prop} {X : String → Nat → Tst → Prop} (k : Q (if bt v lo hi then 1 else 0) σ) : w_X1_isBetween v lo hi Q X σ := by
  unfold w_X1_isBetween w_X1_isBetween_b14 w_X1_isBetween_b15
  refine ⟨fun c => ⟨rfl, ?_⟩, fun c => ⟨fun c' => ⟨rfl, ?_⟩, fun c' => ⟨rfl, ?_⟩⟩⟩
  · simpa [bt, c] using k
  · simpa [bt, c'] using k
  · simpa [bt, c, c'] using k
theorem rq_bt4 {v lo hi : Int32} {σ : Tst} {Q : Int32 → Tst → Prop} {X : String → Nat → Tst → Prop} (k : Q (if bt v lo hi then 1 else 0) σ) : w_X4_isBetween v lo hi Q X σ := by
  unfold w_X4_isBetween w_X4_isBetween_b14 w_X4_isBetween_b15
  refine ⟨fun c => ⟨rfl, ?_⟩, fun c => ⟨fun c' => ⟨rfl, ?_⟩, fun c' => ⟨rfl, ?_⟩⟩⟩
  · simpa [bt, c] using k
  · simpa [bt, c'] using k
  · simpa [bt, c, c'] using k
theorem rq_letter {v : Int32} {σ : Tst} {Q : Int32 → Tst → Prop} {X : String → Nat → Tst → Prop} (k : Q (if bt v 97 122 then 1 else 0) σ) : w_X1_isLetter v Q X σ := by
  unfold w_X1_isLetter w_X1_isLetter_b16 w_X1_isLetter_b17
  refine ⟨fun c => ⟨rfl, ?_⟩, fun c => ⟨fun c' => ⟨rfl, ?_⟩, fun c' => ⟨rfl, ?_⟩⟩⟩
  · simpa [bt, c] using k
  · simpa [bt, c'] using k
  · simpa [bt, c, c'] using k
theorem nd_L {σ0 : Tst} {p c0 n0 : Nat} {i : Int32} {Q : Option Nat → Tst → Prop} {X : String → Nat → Tst → Prop} : ∀ (m : Nat) (G : Tfi) (σ : Tst) (k : Nat), fi_sz G = m → m ≤ 20 → pitB σ0 σ p c0 n0 G → tk σ0 G → c0 + 2 ≤ σ0.2.1 → n0 + 42 ≤ σ0.2.2.1 →
    (∀ (j : Nat) (σ' : Tst), j < fi_sz G → i = nI (k + j) → fx σ0 σ' (c0 + 1) (n0 + 36) → Q (some ((fi_ids G).getD j 0)) σ') → ((∀ j, j < fi_sz G → i ≠ nI (k + j)) → ∀ (q : Nat) (σ' : Tst), fx σ0 σ' (c0 + 2) (n0 + 42) → X "java/lang/IndexOutOfBoundsException" q σ') → w_X2_node_b7 Q X (m + 1) i (nI k) (some p) σ := by
  intro m
  induction m with
  | zero =>
    intro G σ k hm hsz hB ht hc hs k1 k0
    rw [w_X2_node_b7]
    refine pi_each hB ht (by omega) (by omega) (by omega) (fun _ => ?_) (fun s w u kids rest e => ?_)
    · have f1 := hB.f
      have := f1.c
      have := f1.s
      exact th_J16 (by omega) (by omega) (fun q σ' _ _ hf => k0 (fun j hj => by omega) q σ' (f1.tr hf))
    · subst e; simp [fi_sz, fi_er, fo_size] at hm
  | succ m ih =>
    intro G σ k hm hsz hB ht hc hs k1 k0
    rw [w_X2_node_b7]
    refine pi_each hB ht (by omega) (by omega) (by omega) (fun e => ?_) (fun s w u kids rest e σ1 hB1 hf1 => ?_)
    · subst e; simp [fi_sz, fi_er, fo_size] at hm
    · subst e
      obtain ⟨hw, hk, hr⟩ := ht
      obtain ⟨_, _, _, _, _, _, a1, _⟩ := id hw
      have hszz : fi_sz (fi_app kids rest) = m := by
        rw [fi_app_sz]
        have : 1 + fi_sz kids + fi_sz rest = m + 1 := hm
        omega
      have hids : fi_ids (.inner s w u kids rest) = w.1 :: fi_ids (fi_app kids rest) := by rw [fi_app_ids, fi_ids]
      refine ⟨Or.inr ⟨_, _, rfl, hf1.k a1⟩, fun e => ?_, fun e => ?_⟩
      · have := k1 0 σ1 (by omega) (by rw [Nat.add_zero]; exact e.symm) hf1
        rw [hids] at this
        exact this
      · rw [ni_1, ni_add]
        refine ih (fi_app kids rest) σ1 (k + 1) hszz (by omega) hB1 ((tk_app _ _).mpr ⟨hk, hr⟩) hc hs (fun j σ' hj hi hf => ?_) (fun hall q σ' hf => ?_)
        · have := k1 (j + 1) σ' (by omega) (by rw [hi]; congr 1; omega) hf
          rw [hids] at this
          exact this
        · refine k0 (fun j hj hi => ?_) q σ' hf
          cases j with
          | zero => exact e (by rw [hi, Nat.add_zero])
          | succ j => exact hall j (by omega) (by rw [hi]; congr 1; omega)
/-- Tree.node(number) -/
theorem nd_node {σ : Tst} {t s : Nat} {w : Nat × Tnw} {u : Unit} {kids : Tfi} {i : Int32} (ht : σ.1 t = some (.inr (cX2, [.inr (some w.1)]))) (hk : tk σ (.inner s w u kids .leaf)) (hsz : fi_sz kids < 20) (hc : 5 ≤ σ.2.1) (hs : 64 ≤ σ.2.2.1) {Q : Option Nat → Tst → Prop} {X : String → Nat → Tst → Prop}
    (k1 : ∀ (j : Nat) (σ' : Tst), j < 1 + fi_sz kids → i = nI j → fx σ σ' 4 58 → Q (some ((w.1 :: fi_ids kids).getD j 0)) σ') (k0 : (∀ j, j < 1 + fi_sz kids → i ≠ nI j) → ∀ (q : Nat) (σ' : Tst), fx σ σ' 5 64 → X "java/lang/IndexOutOfBoundsException" q σ') : w_rc σ (some t) cX2 (w_X2_node (some t) i Q X σ) := by
  refine ⟨⟨_, _, rfl, ht⟩, ?_⟩
  unfold w_X2_node
  have hszz : fi_sz (.inner s w u kids .leaf) = 1 + fi_sz kids := by simp [fi_sz, fi_er, fo_size]
  have hids : fi_ids (.inner s w u kids .leaf) = w.1 :: fi_ids kids := by simp [fi_ids]
  refine ⟨⟨_, _, rfl, ht⟩, pi_iter (s := s) (r := 0) (w := w) (u := u) (kids := kids) ht (tk_isn _ hk _ (by simp [fi_rt])) (by omega) (by omega) (fun p σ1 hB _ hf => ⟨_, nd_L (i := i) (1 + fi_sz kids) _ σ1 0 hszz (by omega) hB hk (by omega) (by omega) (fun j σ' hj hi hf => ?_) (fun hall q σ' hf => ?_)⟩)⟩
  · have := k1 j σ' (by omega) (by rw [hi, Nat.zero_add]) hf
    rw [hids]
    exact this
  · exact k0 (fun j hj => by have := hall j (by omega); rw [Nat.zero_add] at this; exact this) q σ' hf
theorem nm_L {σ0 : Tst} {p c0 n0 : Nat} {b : Option Nat} {Q : Int32 → Tst → Prop} {X : String → Nat → Tst → Prop} : ∀ (m : Nat) (G : Tfi) (σ : Tst) (k : Nat), fi_sz G = m → m ≤ 20 → pitB σ0 σ p c0 n0 G → tk σ0 G → c0 + 1 ≤ σ0.2.1 → n0 + 36 ≤ σ0.2.2.1 →
    (∀ (j : Nat) (σ' : Tst), j < fi_sz G → b = some ((fi_ids G).getD j 0) → (∀ i, i < j → b ≠ some ((fi_ids G).getD i 0)) → fx σ0 σ' (c0 + 1) (n0 + 36) → Q (nI (k + j)) σ') → ((∀ j, j < fi_sz G → b ≠ some ((fi_ids G).getD j 0)) → ∀ (σ' : Tst), fx σ0 σ' (c0 + 1) (n0 + 36) → Q (-1) σ') → w_X2_number_b7 Q X (m + 1) b (nI k) (some p) σ := by
  intro m
  induction m with
  | zero =>
    intro G σ k hm hsz hB ht hc hs k1 k0
    rw [w_X2_number_b7]
    refine pi_each hB ht (by omega) (by omega) (by omega) (fun _ => ?_) (fun s w u kids rest e => ?_)
    · exact k0 (fun j hj => by omega) σ hB.f
    · subst e; simp [fi_sz, fi_er, fo_size] at hm
  | succ m ih =>
    intro G σ k hm hsz hB ht hc hs k1 k0
    rw [w_X2_number_b7]
    refine pi_each hB ht (by omega) (by omega) (by omega) (fun e => ?_) (fun s w u kids rest e σ1 hB1 hf1 => ?_)
    · subst e; simp [fi_sz, fi_er, fo_size] at hm
    · subst e
      obtain ⟨hw, hk, hr⟩ := ht
      obtain ⟨_, _, _, _, _, _, a1, _⟩ := id hw
      have hszz : fi_sz (fi_app kids rest) = m := by
        rw [fi_app_sz]
        have : 1 + fi_sz kids + fi_sz rest = m + 1 := hm
        omega
      have hids : fi_ids (.inner s w u kids rest) = w.1 :: fi_ids (fi_app kids rest) := by rw [fi_app_ids, fi_ids]
      refine ⟨Or.inr ⟨_, _, rfl, hf1.k a1⟩, fun e => ?_, fun e => ?_⟩
      · have := k1 0 σ1 (by omega) (by rw [hids]; exact e.symm) (fun i hi => by omega) hf1
        exact this
      · rw [ni_1, ni_add]
        refine ih (fi_app kids rest) σ1 (k + 1) hszz (by omega) hB1 ((tk_app _ _).mpr ⟨hk, hr⟩) hc hs (fun j σ' hj hi hlt hf => ?_) (fun hall σ' hf => ?_)
        · have := k1 (j + 1) σ' (by omega) (by rw [hids]; exact hi) (fun i hi2 => ?_) hf
          · rw [show k + 1 + j = k + (j + 1) by omega]; exact this
          · rw [hids]
            cases i with
            | zero => exact fun h => e h.symm
            | succ i => exact hlt i (by omega)
        · refine k0 (fun j hj => ?_) σ' hf
          rw [hids]
          cases j with
          | zero => exact fun h => e h.symm
          | succ j => exact hall j (by omega)
theorem nodup_inj {α : Type} {xs : List α} (h : xs.Nodup) (i j : Nat) (hi : i < xs.length) (hj : j < xs.length) (e : xs[i] = xs[j]) : i = j := by
  have hp := List.pairwise_iff_getElem.mp h
  rcases Nat.lt_trichotomy i j with q | q | q
  · exact absurd e (hp i j hi hj q)
  · exact q
  · exact absurd e.symm (hp j i hj hi q)
/-- Tree.number(node) of a node of the tree -/
theorem nd_number {σ : Tst} {t s b j : Nat} {w : Nat × Tnw} {u : Unit} {kids : Tfi} (ht : σ.1 t = some (.inr (cX2, [.inr (some w.1)]))) (hk : tk σ (.inner s w u kids .leaf)) (hnd : (w.1 :: fi_ids kids).Nodup) (hsz : fi_sz kids < 20) (hj : j < 1 + fi_sz kids) (hb : b = (w.1 :: fi_ids kids).getD j 0) (hc : 4 ≤ σ.2.1) (hs : 58 ≤ σ.2.2.1) {Q : Int32 → Tst → Prop} {X : String → Nat → Tst → Prop}
    (k1 : ∀ (σ' : Tst), fx σ σ' 4 58 → Q (nI j) σ') : w_rc σ (some t) cX2 (w_X2_number (some t) (some b) Q X σ) := by
  refine ⟨⟨_, _, rfl, ht⟩, ?_⟩
  unfold w_X2_number
  have hszz : fi_sz (.inner s w u kids .leaf) = 1 + fi_sz kids := by simp [fi_sz, fi_er, fo_size]
  have hids : fi_ids (.inner s w u kids .leaf) = w.1 :: fi_ids kids := by simp [fi_ids]
  have hlen : (w.1 :: fi_ids kids).length = 1 + fi_sz kids := by rw [List.length_cons, fi_ids_len]; omega
  refine ⟨⟨_, _, rfl, ht⟩, pi_iter (s := s) (r := 0) (w := w) (u := u) (kids := kids) ht (tk_isn _ hk _ (by simp [fi_rt])) (by omega) (by omega) (fun p σ1 hB _ hf => ⟨_, nm_L (b := some b) (1 + fi_sz kids) _ σ1 0 hszz (by omega) hB hk (by omega) (by omega) (fun i σ' hi he hlt hf => ?_) (fun hall σ' hf => ?_)⟩)⟩
  · have hij : i = j := by
      rw [hids, hb] at he
      have he := Option.some.inj he
      rw [List.getD_eq_getElem?_getD, List.getD_eq_getElem?_getD, List.getElem?_eq_getElem (by omega), List.getElem?_eq_getElem (by omega)] at he
      exact (nodup_inj hnd _ _ _ _ he).symm
    rw [Nat.zero_add, hij]
    exact k1 σ' hf
  · exact absurd (by rw [hids, hb]) (hall j (by omega))
