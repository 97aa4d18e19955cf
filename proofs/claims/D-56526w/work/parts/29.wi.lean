set_option maxRecDepth 100000
section GW29
variable {p : Program} {l : Launch} {e : Env} {R : Room} {s : State} {m : MethodId} {args : Array Value} {below : List Frame} {meth : Method} {c : Code} {H : Heap} {locs : List Loc} {G : Tgl}
-- TreeDiffer$Table.<init>(LTreeDiffer$Node;LTreeDiffer$Node;)V
def w_X9_init_b76 (rf_X1_cost : (Option Nat) → (Option Nat) → (Int32 → Tst → Prop) → (String → Nat → Tst → Prop) → Tst → Prop) (k61 : Option Nat → Option Nat → Int32 → Tst → Prop) (Q : Tst → Prop) (X : String → Nat → Tst → Prop) : Nat → Option Nat → Option Nat → Int32 → Int32 → Tst → Prop
  | 0, _, _, _, _, _ => False
  | n + 1, l0, l2, l3, l4, σ => w_if (l4 < 0) (k61 l0 l2 (l3 + (-1)) σ) (w_gr σ l0 cX9 3 fun x1 => w_gi σ l0 cX9 2 fun x2 => w_rc σ l0 cX9 <| w_X9_least rf_X1_cost l0 l3 l4 (fun x3 σ => w_si σ x1 ((l3 * x2) + l4) x3 fun σ => (w_X9_init_b76 rf_X1_cost k61 Q X n) l0 l2 l3 (l4 + (-1)) σ) X σ)
def w_X9_init_b61 (rf_X1_cost : (Option Nat) → (Option Nat) → (Int32 → Tst → Prop) → (String → Nat → Tst → Prop) → Tst → Prop) (Q : Tst → Prop) (X : String → Nat → Tst → Prop) : Nat → Option Nat → Option Nat → Int32 → Tst → Prop
  | 0, _, _, _, _ => False
  | n + 1, l0, l2, l3, σ => w_if (l3 < 0) (Q σ) (w_gr σ l2 cX3 4 fun x1 => w_rc σ x1 cJ6 <| w_J6_size x1 (fun x2 σ => ∃ z, w_X9_init_b76 rf_X1_cost (w_X9_init_b61 rf_X1_cost Q X n) Q X z l0 l2 l3 x2 σ) X σ)
def w_X9_init (rf_X1_cost : (Option Nat) → (Option Nat) → (Int32 → Tst → Prop) → (String → Nat → Tst → Prop) → Tst → Prop) (l0 : Option Nat) (l1 : Option Nat) (l2 : Option Nat) (Q : Tst → Prop) (X : String → Nat → Tst → Prop) (σ : Tst) : Prop := w_rf l0 <| w_p σ l0 cX9 0 (.inr l1) fun σ => w_p σ l0 cX9 1 (.inr l2) fun σ => w_gr σ l2 cX3 4 fun x1 => w_rc σ x1 cJ6 <| w_J6_size x1 (fun x2 σ => w_p σ l0 cX9 2 (.inl (x2 + 1)) fun σ => w_gr σ l1 cX3 4 fun x3 => w_rc σ x3 cJ6 <| w_J6_size x3 (fun x4 σ => w_gi σ l0 cX9 2 fun x5 => w_na σ 0 ((x4 + 1) * x5) (.inl fun _ => 0) fun q6 σ => w_p σ l0 cX9 3 (.inr q6) fun σ => w_gr σ l1 cX3 4 fun x7 => w_rc σ x7 cJ6 <| w_J6_size x7 (fun x8 σ => ∃ z, w_X9_init_b61 rf_X1_cost Q X z l0 l2 x8 σ) X σ) X σ) X σ
set_option maxHeartbeats 4000000 in
theorem wk_X9_init_b76 {rf_X1_cost : (Option Nat) → (Option Nat) → (Int32 → Tst → Prop) → (String → Nat → Tst → Prop) → Tst → Prop} {frf_X1_cost : Nat}  (C : tw_C p l R s m args meth c G cX9_init 5 yX9_init.cls) (hr : meth.sig.returnType = none) (hmn : meth.name = yX9_init.name) (hnx : (∀ x ∈ c.exceptionTable.toList, False)) (hfr : 70 ≤ R.frames ∧ frf_X1_cost + 3 ≤ R.frames) (hRl : R.locals = 40 * R.frames) {Q : Tst → Prop} {X : String → Nat → Tst → Prop} (hrf_X1_cost : ∀ fr : Nat, frf_X1_cost ≤ fr → ∀ (a0 : Option Nat) (a1 : Option Nat) (Q : Int32 → Tst → Prop) (X : String → Nat → Tst → Prop) (σ : Tst), rf_X1_cost a0 a1 Q X σ → tw_M l yX1_cost (ws_ yX1_cost cX1_cost 3 (some .int)) fr (40 * fr) G σ [.inr a0, .inr a1] (tw_Qi G Q) X) {k61 : Option Nat → Option Nat → Int32 → Tst → Prop} (hk61 : ∀ (l0 : Option Nat) (l2 : Option Nat) (l3 : Int32) (σ : Tst) (H : Heap) (locs : List Loc) (ls : Array Slot), k61 l0 l2 l3 σ → tw_R G σ H → va_S (tw_A G) s.heap H locs → tw_l ls 5 [(0, .inr l0), (2, .inr l2), (3, .inl l3)] → tw_W p l e R s m args below meth c σ H locs (tw_E below G (tw_Qv G Q) X args s R) (F0 m 61 ls [])) : ∀ (n : Nat) (l0 : Option Nat) (l2 : Option Nat) (l3 : Int32) (l4 : Int32) (σ : Tst) (H : Heap) (locs : List Loc) (ls : Array Slot), w_X9_init_b76 rf_X1_cost k61 Q X n l0 l2 l3 l4 σ → tw_R G σ H → va_S (tw_A G) s.heap H locs → tw_l ls 5 [(0, .inr l0), (2, .inr l2), (3, .inl l3), (4, .inl l4)] → tw_W p l e R s m args below meth c σ H locs (tw_E below G (tw_Qv G Q) X args s R) (F0 m 76 ls []) := by
  intro n
  induction n with
  | zero => intro l0 l2 l3 l4 σ H locs ls hw; exact False.elim hw
  | succ n hk76 =>
    intro l0 l2 l3 l4 σ H locs ls hw hR hS hl
    rw [w_X9_init_b76] at hw
    refine tk_iload C hl 3 dX9_init_76 rfl ?_
    refine lv_if_lt (tgt := 108) C.hx C.hb dX9_init_78 (by decide) (fun c78 => ?_) (fun c78 => ?_)
    · replace hw := hw.1 c78
      refine tk_iinc (L' := [(3, .inl (l3 + (-1))), (0, .inr l0), (2, .inr l2), (4, .inl l4)]) (y := (l3 + (-1))) C hl 2 dX9_init_108 rfl rfl (by decide) rfl (fun ls hl => ?_)
      refine lv_goto (tgt := 61) C.hx C.hb dX9_init_111 (by decide) ?_
      exact hk61 _ _ _ σ _ _ _ hw hR hS (tk_sub hl [1, 2, 0] rfl)
    · replace hw := hw.2 c78
      refine tk_aload_n C hl 0 dX9_init_81 rfl ?_
      refine tk_gr C hR hw rfl in_X9 (by decide) q620 (fun _ h => h) dX9_init_82 (fun x1 hw => ?_)
      refine tk_iload_n C hl 2 dX9_init_85 rfl ?_
      refine tk_aload_n C hl 0 dX9_init_86 rfl ?_
      refine tk_gi C hR hw rfl in_X9 (by decide) q619 (fun _ h => h) dX9_init_87 (fun x2 hw => ?_)
      refine lv_imul C.hx C.hb dX9_init_90 ?_
      refine tk_iload C hl 3 dX9_init_91 rfl ?_
      refine lv_iadd C.hx C.hb dX9_init_93 ?_
      refine tk_aload_n C hl 0 dX9_init_94 rfl ?_
      refine tk_iload_n C hl 2 dX9_init_95 rfl ?_
      refine tk_iload C hl 3 dX9_init_96 rfl ?_
      obtain ⟨hv, hw⟩ := hw
      refine tw_cbi C hS (tk_runV (As := [.inl l3, .inl l4]) C hR hS (wk_X9_least l C.hst G (R.frames - 1) hrf_X1_cost (by omega) _ _ _ _ _ σ hw) hv rfl q587 q589 qs3 q100 q590 pd_X9_least ⟨by omega, by omega⟩ hl.1 rfl (tw_r8 [.inl ((l3 * x2) + l4), .inr x1] (Nat.le_of_ble_eq_true rfl)) dX9_init_98) (fun E q σ H locs hX hR hS hi => tw_out C hR hS (fun x hx => (hnx x hx).elim) hi hX) (fun x3 σ H locs hw hR hS => ?_)
      refine tk_si C hR hS hw dX9_init_101 (fun σ H locs hw hR hS => ?_)
      refine tk_iinc (L' := [(4, .inl (l4 + (-1))), (0, .inr l0), (2, .inr l2), (3, .inl l3)]) (y := (l4 + (-1))) C hl 3 dX9_init_102 rfl rfl (by decide) rfl (fun ls hl => ?_)
      refine lv_goto (tgt := 76) C.hx C.hb dX9_init_105 (by decide) ?_
      exact hk76 _ _ _ _ σ _ _ _ hw hR hS (tk_sub hl [1, 2, 3, 0] rfl)
set_option maxHeartbeats 4000000 in
theorem wk_X9_init_b61 {rf_X1_cost : (Option Nat) → (Option Nat) → (Int32 → Tst → Prop) → (String → Nat → Tst → Prop) → Tst → Prop} {frf_X1_cost : Nat}  (C : tw_C p l R s m args meth c G cX9_init 5 yX9_init.cls) (hr : meth.sig.returnType = none) (hmn : meth.name = yX9_init.name) (hnx : (∀ x ∈ c.exceptionTable.toList, False)) (hfr : 70 ≤ R.frames ∧ frf_X1_cost + 3 ≤ R.frames) (hRl : R.locals = 40 * R.frames) {Q : Tst → Prop} {X : String → Nat → Tst → Prop} (hrf_X1_cost : ∀ fr : Nat, frf_X1_cost ≤ fr → ∀ (a0 : Option Nat) (a1 : Option Nat) (Q : Int32 → Tst → Prop) (X : String → Nat → Tst → Prop) (σ : Tst), rf_X1_cost a0 a1 Q X σ → tw_M l yX1_cost (ws_ yX1_cost cX1_cost 3 (some .int)) fr (40 * fr) G σ [.inr a0, .inr a1] (tw_Qi G Q) X) : ∀ (n : Nat) (l0 : Option Nat) (l2 : Option Nat) (l3 : Int32) (σ : Tst) (H : Heap) (locs : List Loc) (ls : Array Slot), w_X9_init_b61 rf_X1_cost Q X n l0 l2 l3 σ → tw_R G σ H → va_S (tw_A G) s.heap H locs → tw_l ls 5 [(0, .inr l0), (2, .inr l2), (3, .inl l3)] → tw_W p l e R s m args below meth c σ H locs (tw_E below G (tw_Qv G Q) X args s R) (F0 m 61 ls []) := by
  intro n
  induction n with
  | zero => intro l0 l2 l3 σ H locs ls hw; exact False.elim hw
  | succ n hk61 =>
    intro l0 l2 l3 σ H locs ls hw hR hS hl
    rw [w_X9_init_b61] at hw
    refine tk_iload_n C hl 2 dX9_init_61 rfl ?_
    refine lv_if_lt (tgt := 114) C.hx C.hb dX9_init_62 (by decide) (fun c62 => ?_) (fun c62 => ?_)
    · replace hw := hw.1 c62
      exact tw_vret C hR hS hr dX9_init_114 hw
    · replace hw := hw.2 c62
      refine tk_aload_n C hl 1 dX9_init_65 rfl ?_
      refine tk_grN C hR hw rfl in_X3 (by decide) q210 (fun _ h => h) dX9_init_66 (fun x1 hw => ?_)
      obtain ⟨hv, hw⟩ := hw
      refine tw_cbi5 C hS (tk_runF (As := []) (x := ⟨"java/util/List", "size", "()I"⟩) C hR hS (wk_J6_size l C.hst G (R.frames - 1) (by omega) _ _ _ σ hw) hv rfl q586 q447 q449 q73 q451 (by decide +kernel) (show tw_pd ⟨"java/util/List", "size", "()I"⟩ 0 by decide +kernel) ⟨by omega, by omega⟩ hl.1 rfl (tw_r8 [] (Nat.le_of_ble_eq_true rfl)) dX9_init_69) (fun E q σ H locs hX hR hS hi => tw_out C hR hS (fun x hx => (hnx x hx).elim) hi hX) (fun x2 σ H locs hw hR hS => ?_)
      refine tk_istore (L' := [(4, .inl x2), (0, .inr l0), (2, .inr l2), (3, .inl l3)]) C hl dX9_init_74 (by decide) rfl (fun ls hl => ?_)
      obtain ⟨z, hw⟩ := hw
      exact wk_X9_init_b76 C hr hmn hnx hfr hRl hrf_X1_cost hk61 z _ _ _ _ σ _ _ _ hw hR hS (tk_sub hl [1, 2, 3, 0] rfl)
set_option maxHeartbeats 4000000 in
theorem wk_X9_init (l : Launch) (hl0 : l.stackTraces = false) (G : Tgl) (fr : Nat) {rf_X1_cost : (Option Nat) → (Option Nat) → (Int32 → Tst → Prop) → (String → Nat → Tst → Prop) → Tst → Prop} {frf_X1_cost : Nat} (hrf_X1_cost : ∀ fr : Nat, frf_X1_cost ≤ fr → ∀ (a0 : Option Nat) (a1 : Option Nat) (Q : Int32 → Tst → Prop) (X : String → Nat → Tst → Prop) (σ : Tst), rf_X1_cost a0 a1 Q X σ → tw_M l yX1_cost (ws_ yX1_cost cX1_cost 3 (some .int)) fr (40 * fr) G σ [.inr a0, .inr a1] (tw_Qi G Q) X) (hfr : 70 ≤ fr ∧ frf_X1_cost + 3 ≤ fr) (l0 : Option Nat) (l1 : Option Nat) (l2 : Option Nat) (Q : Tst → Prop) (X : String → Nat → Tst → Prop) (σ : Tst) (hw : w_X9_init rf_X1_cost l0 l1 l2 Q X σ) : tw_M l yX9_init (ws_ yX9_init cX9_init 5 none) fr (40 * fr) G σ [.inr l0, .inr l1, .inr l2] (tw_Qv G Q) X := by
  unfold w_X9_init at hw
  refine tw_of (ret := none) hl0 (by decide) (Nat.le_of_ble_eq_true rfl) (fun p e R s m args below meth c hRf hRl C hr hmn hnx hR hS ls hl => ?_)
  have hfr : 70 ≤ R.frames ∧ frf_X1_cost + 3 ≤ R.frames := by rw [hRf]; exact hfr
  have hRl : R.locals = 40 * R.frames := by rw [hRl, hRf]
  have hl : tw_l ls 5 [(0, .inr l0), (1, .inr l1), (2, .inr l2)] := hl
  refine tk_aload_n C hl 0 dX9_init_0 rfl ?_
  refine tk_obj C hw q584 q119 q120 hl.1 (tw_r8 [] (Nat.le_of_ble_eq_true rfl)) (by omega) (by omega) dX9_init_1 (fun hw => ?_)
  refine tk_aload_n C hl 0 dX9_init_4 rfl ?_
  refine tk_aload_n C hl 1 dX9_init_5 rfl ?_
  refine tk_pF (x := .inr l1) C hR hS hw (Or.inl (by decide)) rfl in_X9 tyX9 tyX9_ok nmX9 (by decide) q617 (fun _ h => h) rfl hmn rfl (tw_nr _ _) dX9_init_6 (fun σ H locs hw hR hS => ?_)
  refine tk_aload_n C hl 0 dX9_init_9 rfl ?_
  refine tk_aload_n C hl 2 dX9_init_10 rfl ?_
  refine tk_pF (x := .inr l2) C hR hS hw (Or.inl (by decide)) rfl in_X9 tyX9 tyX9_ok nmX9 (by decide) q618 (fun _ h => h) rfl hmn rfl (tw_nr _ _) dX9_init_11 (fun σ H locs hw hR hS => ?_)
  refine tk_aload_n C hl 0 dX9_init_14 rfl ?_
  refine tk_aload_n C hl 2 dX9_init_15 rfl ?_
  refine tk_grN C hR hw rfl in_X3 (by decide) q210 (fun _ h => h) dX9_init_16 (fun x1 hw => ?_)
  obtain ⟨hv, hw⟩ := hw
  refine tw_cbi5 C hS (tk_runF (As := []) (x := ⟨"java/util/List", "size", "()I"⟩) C hR hS (wk_J6_size l C.hst G (R.frames - 1) (by omega) _ _ _ σ hw) hv rfl q586 q447 q449 q73 q451 (by decide +kernel) (show tw_pd ⟨"java/util/List", "size", "()I"⟩ 0 by decide +kernel) ⟨by omega, by omega⟩ hl.1 rfl (tw_r8 [.inr l0] (Nat.le_of_ble_eq_true rfl)) dX9_init_19) (fun E q σ H locs hX hR hS hi => tw_out C hR hS (fun x hx => (hnx x hx).elim) hi hX) (fun x2 σ H locs hw hR hS => ?_)
  refine lv_iconst (v := 1) C.hx C.hb dX9_init_24 (by decide) ?_
  refine lv_iadd C.hx C.hb dX9_init_25 ?_
  refine tk_pF (x := .inl (x2 + 1)) C hR hS hw (Or.inl (by decide)) rfl in_X9 tyX9 tyX9_ok nmX9 (by decide) q619 (fun _ h => h) rfl hmn rfl (tw_ni _) dX9_init_26 (fun σ H locs hw hR hS => ?_)
  refine tk_aload_n C hl 0 dX9_init_29 rfl ?_
  refine tk_aload_n C hl 1 dX9_init_30 rfl ?_
  refine tk_grN C hR hw rfl in_X3 (by decide) q210 (fun _ h => h) dX9_init_31 (fun x3 hw => ?_)
  obtain ⟨hv, hw⟩ := hw
  refine tw_cbi5 C hS (tk_runF (As := []) (x := ⟨"java/util/List", "size", "()I"⟩) C hR hS (wk_J6_size l C.hst G (R.frames - 1) (by omega) _ _ _ σ hw) hv rfl q586 q447 q449 q73 q451 (by decide +kernel) (show tw_pd ⟨"java/util/List", "size", "()I"⟩ 0 by decide +kernel) ⟨by omega, by omega⟩ hl.1 rfl (tw_r8 [.inr l0] (Nat.le_of_ble_eq_true rfl)) dX9_init_34) (fun E q σ H locs hX hR hS hi => tw_out C hR hS (fun x hx => (hnx x hx).elim) hi hX) (fun x4 σ H locs hw hR hS => ?_)
  refine lv_iconst (v := 1) C.hx C.hb dX9_init_39 (by decide) ?_
  refine lv_iadd C.hx C.hb dX9_init_40 ?_
  refine tk_aload_n C hl 0 dX9_init_41 rfl ?_
  refine tk_gi C hR hw rfl in_X9 (by decide) q619 (fun _ h => h) dX9_init_42 (fun x5 hw => ?_)
  refine lv_imul C.hx C.hb dX9_init_45 ?_
  refine tk_na (t := 0) (atype := .int) C hR hS hw q630 rfl (fun h => h) (fun _ _ => rfl) (by decide) dX9_init_46 (fun q6 σ H hw hR hS => ?_)
  refine tk_pF (x := .inr q6) C hR hS hw (Or.inl (by decide)) rfl in_X9 tyX9 tyX9_ok nmX9 (by decide) q620 (fun _ h => h) rfl hmn rfl (tw_nrA _ _) dX9_init_48 (fun σ H locs hw hR hS => ?_)
  refine tk_aload_n C hl 1 dX9_init_51 rfl ?_
  refine tk_grN C hR hw rfl in_X3 (by decide) q210 (fun _ h => h) dX9_init_52 (fun x7 hw => ?_)
  obtain ⟨hv, hw⟩ := hw
  refine tw_cbi5 C hS (tk_runF (As := []) (x := ⟨"java/util/List", "size", "()I"⟩) C hR hS (wk_J6_size l C.hst G (R.frames - 1) (by omega) _ _ _ σ hw) hv rfl q586 q447 q449 q73 q451 (by decide +kernel) (show tw_pd ⟨"java/util/List", "size", "()I"⟩ 0 by decide +kernel) ⟨by omega, by omega⟩ hl.1 rfl (tw_r8 [] (Nat.le_of_ble_eq_true rfl)) dX9_init_55) (fun E q σ H locs hX hR hS hi => tw_out C hR hS (fun x hx => (hnx x hx).elim) hi hX) (fun x8 σ H locs hw hR hS => ?_)
  refine tk_istore_n (L' := [(3, .inl x8), (0, .inr l0), (1, .inr l1), (2, .inr l2)]) C hl dX9_init_60 (by decide) rfl (fun ls hl => ?_)
  obtain ⟨z, hw⟩ := hw
  exact wk_X9_init_b61 C hr hmn hnx hfr hRl hrf_X1_cost z _ _ _ σ _ _ _ hw hR hS (tk_sub hl [1, 3, 0] rfl)
-- TreeDiffer.cost(LTreeDiffer$Node;LTreeDiffer$Node;)I
def w_X1_cost_b30 (rf_X1_cost : (Option Nat) → (Option Nat) → (Int32 → Tst → Prop) → (String → Nat → Tst → Prop) → Tst → Prop) (Q : Int32 → Tst → Prop) (X : String → Nat → Tst → Prop) (l0 : Option Nat) (l1 : Option Nat) (l2 : Int32) (σ : Tst) : Prop := w_rc σ l0 cX3 <| w_X3_size 64 l0 (fun x1 σ => w_rc σ l1 cX3 <| w_X3_size 64 l1 (fun x2 σ => Q (l2 + (2 * ((x1 + x2) - 2))) σ) X σ) X σ
def w_X1_cost : Nat → Option Nat → Option Nat → (Int32 → Tst → Prop) → (String → Nat → Tst → Prop) → Tst → Prop
  | 0, _, _, _, _, _ => False
  | d + 1, l0, l1, Q, X, σ => w_X1_pairCost l0 l1 (fun x1 σ => w_gr σ l0 cX3 4 fun x2 => w_rc σ x2 cJ6 <| w_J6_isEmpty x2 (fun x3 σ => w_if (x3 = 0) (w_gr σ l1 cX3 4 fun x4 => w_rc σ x4 cJ6 <| w_J6_isEmpty x4 (fun x5 σ => w_if (x5 = 0) (w_nw σ cX9 4 [.inr none, .inr none, .inl 0, .inr none] fun q6 σ => w_rf q6 <| w_X9_init (w_X1_cost d) q6 l0 l1 (fun σ => w_rc σ q6 cX9 <| w_X9_at q6 0 0 (fun x8 σ => Q (x1 + x8) σ) X σ) X σ) (w_X1_cost_b30 (w_X1_cost d) Q X l0 l1 x1 σ)) X σ) (w_X1_cost_b30 (w_X1_cost d) Q X l0 l1 x1 σ)) X σ) X σ
set_option maxHeartbeats 4000000 in
theorem wk_X1_cost_b30 {rf_X1_cost : (Option Nat) → (Option Nat) → (Int32 → Tst → Prop) → (String → Nat → Tst → Prop) → Tst → Prop} {frf_X1_cost : Nat}  (C : tw_C p l R s m args meth c G cX1_cost 3 yX1_cost.cls) (hr : meth.sig.returnType = (some .int)) (hmn : meth.name = yX1_cost.name) (hnx : (∀ x ∈ c.exceptionTable.toList, False)) (hfr : 71 ≤ R.frames ∧ frf_X1_cost + 4 ≤ R.frames) (hRl : R.locals = 40 * R.frames) {Q : Int32 → Tst → Prop} {X : String → Nat → Tst → Prop} (hrf_X1_cost : ∀ fr : Nat, frf_X1_cost ≤ fr → ∀ (a0 : Option Nat) (a1 : Option Nat) (Q : Int32 → Tst → Prop) (X : String → Nat → Tst → Prop) (σ : Tst), rf_X1_cost a0 a1 Q X σ → tw_M l yX1_cost (ws_ yX1_cost cX1_cost 3 (some .int)) fr (40 * fr) G σ [.inr a0, .inr a1] (tw_Qi G Q) X) (l0 : Option Nat) (l1 : Option Nat) (l2 : Int32) (σ : Tst) (H : Heap) (locs : List Loc) (ls : Array Slot) (hw : w_X1_cost_b30 rf_X1_cost Q X l0 l1 l2 σ) (hR : tw_R G σ H) (hS : va_S (tw_A G) s.heap H locs) (hl : tw_l ls 3 [(0, .inr l0), (1, .inr l1), (2, .inl l2)]) : tw_W p l e R s m args below meth c σ H locs (tw_E below G (tw_Qi G Q) X args s R) (F0 m 30 ls []) := by
  unfold w_X1_cost_b30 at hw
  refine tk_iload_n C hl 2 dX1_cost_30 rfl ?_
  refine lv_iconst (v := 2) C.hx C.hb dX1_cost_31 (by decide) ?_
  refine tk_aload_n C hl 0 dX1_cost_32 rfl ?_
  obtain ⟨hv, hw⟩ := hw
  refine tw_cbi C hS (tk_runV (As := []) C hR hS (wk_X3_size l C.hst G 64 (R.frames - 1) (by omega) _ _ _ σ hw) hv rfl q286 q287 q288 q70 q289 pd_X3_size ⟨by omega, by omega⟩ hl.1 rfl (tw_r8 [.inl 2, .inl l2] (Nat.le_of_ble_eq_true rfl)) dX1_cost_33) (fun E q σ H locs hX hR hS hi => tw_out C hR hS (fun x hx => (hnx x hx).elim) hi hX) (fun x1 σ H locs hw hR hS => ?_)
  refine tk_aload_n C hl 1 dX1_cost_36 rfl ?_
  obtain ⟨hv, hw⟩ := hw
  refine tw_cbi C hS (tk_runV (As := []) C hR hS (wk_X3_size l C.hst G 64 (R.frames - 1) (by omega) _ _ _ σ hw) hv rfl q286 q287 q288 q70 q289 pd_X3_size ⟨by omega, by omega⟩ hl.1 rfl (tw_r8 [.inl x1, .inl 2, .inl l2] (Nat.le_of_ble_eq_true rfl)) dX1_cost_37) (fun E q σ H locs hX hR hS hi => tw_out C hR hS (fun x hx => (hnx x hx).elim) hi hX) (fun x2 σ H locs hw hR hS => ?_)
  refine lv_iadd C.hx C.hb dX1_cost_40 ?_
  refine lv_iconst (v := 2) C.hx C.hb dX1_cost_41 (by decide) ?_
  refine lv_isub C.hx C.hb dX1_cost_42 ?_
  refine lv_imul C.hx C.hb dX1_cost_43 ?_
  refine lv_iadd C.hx C.hb dX1_cost_44 ?_
  exact tw_iret C hR hS hr rfl dX1_cost_45 hw
set_option maxHeartbeats 4000000 in
theorem wk_X1_cost (l : Launch) (hl0 : l.stackTraces = false) (G : Tgl)  : ∀ (d fr : Nat), 71 + 4 * d ≤ fr → ∀ (l0 : Option Nat) (l1 : Option Nat) (Q : Int32 → Tst → Prop) (X : String → Nat → Tst → Prop) (σ : Tst), w_X1_cost d l0 l1 Q X σ → tw_M l yX1_cost (ws_ yX1_cost cX1_cost 3 (some .int)) fr (40 * fr) G σ [.inr l0, .inr l1] (tw_Qi G Q) X := by
  intro d
  induction d with
  | zero => intro fr hfr l0 l1 Q X σ hw; exact False.elim hw
  | succ d ih =>
    intro fr hfr l0 l1 Q X σ hw
    have hrf_X1_cost := fun (fr : Nat) (h : 71 + 4 * d ≤ fr) => ih fr (by omega)
    rw [w_X1_cost] at hw
    generalize hg : w_X1_cost d = rf_X1_cost at hw hrf_X1_cost
    clear hg ih
    obtain ⟨frf_X1_cost, hfrf_X1_cost⟩ : ∃ f, f = 71 + 4 * d := ⟨_, rfl⟩
    rw [← hfrf_X1_cost] at hrf_X1_cost
    have hfr : 71 ≤ fr ∧ frf_X1_cost + 4 ≤ fr := by refine ⟨?_, ?_⟩ <;> omega
    refine tw_of (ret := (some .int)) hl0 (by decide) (Nat.le_of_ble_eq_true rfl) (fun p e R s m args below meth c hRf hRl C hr hmn hnx hR hS ls hl => ?_)
    have hfr : 71 ≤ R.frames ∧ frf_X1_cost + 4 ≤ R.frames := by rw [hRf]; exact hfr
    have hRl : R.locals = 40 * R.frames := by rw [hRl, hRf]
    have hl : tw_l ls 3 [(0, .inr l0), (1, .inr l1)] := hl
    refine tk_aload_n C hl 0 dX1_cost_0 rfl ?_
    refine tk_aload_n C hl 1 dX1_cost_1 rfl ?_
    refine tw_cbi C hS (tw_runS (As := [.inr l0, .inr l1]) C hR hS (wk_X1_pairCost l C.hst G (R.frames - 1) (by omega) _ _ _ _ σ hw) q273 q274 q64 q275 pd_X1_pairCost ⟨by omega, by omega⟩ hl.1 rfl (tw_r8 [] (Nat.le_of_ble_eq_true rfl)) dX1_cost_2) (fun E q σ H locs hX hR hS hi => tw_out C hR hS (fun x hx => (hnx x hx).elim) hi hX) (fun x1 σ H locs hw hR hS => ?_)
    refine tk_istore_n (L' := [(2, .inl x1), (0, .inr l0), (1, .inr l1)]) C hl dX1_cost_5 (by decide) rfl (fun ls hl => ?_)
    refine tk_aload_n C hl 1 dX1_cost_6 rfl ?_
    refine tk_grN C hR hw rfl in_X3 (by decide) q214 (fun _ h => h) dX1_cost_7 (fun x2 hw => ?_)
    obtain ⟨hv, hw⟩ := hw
    refine tw_cbi5 C hS (tk_runF (As := []) (x := ⟨"java/util/List", "isEmpty", "()Z"⟩) C hR hS (wk_J6_isEmpty l C.hst G (R.frames - 1) (by omega) _ _ _ σ hw) hv rfl q277 q281 q283 q73 q285 (by decide +kernel) (show tw_pd ⟨"java/util/List", "isEmpty", "()Z"⟩ 0 by decide +kernel) ⟨by omega, by omega⟩ hl.1 rfl (tw_r8 [] (Nat.le_of_ble_eq_true rfl)) dX1_cost_10) (fun E q σ H locs hX hR hS hi => tw_out C hR hS (fun x hx => (hnx x hx).elim) hi hX) (fun x3 σ H locs hw hR hS => ?_)
    refine lv_if_ne (tgt := 30) C.hx C.hb dX1_cost_15 (by decide) (fun c15 => ?_) (fun c15 => ?_)
    · replace hw := hw.2 c15
      exact wk_X1_cost_b30 C hr hmn hnx hfr hRl hrf_X1_cost _ _ _ σ _ _ _ hw hR hS (tk_sub hl [1, 2, 0] rfl)
    · replace hw := hw.1 c15
      refine tk_aload_n C hl 2 dX1_cost_18 rfl ?_
      refine tk_grN C hR hw rfl in_X3 (by decide) q214 (fun _ h => h) dX1_cost_19 (fun x4 hw => ?_)
      obtain ⟨hv, hw⟩ := hw
      refine tw_cbi5 C hS (tk_runF (As := []) (x := ⟨"java/util/List", "isEmpty", "()Z"⟩) C hR hS (wk_J6_isEmpty l C.hst G (R.frames - 1) (by omega) _ _ _ σ hw) hv rfl q277 q281 q283 q73 q285 (by decide +kernel) (show tw_pd ⟨"java/util/List", "isEmpty", "()Z"⟩ 0 by decide +kernel) ⟨by omega, by omega⟩ hl.1 rfl (tw_r8 [] (Nat.le_of_ble_eq_true rfl)) dX1_cost_22) (fun E q σ H locs hX hR hS hi => tw_out C hR hS (fun x hx => (hnx x hx).elim) hi hX) (fun x5 σ H locs hw hR hS => ?_)
      refine lv_if_eq (tgt := 46) C.hx C.hb dX1_cost_27 (by decide) (fun c27 => ?_) (fun c27 => ?_)
      · replace hw := hw.1 c27
        refine tk_iload_n C hl 0 dX1_cost_46 rfl ?_
        refine tk_nw C hR hS hw rfl in_X9 tyX9 tyX9_ok q579 q580 q100 (fun j hj => by rcases (show j = 0 ∨ j = 1 ∨ j = 2 ∨ j = 3 by omega) with rfl | rfl | rfl | rfl <;> rfl) dX1_cost_47 (fun q6 σ H hw hR hS => ?_)
        refine tw_dup (x := .inr q6) C.hx C.hb dX1_cost_50 ?_
        refine tk_aload_n C hl 1 dX1_cost_51 rfl ?_
        refine tk_aload_n C hl 2 dX1_cost_52 rfl ?_
        obtain ⟨hv, hw⟩ := hw
        refine tw_cbv C hS (tk_runI (As := [.inr l0, .inr l1]) hv C hR hS (wk_X9_init l C.hst G (R.frames - 1) hrf_X1_cost (by omega) _ _ _ _ _ σ hw) q581 q582 q100 q583 rfl pd_X9_init ⟨by omega, by omega⟩ hl.1 rfl (tw_r8 [.inr q6, .inl x1] (Nat.le_of_ble_eq_true rfl)) dX1_cost_53) (fun E q σ H locs hX hR hS hi => tw_out C hR hS (fun x hx => (hnx x hx).elim) hi hX) (fun σ H locs hw hR hS => ?_)
        refine lv_iconst (v := 0) C.hx C.hb dX1_cost_56 (by decide) ?_
        refine lv_iconst (v := 0) C.hx C.hb dX1_cost_57 (by decide) ?_
        obtain ⟨hv, hw⟩ := hw
        refine tw_cbi C hS (tk_runV (As := [.inl 0, .inl 0]) C hR hS (wk_X9_at l C.hst G (R.frames - 1) (by omega) _ _ _ _ _ σ hw) hv rfl q631 q600 q601 q100 q602 pd_X9_at ⟨by omega, by omega⟩ hl.1 rfl (tw_r8 [.inl x1] (Nat.le_of_ble_eq_true rfl)) dX1_cost_58) (fun E q σ H locs hX hR hS hi => tw_out C hR hS (fun x hx => (hnx x hx).elim) hi hX) (fun x8 σ H locs hw hR hS => ?_)
        refine lv_iadd C.hx C.hb dX1_cost_61 ?_
        exact tw_iret C hR hS hr rfl dX1_cost_62 hw
      · replace hw := hw.2 c27
        exact wk_X1_cost_b30 C hr hmn hnx hfr hRl hrf_X1_cost _ _ _ σ _ _ _ hw hR hS (tk_sub hl [1, 2, 0] rfl)
-- TreeDiffer.distance(II)I
def w_X1_distance (l0 : Option Nat) (l1 : Int32) (l2 : Int32) (Q : Int32 → Tst → Prop) (X : String → Nat → Tst → Prop) (σ : Tst) : Prop := w_rc σ l0 cX1 <| w_X1_treeOf l0 l1 (fun x1 σ => w_gr σ x1 cX2 0 fun x2 => w_rc σ l0 cX1 <| w_X1_treeOf l0 l2 (fun x3 σ => w_gr σ x3 cX2 0 fun x4 => w_X1_cost 64 x2 x4 (fun x5 σ => Q x5 σ) X σ) X σ) X σ
set_option maxHeartbeats 4000000 in
theorem wk_X1_distance (l : Launch) (hl0 : l.stackTraces = false) (G : Tgl) (fr : Nat)  (hfr : 328 ≤ fr) (l0 : Option Nat) (l1 : Int32) (l2 : Int32) (Q : Int32 → Tst → Prop) (X : String → Nat → Tst → Prop) (σ : Tst) (hw : w_X1_distance l0 l1 l2 Q X σ) : tw_M l yX1_distance (ws_ yX1_distance cX1_distance 4 (some .int)) fr (40 * fr) G σ [.inr l0, .inl l1, .inl l2] (tw_Qi G Q) X := by
  unfold w_X1_distance at hw
  refine tw_of (ret := (some .int)) hl0 (by decide) (Nat.le_of_ble_eq_true rfl) (fun p e R s m args below meth c hRf hRl C hr hmn hnx hR hS ls hl => ?_)
  have hfr : 328 ≤ R.frames := by rw [hRf]; exact hfr
  have hRl : R.locals = 40 * R.frames := by rw [hRl, hRf]
  have hl : tw_l ls 4 [(0, .inr l0), (1, .inl l1), (2, .inl l2)] := hl
  refine tk_aload_n C hl 0 dX1_distance_0 rfl ?_
  refine tk_iload_n C hl 1 dX1_distance_1 rfl ?_
  obtain ⟨hv, hw⟩ := hw
  refine tw_cbq C hS (tk_runV (As := [.inl l1]) C hR hS (wk_X1_treeOf l C.hst G (R.frames - 1) (by omega) _ _ _ _ σ hw) hv rfl q1581 q1583 qs16 q64 q1584 pd_X1_treeOf ⟨by omega, by omega⟩ hl.1 rfl (tw_r8 [] (Nat.le_of_ble_eq_true rfl)) dX1_distance_2) (fun E q σ H locs hX hR hS hi => tw_out C hR hS (fun x hx => (hnx x hx).elim) hi hX) (fun x1 σ H locs hw hR hS => ?_)
  refine tk_astore_n (L' := [(3, .inr x1), (0, .inr l0), (1, .inl l1), (2, .inl l2)]) C hl dX1_distance_5 (by decide) rfl (fun ls hl => ?_)
  refine tk_aload_n C hl 0 dX1_distance_6 rfl ?_
  refine tk_grN C hR hw rfl in_X2 (by decide) q242 (fun _ h => h) dX1_distance_7 (fun x2 hw => ?_)
  refine tk_aload_n C hl 1 dX1_distance_10 rfl ?_
  refine tk_iload_n C hl 3 dX1_distance_11 rfl ?_
  obtain ⟨hv, hw⟩ := hw
  refine tw_cbq C hS (tk_runV (As := [.inl l2]) C hR hS (wk_X1_treeOf l C.hst G (R.frames - 1) (by omega) _ _ _ _ σ hw) hv rfl q1581 q1583 qs16 q64 q1584 pd_X1_treeOf ⟨by omega, by omega⟩ hl.1 rfl (tw_r8 [.inr x2] (Nat.le_of_ble_eq_true rfl)) dX1_distance_12) (fun E q σ H locs hX hR hS hi => tw_out C hR hS (fun x hx => (hnx x hx).elim) hi hX) (fun x3 σ H locs hw hR hS => ?_)
  refine tk_grN C hR hw rfl in_X2 (by decide) q242 (fun _ h => h) dX1_distance_15 (fun x4 hw => ?_)
  refine tw_cbi C hS (tw_runS (As := [.inr x2, .inr x4]) C hR hS (wk_X1_cost l C.hst G 64 (R.frames - 1) (by omega) _ _ _ _ σ hw) q270 q271 q64 q272 pd_X1_cost ⟨by omega, by omega⟩ hl.1 rfl (tw_r8 [] (Nat.le_of_ble_eq_true rfl)) dX1_distance_18) (fun E q σ H locs hX hR hS hi => tw_out C hR hS (fun x hx => (hnx x hx).elim) hi hX) (fun x5 σ H locs hw hR hS => ?_)
  exact tw_iret C hR hS hr rfl dX1_distance_21 hw
-- TreeDifferLaw.distance(LTreeDiffer;II[J)I
def w_X0_distance_b13 (Q : Int32 → Tst → Prop) (X : String → Nat → Tst → Prop) (s0 : Option Nat) (σ : Tst) : Prop := Q 1 σ
def w_X0_distance (l0 : Option Nat) (l1 : Int32) (l2 : Int32) (l3 : Option Nat) (Q : Int32 → Tst → Prop) (X : String → Nat → Tst → Prop) (σ : Tst) : Prop := w_rc σ l0 cX1 <| w_X1_distance l0 l1 l2 (fun x1 σ => w_sl σ l3 0 (x1.toInt64) fun σ => Q 0 σ) (fun E q σ => w_if (E = "java/lang/IndexOutOfBoundsException") (w_X0_distance_b13 Q X (some q) σ) (False)) σ
set_option maxHeartbeats 4000000 in
theorem wk_X0_distance_b13  (C : tw_C p l R s m args meth c G cX0_distance 5 yX0_distance.cls) (hr : meth.sig.returnType = (some .int)) (hmn : meth.name = yX0_distance.name) (hnx : (c.exceptionTable.toList = tableOf [(0, 10, 13, 19)])) (hfr : 329 ≤ R.frames) (hRl : R.locals = 40 * R.frames) {Q : Int32 → Tst → Prop} {X : String → Nat → Tst → Prop}  (s0 : Option Nat) (σ : Tst) (H : Heap) (locs : List Loc) (ls : Array Slot) (hw : w_X0_distance_b13 Q X s0 σ) (hR : tw_R G σ H) (hS : va_S (tw_A G) s.heap H locs) (hl : tw_l ls 5 []) : tw_W p l e R s m args below meth c σ H locs (tw_E below G (tw_Qi G Q) X args s R) (F0 m 13 ls [va_rf s0]) := by
  unfold w_X0_distance_b13 at hw
  refine tk_astore (L' := [(4, .inr s0)]) C hl dX0_distance_13 (by decide) rfl (fun ls hl => ?_)
  refine lv_iconst (v := 1) C.hx C.hb dX0_distance_15 (by decide) ?_
  exact tw_iret C hR hS hr rfl dX0_distance_16 hw
set_option maxHeartbeats 4000000 in
theorem wk_X0_distance (l : Launch) (hl0 : l.stackTraces = false) (G : Tgl) (fr : Nat)  (hfr : 329 ≤ fr) (l0 : Option Nat) (l1 : Int32) (l2 : Int32) (l3 : Option Nat) (Q : Int32 → Tst → Prop) (X : String → Nat → Tst → Prop) (σ : Tst) (hw : w_X0_distance l0 l1 l2 l3 Q X σ) : tw_M l yX0_distance (wsW_ yX0_distance cX0_distance 5 (some .int) [(0, 10, 13, 19)]) fr (40 * fr) G σ [.inr l0, .inl l1, .inl l2, .inr l3] (tw_Qi G Q) X := by
  unfold w_X0_distance at hw
  refine tw_ofW (ret := (some .int)) (hh := [(0, 10, 13, 19)]) hl0 (by decide) (Nat.le_of_ble_eq_true rfl) (fun p e R s m args below meth c hRf hRl C hr hmn hnx hR hS ls hl => ?_)
  have hfr : 329 ≤ R.frames := by rw [hRf]; exact hfr
  have hRl : R.locals = 40 * R.frames := by rw [hRl, hRf]
  have hl : tw_l ls 5 [(0, .inr l0), (1, .inl l1), (2, .inl l2), (3, .inr l3)] := hl
  refine tk_aload_n C hl 3 dX0_distance_0 rfl ?_
  refine lv_iconst (v := 0) C.hx C.hb dX0_distance_1 (by decide) ?_
  refine tk_aload_n C hl 0 dX0_distance_2 rfl ?_
  refine tk_iload_n C hl 1 dX0_distance_3 rfl ?_
  refine tk_iload_n C hl 2 dX0_distance_4 rfl ?_
  obtain ⟨hv, hw⟩ := hw
  refine tw_cbi C hS (tk_runV (As := [.inl l1, .inl l2]) C hR hS (wk_X1_distance l C.hst G (R.frames - 1) (by omega) _ _ _ _ _ σ hw) hv rfl q1801 q1802 q1803 q64 q1804 pd_X1_distance ⟨by omega, by omega⟩ hl.1 rfl (tw_r8 [.inl 0, .inr l3] (Nat.le_of_ble_eq_true rfl)) dX0_distance_5) (fun E q σ H locs hX hR hS hi => ?_) (fun x1 σ H locs hw hR hS => ?_)
  · by_cases cE0 : E = "java/lang/IndexOutOfBoundsException"
    · replace hX := hX.1 cE0
      subst cE0
      refine tw_catch C hnx [] (0, 10, 13, 19) [] rfl (fun z hz => nomatch hz) rfl (by decide) q1394 q687 hi ?_
      exact wk_X0_distance_b13 C hr hmn hnx hfr hRl _ σ _ _ _ hX hR hS (tk_sub hl [] rfl)
    replace hX := hX.2 cE0
    exact hX.elim
  refine lv_i2l (v := x1.toInt64) C.hx C.hb dX0_distance_8 rfl ?_
  refine tk_sl C hR hS hw dX0_distance_9 (fun σ H locs hw hR hS => ?_)
  refine lv_goto (tgt := 17) C.hx C.hb dX0_distance_10 (by decide) ?_
  refine lv_iconst (v := 0) C.hx C.hb dX0_distance_17 (by decide) ?_
  exact tw_iret C hR hS hr rfl dX0_distance_18 hw
-- TreeDiffer.tried(LTreeDiffer$Node;LTreeDiffer$Node;II)I
def w_X1_tried_b19 (rf_X1_tried : (Option Nat) → (Option Nat) → Int32 → Int32 → (Int32 → Tst → Prop) → (String → Nat → Tst → Prop) → Tst → Prop) (Q : Int32 → Tst → Prop) (X : String → Nat → Tst → Prop) : Nat → Option Nat → Int32 → Int32 → Tst → Prop
  | 0, _, _, _, _ => False
  | n + 1, l1, l4, l5, σ => w_gr σ l1 cX3 4 fun x1 => w_rc σ x1 cJ6 <| w_J6_size x1 (fun x2 σ => w_if (x2 ≤ l5) (Q l4 σ) (w_gr σ l1 cX3 4 fun x3 => w_rc σ x3 cJ6 <| w_J6_get x3 l5 (fun x4 σ => w_cc σ x4 cX3 <| w_rc σ x4 cX3 <| w_X3_size 64 x4 (fun x5 σ => (w_X1_tried_b19 rf_X1_tried Q X n) l1 (l4 + (2 * x5)) (l5 + 1) σ) X σ) X σ)) X σ
def w_X1_tried_b189 (rf_X1_tried : (Option Nat) → (Option Nat) → Int32 → Int32 → (Int32 → Tst → Prop) → (String → Nat → Tst → Prop) → Tst → Prop) (k106 : Option Nat → Option Nat → Int32 → Option Nat → Int32 → Int32 → Int32 → Tst → Prop) (Q : Int32 → Tst → Prop) (X : String → Nat → Tst → Prop) (l0 : Option Nat) (l1 : Option Nat) (l2 : Int32) (l4 : Option Nat) (l5 : Int32) (l6 : Int32) (l7 : Int32) (l8 : Option Nat) (σ : Tst) : Prop := w_rc σ l8 cX3 <| w_X3_size 64 l8 (fun x1 σ => k106 l0 l1 l2 l4 l5 (l6 + (2 * x1)) (l7 + 1) σ) X σ
def w_X1_tried_b106 (rf_X1_tried : (Option Nat) → (Option Nat) → Int32 → Int32 → (Int32 → Tst → Prop) → (String → Nat → Tst → Prop) → Tst → Prop) (Q : Int32 → Tst → Prop) (X : String → Nat → Tst → Prop) : Nat → Option Nat → Option Nat → Int32 → Option Nat → Int32 → Int32 → Int32 → Tst → Prop
  | 0, _, _, _, _, _, _, _, _ => False
  | n + 1, l0, l1, l2, l4, l5, l6, l7, σ => w_gr σ l1 cX3 4 fun x1 => w_rc σ x1 cJ6 <| w_J6_size x1 (fun x2 σ => w_if (x2 ≤ l7) (Q l5 σ) (w_gr σ l1 cX3 4 fun x3 => w_rc σ x3 cJ6 <| w_J6_get x3 l7 (fun x4 σ => w_cc σ x4 cX3 <| w_gi σ l4 cX3 1 fun x5 => w_gi σ x4 cX3 1 fun x6 => w_if (x5 = x6) (w_X1_pairCost l4 x4 (fun x7 σ => rf_X1_tried l4 x4 0 0 (fun x8 σ => rf_X1_tried l0 l1 (l2 + 1) (l7 + 1) (fun x9 σ => w_X1_tried_b189 rf_X1_tried (w_X1_tried_b106 rf_X1_tried Q X n) Q X l0 l1 l2 l4 (if (((l6 + x7) + x8) + x9) < l5 then (((l6 + x7) + x8) + x9) else l5) l6 l7 x4 σ) X σ) X σ) X σ) (w_X1_tried_b189 rf_X1_tried (w_X1_tried_b106 rf_X1_tried Q X n) Q X l0 l1 l2 l4 l5 l6 l7 x4 σ)) X σ)) X σ
def w_X1_tried : Nat → Option Nat → Option Nat → Int32 → Int32 → (Int32 → Tst → Prop) → (String → Nat → Tst → Prop) → Tst → Prop
  | 0, _, _, _, _, _, _, _ => False
  | d + 1, l0, l1, l2, l3, Q, X, σ => w_gr σ l0 cX3 4 fun x1 => w_rc σ x1 cJ6 <| w_J6_size x1 (fun x2 σ => w_if (l2 = x2) (∃ z, w_X1_tried_b19 (w_X1_tried d) Q X z l1 0 l3 σ) (w_gr σ l0 cX3 4 fun x3 => w_rc σ x3 cJ6 <| w_J6_get x3 l2 (fun x4 σ => w_cc σ x4 cX3 <| w_rc σ x4 cX3 <| w_X3_size 64 x4 (fun x5 σ => (w_X1_tried d) l0 l1 (l2 + 1) l3 (fun x6 σ => ∃ z, w_X1_tried_b106 (w_X1_tried d) Q X z l0 l1 l2 x4 ((2 * x5) + x6) 0 l3 σ) X σ) X σ) X σ)) X σ
set_option maxHeartbeats 4000000 in
theorem wk_X1_tried_b19 {rf_X1_tried : (Option Nat) → (Option Nat) → Int32 → Int32 → (Int32 → Tst → Prop) → (String → Nat → Tst → Prop) → Tst → Prop} {frf_X1_tried : Nat}  (C : tw_C p l R s m args meth c G cX1_tried 9 yX1_tried.cls) (hr : meth.sig.returnType = (some .int)) (hmn : meth.name = yX1_tried.name) (hnx : (∀ x ∈ c.exceptionTable.toList, False)) (hfr : 68 ≤ R.frames ∧ frf_X1_tried + 1 ≤ R.frames) (hRl : R.locals = 40 * R.frames) {Q : Int32 → Tst → Prop} {X : String → Nat → Tst → Prop} (hrf_X1_tried : ∀ fr : Nat, frf_X1_tried ≤ fr → ∀ (a0 : Option Nat) (a1 : Option Nat) (a2 : Int32) (a3 : Int32) (Q : Int32 → Tst → Prop) (X : String → Nat → Tst → Prop) (σ : Tst), rf_X1_tried a0 a1 a2 a3 Q X σ → tw_M l yX1_tried (ws_ yX1_tried cX1_tried 9 (some .int)) fr (40 * fr) G σ [.inr a0, .inr a1, .inl a2, .inl a3] (tw_Qi G Q) X) : ∀ (n : Nat) (l1 : Option Nat) (l4 : Int32) (l5 : Int32) (σ : Tst) (H : Heap) (locs : List Loc) (ls : Array Slot), w_X1_tried_b19 rf_X1_tried Q X n l1 l4 l5 σ → tw_R G σ H → va_S (tw_A G) s.heap H locs → tw_l ls 9 [(1, .inr l1), (4, .inl l4), (5, .inl l5)] → tw_W p l e R s m args below meth c σ H locs (tw_E below G (tw_Qi G Q) X args s R) (F0 m 19 ls []) := by
  intro n
  induction n with
  | zero => intro l1 l4 l5 σ H locs ls hw; exact False.elim hw
  | succ n hk19 =>
    intro l1 l4 l5 σ H locs ls hw hR hS hl
    rw [w_X1_tried_b19] at hw
    refine tk_iload C hl 2 dX1_tried_19 rfl ?_
    refine tk_aload_n C hl 0 dX1_tried_21 rfl ?_
    refine tk_grN C hR hw rfl in_X3 (by decide) q214 (fun _ h => h) dX1_tried_22 (fun x1 hw => ?_)
    obtain ⟨hv, hw⟩ := hw
    refine tw_cbi5 C hS (tk_runF (As := []) (x := ⟨"java/util/List", "size", "()I"⟩) C hR hS (wk_J6_size l C.hst G (R.frames - 1) (by omega) _ _ _ σ hw) hv rfl q648 q447 q449 q73 q451 (by decide +kernel) (show tw_pd ⟨"java/util/List", "size", "()I"⟩ 0 by decide +kernel) ⟨by omega, by omega⟩ hl.1 rfl (tw_r8 [.inl l5] (Nat.le_of_ble_eq_true rfl)) dX1_tried_25) (fun E q σ H locs hX hR hS hi => tw_out C hR hS (fun x hx => (hnx x hx).elim) hi hX) (fun x2 σ H locs hw hR hS => ?_)
    refine lv_icmp_ge (tgt := 63) C.hx C.hb dX1_tried_30 (by decide) (fun c30 => ?_) (fun c30 => ?_)
    · replace hw := hw.1 c30
      refine tk_iload C hl 1 dX1_tried_63 rfl ?_
      exact tw_iret C hR hS hr rfl dX1_tried_65 hw
    · replace hw := hw.2 c30
      refine tk_iload C hl 1 dX1_tried_33 rfl ?_
      refine lv_iconst (v := 2) C.hx C.hb dX1_tried_35 (by decide) ?_
      refine tk_aload_n C hl 0 dX1_tried_36 rfl ?_
      refine tk_grN C hR hw rfl in_X3 (by decide) q214 (fun _ h => h) dX1_tried_37 (fun x3 hw => ?_)
      refine tk_iload C hl 2 dX1_tried_40 rfl ?_
      obtain ⟨hv, hw⟩ := hw
      refine tw_cbq5 C hS (tk_runF (As := [.inl l5]) (x := ⟨"java/util/List", "get", "(I)Ljava/lang/Object;"⟩) C hR hS (wk_J6_get l C.hst G (R.frames - 1) (by omega) _ _ _ _ σ hw) hv rfl q650 q456 q458 q73 q460 (by decide +kernel) (show tw_pd ⟨"java/util/List", "get", "(I)Ljava/lang/Object;"⟩ 1 by decide +kernel) ⟨by omega, by omega⟩ hl.1 rfl (tw_r8 [.inl 2, .inl l4] (Nat.le_of_ble_eq_true rfl)) dX1_tried_42) (fun E q σ H locs hX hR hS hi => tw_out C hR hS (fun x hx => (hnx x hx).elim) hi hX) (fun x4 σ H locs hw hR hS => ?_)
      refine tk_cc C hR hw rfl q157 (Or.inl rfl) dX1_tried_47 (fun hw => ?_)
      obtain ⟨hv, hw⟩ := hw
      refine tw_cbi C hS (tk_runV (As := []) C hR hS (wk_X3_size l C.hst G 64 (R.frames - 1) (by omega) _ _ _ σ hw) hv rfl q286 q287 q288 q70 q289 pd_X3_size ⟨by omega, by omega⟩ hl.1 rfl (tw_r8 [.inl 2, .inl l4] (Nat.le_of_ble_eq_true rfl)) dX1_tried_50) (fun E q σ H locs hX hR hS hi => tw_out C hR hS (fun x hx => (hnx x hx).elim) hi hX) (fun x5 σ H locs hw hR hS => ?_)
      refine lv_imul C.hx C.hb dX1_tried_53 ?_
      refine lv_iadd C.hx C.hb dX1_tried_54 ?_
      refine tk_istore (L' := [(4, .inl (l4 + (2 * x5))), (1, .inr l1), (5, .inl l5)]) C hl dX1_tried_55 (by decide) rfl (fun ls hl => ?_)
      refine tk_iinc (L' := [(5, .inl (l5 + 1)), (4, .inl (l4 + (2 * x5))), (1, .inr l1)]) (y := (l5 + 1)) C hl 2 dX1_tried_57 rfl rfl (by decide) rfl (fun ls hl => ?_)
      refine lv_goto (tgt := 19) C.hx C.hb dX1_tried_60 (by decide) ?_
      exact hk19 _ _ _ σ _ _ _ hw hR hS (tk_sub hl [2, 1, 0] rfl)
set_option maxHeartbeats 4000000 in
theorem wk_X1_tried_b189 {rf_X1_tried : (Option Nat) → (Option Nat) → Int32 → Int32 → (Int32 → Tst → Prop) → (String → Nat → Tst → Prop) → Tst → Prop} {frf_X1_tried : Nat}  (C : tw_C p l R s m args meth c G cX1_tried 9 yX1_tried.cls) (hr : meth.sig.returnType = (some .int)) (hmn : meth.name = yX1_tried.name) (hnx : (∀ x ∈ c.exceptionTable.toList, False)) (hfr : 68 ≤ R.frames ∧ frf_X1_tried + 1 ≤ R.frames) (hRl : R.locals = 40 * R.frames) {Q : Int32 → Tst → Prop} {X : String → Nat → Tst → Prop} (hrf_X1_tried : ∀ fr : Nat, frf_X1_tried ≤ fr → ∀ (a0 : Option Nat) (a1 : Option Nat) (a2 : Int32) (a3 : Int32) (Q : Int32 → Tst → Prop) (X : String → Nat → Tst → Prop) (σ : Tst), rf_X1_tried a0 a1 a2 a3 Q X σ → tw_M l yX1_tried (ws_ yX1_tried cX1_tried 9 (some .int)) fr (40 * fr) G σ [.inr a0, .inr a1, .inl a2, .inl a3] (tw_Qi G Q) X) {k106 : Option Nat → Option Nat → Int32 → Option Nat → Int32 → Int32 → Int32 → Tst → Prop} (hk106 : ∀ (l0 : Option Nat) (l1 : Option Nat) (l2 : Int32) (l4 : Option Nat) (l5 : Int32) (l6 : Int32) (l7 : Int32) (σ : Tst) (H : Heap) (locs : List Loc) (ls : Array Slot), k106 l0 l1 l2 l4 l5 l6 l7 σ → tw_R G σ H → va_S (tw_A G) s.heap H locs → tw_l ls 9 [(0, .inr l0), (1, .inr l1), (2, .inl l2), (4, .inr l4), (5, .inl l5), (6, .inl l6), (7, .inl l7)] → tw_W p l e R s m args below meth c σ H locs (tw_E below G (tw_Qi G Q) X args s R) (F0 m 106 ls [])) (l0 : Option Nat) (l1 : Option Nat) (l2 : Int32) (l4 : Option Nat) (l5 : Int32) (l6 : Int32) (l7 : Int32) (l8 : Option Nat) (σ : Tst) (H : Heap) (locs : List Loc) (ls : Array Slot) (hw : w_X1_tried_b189 rf_X1_tried k106 Q X l0 l1 l2 l4 l5 l6 l7 l8 σ) (hR : tw_R G σ H) (hS : va_S (tw_A G) s.heap H locs) (hl : tw_l ls 9 [(0, .inr l0), (1, .inr l1), (2, .inl l2), (4, .inr l4), (5, .inl l5), (6, .inl l6), (7, .inl l7), (8, .inr l8)]) : tw_W p l e R s m args below meth c σ H locs (tw_E below G (tw_Qi G Q) X args s R) (F0 m 189 ls []) := by
  unfold w_X1_tried_b189 at hw
  refine tk_iload C hl 5 dX1_tried_189 rfl ?_
  refine lv_iconst (v := 2) C.hx C.hb dX1_tried_191 (by decide) ?_
  refine tk_aload C hl 7 dX1_tried_192 rfl ?_
  obtain ⟨hv, hw⟩ := hw
  refine tw_cbi C hS (tk_runV (As := []) C hR hS (wk_X3_size l C.hst G 64 (R.frames - 1) (by omega) _ _ _ σ hw) hv rfl q286 q287 q288 q70 q289 pd_X3_size ⟨by omega, by omega⟩ hl.1 rfl (tw_r8 [.inl 2, .inl l6] (Nat.le_of_ble_eq_true rfl)) dX1_tried_194) (fun E q σ H locs hX hR hS hi => tw_out C hR hS (fun x hx => (hnx x hx).elim) hi hX) (fun x1 σ H locs hw hR hS => ?_)
  refine lv_imul C.hx C.hb dX1_tried_197 ?_
  refine lv_iadd C.hx C.hb dX1_tried_198 ?_
  refine tk_istore (L' := [(6, .inl (l6 + (2 * x1))), (0, .inr l0), (1, .inr l1), (2, .inl l2), (4, .inr l4), (5, .inl l5), (7, .inl l7), (8, .inr l8)]) C hl dX1_tried_199 (by decide) rfl (fun ls hl => ?_)
  refine tk_iinc (L' := [(7, .inl (l7 + 1)), (6, .inl (l6 + (2 * x1))), (0, .inr l0), (1, .inr l1), (2, .inl l2), (4, .inr l4), (5, .inl l5), (8, .inr l8)]) (y := (l7 + 1)) C hl 6 dX1_tried_201 rfl rfl (by decide) rfl (fun ls hl => ?_)
  refine lv_goto (tgt := 106) C.hx C.hb dX1_tried_204 (by decide) ?_
  exact hk106 _ _ _ _ _ _ _ σ _ _ _ hw hR hS (tk_sub hl [2, 3, 4, 5, 6, 1, 0] rfl)
set_option maxHeartbeats 4000000 in
theorem wk_X1_tried_b106 {rf_X1_tried : (Option Nat) → (Option Nat) → Int32 → Int32 → (Int32 → Tst → Prop) → (String → Nat → Tst → Prop) → Tst → Prop} {frf_X1_tried : Nat}  (C : tw_C p l R s m args meth c G cX1_tried 9 yX1_tried.cls) (hr : meth.sig.returnType = (some .int)) (hmn : meth.name = yX1_tried.name) (hnx : (∀ x ∈ c.exceptionTable.toList, False)) (hfr : 68 ≤ R.frames ∧ frf_X1_tried + 1 ≤ R.frames) (hRl : R.locals = 40 * R.frames) {Q : Int32 → Tst → Prop} {X : String → Nat → Tst → Prop} (hrf_X1_tried : ∀ fr : Nat, frf_X1_tried ≤ fr → ∀ (a0 : Option Nat) (a1 : Option Nat) (a2 : Int32) (a3 : Int32) (Q : Int32 → Tst → Prop) (X : String → Nat → Tst → Prop) (σ : Tst), rf_X1_tried a0 a1 a2 a3 Q X σ → tw_M l yX1_tried (ws_ yX1_tried cX1_tried 9 (some .int)) fr (40 * fr) G σ [.inr a0, .inr a1, .inl a2, .inl a3] (tw_Qi G Q) X) : ∀ (n : Nat) (l0 : Option Nat) (l1 : Option Nat) (l2 : Int32) (l4 : Option Nat) (l5 : Int32) (l6 : Int32) (l7 : Int32) (σ : Tst) (H : Heap) (locs : List Loc) (ls : Array Slot), w_X1_tried_b106 rf_X1_tried Q X n l0 l1 l2 l4 l5 l6 l7 σ → tw_R G σ H → va_S (tw_A G) s.heap H locs → tw_l ls 9 [(0, .inr l0), (1, .inr l1), (2, .inl l2), (4, .inr l4), (5, .inl l5), (6, .inl l6), (7, .inl l7)] → tw_W p l e R s m args below meth c σ H locs (tw_E below G (tw_Qi G Q) X args s R) (F0 m 106 ls []) := by
  intro n
  induction n with
  | zero => intro l0 l1 l2 l4 l5 l6 l7 σ H locs ls hw; exact False.elim hw
  | succ n hk106 =>
    intro l0 l1 l2 l4 l5 l6 l7 σ H locs ls hw hR hS hl
    rw [w_X1_tried_b106] at hw
    refine tk_iload C hl 6 dX1_tried_106 rfl ?_
    refine tk_aload_n C hl 1 dX1_tried_108 rfl ?_
    refine tk_grN C hR hw rfl in_X3 (by decide) q214 (fun _ h => h) dX1_tried_109 (fun x1 hw => ?_)
    obtain ⟨hv, hw⟩ := hw
    refine tw_cbi5 C hS (tk_runF (As := []) (x := ⟨"java/util/List", "size", "()I"⟩) C hR hS (wk_J6_size l C.hst G (R.frames - 1) (by omega) _ _ _ σ hw) hv rfl q648 q447 q449 q73 q451 (by decide +kernel) (show tw_pd ⟨"java/util/List", "size", "()I"⟩ 0 by decide +kernel) ⟨by omega, by omega⟩ hl.1 rfl (tw_r8 [.inl l7] (Nat.le_of_ble_eq_true rfl)) dX1_tried_112) (fun E q σ H locs hX hR hS hi => tw_out C hR hS (fun x hx => (hnx x hx).elim) hi hX) (fun x2 σ H locs hw hR hS => ?_)
    refine lv_icmp_ge (tgt := 207) C.hx C.hb dX1_tried_117 (by decide) (fun c117 => ?_) (fun c117 => ?_)
    · replace hw := hw.1 c117
      refine tk_iload C hl 4 dX1_tried_207 rfl ?_
      exact tw_iret C hR hS hr rfl dX1_tried_209 hw
    · replace hw := hw.2 c117
      refine tk_aload_n C hl 1 dX1_tried_120 rfl ?_
      refine tk_grN C hR hw rfl in_X3 (by decide) q214 (fun _ h => h) dX1_tried_121 (fun x3 hw => ?_)
      refine tk_iload C hl 6 dX1_tried_124 rfl ?_
      obtain ⟨hv, hw⟩ := hw
      refine tw_cbq5 C hS (tk_runF (As := [.inl l7]) (x := ⟨"java/util/List", "get", "(I)Ljava/lang/Object;"⟩) C hR hS (wk_J6_get l C.hst G (R.frames - 1) (by omega) _ _ _ _ σ hw) hv rfl q650 q456 q458 q73 q460 (by decide +kernel) (show tw_pd ⟨"java/util/List", "get", "(I)Ljava/lang/Object;"⟩ 1 by decide +kernel) ⟨by omega, by omega⟩ hl.1 rfl (tw_r8 [] (Nat.le_of_ble_eq_true rfl)) dX1_tried_126) (fun E q σ H locs hX hR hS hi => tw_out C hR hS (fun x hx => (hnx x hx).elim) hi hX) (fun x4 σ H locs hw hR hS => ?_)
      refine tk_cc C hR hw rfl q157 (Or.inl rfl) dX1_tried_131 (fun hw => ?_)
      refine tk_astore (L' := [(8, .inr x4), (0, .inr l0), (1, .inr l1), (2, .inl l2), (4, .inr l4), (5, .inl l5), (6, .inl l6), (7, .inl l7)]) C hl dX1_tried_134 (by decide) rfl (fun ls hl => ?_)
      refine tk_aload C hl 4 dX1_tried_136 rfl ?_
      refine tk_giN C hR hw rfl in_X3 (by decide) q200 (fun _ h => h) dX1_tried_138 (fun x5 hw => ?_)
      refine tk_aload C hl 0 dX1_tried_141 rfl ?_
      refine tk_giN C hR hw rfl in_X3 (by decide) q200 (fun _ h => h) dX1_tried_143 (fun x6 hw => ?_)
      refine lv_icmp_ne (tgt := 189) C.hx C.hb dX1_tried_146 (by decide) (fun c146 => ?_) (fun c146 => ?_)
      · replace hw := hw.2 c146
        exact wk_X1_tried_b189 C hr hmn hnx hfr hRl hrf_X1_tried hk106 _ _ _ _ _ _ _ _ σ _ _ _ hw hR hS (tk_sub hl [1, 2, 3, 4, 5, 6, 7, 0] rfl)
      · replace hw := hw.1 c146
        refine tk_iload C hl 5 dX1_tried_149 rfl ?_
        refine tk_iload C hl 6 dX1_tried_151 rfl ?_
        refine tk_aload C hl 4 dX1_tried_153 rfl ?_
        refine tk_aload C hl 0 dX1_tried_155 rfl ?_
        refine tw_cbi C hS (tw_runS (As := [.inr l4, .inr x4]) C hR hS (wk_X1_pairCost l C.hst G (R.frames - 1) (by omega) _ _ _ _ σ hw) q273 q274 q64 q275 pd_X1_pairCost ⟨by omega, by omega⟩ hl.1 rfl (tw_r8 [.inl l6, .inl l5] (Nat.le_of_ble_eq_true rfl)) dX1_tried_157) (fun E q σ H locs hX hR hS hi => tw_out C hR hS (fun x hx => (hnx x hx).elim) hi hX) (fun x7 σ H locs hw hR hS => ?_)
        refine lv_iadd C.hx C.hb dX1_tried_160 ?_
        refine tk_aload C hl 4 dX1_tried_161 rfl ?_
        refine tk_aload C hl 0 dX1_tried_163 rfl ?_
        refine lv_iconst (v := 0) C.hx C.hb dX1_tried_165 (by decide) ?_
        refine lv_iconst (v := 0) C.hx C.hb dX1_tried_166 (by decide) ?_
        refine tw_cbi C hS (tw_runS (As := [.inr l4, .inr x4, .inl 0, .inl 0]) C hR hS (hrf_X1_tried (R.frames - 1) (by omega) _ _ _ _ _ _ σ hw) q644 q645 q64 q646 pd_X1_tried ⟨by omega, by omega⟩ hl.1 rfl (tw_r8 [.inl (l6 + x7), .inl l5] (Nat.le_of_ble_eq_true rfl)) dX1_tried_167) (fun E q σ H locs hX hR hS hi => tw_out C hR hS (fun x hx => (hnx x hx).elim) hi hX) (fun x8 σ H locs hw hR hS => ?_)
        refine lv_iadd C.hx C.hb dX1_tried_170 ?_
        refine tk_aload_n C hl 1 dX1_tried_171 rfl ?_
        refine tk_aload_n C hl 2 dX1_tried_172 rfl ?_
        refine tk_iload_n C hl 3 dX1_tried_173 rfl ?_
        refine lv_iconst (v := 1) C.hx C.hb dX1_tried_174 (by decide) ?_
        refine lv_iadd C.hx C.hb dX1_tried_175 ?_
        refine tk_iload C hl 7 dX1_tried_176 rfl ?_
        refine lv_iconst (v := 1) C.hx C.hb dX1_tried_178 (by decide) ?_
        refine lv_iadd C.hx C.hb dX1_tried_179 ?_
        refine tw_cbi C hS (tw_runS (As := [.inr l0, .inr l1, .inl (l2 + 1), .inl (l7 + 1)]) C hR hS (hrf_X1_tried (R.frames - 1) (by omega) _ _ _ _ _ _ σ hw) q644 q645 q64 q646 pd_X1_tried ⟨by omega, by omega⟩ hl.1 rfl (tw_r8 [.inl ((l6 + x7) + x8), .inl l5] (Nat.le_of_ble_eq_true rfl)) dX1_tried_180) (fun E q σ H locs hX hR hS hi => tw_out C hR hS (fun x hx => (hnx x hx).elim) hi hX) (fun x9 σ H locs hw hR hS => ?_)
        refine lv_iadd C.hx C.hb dX1_tried_183 ?_
        refine tk_min C q651 hl.1 (by omega) hRl (tw_r8 [] (Nat.le_of_ble_eq_true rfl)) dX1_tried_184 ?_
        refine tk_istore (L' := [(5, .inl (if (((l6 + x7) + x8) + x9) < l5 then (((l6 + x7) + x8) + x9) else l5)), (8, .inr x4), (0, .inr l0), (1, .inr l1), (2, .inl l2), (4, .inr l4), (6, .inl l6), (7, .inl l7)]) C hl dX1_tried_187 (by decide) rfl (fun ls hl => ?_)
        exact wk_X1_tried_b189 C hr hmn hnx hfr hRl hrf_X1_tried hk106 _ _ _ _ _ _ _ _ σ _ _ _ hw hR hS (tk_sub hl [2, 3, 4, 5, 0, 6, 7, 1] rfl)
set_option maxHeartbeats 4000000 in
theorem wk_X1_tried (l : Launch) (hl0 : l.stackTraces = false) (G : Tgl)  : ∀ (d fr : Nat), 68 + 1 * d ≤ fr → ∀ (l0 : Option Nat) (l1 : Option Nat) (l2 : Int32) (l3 : Int32) (Q : Int32 → Tst → Prop) (X : String → Nat → Tst → Prop) (σ : Tst), w_X1_tried d l0 l1 l2 l3 Q X σ → tw_M l yX1_tried (ws_ yX1_tried cX1_tried 9 (some .int)) fr (40 * fr) G σ [.inr l0, .inr l1, .inl l2, .inl l3] (tw_Qi G Q) X := by
  intro d
  induction d with
  | zero => intro fr hfr l0 l1 l2 l3 Q X σ hw; exact False.elim hw
  | succ d ih =>
    intro fr hfr l0 l1 l2 l3 Q X σ hw
    have hrf_X1_tried := fun (fr : Nat) (h : 68 + 1 * d ≤ fr) => ih fr (by omega)
    rw [w_X1_tried] at hw
    generalize hg : w_X1_tried d = rf_X1_tried at hw hrf_X1_tried
    clear hg ih
    obtain ⟨frf_X1_tried, hfrf_X1_tried⟩ : ∃ f, f = 68 + 1 * d := ⟨_, rfl⟩
    rw [← hfrf_X1_tried] at hrf_X1_tried
    have hfr : 68 ≤ fr ∧ frf_X1_tried + 1 ≤ fr := by refine ⟨?_, ?_⟩ <;> omega
    refine tw_of (ret := (some .int)) hl0 (by decide) (Nat.le_of_ble_eq_true rfl) (fun p e R s m args below meth c hRf hRl C hr hmn hnx hR hS ls hl => ?_)
    have hfr : 68 ≤ R.frames ∧ frf_X1_tried + 1 ≤ R.frames := by rw [hRf]; exact hfr
    have hRl : R.locals = 40 * R.frames := by rw [hRl, hRf]
    have hl : tw_l ls 9 [(0, .inr l0), (1, .inr l1), (2, .inl l2), (3, .inl l3)] := hl
    refine tk_iload_n C hl 2 dX1_tried_0 rfl ?_
    refine tk_aload_n C hl 0 dX1_tried_1 rfl ?_
    refine tk_grN C hR hw rfl in_X3 (by decide) q214 (fun _ h => h) dX1_tried_2 (fun x1 hw => ?_)
    obtain ⟨hv, hw⟩ := hw
    refine tw_cbi5 C hS (tk_runF (As := []) (x := ⟨"java/util/List", "size", "()I"⟩) C hR hS (wk_J6_size l C.hst G (R.frames - 1) (by omega) _ _ _ σ hw) hv rfl q648 q447 q449 q73 q451 (by decide +kernel) (show tw_pd ⟨"java/util/List", "size", "()I"⟩ 0 by decide +kernel) ⟨by omega, by omega⟩ hl.1 rfl (tw_r8 [.inl l2] (Nat.le_of_ble_eq_true rfl)) dX1_tried_5) (fun E q σ H locs hX hR hS hi => tw_out C hR hS (fun x hx => (hnx x hx).elim) hi hX) (fun x2 σ H locs hw hR hS => ?_)
    refine lv_icmp_ne (tgt := 66) C.hx C.hb dX1_tried_10 (by decide) (fun c10 => ?_) (fun c10 => ?_)
    · replace hw := hw.2 c10
      refine tk_aload_n C hl 0 dX1_tried_66 rfl ?_
      refine tk_grN C hR hw rfl in_X3 (by decide) q214 (fun _ h => h) dX1_tried_67 (fun x3 hw => ?_)
      refine tk_iload_n C hl 2 dX1_tried_70 rfl ?_
      obtain ⟨hv, hw⟩ := hw
      refine tw_cbq5 C hS (tk_runF (As := [.inl l2]) (x := ⟨"java/util/List", "get", "(I)Ljava/lang/Object;"⟩) C hR hS (wk_J6_get l C.hst G (R.frames - 1) (by omega) _ _ _ _ σ hw) hv rfl q650 q456 q458 q73 q460 (by decide +kernel) (show tw_pd ⟨"java/util/List", "get", "(I)Ljava/lang/Object;"⟩ 1 by decide +kernel) ⟨by omega, by omega⟩ hl.1 rfl (tw_r8 [] (Nat.le_of_ble_eq_true rfl)) dX1_tried_71) (fun E q σ H locs hX hR hS hi => tw_out C hR hS (fun x hx => (hnx x hx).elim) hi hX) (fun x4 σ H locs hw hR hS => ?_)
      refine tk_cc C hR hw rfl q157 (Or.inl rfl) dX1_tried_76 (fun hw => ?_)
      refine tk_astore (L' := [(4, .inr x4), (0, .inr l0), (1, .inr l1), (2, .inl l2), (3, .inl l3)]) C hl dX1_tried_79 (by decide) rfl (fun ls hl => ?_)
      refine lv_iconst (v := 2) C.hx C.hb dX1_tried_81 (by decide) ?_
      refine tk_aload C hl 0 dX1_tried_82 rfl ?_
      obtain ⟨hv, hw⟩ := hw
      refine tw_cbi C hS (tk_runV (As := []) C hR hS (wk_X3_size l C.hst G 64 (R.frames - 1) (by omega) _ _ _ σ hw) hv rfl q286 q287 q288 q70 q289 pd_X3_size ⟨by omega, by omega⟩ hl.1 rfl (tw_r8 [.inl 2] (Nat.le_of_ble_eq_true rfl)) dX1_tried_84) (fun E q σ H locs hX hR hS hi => tw_out C hR hS (fun x hx => (hnx x hx).elim) hi hX) (fun x5 σ H locs hw hR hS => ?_)
      refine lv_imul C.hx C.hb dX1_tried_87 ?_
      refine tk_aload_n C hl 1 dX1_tried_88 rfl ?_
      refine tk_aload_n C hl 2 dX1_tried_89 rfl ?_
      refine tk_iload_n C hl 3 dX1_tried_90 rfl ?_
      refine lv_iconst (v := 1) C.hx C.hb dX1_tried_91 (by decide) ?_
      refine lv_iadd C.hx C.hb dX1_tried_92 ?_
      refine tk_iload_n C hl 4 dX1_tried_93 rfl ?_
      refine tw_cbi C hS (tw_runS (As := [.inr l0, .inr l1, .inl (l2 + 1), .inl l3]) C hR hS (hrf_X1_tried (R.frames - 1) (by omega) _ _ _ _ _ _ σ hw) q644 q645 q64 q646 pd_X1_tried ⟨by omega, by omega⟩ hl.1 rfl (tw_r8 [.inl (2 * x5)] (Nat.le_of_ble_eq_true rfl)) dX1_tried_94) (fun E q σ H locs hX hR hS hi => tw_out C hR hS (fun x hx => (hnx x hx).elim) hi hX) (fun x6 σ H locs hw hR hS => ?_)
      refine lv_iadd C.hx C.hb dX1_tried_97 ?_
      refine tk_istore (L' := [(5, .inl ((2 * x5) + x6)), (4, .inr x4), (0, .inr l0), (1, .inr l1), (2, .inl l2), (3, .inl l3)]) C hl dX1_tried_98 (by decide) rfl (fun ls hl => ?_)
      refine lv_iconst (v := 0) C.hx C.hb dX1_tried_100 (by decide) ?_
      refine tk_istore (L' := [(6, .inl 0), (5, .inl ((2 * x5) + x6)), (4, .inr x4), (0, .inr l0), (1, .inr l1), (2, .inl l2), (3, .inl l3)]) C hl dX1_tried_101 (by decide) rfl (fun ls hl => ?_)
      refine tk_iload_n C hl 6 dX1_tried_103 rfl ?_
      refine tk_istore (L' := [(7, .inl l3), (6, .inl 0), (5, .inl ((2 * x5) + x6)), (4, .inr x4), (0, .inr l0), (1, .inr l1), (2, .inl l2), (3, .inl l3)]) C hl dX1_tried_104 (by decide) rfl (fun ls hl => ?_)
      obtain ⟨z, hw⟩ := hw
      exact wk_X1_tried_b106 C hr hmn hnx hfr hRl hrf_X1_tried z _ _ _ _ _ _ _ σ _ _ _ hw hR hS (tk_sub hl [4, 5, 6, 3, 2, 1, 0] rfl)
    · replace hw := hw.1 c10
      refine lv_iconst (v := 0) C.hx C.hb dX1_tried_13 (by decide) ?_
      refine tk_istore (L' := [(4, .inl 0), (0, .inr l0), (1, .inr l1), (2, .inl l2), (3, .inl l3)]) C hl dX1_tried_14 (by decide) rfl (fun ls hl => ?_)
      refine tk_iload_n C hl 4 dX1_tried_16 rfl ?_
      refine tk_istore (L' := [(5, .inl l3), (4, .inl 0), (0, .inr l0), (1, .inr l1), (2, .inl l2), (3, .inl l3)]) C hl dX1_tried_17 (by decide) rfl (fun ls hl => ?_)
      obtain ⟨z, hw⟩ := hw
      exact wk_X1_tried_b19 C hr hmn hnx hfr hRl hrf_X1_tried z _ _ _ σ _ _ _ hw hR hS (tk_sub hl [3, 1, 0] rfl)
-- TreeDiffer.triedDistance(LTreeDiffer$Tree;LTreeDiffer$Tree;)I
def w_X1_triedDistance (l0 : Option Nat) (l1 : Option Nat) (Q : Int32 → Tst → Prop) (X : String → Nat → Tst → Prop) (σ : Tst) : Prop := w_gr σ l0 cX2 0 fun x1 => w_gr σ l1 cX2 0 fun x2 => w_X1_pairCost x1 x2 (fun x3 σ => w_gr σ l0 cX2 0 fun x4 => w_gr σ l1 cX2 0 fun x5 => w_X1_tried 64 x4 x5 0 0 (fun x6 σ => Q (x3 + x6) σ) X σ) X σ
set_option maxHeartbeats 4000000 in
theorem wk_X1_triedDistance (l : Launch) (hl0 : l.stackTraces = false) (G : Tgl) (fr : Nat)  (hfr : 133 ≤ fr) (l0 : Option Nat) (l1 : Option Nat) (Q : Int32 → Tst → Prop) (X : String → Nat → Tst → Prop) (σ : Tst) (hw : w_X1_triedDistance l0 l1 Q X σ) : tw_M l yX1_triedDistance (ws_ yX1_triedDistance cX1_triedDistance 2 (some .int)) fr (40 * fr) G σ [.inr l0, .inr l1] (tw_Qi G Q) X := by
  unfold w_X1_triedDistance at hw
  refine tw_of (ret := (some .int)) hl0 (by decide) (Nat.le_of_ble_eq_true rfl) (fun p e R s m args below meth c hRf hRl C hr hmn hnx hR hS ls hl => ?_)
  have hfr : 133 ≤ R.frames := by rw [hRf]; exact hfr
  have hRl : R.locals = 40 * R.frames := by rw [hRl, hRf]
  have hl : tw_l ls 2 [(0, .inr l0), (1, .inr l1)] := hl
  refine tk_aload_n C hl 0 dX1_triedDistance_0 rfl ?_
  refine tk_grN C hR hw rfl in_X2 (by decide) q242 (fun _ h => h) dX1_triedDistance_1 (fun x1 hw => ?_)
  refine tk_aload_n C hl 1 dX1_triedDistance_4 rfl ?_
  refine tk_grN C hR hw rfl in_X2 (by decide) q242 (fun _ h => h) dX1_triedDistance_5 (fun x2 hw => ?_)
  refine tw_cbi C hS (tw_runS (As := [.inr x1, .inr x2]) C hR hS (wk_X1_pairCost l C.hst G (R.frames - 1) (by omega) _ _ _ _ σ hw) q273 q274 q64 q275 pd_X1_pairCost ⟨by omega, by omega⟩ hl.1 rfl (tw_r8 [] (Nat.le_of_ble_eq_true rfl)) dX1_triedDistance_8) (fun E q σ H locs hX hR hS hi => tw_out C hR hS (fun x hx => (hnx x hx).elim) hi hX) (fun x3 σ H locs hw hR hS => ?_)
  refine tk_aload_n C hl 0 dX1_triedDistance_11 rfl ?_
  refine tk_grN C hR hw rfl in_X2 (by decide) q242 (fun _ h => h) dX1_triedDistance_12 (fun x4 hw => ?_)
  refine tk_aload_n C hl 1 dX1_triedDistance_15 rfl ?_
  refine tk_grN C hR hw rfl in_X2 (by decide) q242 (fun _ h => h) dX1_triedDistance_16 (fun x5 hw => ?_)
  refine lv_iconst (v := 0) C.hx C.hb dX1_triedDistance_19 (by decide) ?_
  refine lv_iconst (v := 0) C.hx C.hb dX1_triedDistance_20 (by decide) ?_
  refine tw_cbi C hS (tw_runS (As := [.inr x4, .inr x5, .inl 0, .inl 0]) C hR hS (wk_X1_tried l C.hst G 64 (R.frames - 1) (by omega) _ _ _ _ _ _ σ hw) q644 q645 q64 q646 pd_X1_tried ⟨by omega, by omega⟩ hl.1 rfl (tw_r8 [.inl x3] (Nat.le_of_ble_eq_true rfl)) dX1_triedDistance_21) (fun E q σ H locs hX hR hS hi => tw_out C hR hS (fun x hx => (hnx x hx).elim) hi hX) (fun x6 σ H locs hw hR hS => ?_)
  refine lv_iadd C.hx C.hb dX1_triedDistance_24 ?_
  exact tw_iret C hR hS hr rfl dX1_triedDistance_25 hw
-- TreeDiffer.distanceByMatchings(II)I
def w_X1_distanceByMatchings_b43 (Q : Int32 → Tst → Prop) (X : String → Nat → Tst → Prop) (l3 : Option Nat) (l4 : Option Nat) (s0 : Int32) (σ : Tst) : Prop := w_X1_requireSupport s0 (fun σ => w_X1_triedDistance l3 l4 (fun x2 σ => Q x2 σ) X σ) X σ
def w_X1_distanceByMatchings_b42 (Q : Int32 → Tst → Prop) (X : String → Nat → Tst → Prop) (l3 : Option Nat) (l4 : Option Nat) (σ : Tst) : Prop := w_X1_distanceByMatchings_b43 Q X l3 l4 0 σ
def w_X1_distanceByMatchings (l0 : Option Nat) (l1 : Int32) (l2 : Int32) (Q : Int32 → Tst → Prop) (X : String → Nat → Tst → Prop) (σ : Tst) : Prop := w_rc σ l0 cX1 <| w_X1_treeOf l0 l1 (fun x1 σ => w_rc σ l0 cX1 <| w_X1_treeOf l0 l2 (fun x2 σ => w_gr σ x1 cX2 0 fun x3 => w_rc σ x3 cX3 <| w_X3_size 64 x3 (fun x4 σ => w_if (7 < x4) (w_X1_distanceByMatchings_b42 Q X x1 x2 σ) (w_gr σ x2 cX2 0 fun x5 => w_rc σ x5 cX3 <| w_X3_size 64 x5 (fun x6 σ => w_if (7 < x6) (w_X1_distanceByMatchings_b42 Q X x1 x2 σ) (w_X1_distanceByMatchings_b43 Q X x1 x2 1 σ)) X σ)) X σ) X σ) X σ
set_option maxHeartbeats 4000000 in
theorem wk_X1_distanceByMatchings_b43  (C : tw_C p l R s m args meth c G cX1_distanceByMatchings 5 yX1_distanceByMatchings.cls) (hr : meth.sig.returnType = (some .int)) (hmn : meth.name = yX1_distanceByMatchings.name) (hnx : (∀ x ∈ c.exceptionTable.toList, False)) (hfr : 134 ≤ R.frames) (hRl : R.locals = 40 * R.frames) {Q : Int32 → Tst → Prop} {X : String → Nat → Tst → Prop}  (l3 : Option Nat) (l4 : Option Nat) (s0 : Int32) (σ : Tst) (H : Heap) (locs : List Loc) (ls : Array Slot) (hw : w_X1_distanceByMatchings_b43 Q X l3 l4 s0 σ) (hR : tw_R G σ H) (hS : va_S (tw_A G) s.heap H locs) (hl : tw_l ls 5 [(3, .inr l3), (4, .inr l4)]) : tw_W p l e R s m args below meth c σ H locs (tw_E below G (tw_Qi G Q) X args s R) (F0 m 43 ls [.int s0]) := by
  unfold w_X1_distanceByMatchings_b43 at hw
  refine tw_cbv C hS (tw_runS (As := [.inl s0]) C hR hS (wk_X1_requireSupport l C.hst G (R.frames - 1) (by omega) _ _ _ σ hw) q1662 q1663 q64 q1664 pd_X1_requireSupport ⟨by omega, by omega⟩ hl.1 rfl (tw_r8 [] (Nat.le_of_ble_eq_true rfl)) dX1_distanceByMatchings_43) (fun E q σ H locs hX hR hS hi => tw_out C hR hS (fun x hx => (hnx x hx).elim) hi hX) (fun σ H locs hw hR hS => ?_)
  refine tk_aload_n C hl 0 dX1_distanceByMatchings_46 rfl ?_
  refine tk_aload C hl 1 dX1_distanceByMatchings_47 rfl ?_
  refine tw_cbi C hS (tw_runS (As := [.inr l3, .inr l4]) C hR hS (wk_X1_triedDistance l C.hst G (R.frames - 1) (by omega) _ _ _ _ σ hw) q641 q642 q64 q643 pd_X1_triedDistance ⟨by omega, by omega⟩ hl.1 rfl (tw_r8 [] (Nat.le_of_ble_eq_true rfl)) dX1_distanceByMatchings_49) (fun E q σ H locs hX hR hS hi => tw_out C hR hS (fun x hx => (hnx x hx).elim) hi hX) (fun x2 σ H locs hw hR hS => ?_)
  exact tw_iret C hR hS hr rfl dX1_distanceByMatchings_52 hw
set_option maxHeartbeats 4000000 in
theorem wk_X1_distanceByMatchings_b42  (C : tw_C p l R s m args meth c G cX1_distanceByMatchings 5 yX1_distanceByMatchings.cls) (hr : meth.sig.returnType = (some .int)) (hmn : meth.name = yX1_distanceByMatchings.name) (hnx : (∀ x ∈ c.exceptionTable.toList, False)) (hfr : 134 ≤ R.frames) (hRl : R.locals = 40 * R.frames) {Q : Int32 → Tst → Prop} {X : String → Nat → Tst → Prop}  (l3 : Option Nat) (l4 : Option Nat) (σ : Tst) (H : Heap) (locs : List Loc) (ls : Array Slot) (hw : w_X1_distanceByMatchings_b42 Q X l3 l4 σ) (hR : tw_R G σ H) (hS : va_S (tw_A G) s.heap H locs) (hl : tw_l ls 5 [(3, .inr l3), (4, .inr l4)]) : tw_W p l e R s m args below meth c σ H locs (tw_E below G (tw_Qi G Q) X args s R) (F0 m 42 ls []) := by
  unfold w_X1_distanceByMatchings_b42 at hw
  refine lv_iconst (v := 0) C.hx C.hb dX1_distanceByMatchings_42 (by decide) ?_
  exact wk_X1_distanceByMatchings_b43 C hr hmn hnx hfr hRl _ _ _ σ _ _ _ hw hR hS (tk_sub hl [0, 1] rfl)
set_option maxHeartbeats 4000000 in
theorem wk_X1_distanceByMatchings (l : Launch) (hl0 : l.stackTraces = false) (G : Tgl) (fr : Nat)  (hfr : 134 ≤ fr) (l0 : Option Nat) (l1 : Int32) (l2 : Int32) (Q : Int32 → Tst → Prop) (X : String → Nat → Tst → Prop) (σ : Tst) (hw : w_X1_distanceByMatchings l0 l1 l2 Q X σ) : tw_M l yX1_distanceByMatchings (ws_ yX1_distanceByMatchings cX1_distanceByMatchings 5 (some .int)) fr (40 * fr) G σ [.inr l0, .inl l1, .inl l2] (tw_Qi G Q) X := by
  unfold w_X1_distanceByMatchings at hw
  refine tw_of (ret := (some .int)) hl0 (by decide) (Nat.le_of_ble_eq_true rfl) (fun p e R s m args below meth c hRf hRl C hr hmn hnx hR hS ls hl => ?_)
  have hfr : 134 ≤ R.frames := by rw [hRf]; exact hfr
  have hRl : R.locals = 40 * R.frames := by rw [hRl, hRf]
  have hl : tw_l ls 5 [(0, .inr l0), (1, .inl l1), (2, .inl l2)] := hl
  refine tk_aload_n C hl 0 dX1_distanceByMatchings_0 rfl ?_
  refine tk_iload_n C hl 1 dX1_distanceByMatchings_1 rfl ?_
  obtain ⟨hv, hw⟩ := hw
  refine tw_cbq C hS (tk_runV (As := [.inl l1]) C hR hS (wk_X1_treeOf l C.hst G (R.frames - 1) (by omega) _ _ _ _ σ hw) hv rfl q1581 q1583 qs16 q64 q1584 pd_X1_treeOf ⟨by omega, by omega⟩ hl.1 rfl (tw_r8 [] (Nat.le_of_ble_eq_true rfl)) dX1_distanceByMatchings_2) (fun E q σ H locs hX hR hS hi => tw_out C hR hS (fun x hx => (hnx x hx).elim) hi hX) (fun x1 σ H locs hw hR hS => ?_)
  refine tk_astore_n (L' := [(3, .inr x1), (0, .inr l0), (1, .inl l1), (2, .inl l2)]) C hl dX1_distanceByMatchings_5 (by decide) rfl (fun ls hl => ?_)
  refine tk_aload_n C hl 1 dX1_distanceByMatchings_6 rfl ?_
  refine tk_iload_n C hl 3 dX1_distanceByMatchings_7 rfl ?_
  obtain ⟨hv, hw⟩ := hw
  refine tw_cbq C hS (tk_runV (As := [.inl l2]) C hR hS (wk_X1_treeOf l C.hst G (R.frames - 1) (by omega) _ _ _ _ σ hw) hv rfl q1581 q1583 qs16 q64 q1584 pd_X1_treeOf ⟨by omega, by omega⟩ hl.1 rfl (tw_r8 [] (Nat.le_of_ble_eq_true rfl)) dX1_distanceByMatchings_8) (fun E q σ H locs hX hR hS hi => tw_out C hR hS (fun x hx => (hnx x hx).elim) hi hX) (fun x2 σ H locs hw hR hS => ?_)
  refine tk_astore (L' := [(4, .inr x2), (3, .inr x1), (0, .inr l0), (1, .inl l1), (2, .inl l2)]) C hl dX1_distanceByMatchings_11 (by decide) rfl (fun ls hl => ?_)
  refine tk_aload_n C hl 1 dX1_distanceByMatchings_13 rfl ?_
  refine tk_grN C hR hw rfl in_X2 (by decide) q242 (fun _ h => h) dX1_distanceByMatchings_14 (fun x3 hw => ?_)
  obtain ⟨hv, hw⟩ := hw
  refine tw_cbi C hS (tk_runV (As := []) C hR hS (wk_X3_size l C.hst G 64 (R.frames - 1) (by omega) _ _ _ σ hw) hv rfl q286 q287 q288 q70 q289 pd_X3_size ⟨by omega, by omega⟩ hl.1 rfl (tw_r8 [] (Nat.le_of_ble_eq_true rfl)) dX1_distanceByMatchings_17) (fun E q σ H locs hX hR hS hi => tw_out C hR hS (fun x hx => (hnx x hx).elim) hi hX) (fun x4 σ H locs hw hR hS => ?_)
  refine lv_bipush (v := 7) C.hx C.hb dX1_distanceByMatchings_20 (by decide) ?_
  refine lv_icmp_gt (tgt := 42) C.hx C.hb dX1_distanceByMatchings_22 (by decide) (fun c22 => ?_) (fun c22 => ?_)
  · replace hw := hw.1 c22
    exact wk_X1_distanceByMatchings_b42 C hr hmn hnx hfr hRl _ _ σ _ _ _ hw hR hS (tk_sub hl [1, 0] rfl)
  · replace hw := hw.2 c22
    refine tk_aload C hl 0 dX1_distanceByMatchings_25 rfl ?_
    refine tk_grN C hR hw rfl in_X2 (by decide) q242 (fun _ h => h) dX1_distanceByMatchings_27 (fun x5 hw => ?_)
    obtain ⟨hv, hw⟩ := hw
    refine tw_cbi C hS (tk_runV (As := []) C hR hS (wk_X3_size l C.hst G 64 (R.frames - 1) (by omega) _ _ _ σ hw) hv rfl q286 q287 q288 q70 q289 pd_X3_size ⟨by omega, by omega⟩ hl.1 rfl (tw_r8 [] (Nat.le_of_ble_eq_true rfl)) dX1_distanceByMatchings_30) (fun E q σ H locs hX hR hS hi => tw_out C hR hS (fun x hx => (hnx x hx).elim) hi hX) (fun x6 σ H locs hw hR hS => ?_)
    refine lv_bipush (v := 7) C.hx C.hb dX1_distanceByMatchings_33 (by decide) ?_
    refine lv_icmp_gt (tgt := 42) C.hx C.hb dX1_distanceByMatchings_35 (by decide) (fun c35 => ?_) (fun c35 => ?_)
    · replace hw := hw.1 c35
      exact wk_X1_distanceByMatchings_b42 C hr hmn hnx hfr hRl _ _ σ _ _ _ hw hR hS (tk_sub hl [1, 0] rfl)
    · replace hw := hw.2 c35
      refine lv_iconst (v := 1) C.hx C.hb dX1_distanceByMatchings_38 (by decide) ?_
      refine lv_goto (tgt := 43) C.hx C.hb dX1_distanceByMatchings_39 (by decide) ?_
      exact wk_X1_distanceByMatchings_b43 C hr hmn hnx hfr hRl _ _ _ σ _ _ _ hw hR hS (tk_sub hl [1, 0] rfl)
-- TreeDifferLaw.distanceByMatchings(LTreeDiffer;II[J)I
def w_X0_distanceByMatchings_b13 (Q : Int32 → Tst → Prop) (X : String → Nat → Tst → Prop) (s0 : Option Nat) (σ : Tst) : Prop := Q 1 σ
def w_X0_distanceByMatchings_b17 (Q : Int32 → Tst → Prop) (X : String → Nat → Tst → Prop) (s0 : Option Nat) (σ : Tst) : Prop := Q 2 σ
def w_X0_distanceByMatchings (l0 : Option Nat) (l1 : Int32) (l2 : Int32) (l3 : Option Nat) (Q : Int32 → Tst → Prop) (X : String → Nat → Tst → Prop) (σ : Tst) : Prop := w_rc σ l0 cX1 <| w_X1_distanceByMatchings l0 l1 l2 (fun x1 σ => w_sl σ l3 0 (x1.toInt64) fun σ => Q 0 σ) (fun E q σ => w_if (E = "java/lang/IndexOutOfBoundsException") (w_X0_distanceByMatchings_b13 Q X (some q) σ) (w_if (E = "java/lang/UnsupportedOperationException") (w_X0_distanceByMatchings_b17 Q X (some q) σ) (False))) σ
set_option maxHeartbeats 4000000 in
theorem wk_X0_distanceByMatchings_b13  (C : tw_C p l R s m args meth c G cX0_distanceByMatchings 5 yX0_distanceByMatchings.cls) (hr : meth.sig.returnType = (some .int)) (hmn : meth.name = yX0_distanceByMatchings.name) (hnx : (c.exceptionTable.toList = tableOf [(0, 10, 13, 19), (0, 10, 17, 47)])) (hfr : 135 ≤ R.frames) (hRl : R.locals = 40 * R.frames) {Q : Int32 → Tst → Prop} {X : String → Nat → Tst → Prop}  (s0 : Option Nat) (σ : Tst) (H : Heap) (locs : List Loc) (ls : Array Slot) (hw : w_X0_distanceByMatchings_b13 Q X s0 σ) (hR : tw_R G σ H) (hS : va_S (tw_A G) s.heap H locs) (hl : tw_l ls 5 []) : tw_W p l e R s m args below meth c σ H locs (tw_E below G (tw_Qi G Q) X args s R) (F0 m 13 ls [va_rf s0]) := by
  unfold w_X0_distanceByMatchings_b13 at hw
  refine tk_astore (L' := [(4, .inr s0)]) C hl dX0_distanceByMatchings_13 (by decide) rfl (fun ls hl => ?_)
  refine lv_iconst (v := 1) C.hx C.hb dX0_distanceByMatchings_15 (by decide) ?_
  exact tw_iret C hR hS hr rfl dX0_distanceByMatchings_16 hw
set_option maxHeartbeats 4000000 in
theorem wk_X0_distanceByMatchings_b17  (C : tw_C p l R s m args meth c G cX0_distanceByMatchings 5 yX0_distanceByMatchings.cls) (hr : meth.sig.returnType = (some .int)) (hmn : meth.name = yX0_distanceByMatchings.name) (hnx : (c.exceptionTable.toList = tableOf [(0, 10, 13, 19), (0, 10, 17, 47)])) (hfr : 135 ≤ R.frames) (hRl : R.locals = 40 * R.frames) {Q : Int32 → Tst → Prop} {X : String → Nat → Tst → Prop}  (s0 : Option Nat) (σ : Tst) (H : Heap) (locs : List Loc) (ls : Array Slot) (hw : w_X0_distanceByMatchings_b17 Q X s0 σ) (hR : tw_R G σ H) (hS : va_S (tw_A G) s.heap H locs) (hl : tw_l ls 5 []) : tw_W p l e R s m args below meth c σ H locs (tw_E below G (tw_Qi G Q) X args s R) (F0 m 17 ls [va_rf s0]) := by
  unfold w_X0_distanceByMatchings_b17 at hw
  refine tk_astore (L' := [(4, .inr s0)]) C hl dX0_distanceByMatchings_17 (by decide) rfl (fun ls hl => ?_)
  refine lv_iconst (v := 2) C.hx C.hb dX0_distanceByMatchings_19 (by decide) ?_
  exact tw_iret C hR hS hr rfl dX0_distanceByMatchings_20 hw
set_option maxHeartbeats 4000000 in
theorem wk_X0_distanceByMatchings (l : Launch) (hl0 : l.stackTraces = false) (G : Tgl) (fr : Nat)  (hfr : 135 ≤ fr) (l0 : Option Nat) (l1 : Int32) (l2 : Int32) (l3 : Option Nat) (Q : Int32 → Tst → Prop) (X : String → Nat → Tst → Prop) (σ : Tst) (hw : w_X0_distanceByMatchings l0 l1 l2 l3 Q X σ) : tw_M l yX0_distanceByMatchings (wsW_ yX0_distanceByMatchings cX0_distanceByMatchings 5 (some .int) [(0, 10, 13, 19), (0, 10, 17, 47)]) fr (40 * fr) G σ [.inr l0, .inl l1, .inl l2, .inr l3] (tw_Qi G Q) X := by
  unfold w_X0_distanceByMatchings at hw
  refine tw_ofW (ret := (some .int)) (hh := [(0, 10, 13, 19), (0, 10, 17, 47)]) hl0 (by decide) (Nat.le_of_ble_eq_true rfl) (fun p e R s m args below meth c hRf hRl C hr hmn hnx hR hS ls hl => ?_)
  have hfr : 135 ≤ R.frames := by rw [hRf]; exact hfr
  have hRl : R.locals = 40 * R.frames := by rw [hRl, hRf]
  have hl : tw_l ls 5 [(0, .inr l0), (1, .inl l1), (2, .inl l2), (3, .inr l3)] := hl
  refine tk_aload_n C hl 3 dX0_distanceByMatchings_0 rfl ?_
  refine lv_iconst (v := 0) C.hx C.hb dX0_distanceByMatchings_1 (by decide) ?_
  refine tk_aload_n C hl 0 dX0_distanceByMatchings_2 rfl ?_
  refine tk_iload_n C hl 1 dX0_distanceByMatchings_3 rfl ?_
  refine tk_iload_n C hl 2 dX0_distanceByMatchings_4 rfl ?_
  obtain ⟨hv, hw⟩ := hw
  refine tw_cbi C hS (tk_runV (As := [.inl l1, .inl l2]) C hR hS (wk_X1_distanceByMatchings l C.hst G (R.frames - 1) (by omega) _ _ _ _ _ σ hw) hv rfl q1808 q1809 q1810 q64 q1811 pd_X1_distanceByMatchings ⟨by omega, by omega⟩ hl.1 rfl (tw_r8 [.inl 0, .inr l3] (Nat.le_of_ble_eq_true rfl)) dX0_distanceByMatchings_5) (fun E q σ H locs hX hR hS hi => ?_) (fun x1 σ H locs hw hR hS => ?_)
  · by_cases cE0 : E = "java/lang/IndexOutOfBoundsException"
    · replace hX := hX.1 cE0
      subst cE0
      refine tw_catch C hnx [] (0, 10, 13, 19) [(0, 10, 17, 47)] rfl (fun z hz => nomatch hz) rfl (by decide) q1394 q687 hi ?_
      exact wk_X0_distanceByMatchings_b13 C hr hmn hnx hfr hRl _ σ _ _ _ hX hR hS (tk_sub hl [] rfl)
    replace hX := hX.2 cE0
    by_cases cE1 : E = "java/lang/UnsupportedOperationException"
    · replace hX := hX.1 cE1
      subst cE1
      refine tw_catch C hnx [(0, 10, 13, 19)] (0, 10, 17, 47) [] rfl (fun z hz => by simp only [List.mem_cons, List.not_mem_nil, or_false] at hz; rcases hz with rfl; exact Or.inr ⟨by decide, _, q1394, by decide +kernel⟩) rfl (by decide) q1657 q1667 hi ?_
      exact wk_X0_distanceByMatchings_b17 C hr hmn hnx hfr hRl _ σ _ _ _ hX hR hS (tk_sub hl [] rfl)
    replace hX := hX.2 cE1
    exact hX.elim
  refine lv_i2l (v := x1.toInt64) C.hx C.hb dX0_distanceByMatchings_8 rfl ?_
  refine tk_sl C hR hS hw dX0_distanceByMatchings_9 (fun σ H locs hw hR hS => ?_)
  refine lv_goto (tgt := 21) C.hx C.hb dX0_distanceByMatchings_10 (by decide) ?_
  refine lv_iconst (v := 0) C.hx C.hb dX0_distanceByMatchings_21 (by decide) ?_
  exact tw_iret C hR hS hr rfl dX0_distanceByMatchings_22 hw
-- TreeDiffer.similarity(II)D
def w_X1_similarity (l0 : Option Nat) (l1 : Int32) (l2 : Int32) (Q : UInt64 → Tst → Prop) (X : String → Nat → Tst → Prop) (σ : Tst) : Prop := w_rc σ l0 cX1 <| w_X1_treeOf l0 l1 (fun x1 σ => w_rc σ l0 cX1 <| w_X1_treeOf l0 l2 (fun x2 σ => w_gr σ x1 cX2 0 fun x3 => w_gr σ x2 cX2 0 fun x4 => w_X1_cost 64 x3 x4 (fun x5 σ => w_gr σ x1 cX2 0 fun x6 => w_rc σ x6 cX3 <| w_X3_size 64 x6 (fun x7 σ => w_gr σ x2 cX2 0 fun x8 => w_rc σ x8 cX3 <| w_X3_size 64 x8 (fun x9 σ => vf_n64 (FP.ddiv (FP.i2d x5) (FP.i2d (2 * (x7 + x9)))) ∧ vf_n64 (FP.dsub 0x3ff0000000000000 (FP.ddiv (FP.i2d x5) (FP.i2d (2 * (x7 + x9))))) ∧ Q (FP.dsub 0x3ff0000000000000 (FP.ddiv (FP.i2d x5) (FP.i2d (2 * (x7 + x9))))) σ) X σ) X σ) X σ) X σ) X σ
set_option maxHeartbeats 4000000 in
theorem wk_X1_similarity (l : Launch) (hl0 : l.stackTraces = false) (G : Tgl) (fr : Nat)  (hfr : 328 ≤ fr) (l0 : Option Nat) (l1 : Int32) (l2 : Int32) (Q : UInt64 → Tst → Prop) (X : String → Nat → Tst → Prop) (σ : Tst) (hw : w_X1_similarity l0 l1 l2 Q X σ) : tw_M l yX1_similarity (ws_ yX1_similarity cX1_similarity 5 (some .double)) fr (40 * fr) G σ [.inr l0, .inl l1, .inl l2] (tw_Qd G Q) X := by
  unfold w_X1_similarity at hw
  refine tw_of (ret := (some .double)) hl0 (by decide) (Nat.le_of_ble_eq_true rfl) (fun p e R s m args below meth c hRf hRl C hr hmn hnx hR hS ls hl => ?_)
  have hfr : 328 ≤ R.frames := by rw [hRf]; exact hfr
  have hRl : R.locals = 40 * R.frames := by rw [hRl, hRf]
  have hl : tw_l ls 5 [(0, .inr l0), (1, .inl l1), (2, .inl l2)] := hl
  refine tk_aload_n C hl 0 dX1_similarity_0 rfl ?_
  refine tk_iload_n C hl 1 dX1_similarity_1 rfl ?_
  obtain ⟨hv, hw⟩ := hw
  refine tw_cbq C hS (tk_runV (As := [.inl l1]) C hR hS (wk_X1_treeOf l C.hst G (R.frames - 1) (by omega) _ _ _ _ σ hw) hv rfl q1581 q1583 qs16 q64 q1584 pd_X1_treeOf ⟨by omega, by omega⟩ hl.1 rfl (tw_r8 [] (Nat.le_of_ble_eq_true rfl)) dX1_similarity_2) (fun E q σ H locs hX hR hS hi => tw_out C hR hS (fun x hx => (hnx x hx).elim) hi hX) (fun x1 σ H locs hw hR hS => ?_)
  refine tk_astore_n (L' := [(3, .inr x1), (0, .inr l0), (1, .inl l1), (2, .inl l2)]) C hl dX1_similarity_5 (by decide) rfl (fun ls hl => ?_)
  refine tk_aload_n C hl 1 dX1_similarity_6 rfl ?_
  refine tk_iload_n C hl 3 dX1_similarity_7 rfl ?_
  obtain ⟨hv, hw⟩ := hw
  refine tw_cbq C hS (tk_runV (As := [.inl l2]) C hR hS (wk_X1_treeOf l C.hst G (R.frames - 1) (by omega) _ _ _ _ σ hw) hv rfl q1581 q1583 qs16 q64 q1584 pd_X1_treeOf ⟨by omega, by omega⟩ hl.1 rfl (tw_r8 [] (Nat.le_of_ble_eq_true rfl)) dX1_similarity_8) (fun E q σ H locs hX hR hS hi => tw_out C hR hS (fun x hx => (hnx x hx).elim) hi hX) (fun x2 σ H locs hw hR hS => ?_)
  refine tk_astore (L' := [(4, .inr x2), (3, .inr x1), (0, .inr l0), (1, .inl l1), (2, .inl l2)]) C hl dX1_similarity_11 (by decide) rfl (fun ls hl => ?_)
  refine lv_dconst1 C.hx C.hb dX1_similarity_13 ?_
  refine tk_aload_n C hl 1 dX1_similarity_14 rfl ?_
  refine tk_grN C hR hw rfl in_X2 (by decide) q242 (fun _ h => h) dX1_similarity_15 (fun x3 hw => ?_)
  refine tk_aload C hl 0 dX1_similarity_18 rfl ?_
  refine tk_grN C hR hw rfl in_X2 (by decide) q242 (fun _ h => h) dX1_similarity_20 (fun x4 hw => ?_)
  refine tw_cbi C hS (tw_runS (As := [.inr x3, .inr x4]) C hR hS (wk_X1_cost l C.hst G 64 (R.frames - 1) (by omega) _ _ _ _ σ hw) q270 q271 q64 q272 pd_X1_cost ⟨by omega, by omega⟩ hl.1 rfl (by first | decide | (simp [Value.category])) dX1_similarity_23) (fun E q σ H locs hX hR hS hi => tw_out C hR hS (fun x hx => (hnx x hx).elim) hi hX) (fun x5 σ H locs hw hR hS => ?_)
  refine lv_i2d C.hx C.hb dX1_similarity_26 ?_
  refine lv_iconst (v := 2) C.hx C.hb dX1_similarity_27 (by decide) ?_
  refine tk_aload_n C hl 1 dX1_similarity_28 rfl ?_
  refine tk_grN C hR hw rfl in_X2 (by decide) q242 (fun _ h => h) dX1_similarity_29 (fun x6 hw => ?_)
  obtain ⟨hv, hw⟩ := hw
  refine tw_cbi C hS (tk_runV (As := []) C hR hS (wk_X3_size l C.hst G 64 (R.frames - 1) (by omega) _ _ _ σ hw) hv rfl q286 q287 q288 q70 q289 pd_X3_size ⟨by omega, by omega⟩ hl.1 rfl (by first | decide | (simp [Value.category])) dX1_similarity_32) (fun E q σ H locs hX hR hS hi => tw_out C hR hS (fun x hx => (hnx x hx).elim) hi hX) (fun x7 σ H locs hw hR hS => ?_)
  refine tk_aload C hl 0 dX1_similarity_35 rfl ?_
  refine tk_grN C hR hw rfl in_X2 (by decide) q242 (fun _ h => h) dX1_similarity_37 (fun x8 hw => ?_)
  obtain ⟨hv, hw⟩ := hw
  refine tw_cbi C hS (tk_runV (As := []) C hR hS (wk_X3_size l C.hst G 64 (R.frames - 1) (by omega) _ _ _ σ hw) hv rfl q286 q287 q288 q70 q289 pd_X3_size ⟨by omega, by omega⟩ hl.1 rfl (by first | decide | (simp [Value.category])) dX1_similarity_40) (fun E q σ H locs hX hR hS hi => tw_out C hR hS (fun x hx => (hnx x hx).elim) hi hX) (fun x9 σ H locs hw hR hS => ?_)
  refine lv_iadd C.hx C.hb dX1_similarity_43 ?_
  refine lv_imul C.hx C.hb dX1_similarity_44 ?_
  refine lv_i2d C.hx C.hb dX1_similarity_45 ?_
  obtain ⟨hne, hw⟩ := hw
  refine lv_ddiv C.hx C.hb dX1_similarity_46 hne ?_
  obtain ⟨hne, hw⟩ := hw
  refine lv_dsub C.hx C.hb dX1_similarity_47 hne ?_
  exact tw_dret C hR hS hr dX1_similarity_48 hw
-- TreeDifferLaw.similarity(LTreeDiffer;II[D)I
def w_X0_similarity_b12 (Q : Int32 → Tst → Prop) (X : String → Nat → Tst → Prop) (s0 : Option Nat) (σ : Tst) : Prop := Q 1 σ
def w_X0_similarity (l0 : Option Nat) (l1 : Int32) (l2 : Int32) (l3 : Option Nat) (Q : Int32 → Tst → Prop) (X : String → Nat → Tst → Prop) (σ : Tst) : Prop := w_rc σ l0 cX1 <| w_X1_similarity l0 l1 l2 (fun x1 σ => w_sd σ l3 0 x1 fun σ => Q 0 σ) (fun E q σ => w_if (E = "java/lang/IndexOutOfBoundsException") (w_X0_similarity_b12 Q X (some q) σ) (False)) σ
set_option maxHeartbeats 4000000 in
theorem wk_X0_similarity_b12  (C : tw_C p l R s m args meth c G cX0_similarity 5 yX0_similarity.cls) (hr : meth.sig.returnType = (some .int)) (hmn : meth.name = yX0_similarity.name) (hnx : (c.exceptionTable.toList = tableOf [(0, 9, 12, 19)])) (hfr : 329 ≤ R.frames) (hRl : R.locals = 40 * R.frames) {Q : Int32 → Tst → Prop} {X : String → Nat → Tst → Prop}  (s0 : Option Nat) (σ : Tst) (H : Heap) (locs : List Loc) (ls : Array Slot) (hw : w_X0_similarity_b12 Q X s0 σ) (hR : tw_R G σ H) (hS : va_S (tw_A G) s.heap H locs) (hl : tw_l ls 5 []) : tw_W p l e R s m args below meth c σ H locs (tw_E below G (tw_Qi G Q) X args s R) (F0 m 12 ls [va_rf s0]) := by
  unfold w_X0_similarity_b12 at hw
  refine tk_astore (L' := [(4, .inr s0)]) C hl dX0_similarity_12 (by decide) rfl (fun ls hl => ?_)
  refine lv_iconst (v := 1) C.hx C.hb dX0_similarity_14 (by decide) ?_
  exact tw_iret C hR hS hr rfl dX0_similarity_15 hw
set_option maxHeartbeats 4000000 in
theorem wk_X0_similarity (l : Launch) (hl0 : l.stackTraces = false) (G : Tgl) (fr : Nat)  (hfr : 329 ≤ fr) (l0 : Option Nat) (l1 : Int32) (l2 : Int32) (l3 : Option Nat) (Q : Int32 → Tst → Prop) (X : String → Nat → Tst → Prop) (σ : Tst) (hw : w_X0_similarity l0 l1 l2 l3 Q X σ) : tw_M l yX0_similarity (wsW_ yX0_similarity cX0_similarity 5 (some .int) [(0, 9, 12, 19)]) fr (40 * fr) G σ [.inr l0, .inl l1, .inl l2, .inr l3] (tw_Qi G Q) X := by
  unfold w_X0_similarity at hw
  refine tw_ofW (ret := (some .int)) (hh := [(0, 9, 12, 19)]) hl0 (by decide) (Nat.le_of_ble_eq_true rfl) (fun p e R s m args below meth c hRf hRl C hr hmn hnx hR hS ls hl => ?_)
  have hfr : 329 ≤ R.frames := by rw [hRf]; exact hfr
  have hRl : R.locals = 40 * R.frames := by rw [hRl, hRf]
  have hl : tw_l ls 5 [(0, .inr l0), (1, .inl l1), (2, .inl l2), (3, .inr l3)] := hl
  refine tk_aload_n C hl 3 dX0_similarity_0 rfl ?_
  refine lv_iconst (v := 0) C.hx C.hb dX0_similarity_1 (by decide) ?_
  refine tk_aload_n C hl 0 dX0_similarity_2 rfl ?_
  refine tk_iload_n C hl 1 dX0_similarity_3 rfl ?_
  refine tk_iload_n C hl 2 dX0_similarity_4 rfl ?_
  obtain ⟨hv, hw⟩ := hw
  refine tw_cbd C hS (tk_runV (As := [.inl l1, .inl l2]) C hR hS (wk_X1_similarity l C.hst G (R.frames - 1) (by omega) _ _ _ _ _ σ hw) hv rfl q1815 q1816 q1817 q64 q1818 pd_X1_similarity ⟨by omega, by omega⟩ hl.1 rfl (tw_r8 [.inl 0, .inr l3] (Nat.le_of_ble_eq_true rfl)) dX0_similarity_5) (fun E q σ H locs hX hR hS hi => ?_) (fun x1 σ H locs hw hR hS => ?_)
  · by_cases cE0 : E = "java/lang/IndexOutOfBoundsException"
    · replace hX := hX.1 cE0
      subst cE0
      refine tw_catch C hnx [] (0, 9, 12, 19) [] rfl (fun z hz => nomatch hz) rfl (by decide) q1394 q687 hi ?_
      exact wk_X0_similarity_b12 C hr hmn hnx hfr hRl _ σ _ _ _ hX hR hS (tk_sub hl [] rfl)
    replace hX := hX.2 cE0
    exact hX.elim
  refine tk_sd C hR hS hw dX0_similarity_8 (fun σ H locs hw hR hS => ?_)
  refine lv_goto (tgt := 16) C.hx C.hb dX0_similarity_9 (by decide) ?_
  refine lv_iconst (v := 0) C.hx C.hb dX0_similarity_16 (by decide) ?_
  exact tw_iret C hR hS hr rfl dX0_similarity_17 hw
-- TreeDiffer$Script$1.<init>(LTreeDiffer$Script;)V
def w_X11_init (l0 : Option Nat) (l1 : Option Nat) (Q : Tst → Prop) (X : String → Nat → Tst → Prop) (σ : Tst) : Prop := w_p σ l0 cX11 0 (.inr l1) fun σ => w_rf l0 <| Q σ
set_option maxHeartbeats 4000000 in
theorem wk_X11_init (l : Launch) (hl0 : l.stackTraces = false) (G : Tgl) (fr : Nat)  (hfr : 1 ≤ fr) (l0 : Option Nat) (l1 : Option Nat) (Q : Tst → Prop) (X : String → Nat → Tst → Prop) (σ : Tst) (hw : w_X11_init l0 l1 Q X σ) : tw_M l yX11_init (ws_ yX11_init cX11_init 2 none) fr (40 * fr) G σ [.inr l0, .inr l1] (tw_Qv G Q) X := by
  unfold w_X11_init at hw
  refine tw_of (ret := none) hl0 (by decide) (Nat.le_of_ble_eq_true rfl) (fun p e R s m args below meth c hRf hRl C hr hmn hnx hR hS ls hl => ?_)
  have hfr : 1 ≤ R.frames := by rw [hRf]; exact hfr
  have hRl : R.locals = 40 * R.frames := by rw [hRl, hRf]
  have hl : tw_l ls 2 [(0, .inr l0), (1, .inr l1)] := hl
  refine tk_aload_n C hl 0 dX11_init_0 rfl ?_
  refine tk_aload_n C hl 1 dX11_init_1 rfl ?_
  refine tk_pF (x := .inr l1) C hR hS hw (Or.inl (by decide)) rfl in_X11 tyX11 tyX11_ok nmX11 (by decide) q1840 (fun _ h => h) rfl hmn rfl (tw_nr _ _) dX11_init_2 (fun σ H locs hw hR hS => ?_)
  refine tk_aload_n C hl 0 dX11_init_5 rfl ?_
  refine tk_obj C hw q1839 q119 q120 hl.1 (tw_r8 [] (Nat.le_of_ble_eq_true rfl)) (by omega) (by omega) dX11_init_6 (fun hw => ?_)
  exact tw_vret C hR hS hr dX11_init_9 hw
-- TreeDiffer$Operation.<init>(CLTreeDiffer$Node;LTreeDiffer$Node;)V
def w_X12_init (l0 : Option Nat) (l1 : Int32) (l2 : Option Nat) (l3 : Option Nat) (Q : Tst → Prop) (X : String → Nat → Tst → Prop) (σ : Tst) : Prop := w_rf l0 <| w_ok .char l1 ∧ w_p σ l0 cX12 0 (.inl l1) fun σ => w_p σ l0 cX12 1 (.inr l2) fun σ => w_p σ l0 cX12 2 (.inr l3) fun σ => Q σ
set_option maxHeartbeats 4000000 in
theorem wk_X12_init (l : Launch) (hl0 : l.stackTraces = false) (G : Tgl) (fr : Nat)  (hfr : 1 ≤ fr) (l0 : Option Nat) (l1 : Int32) (l2 : Option Nat) (l3 : Option Nat) (Q : Tst → Prop) (X : String → Nat → Tst → Prop) (σ : Tst) (hw : w_X12_init l0 l1 l2 l3 Q X σ) : tw_M l yX12_init (ws_ yX12_init cX12_init 4 none) fr (40 * fr) G σ [.inr l0, .inl l1, .inr l2, .inr l3] (tw_Qv G Q) X := by
  unfold w_X12_init at hw
  refine tw_of (ret := none) hl0 (by decide) (Nat.le_of_ble_eq_true rfl) (fun p e R s m args below meth c hRf hRl C hr hmn hnx hR hS ls hl => ?_)
  have hfr : 1 ≤ R.frames := by rw [hRf]; exact hfr
  have hRl : R.locals = 40 * R.frames := by rw [hRl, hRf]
  have hl : tw_l ls 4 [(0, .inr l0), (1, .inl l1), (2, .inr l2), (3, .inr l3)] := hl
  refine tk_aload_n C hl 0 dX12_init_0 rfl ?_
  refine tk_obj C hw q1023 q119 q120 hl.1 (tw_r8 [] (Nat.le_of_ble_eq_true rfl)) (by omega) (by omega) dX12_init_1 (fun hw => ?_)
  refine tk_aload_n C hl 0 dX12_init_4 rfl ?_
  refine tk_iload_n C hl 1 dX12_init_5 rfl ?_
  obtain ⟨hok, hw⟩ := hw
  refine tk_p (x := .inl l1) C hR hS hw (by decide) rfl in_X12 tyX12 tyX12_ok nmX12 (by decide) q1024 (fun _ h => h) rfl hok dX12_init_6 (fun σ H locs hw hR hS => ?_)
  refine tk_aload_n C hl 0 dX12_init_9 rfl ?_
  refine tk_aload_n C hl 2 dX12_init_10 rfl ?_
  refine tk_p (x := .inr l2) C hR hS hw (by decide) rfl in_X12 tyX12 tyX12_ok nmX12 (by decide) q1028 (fun _ h => h) rfl (tw_nr _ _) dX12_init_11 (fun σ H locs hw hR hS => ?_)
  refine tk_aload_n C hl 0 dX12_init_14 rfl ?_
  refine tk_aload_n C hl 3 dX12_init_15 rfl ?_
  refine tk_pF (x := .inr l3) C hR hS hw (Or.inl (by decide)) rfl in_X12 tyX12 tyX12_ok nmX12 (by decide) q1031 (fun _ h => h) rfl hmn rfl (tw_nr _ _) dX12_init_16 (fun σ H locs hw hR hS => ?_)
  exact tw_vret C hR hS hr dX12_init_19 hw
-- java/util/ArrayList.add(Ljava/lang/Object;[Ljava/lang/Object;I)V
def w_J6_add_3_b11 (Q : Tst → Prop) (X : String → Nat → Tst → Prop) (l0 : Option Nat) (l1 : Option Nat) (l2 : Option Nat) (l3 : Int32) (σ : Tst) : Prop := w_sr σ l2 l3 l1 fun σ => w_p σ l0 cJ6 2 (.inl (l3 + 1)) fun σ => Q σ
def w_J6_add_3 (l0 : Option Nat) (l1 : Option Nat) (l2 : Option Nat) (l3 : Int32) (Q : Tst → Prop) (X : String → Nat → Tst → Prop) (σ : Tst) : Prop := w_al σ l2 fun x1 => w_if (l3 = x1) (w_rc σ l0 cJ6 <| w_J6_grow l0 (fun x2 σ => w_J6_add_3_b11 Q X l0 l1 x2 l3 σ) X σ) (w_J6_add_3_b11 Q X l0 l1 l2 l3 σ)
set_option maxHeartbeats 4000000 in
theorem wk_J6_add_3_b11  (C : tw_C p l R s m args meth c G cJ6_add_3 4 yJ6_add_3.cls) (hr : meth.sig.returnType = none) (hmn : meth.name = yJ6_add_3.name) (hnx : (∀ x ∈ c.exceptionTable.toList, False)) (hfr : 5 ≤ R.frames) (hRl : R.locals = 40 * R.frames) {Q : Tst → Prop} {X : String → Nat → Tst → Prop}  (l0 : Option Nat) (l1 : Option Nat) (l2 : Option Nat) (l3 : Int32) (σ : Tst) (H : Heap) (locs : List Loc) (ls : Array Slot) (hw : w_J6_add_3_b11 Q X l0 l1 l2 l3 σ) (hR : tw_R G σ H) (hS : va_S (tw_A G) s.heap H locs) (hl : tw_l ls 4 [(0, .inr l0), (1, .inr l1), (2, .inr l2), (3, .inl l3)]) : tw_W p l e R s m args below meth c σ H locs (tw_E below G (tw_Qv G Q) X args s R) (F0 m 11 ls []) := by
  unfold w_J6_add_3_b11 at hw
  refine tk_aload_n C hl 2 dJ6_add_3_11 rfl ?_
  refine tk_iload_n C hl 3 dJ6_add_3_12 rfl ?_
  refine tk_aload_n C hl 1 dJ6_add_3_13 rfl ?_
  refine tk_sr C hR hS hw dJ6_add_3_14 (fun σ H locs hw hR hS => ?_)
  refine tk_aload_n C hl 0 dJ6_add_3_15 rfl ?_
  refine tk_iload_n C hl 3 dJ6_add_3_16 rfl ?_
  refine lv_iconst (v := 1) C.hx C.hb dJ6_add_3_17 (by decide) ?_
  refine lv_iadd C.hx C.hb dJ6_add_3_18 ?_
  refine tk_p (x := .inl (l3 + 1)) C hR hS hw (by decide) rfl in_J6 tyJ6 tyJ6_ok nmJ6 (by decide) q180 (fun _ h => h) rfl (tw_ni _) dJ6_add_3_19 (fun σ H locs hw hR hS => ?_)
  exact tw_vret C hR hS hr dJ6_add_3_22 hw
set_option maxHeartbeats 4000000 in
theorem wk_J6_add_3 (l : Launch) (hl0 : l.stackTraces = false) (G : Tgl) (fr : Nat)  (hfr : 5 ≤ fr) (l0 : Option Nat) (l1 : Option Nat) (l2 : Option Nat) (l3 : Int32) (Q : Tst → Prop) (X : String → Nat → Tst → Prop) (σ : Tst) (hw : w_J6_add_3 l0 l1 l2 l3 Q X σ) : tw_M l yJ6_add_3 (ws_ yJ6_add_3 cJ6_add_3 4 none) fr (40 * fr) G σ [.inr l0, .inr l1, .inr l2, .inl l3] (tw_Qv G Q) X := by
  unfold w_J6_add_3 at hw
  refine tw_of (ret := none) hl0 (by decide) (Nat.le_of_ble_eq_true rfl) (fun p e R s m args below meth c hRf hRl C hr hmn hnx hR hS ls hl => ?_)
  have hfr : 5 ≤ R.frames := by rw [hRf]; exact hfr
  have hRl : R.locals = 40 * R.frames := by rw [hRl, hRf]
  have hl : tw_l ls 4 [(0, .inr l0), (1, .inr l1), (2, .inr l2), (3, .inl l3)] := hl
  refine tk_iload_n C hl 3 dJ6_add_3_0 rfl ?_
  refine tk_aload_n C hl 2 dJ6_add_3_1 rfl ?_
  refine tk_al C hR hw dJ6_add_3_2 (fun x1 hw => ?_)
  refine lv_icmp_ne (tgt := 11) C.hx C.hb dJ6_add_3_3 (by decide) (fun c3 => ?_) (fun c3 => ?_)
  · replace hw := hw.2 c3
    exact wk_J6_add_3_b11 C hr hmn hnx hfr hRl _ _ _ _ σ _ _ _ hw hR hS (tk_sub hl [0, 1, 2, 3] rfl)
  · replace hw := hw.1 c3
    refine tk_aload_n C hl 0 dJ6_add_3_6 rfl ?_
    obtain ⟨hv, hw⟩ := hw
    refine tw_cbq C hS (tk_runV (As := []) C hR hS (wk_J6_grow l C.hst G (R.frames - 1) (by omega) _ _ _ σ hw) hv rfl q930 q932 qs6 q73 q933 pd_J6_grow ⟨by omega, by omega⟩ hl.1 rfl (tw_r8 [] (Nat.le_of_ble_eq_true rfl)) dJ6_add_3_7) (fun E q σ H locs hX hR hS hi => tw_out C hR hS (fun x hx => (hnx x hx).elim) hi hX) (fun x2 σ H locs hw hR hS => ?_)
    refine tk_astore_n (L' := [(2, .inr x2), (0, .inr l0), (1, .inr l1), (3, .inl l3)]) C hl dJ6_add_3_10 (by decide) rfl (fun ls hl => ?_)
    exact wk_J6_add_3_b11 C hr hmn hnx hfr hRl _ _ _ _ σ _ _ _ hw hR hS (tk_sub hl [1, 2, 0, 3] rfl)
-- java/util/ArrayList.add(Ljava/lang/Object;)Z
def w_J6_add_2 (l0 : Option Nat) (l1 : Option Nat) (Q : Int32 → Tst → Prop) (X : String → Nat → Tst → Prop) (σ : Tst) : Prop := w_gi σ l0 cJ6 0 fun x1 => w_p σ l0 cJ6 0 (.inl (x1 + 1)) fun σ => w_gr σ l0 cJ6 1 fun x2 => w_gi σ l0 cJ6 2 fun x3 => w_rc σ l0 cJ6 <| w_J6_add_3 l0 l1 x2 x3 (fun σ => narrow .boolean (.int 1) = .int 1 ∧ Q 1 σ) X σ
set_option maxHeartbeats 4000000 in
theorem wk_J6_add_2 (l : Launch) (hl0 : l.stackTraces = false) (G : Tgl) (fr : Nat)  (hfr : 6 ≤ fr) (l0 : Option Nat) (l1 : Option Nat) (Q : Int32 → Tst → Prop) (X : String → Nat → Tst → Prop) (σ : Tst) (hw : w_J6_add_2 l0 l1 Q X σ) : tw_M l yJ6_add_2 (ws_ yJ6_add_2 cJ6_add_2 2 (some .boolean)) fr (40 * fr) G σ [.inr l0, .inr l1] (tw_Qi G Q) X := by
  unfold w_J6_add_2 at hw
  refine tw_of (ret := (some .boolean)) hl0 (by decide) (Nat.le_of_ble_eq_true rfl) (fun p e R s m args below meth c hRf hRl C hr hmn hnx hR hS ls hl => ?_)
  have hfr : 6 ≤ R.frames := by rw [hRf]; exact hfr
  have hRl : R.locals = 40 * R.frames := by rw [hRl, hRf]
  have hl : tw_l ls 2 [(0, .inr l0), (1, .inr l1)] := hl
  refine tk_aload_n C hl 0 dJ6_add_2_0 rfl ?_
  refine tw_dup (x := .inr l0) C.hx C.hb dJ6_add_2_1 ?_
  refine tk_gi C hR hw rfl in_J6 (by decide) q184 (u_same (C.hts _ q183)) dJ6_add_2_2 (fun x1 hw => ?_)
  refine lv_iconst (v := 1) C.hx C.hb dJ6_add_2_5 (by decide) ?_
  refine lv_iadd C.hx C.hb dJ6_add_2_6 ?_
  refine tk_p (x := .inl (x1 + 1)) C hR hS hw (by decide) rfl in_J6 tyJ6 tyJ6_ok nmJ6 (by decide) q184 (u_same (C.hts _ q183)) rfl (tw_ni _) dJ6_add_2_7 (fun σ H locs hw hR hS => ?_)
  refine tk_aload_n C hl 0 dJ6_add_2_10 rfl ?_
  refine tk_aload_n C hl 1 dJ6_add_2_11 rfl ?_
  refine tk_aload_n C hl 0 dJ6_add_2_12 rfl ?_
  refine tk_gr C hR hw rfl in_J6 (by decide) q177 (fun _ h => h) dJ6_add_2_13 (fun x2 hw => ?_)
  refine tk_aload_n C hl 0 dJ6_add_2_16 rfl ?_
  refine tk_gi C hR hw rfl in_J6 (by decide) q180 (fun _ h => h) dJ6_add_2_17 (fun x3 hw => ?_)
  obtain ⟨hv, hw⟩ := hw
  refine tw_cbv C hS (tk_runV (As := [.inr l1, .inr x2, .inl x3]) C hR hS (wk_J6_add_3 l C.hst G (R.frames - 1) (by omega) _ _ _ _ _ _ σ hw) hv rfl q1051 q1053 qs8 q73 q1054 pd_J6_add_3 ⟨by omega, by omega⟩ hl.1 rfl (tw_r8 [] (Nat.le_of_ble_eq_true rfl)) dJ6_add_2_20) (fun E q σ H locs hX hR hS hi => tw_out C hR hS (fun x hx => (hnx x hx).elim) hi hX) (fun σ H locs hw hR hS => ?_)
  refine lv_iconst (v := 1) C.hx C.hb dJ6_add_2_23 (by decide) ?_
  obtain ⟨hok, hw⟩ := hw
  exact tw_iret C hR hS hr hok dJ6_add_2_24 hw
-- TreeDiffer$Script$1.pair(LTreeDiffer$Node;LTreeDiffer$Node;)V
def w_X11_pair_b80 (Q : Tst → Prop) (X : String → Nat → Tst → Prop) (σ : Tst) : Prop := Q σ
def w_X11_pair_b45 (Q : Tst → Prop) (X : String → Nat → Tst → Prop) (l0 : Option Nat) (l1 : Option Nat) (l2 : Option Nat) (σ : Tst) : Prop := w_gi σ l1 cX3 2 fun x1 => w_gi σ l2 cX3 2 fun x2 => w_if (x1 = x2) (w_X11_pair_b80 Q X σ) (w_gr σ l0 cX11 0 fun x3 => w_gr σ x3 cX10 2 fun x4 => w_nw σ cX12 3 [.inl 0, .inr none, .inr none] fun q5 σ => w_rf q5 <| w_X12_init q5 118 l1 l2 (fun σ => w_rc σ x4 cJ6 <| w_J6_add_2 x4 q5 (fun x7 σ => w_X11_pair_b80 Q X σ) X σ) X σ)
def w_X11_pair (l0 : Option Nat) (l1 : Option Nat) (l2 : Option Nat) (Q : Tst → Prop) (X : String → Nat → Tst → Prop) (σ : Tst) : Prop := w_p σ l1 cX3 5 (.inr l2) fun σ => w_p σ l2 cX3 5 (.inr l1) fun σ => w_gi σ l1 cX3 0 fun x1 => w_gi σ l2 cX3 0 fun x2 => w_if (x1 = x2) (w_X11_pair_b45 Q X l0 l1 l2 σ) (w_gr σ l0 cX11 0 fun x3 => w_gr σ x3 cX10 2 fun x4 => w_nw σ cX12 3 [.inl 0, .inr none, .inr none] fun q5 σ => w_rf q5 <| w_X12_init q5 108 l1 l2 (fun σ => w_rc σ x4 cJ6 <| w_J6_add_2 x4 q5 (fun x7 σ => w_X11_pair_b45 Q X l0 l1 l2 σ) X σ) X σ)
set_option maxHeartbeats 4000000 in
theorem wk_X11_pair_b80  (C : tw_C p l R s m args meth c G cX11_pair 3 yX11_pair.cls) (hr : meth.sig.returnType = none) (hmn : meth.name = yX11_pair.name) (hnx : (∀ x ∈ c.exceptionTable.toList, False)) (hfr : 7 ≤ R.frames) (hRl : R.locals = 40 * R.frames) {Q : Tst → Prop} {X : String → Nat → Tst → Prop}   (σ : Tst) (H : Heap) (locs : List Loc) (ls : Array Slot) (hw : w_X11_pair_b80 Q X  σ) (hR : tw_R G σ H) (hS : va_S (tw_A G) s.heap H locs) (hl : tw_l ls 3 []) : tw_W p l e R s m args below meth c σ H locs (tw_E below G (tw_Qv G Q) X args s R) (F0 m 80 ls []) := by
  unfold w_X11_pair_b80 at hw
  exact tw_vret C hR hS hr dX11_pair_80 hw
set_option maxHeartbeats 4000000 in
theorem wk_X11_pair_b45  (C : tw_C p l R s m args meth c G cX11_pair 3 yX11_pair.cls) (hr : meth.sig.returnType = none) (hmn : meth.name = yX11_pair.name) (hnx : (∀ x ∈ c.exceptionTable.toList, False)) (hfr : 7 ≤ R.frames) (hRl : R.locals = 40 * R.frames) {Q : Tst → Prop} {X : String → Nat → Tst → Prop}  (l0 : Option Nat) (l1 : Option Nat) (l2 : Option Nat) (σ : Tst) (H : Heap) (locs : List Loc) (ls : Array Slot) (hw : w_X11_pair_b45 Q X l0 l1 l2 σ) (hR : tw_R G σ H) (hS : va_S (tw_A G) s.heap H locs) (hl : tw_l ls 3 [(0, .inr l0), (1, .inr l1), (2, .inr l2)]) : tw_W p l e R s m args below meth c σ H locs (tw_E below G (tw_Qv G Q) X args s R) (F0 m 45 ls []) := by
  unfold w_X11_pair_b45 at hw
  refine tk_aload_n C hl 1 dX11_pair_45 rfl ?_
  refine tk_giN C hR hw rfl in_X3 (by decide) q202 (fun _ h => h) dX11_pair_46 (fun x1 hw => ?_)
  refine tk_aload_n C hl 2 dX11_pair_49 rfl ?_
  refine tk_giN C hR hw rfl in_X3 (by decide) q202 (fun _ h => h) dX11_pair_50 (fun x2 hw => ?_)
  refine lv_icmp_eq (tgt := 80) C.hx C.hb dX11_pair_53 (by decide) (fun c53 => ?_) (fun c53 => ?_)
  · replace hw := hw.1 c53
    exact wk_X11_pair_b80 C hr hmn hnx hfr hRl σ _ _ _ hw hR hS (tk_sub hl [] rfl)
  · replace hw := hw.2 c53
    refine tk_aload_n C hl 0 dX11_pair_56 rfl ?_
    refine tk_gr C hR hw rfl in_X11 (by decide) q1840 (fun _ h => h) dX11_pair_57 (fun x3 hw => ?_)
    refine tk_grN C hR hw rfl in_X10 (by decide) q1898 (fun _ h => h) dX11_pair_60 (fun x4 hw => ?_)
    refine tk_nw C hR hS hw rfl in_X12 tyX12 tyX12_ok q1018 q1019 q103 (fun j hj => by rcases (show j = 0 ∨ j = 1 ∨ j = 2 by omega) with rfl | rfl | rfl <;> rfl) dX11_pair_63 (fun q5 σ H hw hR hS => ?_)
    refine tw_dup (x := .inr q5) C.hx C.hb dX11_pair_66 ?_
    refine lv_bipush (v := 118) C.hx C.hb dX11_pair_67 (by decide) ?_
    refine tk_aload_n C hl 1 dX11_pair_69 rfl ?_
    refine tk_aload_n C hl 2 dX11_pair_70 rfl ?_
    obtain ⟨hv, hw⟩ := hw
    refine tw_cbv C hS (tk_runI (As := [.inl 118, .inr l1, .inr l2]) hv C hR hS (wk_X12_init l C.hst G (R.frames - 1) (by omega) _ _ _ _ _ _ σ hw) q1020 q1021 q103 q1022 rfl pd_X12_init ⟨by omega, by omega⟩ hl.1 rfl (tw_r8 [.inr q5, .inr x4] (Nat.le_of_ble_eq_true rfl)) dX11_pair_71) (fun E q σ H locs hX hR hS hi => tw_out C hR hS (fun x hx => (hnx x hx).elim) hi hX) (fun σ H locs hw hR hS => ?_)
    obtain ⟨hv, hw⟩ := hw
    refine tw_cbi5 C hS (tk_runF (As := [.inr q5]) (x := ⟨"java/util/List", "add", "(Ljava/lang/Object;)Z"⟩) C hR hS (wk_J6_add_2 l C.hst G (R.frames - 1) (by omega) _ _ _ _ σ hw) hv rfl q1043 q1046 q1048 q73 q1050 (by decide +kernel) (show tw_pd ⟨"java/util/List", "add", "(Ljava/lang/Object;)Z"⟩ 1 by decide +kernel) ⟨by omega, by omega⟩ hl.1 rfl (tw_r8 [] (Nat.le_of_ble_eq_true rfl)) dX11_pair_74) (fun E q σ H locs hX hR hS hi => tw_out C hR hS (fun x hx => (hnx x hx).elim) hi hX) (fun x7 σ H locs hw hR hS => ?_)
    refine tw_pop (x := .inl x7) C.hx C.hb dX11_pair_79 ?_
    exact wk_X11_pair_b80 C hr hmn hnx hfr hRl σ _ _ _ hw hR hS (tk_sub hl [] rfl)
set_option maxHeartbeats 4000000 in
theorem wk_X11_pair (l : Launch) (hl0 : l.stackTraces = false) (G : Tgl) (fr : Nat)  (hfr : 7 ≤ fr) (l0 : Option Nat) (l1 : Option Nat) (l2 : Option Nat) (Q : Tst → Prop) (X : String → Nat → Tst → Prop) (σ : Tst) (hw : w_X11_pair l0 l1 l2 Q X σ) : tw_M l yX11_pair (ws_ yX11_pair cX11_pair 3 none) fr (40 * fr) G σ [.inr l0, .inr l1, .inr l2] (tw_Qv G Q) X := by
  unfold w_X11_pair at hw
  refine tw_of (ret := none) hl0 (by decide) (Nat.le_of_ble_eq_true rfl) (fun p e R s m args below meth c hRf hRl C hr hmn hnx hR hS ls hl => ?_)
  have hfr : 7 ≤ R.frames := by rw [hRf]; exact hfr
  have hRl : R.locals = 40 * R.frames := by rw [hRl, hRf]
  have hl : tw_l ls 3 [(0, .inr l0), (1, .inr l1), (2, .inr l2)] := hl
  refine tk_aload_n C hl 1 dX11_pair_0 rfl ?_
  refine tk_aload_n C hl 2 dX11_pair_1 rfl ?_
  refine tk_pN (x := .inr l2) C hR hS hw (by decide) rfl in_X3 tyX3 tyX3_ok nmX3 (by decide) q215 (fun _ h => h) rfl (tw_nr _ _) dX11_pair_2 (fun σ H locs hw hR hS => ?_)
  refine tk_aload_n C hl 2 dX11_pair_5 rfl ?_
  refine tk_aload_n C hl 1 dX11_pair_6 rfl ?_
  refine tk_pN (x := .inr l1) C hR hS hw (by decide) rfl in_X3 tyX3 tyX3_ok nmX3 (by decide) q215 (fun _ h => h) rfl (tw_nr _ _) dX11_pair_7 (fun σ H locs hw hR hS => ?_)
  refine tk_aload_n C hl 1 dX11_pair_10 rfl ?_
  refine tk_giN C hR hw rfl in_X3 (by decide) q193 (fun _ h => h) dX11_pair_11 (fun x1 hw => ?_)
  refine tk_aload_n C hl 2 dX11_pair_14 rfl ?_
  refine tk_giN C hR hw rfl in_X3 (by decide) q193 (fun _ h => h) dX11_pair_15 (fun x2 hw => ?_)
  refine lv_icmp_eq (tgt := 45) C.hx C.hb dX11_pair_18 (by decide) (fun c18 => ?_) (fun c18 => ?_)
  · replace hw := hw.1 c18
    exact wk_X11_pair_b45 C hr hmn hnx hfr hRl _ _ _ σ _ _ _ hw hR hS (tk_sub hl [0, 1, 2] rfl)
  · replace hw := hw.2 c18
    refine tk_aload_n C hl 0 dX11_pair_21 rfl ?_
    refine tk_gr C hR hw rfl in_X11 (by decide) q1840 (fun _ h => h) dX11_pair_22 (fun x3 hw => ?_)
    refine tk_grN C hR hw rfl in_X10 (by decide) q1898 (fun _ h => h) dX11_pair_25 (fun x4 hw => ?_)
    refine tk_nw C hR hS hw rfl in_X12 tyX12 tyX12_ok q1018 q1019 q103 (fun j hj => by rcases (show j = 0 ∨ j = 1 ∨ j = 2 by omega) with rfl | rfl | rfl <;> rfl) dX11_pair_28 (fun q5 σ H hw hR hS => ?_)
    refine tw_dup (x := .inr q5) C.hx C.hb dX11_pair_31 ?_
    refine lv_bipush (v := 108) C.hx C.hb dX11_pair_32 (by decide) ?_
    refine tk_aload_n C hl 1 dX11_pair_34 rfl ?_
    refine tk_aload_n C hl 2 dX11_pair_35 rfl ?_
    obtain ⟨hv, hw⟩ := hw
    refine tw_cbv C hS (tk_runI (As := [.inl 108, .inr l1, .inr l2]) hv C hR hS (wk_X12_init l C.hst G (R.frames - 1) (by omega) _ _ _ _ _ _ σ hw) q1020 q1021 q103 q1022 rfl pd_X12_init ⟨by omega, by omega⟩ hl.1 rfl (tw_r8 [.inr q5, .inr x4] (Nat.le_of_ble_eq_true rfl)) dX11_pair_36) (fun E q σ H locs hX hR hS hi => tw_out C hR hS (fun x hx => (hnx x hx).elim) hi hX) (fun σ H locs hw hR hS => ?_)
    obtain ⟨hv, hw⟩ := hw
    refine tw_cbi5 C hS (tk_runF (As := [.inr q5]) (x := ⟨"java/util/List", "add", "(Ljava/lang/Object;)Z"⟩) C hR hS (wk_J6_add_2 l C.hst G (R.frames - 1) (by omega) _ _ _ _ σ hw) hv rfl q1043 q1046 q1048 q73 q1050 (by decide +kernel) (show tw_pd ⟨"java/util/List", "add", "(Ljava/lang/Object;)Z"⟩ 1 by decide +kernel) ⟨by omega, by omega⟩ hl.1 rfl (tw_r8 [] (Nat.le_of_ble_eq_true rfl)) dX11_pair_39) (fun E q σ H locs hX hR hS hi => tw_out C hR hS (fun x hx => (hnx x hx).elim) hi hX) (fun x7 σ H locs hw hR hS => ?_)
    refine tw_pop (x := .inl x7) C.hx C.hb dX11_pair_44 ?_
    exact wk_X11_pair_b45 C hr hmn hnx hfr hRl _ _ _ σ _ _ _ hw hR hS (tk_sub hl [0, 1, 2] rfl)
-- TreeDiffer$Script$1.deletion(LTreeDiffer$Node;)V
def w_X11_deletion (l0 : Option Nat) (l1 : Option Nat) (Q : Tst → Prop) (X : String → Nat → Tst → Prop) (σ : Tst) : Prop := w_gr σ l0 cX11 0 fun x1 => w_gr σ x1 cX10 2 fun x2 => w_nw σ cX12 3 [.inl 0, .inr none, .inr none] fun q3 σ => w_rf q3 <| w_X12_init q3 100 l1 none (fun σ => w_rc σ x2 cJ6 <| w_J6_add_2 x2 q3 (fun x5 σ => Q σ) X σ) X σ
set_option maxHeartbeats 4000000 in
theorem wk_X11_deletion (l : Launch) (hl0 : l.stackTraces = false) (G : Tgl) (fr : Nat)  (hfr : 7 ≤ fr) (l0 : Option Nat) (l1 : Option Nat) (Q : Tst → Prop) (X : String → Nat → Tst → Prop) (σ : Tst) (hw : w_X11_deletion l0 l1 Q X σ) : tw_M l yX11_deletion (ws_ yX11_deletion cX11_deletion 2 none) fr (40 * fr) G σ [.inr l0, .inr l1] (tw_Qv G Q) X := by
  unfold w_X11_deletion at hw
  refine tw_of (ret := none) hl0 (by decide) (Nat.le_of_ble_eq_true rfl) (fun p e R s m args below meth c hRf hRl C hr hmn hnx hR hS ls hl => ?_)
  have hfr : 7 ≤ R.frames := by rw [hRf]; exact hfr
  have hRl : R.locals = 40 * R.frames := by rw [hRl, hRf]
  have hl : tw_l ls 2 [(0, .inr l0), (1, .inr l1)] := hl
  refine tk_aload_n C hl 0 dX11_deletion_0 rfl ?_
  refine tk_gr C hR hw rfl in_X11 (by decide) q1840 (fun _ h => h) dX11_deletion_1 (fun x1 hw => ?_)
  refine tk_grN C hR hw rfl in_X10 (by decide) q1898 (fun _ h => h) dX11_deletion_4 (fun x2 hw => ?_)
  refine tk_nw C hR hS hw rfl in_X12 tyX12 tyX12_ok q1018 q1019 q103 (fun j hj => by rcases (show j = 0 ∨ j = 1 ∨ j = 2 by omega) with rfl | rfl | rfl <;> rfl) dX11_deletion_7 (fun q3 σ H hw hR hS => ?_)
  refine tw_dup (x := .inr q3) C.hx C.hb dX11_deletion_10 ?_
  refine lv_bipush (v := 100) C.hx C.hb dX11_deletion_11 (by decide) ?_
  refine tk_aload_n C hl 1 dX11_deletion_13 rfl ?_
  refine lv_null C.hx C.hb dX11_deletion_14 ?_
  refine W.eq (g2 := F0 m 15 ls (va_rf none :: [va_rf l1, .int 100, va_rf q3, va_rf q3, va_rf x2])) rfl ?_
  obtain ⟨hv, hw⟩ := hw
  refine tw_cbv C hS (tk_runI (As := [.inl 100, .inr l1, .inr none]) hv C hR hS (wk_X12_init l C.hst G (R.frames - 1) (by omega) _ _ _ _ _ _ σ hw) q1020 q1021 q103 q1022 rfl pd_X12_init ⟨by omega, by omega⟩ hl.1 rfl (tw_r8 [.inr q3, .inr x2] (Nat.le_of_ble_eq_true rfl)) dX11_deletion_15) (fun E q σ H locs hX hR hS hi => tw_out C hR hS (fun x hx => (hnx x hx).elim) hi hX) (fun σ H locs hw hR hS => ?_)
  obtain ⟨hv, hw⟩ := hw
  refine tw_cbi5 C hS (tk_runF (As := [.inr q3]) (x := ⟨"java/util/List", "add", "(Ljava/lang/Object;)Z"⟩) C hR hS (wk_J6_add_2 l C.hst G (R.frames - 1) (by omega) _ _ _ _ σ hw) hv rfl q1043 q1046 q1048 q73 q1050 (by decide +kernel) (show tw_pd ⟨"java/util/List", "add", "(Ljava/lang/Object;)Z"⟩ 1 by decide +kernel) ⟨by omega, by omega⟩ hl.1 rfl (tw_r8 [] (Nat.le_of_ble_eq_true rfl)) dX11_deletion_18) (fun E q σ H locs hX hR hS hi => tw_out C hR hS (fun x hx => (hnx x hx).elim) hi hX) (fun x5 σ H locs hw hR hS => ?_)
  refine tw_pop (x := .inl x5) C.hx C.hb dX11_deletion_23 ?_
  exact tw_vret C hR hS hr dX11_deletion_24 hw
-- TreeDiffer$Script$1.insertion(LTreeDiffer$Node;)V
def w_X11_insertion (l0 : Option Nat) (l1 : Option Nat) (Q : Tst → Prop) (X : String → Nat → Tst → Prop) (σ : Tst) : Prop := w_gr σ l0 cX11 0 fun x1 => w_gr σ x1 cX10 2 fun x2 => w_nw σ cX12 3 [.inl 0, .inr none, .inr none] fun q3 σ => w_rf q3 <| w_X12_init q3 105 none l1 (fun σ => w_rc σ x2 cJ6 <| w_J6_add_2 x2 q3 (fun x5 σ => Q σ) X σ) X σ
set_option maxHeartbeats 4000000 in
theorem wk_X11_insertion (l : Launch) (hl0 : l.stackTraces = false) (G : Tgl) (fr : Nat)  (hfr : 7 ≤ fr) (l0 : Option Nat) (l1 : Option Nat) (Q : Tst → Prop) (X : String → Nat → Tst → Prop) (σ : Tst) (hw : w_X11_insertion l0 l1 Q X σ) : tw_M l yX11_insertion (ws_ yX11_insertion cX11_insertion 2 none) fr (40 * fr) G σ [.inr l0, .inr l1] (tw_Qv G Q) X := by
  unfold w_X11_insertion at hw
  refine tw_of (ret := none) hl0 (by decide) (Nat.le_of_ble_eq_true rfl) (fun p e R s m args below meth c hRf hRl C hr hmn hnx hR hS ls hl => ?_)
  have hfr : 7 ≤ R.frames := by rw [hRf]; exact hfr
  have hRl : R.locals = 40 * R.frames := by rw [hRl, hRf]
  have hl : tw_l ls 2 [(0, .inr l0), (1, .inr l1)] := hl
  refine tk_aload_n C hl 0 dX11_insertion_0 rfl ?_
  refine tk_gr C hR hw rfl in_X11 (by decide) q1840 (fun _ h => h) dX11_insertion_1 (fun x1 hw => ?_)
  refine tk_grN C hR hw rfl in_X10 (by decide) q1898 (fun _ h => h) dX11_insertion_4 (fun x2 hw => ?_)
  refine tk_nw C hR hS hw rfl in_X12 tyX12 tyX12_ok q1018 q1019 q103 (fun j hj => by rcases (show j = 0 ∨ j = 1 ∨ j = 2 by omega) with rfl | rfl | rfl <;> rfl) dX11_insertion_7 (fun q3 σ H hw hR hS => ?_)
  refine tw_dup (x := .inr q3) C.hx C.hb dX11_insertion_10 ?_
  refine lv_bipush (v := 105) C.hx C.hb dX11_insertion_11 (by decide) ?_
  refine lv_null C.hx C.hb dX11_insertion_13 ?_
  refine W.eq (g2 := F0 m 14 ls (va_rf none :: [.int 105, va_rf q3, va_rf q3, va_rf x2])) rfl ?_
  refine tk_aload_n C hl 1 dX11_insertion_14 rfl ?_
  obtain ⟨hv, hw⟩ := hw
  refine tw_cbv C hS (tk_runI (As := [.inl 105, .inr none, .inr l1]) hv C hR hS (wk_X12_init l C.hst G (R.frames - 1) (by omega) _ _ _ _ _ _ σ hw) q1020 q1021 q103 q1022 rfl pd_X12_init ⟨by omega, by omega⟩ hl.1 rfl (tw_r8 [.inr q3, .inr x2] (Nat.le_of_ble_eq_true rfl)) dX11_insertion_15) (fun E q σ H locs hX hR hS hi => tw_out C hR hS (fun x hx => (hnx x hx).elim) hi hX) (fun σ H locs hw hR hS => ?_)
  obtain ⟨hv, hw⟩ := hw
  refine tw_cbi5 C hS (tk_runF (As := [.inr q3]) (x := ⟨"java/util/List", "add", "(Ljava/lang/Object;)Z"⟩) C hR hS (wk_J6_add_2 l C.hst G (R.frames - 1) (by omega) _ _ _ _ σ hw) hv rfl q1043 q1046 q1048 q73 q1050 (by decide +kernel) (show tw_pd ⟨"java/util/List", "add", "(Ljava/lang/Object;)Z"⟩ 1 by decide +kernel) ⟨by omega, by omega⟩ hl.1 rfl (tw_r8 [] (Nat.le_of_ble_eq_true rfl)) dX11_insertion_18) (fun E q σ H locs hX hR hS hi => tw_out C hR hS (fun x hx => (hnx x hx).elim) hi hX) (fun x5 σ H locs hw hR hS => ?_)
  refine tw_pop (x := .inl x5) C.hx C.hb dX11_insertion_23 ?_
  exact tw_vret C hR hS hr dX11_insertion_24 hw
-- TreeDiffer.visit(LTreeDiffer$Node;LTreeDiffer$Node;LTreeDiffer$Visitor;)V
def w_X1_visitS_b182 (rf_X1_visitS : (Option Nat) → (Option Nat) → (Option Nat) → (Tst → Prop) → (String → Nat → Tst → Prop) → Tst → Prop) (k24 : Option Nat → Option Nat → Option Nat → Option Nat → Int32 → Int32 → Tst → Prop) (Q : Tst → Prop) (X : String → Nat → Tst → Prop) (l0 : Option Nat) (l1 : Option Nat) (l2 : Option Nat) (l3 : Option Nat) (l4 : Int32) (l5 : Int32) (σ : Tst) : Prop := w_gr σ l1 cX3 4 fun x1 => w_rc σ x1 cJ6 <| w_J6_get x1 l5 (fun x2 σ => w_cc σ x2 cX3 <| w_rc σ l2 cX11 <| w_X11_insertion l2 x2 (fun σ => k24 l0 l1 l2 l3 l4 (l5 + 1) σ) X σ) X σ
def w_X1_visitS_b123 (rf_X1_visitS : (Option Nat) → (Option Nat) → (Option Nat) → (Tst → Prop) → (String → Nat → Tst → Prop) → Tst → Prop) (k24 : Option Nat → Option Nat → Option Nat → Option Nat → Int32 → Int32 → Tst → Prop) (Q : Tst → Prop) (X : String → Nat → Tst → Prop) (l0 : Option Nat) (l1 : Option Nat) (l2 : Option Nat) (l3 : Option Nat) (l4 : Int32) (l5 : Int32) (σ : Tst) : Prop := w_gr σ l0 cX3 4 fun x1 => w_rc σ x1 cJ6 <| w_J6_size x1 (fun x2 σ => w_if (x2 ≤ l4) (w_X1_visitS_b182 rf_X1_visitS k24 Q X l0 l1 l2 l3 l4 l5 σ) (w_rc σ l3 cX9 <| w_X9_byDeletion l3 l4 l5 (fun x3 σ => w_rc σ l3 cX9 <| w_X9_at l3 l4 l5 (fun x4 σ => w_if (x3 = x4) (w_gr σ l0 cX3 4 fun x5 => w_rc σ x5 cJ6 <| w_J6_get x5 l4 (fun x6 σ => w_cc σ x6 cX3 <| w_rc σ l2 cX11 <| w_X11_deletion l2 x6 (fun σ => k24 l0 l1 l2 l3 (l4 + 1) l5 σ) X σ) X σ) (w_X1_visitS_b182 rf_X1_visitS k24 Q X l0 l1 l2 l3 l4 l5 σ)) X σ) X σ)) X σ
def w_X1_visitS_b52 (rf_X1_visitS : (Option Nat) → (Option Nat) → (Option Nat) → (Tst → Prop) → (String → Nat → Tst → Prop) → Tst → Prop) (k24 : Option Nat → Option Nat → Option Nat → Option Nat → Int32 → Int32 → Tst → Prop) (Q : Tst → Prop) (X : String → Nat → Tst → Prop) (l0 : Option Nat) (l1 : Option Nat) (l2 : Option Nat) (l3 : Option Nat) (l4 : Int32) (l5 : Int32) (σ : Tst) : Prop := w_rc σ l3 cX9 <| w_X9_canPair l3 l4 l5 (fun x1 σ => w_if (x1 = 0) (w_X1_visitS_b123 rf_X1_visitS k24 Q X l0 l1 l2 l3 l4 l5 σ) (w_rc σ l3 cX9 <| w_X9_byPair (w_X1_cost 64) l3 l4 l5 (fun x2 σ => w_rc σ l3 cX9 <| w_X9_at l3 l4 l5 (fun x3 σ => w_if (x2 = x3) (w_gr σ l0 cX3 4 fun x4 => w_rc σ x4 cJ6 <| w_J6_get x4 l4 (fun x5 σ => w_cc σ x5 cX3 <| w_gr σ l1 cX3 4 fun x6 => w_rc σ x6 cJ6 <| w_J6_get x6 l5 (fun x7 σ => w_cc σ x7 cX3 <| rf_X1_visitS x5 x7 l2 (fun σ => k24 l0 l1 l2 l3 (l4 + 1) (l5 + 1) σ) X σ) X σ) X σ) (w_X1_visitS_b123 rf_X1_visitS k24 Q X l0 l1 l2 l3 l4 l5 σ)) X σ) X σ)) X σ
def w_X1_visitS_b24 (rf_X1_visitS : (Option Nat) → (Option Nat) → (Option Nat) → (Tst → Prop) → (String → Nat → Tst → Prop) → Tst → Prop) (Q : Tst → Prop) (X : String → Nat → Tst → Prop) : Nat → Option Nat → Option Nat → Option Nat → Option Nat → Int32 → Int32 → Tst → Prop
  | 0, _, _, _, _, _, _, _ => False
  | n + 1, l0, l1, l2, l3, l4, l5, σ => w_gr σ l0 cX3 4 fun x1 => w_rc σ x1 cJ6 <| w_J6_size x1 (fun x2 σ => w_if (l4 < x2) (w_X1_visitS_b52 rf_X1_visitS (w_X1_visitS_b24 rf_X1_visitS Q X n) Q X l0 l1 l2 l3 l4 l5 σ) (w_gr σ l1 cX3 4 fun x3 => w_rc σ x3 cJ6 <| w_J6_size x3 (fun x4 σ => w_if (x4 ≤ l5) (Q σ) (w_X1_visitS_b52 rf_X1_visitS (w_X1_visitS_b24 rf_X1_visitS Q X n) Q X l0 l1 l2 l3 l4 l5 σ)) X σ)) X σ
def w_X1_visitS : Nat → Option Nat → Option Nat → Option Nat → (Tst → Prop) → (String → Nat → Tst → Prop) → Tst → Prop
  | 0, _, _, _, _, _, _ => False
  | d + 1, l0, l1, l2, Q, X, σ => w_rc σ l2 cX11 <| w_X11_pair l2 l0 l1 (fun σ => w_nw σ cX9 4 [.inr none, .inr none, .inl 0, .inr none] fun q2 σ => w_rf q2 <| w_X9_init (w_X1_cost 64) q2 l0 l1 (fun σ => ∃ z, w_X1_visitS_b24 (w_X1_visitS d) Q X z l0 l1 l2 q2 0 0 σ) X σ) X σ
set_option maxHeartbeats 4000000 in
theorem wk_X1_visitS_b182 {rf_X1_visitS : (Option Nat) → (Option Nat) → (Option Nat) → (Tst → Prop) → (String → Nat → Tst → Prop) → Tst → Prop} {frf_X1_visitS : Nat}  (C : tw_C p l R s m args meth c G cX1_visit 6 yX1_visit.cls) (hr : meth.sig.returnType = none) (hmn : meth.name = yX1_visit.name) (hnx : (∀ x ∈ c.exceptionTable.toList, False)) (hfr : 331 ≤ R.frames ∧ frf_X1_visitS + 1 ≤ R.frames) (hRl : R.locals = 40 * R.frames) {Q : Tst → Prop} {X : String → Nat → Tst → Prop} (hrf_X1_visitS : ∀ fr : Nat, frf_X1_visitS ≤ fr → ∀ (a0 : Option Nat) (a1 : Option Nat) (a2 : Option Nat) (Q : Tst → Prop) (X : String → Nat → Tst → Prop) (σ : Tst), rf_X1_visitS a0 a1 a2 Q X σ → tw_M l yX1_visit (ws_ yX1_visit cX1_visit 6 none) fr (40 * fr) G σ [.inr a0, .inr a1, .inr a2] (tw_Qv G Q) X) {k24 : Option Nat → Option Nat → Option Nat → Option Nat → Int32 → Int32 → Tst → Prop} (hk24 : ∀ (l0 : Option Nat) (l1 : Option Nat) (l2 : Option Nat) (l3 : Option Nat) (l4 : Int32) (l5 : Int32) (σ : Tst) (H : Heap) (locs : List Loc) (ls : Array Slot), k24 l0 l1 l2 l3 l4 l5 σ → tw_R G σ H → va_S (tw_A G) s.heap H locs → tw_l ls 6 [(0, .inr l0), (1, .inr l1), (2, .inr l2), (3, .inr l3), (4, .inl l4), (5, .inl l5)] → tw_W p l e R s m args below meth c σ H locs (tw_E below G (tw_Qv G Q) X args s R) (F0 m 24 ls [])) (l0 : Option Nat) (l1 : Option Nat) (l2 : Option Nat) (l3 : Option Nat) (l4 : Int32) (l5 : Int32) (σ : Tst) (H : Heap) (locs : List Loc) (ls : Array Slot) (hw : w_X1_visitS_b182 rf_X1_visitS k24 Q X l0 l1 l2 l3 l4 l5 σ) (hR : tw_R G σ H) (hS : va_S (tw_A G) s.heap H locs) (hl : tw_l ls 6 [(0, .inr l0), (1, .inr l1), (2, .inr l2), (3, .inr l3), (4, .inl l4), (5, .inl l5)]) : tw_W p l e R s m args below meth c σ H locs (tw_E below G (tw_Qv G Q) X args s R) (F0 m 182 ls []) := by
  unfold w_X1_visitS_b182 at hw
  refine tk_aload_n C hl 2 dX1_visit_182 rfl ?_
  refine tk_aload_n C hl 1 dX1_visit_183 rfl ?_
  refine tk_grN C hR hw rfl in_X3 (by decide) q214 (fun _ h => h) dX1_visit_184 (fun x1 hw => ?_)
  refine tk_iload C hl 5 dX1_visit_187 rfl ?_
  obtain ⟨hv, hw⟩ := hw
  refine tw_cbq5 C hS (tk_runF (As := [.inl l5]) (x := ⟨"java/util/List", "get", "(I)Ljava/lang/Object;"⟩) C hR hS (wk_J6_get l C.hst G (R.frames - 1) (by omega) _ _ _ _ σ hw) hv rfl q650 q456 q458 q73 q460 (by decide +kernel) (show tw_pd ⟨"java/util/List", "get", "(I)Ljava/lang/Object;"⟩ 1 by decide +kernel) ⟨by omega, by omega⟩ hl.1 rfl (tw_r8 [.inr l2] (Nat.le_of_ble_eq_true rfl)) dX1_visit_189) (fun E q σ H locs hX hR hS hi => tw_out C hR hS (fun x hx => (hnx x hx).elim) hi hX) (fun x2 σ H locs hw hR hS => ?_)
  refine tk_cc C hR hw rfl q157 (Or.inl rfl) dX1_visit_194 (fun hw => ?_)
  obtain ⟨hv, hw⟩ := hw
  refine tw_cbv5 C hS (tk_runF (As := [.inr x2]) (x := ⟨"TreeDiffer$Visitor", "insertion", "(LTreeDiffer$Node;)V"⟩) C hR hS (wk_X11_insertion l C.hst G (R.frames - 1) (by omega) _ _ _ _ σ hw) hv rfl q1074 q1082 q1084 q102 q1086 (by decide +kernel) (show tw_pd ⟨"TreeDiffer$Visitor", "insertion", "(LTreeDiffer$Node;)V"⟩ 1 by decide +kernel) ⟨by omega, by omega⟩ hl.1 rfl (tw_r8 [] (Nat.le_of_ble_eq_true rfl)) dX1_visit_197) (fun E q σ H locs hX hR hS hi => tw_out C hR hS (fun x hx => (hnx x hx).elim) hi hX) (fun σ H locs hw hR hS => ?_)
  refine tk_iinc (L' := [(5, .inl (l5 + 1)), (0, .inr l0), (1, .inr l1), (2, .inr l2), (3, .inr l3), (4, .inl l4)]) (y := (l5 + 1)) C hl 5 dX1_visit_202 rfl rfl (by decide) rfl (fun ls hl => ?_)
  refine lv_goto (tgt := 24) C.hx C.hb dX1_visit_205 (by decide) ?_
  exact hk24 _ _ _ _ _ _ σ _ _ _ hw hR hS (tk_sub hl [1, 2, 3, 4, 5, 0] rfl)
set_option maxHeartbeats 4000000 in
theorem wk_X1_visitS_b123 {rf_X1_visitS : (Option Nat) → (Option Nat) → (Option Nat) → (Tst → Prop) → (String → Nat → Tst → Prop) → Tst → Prop} {frf_X1_visitS : Nat}  (C : tw_C p l R s m args meth c G cX1_visit 6 yX1_visit.cls) (hr : meth.sig.returnType = none) (hmn : meth.name = yX1_visit.name) (hnx : (∀ x ∈ c.exceptionTable.toList, False)) (hfr : 331 ≤ R.frames ∧ frf_X1_visitS + 1 ≤ R.frames) (hRl : R.locals = 40 * R.frames) {Q : Tst → Prop} {X : String → Nat → Tst → Prop} (hrf_X1_visitS : ∀ fr : Nat, frf_X1_visitS ≤ fr → ∀ (a0 : Option Nat) (a1 : Option Nat) (a2 : Option Nat) (Q : Tst → Prop) (X : String → Nat → Tst → Prop) (σ : Tst), rf_X1_visitS a0 a1 a2 Q X σ → tw_M l yX1_visit (ws_ yX1_visit cX1_visit 6 none) fr (40 * fr) G σ [.inr a0, .inr a1, .inr a2] (tw_Qv G Q) X) {k24 : Option Nat → Option Nat → Option Nat → Option Nat → Int32 → Int32 → Tst → Prop} (hk24 : ∀ (l0 : Option Nat) (l1 : Option Nat) (l2 : Option Nat) (l3 : Option Nat) (l4 : Int32) (l5 : Int32) (σ : Tst) (H : Heap) (locs : List Loc) (ls : Array Slot), k24 l0 l1 l2 l3 l4 l5 σ → tw_R G σ H → va_S (tw_A G) s.heap H locs → tw_l ls 6 [(0, .inr l0), (1, .inr l1), (2, .inr l2), (3, .inr l3), (4, .inl l4), (5, .inl l5)] → tw_W p l e R s m args below meth c σ H locs (tw_E below G (tw_Qv G Q) X args s R) (F0 m 24 ls [])) (l0 : Option Nat) (l1 : Option Nat) (l2 : Option Nat) (l3 : Option Nat) (l4 : Int32) (l5 : Int32) (σ : Tst) (H : Heap) (locs : List Loc) (ls : Array Slot) (hw : w_X1_visitS_b123 rf_X1_visitS k24 Q X l0 l1 l2 l3 l4 l5 σ) (hR : tw_R G σ H) (hS : va_S (tw_A G) s.heap H locs) (hl : tw_l ls 6 [(0, .inr l0), (1, .inr l1), (2, .inr l2), (3, .inr l3), (4, .inl l4), (5, .inl l5)]) : tw_W p l e R s m args below meth c σ H locs (tw_E below G (tw_Qv G Q) X args s R) (F0 m 123 ls []) := by
  unfold w_X1_visitS_b123 at hw
  refine tk_iload C hl 4 dX1_visit_123 rfl ?_
  refine tk_aload_n C hl 0 dX1_visit_125 rfl ?_
  refine tk_grN C hR hw rfl in_X3 (by decide) q214 (fun _ h => h) dX1_visit_126 (fun x1 hw => ?_)
  obtain ⟨hv, hw⟩ := hw
  refine tw_cbi5 C hS (tk_runF (As := []) (x := ⟨"java/util/List", "size", "()I"⟩) C hR hS (wk_J6_size l C.hst G (R.frames - 1) (by omega) _ _ _ σ hw) hv rfl q648 q447 q449 q73 q451 (by decide +kernel) (show tw_pd ⟨"java/util/List", "size", "()I"⟩ 0 by decide +kernel) ⟨by omega, by omega⟩ hl.1 rfl (tw_r8 [.inl l4] (Nat.le_of_ble_eq_true rfl)) dX1_visit_129) (fun E q σ H locs hX hR hS hi => tw_out C hR hS (fun x hx => (hnx x hx).elim) hi hX) (fun x2 σ H locs hw hR hS => ?_)
  refine lv_icmp_ge (tgt := 182) C.hx C.hb dX1_visit_134 (by decide) (fun c134 => ?_) (fun c134 => ?_)
  · replace hw := hw.1 c134
    exact wk_X1_visitS_b182 C hr hmn hnx hfr hRl hrf_X1_visitS hk24 _ _ _ _ _ _ σ _ _ _ hw hR hS (tk_sub hl [0, 1, 2, 3, 4, 5] rfl)
  · replace hw := hw.2 c134
    refine tk_aload_n C hl 3 dX1_visit_137 rfl ?_
    refine tk_iload C hl 4 dX1_visit_138 rfl ?_
    refine tk_iload C hl 5 dX1_visit_140 rfl ?_
    obtain ⟨hv, hw⟩ := hw
    refine tw_cbi C hS (tk_runV (As := [.inl l4, .inl l5]) C hR hS (wk_X9_byDeletion l C.hst G (R.frames - 1) (by omega) _ _ _ _ _ σ hw) hv rfl q1058 q604 q605 q100 q606 pd_X9_byDeletion ⟨by omega, by omega⟩ hl.1 rfl (tw_r8 [] (Nat.le_of_ble_eq_true rfl)) dX1_visit_142) (fun E q σ H locs hX hR hS hi => tw_out C hR hS (fun x hx => (hnx x hx).elim) hi hX) (fun x3 σ H locs hw hR hS => ?_)
    refine tk_aload_n C hl 3 dX1_visit_145 rfl ?_
    refine tk_iload C hl 4 dX1_visit_146 rfl ?_
    refine tk_iload C hl 5 dX1_visit_148 rfl ?_
    obtain ⟨hv, hw⟩ := hw
    refine tw_cbi C hS (tk_runV (As := [.inl l4, .inl l5]) C hR hS (wk_X9_at l C.hst G (R.frames - 1) (by omega) _ _ _ _ _ σ hw) hv rfl q631 q600 q601 q100 q602 pd_X9_at ⟨by omega, by omega⟩ hl.1 rfl (tw_r8 [.inl x3] (Nat.le_of_ble_eq_true rfl)) dX1_visit_150) (fun E q σ H locs hX hR hS hi => tw_out C hR hS (fun x hx => (hnx x hx).elim) hi hX) (fun x4 σ H locs hw hR hS => ?_)
    refine lv_icmp_ne (tgt := 182) C.hx C.hb dX1_visit_153 (by decide) (fun c153 => ?_) (fun c153 => ?_)
    · replace hw := hw.2 c153
      exact wk_X1_visitS_b182 C hr hmn hnx hfr hRl hrf_X1_visitS hk24 _ _ _ _ _ _ σ _ _ _ hw hR hS (tk_sub hl [0, 1, 2, 3, 4, 5] rfl)
    · replace hw := hw.1 c153
      refine tk_aload_n C hl 2 dX1_visit_156 rfl ?_
      refine tk_aload_n C hl 0 dX1_visit_157 rfl ?_
      refine tk_grN C hR hw rfl in_X3 (by decide) q214 (fun _ h => h) dX1_visit_158 (fun x5 hw => ?_)
      refine tk_iload C hl 4 dX1_visit_161 rfl ?_
      obtain ⟨hv, hw⟩ := hw
      refine tw_cbq5 C hS (tk_runF (As := [.inl l4]) (x := ⟨"java/util/List", "get", "(I)Ljava/lang/Object;"⟩) C hR hS (wk_J6_get l C.hst G (R.frames - 1) (by omega) _ _ _ _ σ hw) hv rfl q650 q456 q458 q73 q460 (by decide +kernel) (show tw_pd ⟨"java/util/List", "get", "(I)Ljava/lang/Object;"⟩ 1 by decide +kernel) ⟨by omega, by omega⟩ hl.1 rfl (tw_r8 [.inr l2] (Nat.le_of_ble_eq_true rfl)) dX1_visit_163) (fun E q σ H locs hX hR hS hi => tw_out C hR hS (fun x hx => (hnx x hx).elim) hi hX) (fun x6 σ H locs hw hR hS => ?_)
      refine tk_cc C hR hw rfl q157 (Or.inl rfl) dX1_visit_168 (fun hw => ?_)
      obtain ⟨hv, hw⟩ := hw
      refine tw_cbv5 C hS (tk_runF (As := [.inr x6]) (x := ⟨"TreeDiffer$Visitor", "deletion", "(LTreeDiffer$Node;)V"⟩) C hR hS (wk_X11_deletion l C.hst G (R.frames - 1) (by omega) _ _ _ _ σ hw) hv rfl q1060 q1068 q1070 q102 q1072 (by decide +kernel) (show tw_pd ⟨"TreeDiffer$Visitor", "deletion", "(LTreeDiffer$Node;)V"⟩ 1 by decide +kernel) ⟨by omega, by omega⟩ hl.1 rfl (tw_r8 [] (Nat.le_of_ble_eq_true rfl)) dX1_visit_171) (fun E q σ H locs hX hR hS hi => tw_out C hR hS (fun x hx => (hnx x hx).elim) hi hX) (fun σ H locs hw hR hS => ?_)
      refine tk_iinc (L' := [(4, .inl (l4 + 1)), (0, .inr l0), (1, .inr l1), (2, .inr l2), (3, .inr l3), (5, .inl l5)]) (y := (l4 + 1)) C hl 4 dX1_visit_176 rfl rfl (by decide) rfl (fun ls hl => ?_)
      refine lv_goto (tgt := 24) C.hx C.hb dX1_visit_179 (by decide) ?_
      exact hk24 _ _ _ _ _ _ σ _ _ _ hw hR hS (tk_sub hl [1, 2, 3, 4, 0, 5] rfl)
set_option maxHeartbeats 4000000 in
theorem wk_X1_visitS_b52 {rf_X1_visitS : (Option Nat) → (Option Nat) → (Option Nat) → (Tst → Prop) → (String → Nat → Tst → Prop) → Tst → Prop} {frf_X1_visitS : Nat}  (C : tw_C p l R s m args meth c G cX1_visit 6 yX1_visit.cls) (hr : meth.sig.returnType = none) (hmn : meth.name = yX1_visit.name) (hnx : (∀ x ∈ c.exceptionTable.toList, False)) (hfr : 331 ≤ R.frames ∧ frf_X1_visitS + 1 ≤ R.frames) (hRl : R.locals = 40 * R.frames) {Q : Tst → Prop} {X : String → Nat → Tst → Prop} (hrf_X1_visitS : ∀ fr : Nat, frf_X1_visitS ≤ fr → ∀ (a0 : Option Nat) (a1 : Option Nat) (a2 : Option Nat) (Q : Tst → Prop) (X : String → Nat → Tst → Prop) (σ : Tst), rf_X1_visitS a0 a1 a2 Q X σ → tw_M l yX1_visit (ws_ yX1_visit cX1_visit 6 none) fr (40 * fr) G σ [.inr a0, .inr a1, .inr a2] (tw_Qv G Q) X) {k24 : Option Nat → Option Nat → Option Nat → Option Nat → Int32 → Int32 → Tst → Prop} (hk24 : ∀ (l0 : Option Nat) (l1 : Option Nat) (l2 : Option Nat) (l3 : Option Nat) (l4 : Int32) (l5 : Int32) (σ : Tst) (H : Heap) (locs : List Loc) (ls : Array Slot), k24 l0 l1 l2 l3 l4 l5 σ → tw_R G σ H → va_S (tw_A G) s.heap H locs → tw_l ls 6 [(0, .inr l0), (1, .inr l1), (2, .inr l2), (3, .inr l3), (4, .inl l4), (5, .inl l5)] → tw_W p l e R s m args below meth c σ H locs (tw_E below G (tw_Qv G Q) X args s R) (F0 m 24 ls [])) (l0 : Option Nat) (l1 : Option Nat) (l2 : Option Nat) (l3 : Option Nat) (l4 : Int32) (l5 : Int32) (σ : Tst) (H : Heap) (locs : List Loc) (ls : Array Slot) (hw : w_X1_visitS_b52 rf_X1_visitS k24 Q X l0 l1 l2 l3 l4 l5 σ) (hR : tw_R G σ H) (hS : va_S (tw_A G) s.heap H locs) (hl : tw_l ls 6 [(0, .inr l0), (1, .inr l1), (2, .inr l2), (3, .inr l3), (4, .inl l4), (5, .inl l5)]) : tw_W p l e R s m args below meth c σ H locs (tw_E below G (tw_Qv G Q) X args s R) (F0 m 52 ls []) := by
  unfold w_X1_visitS_b52 at hw
  refine tk_aload_n C hl 3 dX1_visit_52 rfl ?_
  refine tk_iload C hl 4 dX1_visit_53 rfl ?_
  refine tk_iload C hl 5 dX1_visit_55 rfl ?_
  obtain ⟨hv, hw⟩ := hw
  refine tw_cbi C hS (tk_runV (As := [.inl l4, .inl l5]) C hR hS (wk_X9_canPair l C.hst G (R.frames - 1) (by omega) _ _ _ _ _ σ hw) hv rfl q1055 q609 q610 q100 q611 pd_X9_canPair ⟨by omega, by omega⟩ hl.1 rfl (tw_r8 [] (Nat.le_of_ble_eq_true rfl)) dX1_visit_57) (fun E q σ H locs hX hR hS hi => tw_out C hR hS (fun x hx => (hnx x hx).elim) hi hX) (fun x1 σ H locs hw hR hS => ?_)
  refine lv_if_eq (tgt := 123) C.hx C.hb dX1_visit_60 (by decide) (fun c60 => ?_) (fun c60 => ?_)
  · replace hw := hw.1 c60
    exact wk_X1_visitS_b123 C hr hmn hnx hfr hRl hrf_X1_visitS hk24 _ _ _ _ _ _ σ _ _ _ hw hR hS (tk_sub hl [0, 1, 2, 3, 4, 5] rfl)
  · replace hw := hw.2 c60
    refine tk_aload_n C hl 3 dX1_visit_63 rfl ?_
    refine tk_iload C hl 4 dX1_visit_64 rfl ?_
    refine tk_iload C hl 5 dX1_visit_66 rfl ?_
    obtain ⟨hv, hw⟩ := hw
    refine tw_cbi C hS (tk_runV (As := [.inl l4, .inl l5]) C hR hS (wk_X9_byPair l C.hst G (R.frames - 1) (wk_X1_cost l C.hst G 64) (by omega) _ _ _ _ _ σ hw) hv rfl q1056 q613 q614 q100 q615 pd_X9_byPair ⟨by omega, by omega⟩ hl.1 rfl (tw_r8 [] (Nat.le_of_ble_eq_true rfl)) dX1_visit_68) (fun E q σ H locs hX hR hS hi => tw_out C hR hS (fun x hx => (hnx x hx).elim) hi hX) (fun x2 σ H locs hw hR hS => ?_)
    refine tk_aload_n C hl 3 dX1_visit_71 rfl ?_
    refine tk_iload C hl 4 dX1_visit_72 rfl ?_
    refine tk_iload C hl 5 dX1_visit_74 rfl ?_
    obtain ⟨hv, hw⟩ := hw
    refine tw_cbi C hS (tk_runV (As := [.inl l4, .inl l5]) C hR hS (wk_X9_at l C.hst G (R.frames - 1) (by omega) _ _ _ _ _ σ hw) hv rfl q631 q600 q601 q100 q602 pd_X9_at ⟨by omega, by omega⟩ hl.1 rfl (tw_r8 [.inl x2] (Nat.le_of_ble_eq_true rfl)) dX1_visit_76) (fun E q σ H locs hX hR hS hi => tw_out C hR hS (fun x hx => (hnx x hx).elim) hi hX) (fun x3 σ H locs hw hR hS => ?_)
    refine lv_icmp_ne (tgt := 123) C.hx C.hb dX1_visit_79 (by decide) (fun c79 => ?_) (fun c79 => ?_)
    · replace hw := hw.2 c79
      exact wk_X1_visitS_b123 C hr hmn hnx hfr hRl hrf_X1_visitS hk24 _ _ _ _ _ _ σ _ _ _ hw hR hS (tk_sub hl [0, 1, 2, 3, 4, 5] rfl)
    · replace hw := hw.1 c79
      refine tk_aload_n C hl 0 dX1_visit_82 rfl ?_
      refine tk_grN C hR hw rfl in_X3 (by decide) q214 (fun _ h => h) dX1_visit_83 (fun x4 hw => ?_)
      refine tk_iload C hl 4 dX1_visit_86 rfl ?_
      obtain ⟨hv, hw⟩ := hw
      refine tw_cbq5 C hS (tk_runF (As := [.inl l4]) (x := ⟨"java/util/List", "get", "(I)Ljava/lang/Object;"⟩) C hR hS (wk_J6_get l C.hst G (R.frames - 1) (by omega) _ _ _ _ σ hw) hv rfl q650 q456 q458 q73 q460 (by decide +kernel) (show tw_pd ⟨"java/util/List", "get", "(I)Ljava/lang/Object;"⟩ 1 by decide +kernel) ⟨by omega, by omega⟩ hl.1 rfl (tw_r8 [] (Nat.le_of_ble_eq_true rfl)) dX1_visit_88) (fun E q σ H locs hX hR hS hi => tw_out C hR hS (fun x hx => (hnx x hx).elim) hi hX) (fun x5 σ H locs hw hR hS => ?_)
      refine tk_cc C hR hw rfl q157 (Or.inl rfl) dX1_visit_93 (fun hw => ?_)
      refine tk_aload_n C hl 1 dX1_visit_96 rfl ?_
      refine tk_grN C hR hw rfl in_X3 (by decide) q214 (fun _ h => h) dX1_visit_97 (fun x6 hw => ?_)
      refine tk_iload C hl 5 dX1_visit_100 rfl ?_
      obtain ⟨hv, hw⟩ := hw
      refine tw_cbq5 C hS (tk_runF (As := [.inl l5]) (x := ⟨"java/util/List", "get", "(I)Ljava/lang/Object;"⟩) C hR hS (wk_J6_get l C.hst G (R.frames - 1) (by omega) _ _ _ _ σ hw) hv rfl q650 q456 q458 q73 q460 (by decide +kernel) (show tw_pd ⟨"java/util/List", "get", "(I)Ljava/lang/Object;"⟩ 1 by decide +kernel) ⟨by omega, by omega⟩ hl.1 rfl (tw_r8 [.inr x5] (Nat.le_of_ble_eq_true rfl)) dX1_visit_102) (fun E q σ H locs hX hR hS hi => tw_out C hR hS (fun x hx => (hnx x hx).elim) hi hX) (fun x7 σ H locs hw hR hS => ?_)
      refine tk_cc C hR hw rfl q157 (Or.inl rfl) dX1_visit_107 (fun hw => ?_)
      refine tk_aload_n C hl 2 dX1_visit_110 rfl ?_
      refine tw_cbv C hS (tw_runS (As := [.inr x5, .inr x7, .inr l2]) C hR hS (hrf_X1_visitS (R.frames - 1) (by omega) _ _ _ _ _ σ hw) q1057 q1000 q64 q1001 pd_X1_visit ⟨by omega, by omega⟩ hl.1 rfl (tw_r8 [] (Nat.le_of_ble_eq_true rfl)) dX1_visit_111) (fun E q σ H locs hX hR hS hi => tw_out C hR hS (fun x hx => (hnx x hx).elim) hi hX) (fun σ H locs hw hR hS => ?_)
      refine tk_iinc (L' := [(4, .inl (l4 + 1)), (0, .inr l0), (1, .inr l1), (2, .inr l2), (3, .inr l3), (5, .inl l5)]) (y := (l4 + 1)) C hl 4 dX1_visit_114 rfl rfl (by decide) rfl (fun ls hl => ?_)
      refine tk_iinc (L' := [(5, .inl (l5 + 1)), (4, .inl (l4 + 1)), (0, .inr l0), (1, .inr l1), (2, .inr l2), (3, .inr l3)]) (y := (l5 + 1)) C hl 5 dX1_visit_117 rfl rfl (by decide) rfl (fun ls hl => ?_)
      refine lv_goto (tgt := 24) C.hx C.hb dX1_visit_120 (by decide) ?_
      exact hk24 _ _ _ _ _ _ σ _ _ _ hw hR hS (tk_sub hl [2, 3, 4, 5, 1, 0] rfl)
set_option maxHeartbeats 4000000 in
theorem wk_X1_visitS_b24 {rf_X1_visitS : (Option Nat) → (Option Nat) → (Option Nat) → (Tst → Prop) → (String → Nat → Tst → Prop) → Tst → Prop} {frf_X1_visitS : Nat}  (C : tw_C p l R s m args meth c G cX1_visit 6 yX1_visit.cls) (hr : meth.sig.returnType = none) (hmn : meth.name = yX1_visit.name) (hnx : (∀ x ∈ c.exceptionTable.toList, False)) (hfr : 331 ≤ R.frames ∧ frf_X1_visitS + 1 ≤ R.frames) (hRl : R.locals = 40 * R.frames) {Q : Tst → Prop} {X : String → Nat → Tst → Prop} (hrf_X1_visitS : ∀ fr : Nat, frf_X1_visitS ≤ fr → ∀ (a0 : Option Nat) (a1 : Option Nat) (a2 : Option Nat) (Q : Tst → Prop) (X : String → Nat → Tst → Prop) (σ : Tst), rf_X1_visitS a0 a1 a2 Q X σ → tw_M l yX1_visit (ws_ yX1_visit cX1_visit 6 none) fr (40 * fr) G σ [.inr a0, .inr a1, .inr a2] (tw_Qv G Q) X) : ∀ (n : Nat) (l0 : Option Nat) (l1 : Option Nat) (l2 : Option Nat) (l3 : Option Nat) (l4 : Int32) (l5 : Int32) (σ : Tst) (H : Heap) (locs : List Loc) (ls : Array Slot), w_X1_visitS_b24 rf_X1_visitS Q X n l0 l1 l2 l3 l4 l5 σ → tw_R G σ H → va_S (tw_A G) s.heap H locs → tw_l ls 6 [(0, .inr l0), (1, .inr l1), (2, .inr l2), (3, .inr l3), (4, .inl l4), (5, .inl l5)] → tw_W p l e R s m args below meth c σ H locs (tw_E below G (tw_Qv G Q) X args s R) (F0 m 24 ls []) := by
  intro n
  induction n with
  | zero => intro l0 l1 l2 l3 l4 l5 σ H locs ls hw; exact False.elim hw
  | succ n hk24 =>
    intro l0 l1 l2 l3 l4 l5 σ H locs ls hw hR hS hl
    rw [w_X1_visitS_b24] at hw
    refine tk_iload C hl 4 dX1_visit_24 rfl ?_
    refine tk_aload_n C hl 0 dX1_visit_26 rfl ?_
    refine tk_grN C hR hw rfl in_X3 (by decide) q214 (fun _ h => h) dX1_visit_27 (fun x1 hw => ?_)
    obtain ⟨hv, hw⟩ := hw
    refine tw_cbi5 C hS (tk_runF (As := []) (x := ⟨"java/util/List", "size", "()I"⟩) C hR hS (wk_J6_size l C.hst G (R.frames - 1) (by omega) _ _ _ σ hw) hv rfl q648 q447 q449 q73 q451 (by decide +kernel) (show tw_pd ⟨"java/util/List", "size", "()I"⟩ 0 by decide +kernel) ⟨by omega, by omega⟩ hl.1 rfl (tw_r8 [.inl l4] (Nat.le_of_ble_eq_true rfl)) dX1_visit_30) (fun E q σ H locs hX hR hS hi => tw_out C hR hS (fun x hx => (hnx x hx).elim) hi hX) (fun x2 σ H locs hw hR hS => ?_)
    refine lv_icmp_lt (tgt := 52) C.hx C.hb dX1_visit_35 (by decide) (fun c35 => ?_) (fun c35 => ?_)
    · replace hw := hw.1 c35
      exact wk_X1_visitS_b52 C hr hmn hnx hfr hRl hrf_X1_visitS hk24 _ _ _ _ _ _ σ _ _ _ hw hR hS (tk_sub hl [0, 1, 2, 3, 4, 5] rfl)
    · replace hw := hw.2 c35
      refine tk_iload C hl 5 dX1_visit_38 rfl ?_
      refine tk_aload_n C hl 1 dX1_visit_40 rfl ?_
      refine tk_grN C hR hw rfl in_X3 (by decide) q214 (fun _ h => h) dX1_visit_41 (fun x3 hw => ?_)
      obtain ⟨hv, hw⟩ := hw
      refine tw_cbi5 C hS (tk_runF (As := []) (x := ⟨"java/util/List", "size", "()I"⟩) C hR hS (wk_J6_size l C.hst G (R.frames - 1) (by omega) _ _ _ σ hw) hv rfl q648 q447 q449 q73 q451 (by decide +kernel) (show tw_pd ⟨"java/util/List", "size", "()I"⟩ 0 by decide +kernel) ⟨by omega, by omega⟩ hl.1 rfl (tw_r8 [.inl l5] (Nat.le_of_ble_eq_true rfl)) dX1_visit_44) (fun E q σ H locs hX hR hS hi => tw_out C hR hS (fun x hx => (hnx x hx).elim) hi hX) (fun x4 σ H locs hw hR hS => ?_)
      refine lv_icmp_ge (tgt := 208) C.hx C.hb dX1_visit_49 (by decide) (fun c49 => ?_) (fun c49 => ?_)
      · replace hw := hw.1 c49
        exact tw_vret C hR hS hr dX1_visit_208 hw
      · replace hw := hw.2 c49
        exact wk_X1_visitS_b52 C hr hmn hnx hfr hRl hrf_X1_visitS hk24 _ _ _ _ _ _ σ _ _ _ hw hR hS (tk_sub hl [0, 1, 2, 3, 4, 5] rfl)
set_option maxHeartbeats 4000000 in
theorem wk_X1_visitS (l : Launch) (hl0 : l.stackTraces = false) (G : Tgl)  : ∀ (d fr : Nat), 331 + 1 * d ≤ fr → ∀ (l0 : Option Nat) (l1 : Option Nat) (l2 : Option Nat) (Q : Tst → Prop) (X : String → Nat → Tst → Prop) (σ : Tst), w_X1_visitS d l0 l1 l2 Q X σ → tw_M l yX1_visit (ws_ yX1_visit cX1_visit 6 none) fr (40 * fr) G σ [.inr l0, .inr l1, .inr l2] (tw_Qv G Q) X := by
  intro d
  induction d with
  | zero => intro fr hfr l0 l1 l2 Q X σ hw; exact False.elim hw
  | succ d ih =>
    intro fr hfr l0 l1 l2 Q X σ hw
    have hrf_X1_visitS := fun (fr : Nat) (h : 331 + 1 * d ≤ fr) => ih fr (by omega)
    rw [w_X1_visitS] at hw
    generalize hg : w_X1_visitS d = rf_X1_visitS at hw hrf_X1_visitS
    clear hg ih
    obtain ⟨frf_X1_visitS, hfrf_X1_visitS⟩ : ∃ f, f = 331 + 1 * d := ⟨_, rfl⟩
    rw [← hfrf_X1_visitS] at hrf_X1_visitS
    have hfr : 331 ≤ fr ∧ frf_X1_visitS + 1 ≤ fr := by refine ⟨?_, ?_⟩ <;> omega
    refine tw_of (ret := none) hl0 (by decide) (Nat.le_of_ble_eq_true rfl) (fun p e R s m args below meth c hRf hRl C hr hmn hnx hR hS ls hl => ?_)
    have hfr : 331 ≤ R.frames ∧ frf_X1_visitS + 1 ≤ R.frames := by rw [hRf]; exact hfr
    have hRl : R.locals = 40 * R.frames := by rw [hRl, hRf]
    have hl : tw_l ls 6 [(0, .inr l0), (1, .inr l1), (2, .inr l2)] := hl
    refine tk_aload_n C hl 2 dX1_visit_0 rfl ?_
    refine tk_aload_n C hl 0 dX1_visit_1 rfl ?_
    refine tk_aload_n C hl 1 dX1_visit_2 rfl ?_
    obtain ⟨hv, hw⟩ := hw
    refine tw_cbv5 C hS (tk_runF (As := [.inr l0, .inr l1]) (x := ⟨"TreeDiffer$Visitor", "pair", "(LTreeDiffer$Node;LTreeDiffer$Node;)V"⟩) C hR hS (wk_X11_pair l C.hst G (R.frames - 1) (by omega) _ _ _ _ _ σ hw) hv rfl q1003 q1013 q1015 q102 q1017 (by decide +kernel) (show tw_pd ⟨"TreeDiffer$Visitor", "pair", "(LTreeDiffer$Node;LTreeDiffer$Node;)V"⟩ 2 by decide +kernel) ⟨by omega, by omega⟩ hl.1 rfl (tw_r8 [] (Nat.le_of_ble_eq_true rfl)) dX1_visit_3) (fun E q σ H locs hX hR hS hi => tw_out C hR hS (fun x hx => (hnx x hx).elim) hi hX) (fun σ H locs hw hR hS => ?_)
    refine tk_nw C hR hS hw rfl in_X9 tyX9 tyX9_ok q579 q580 q100 (fun j hj => by rcases (show j = 0 ∨ j = 1 ∨ j = 2 ∨ j = 3 by omega) with rfl | rfl | rfl | rfl <;> rfl) dX1_visit_8 (fun q2 σ H hw hR hS => ?_)
    refine tw_dup (x := .inr q2) C.hx C.hb dX1_visit_11 ?_
    refine tk_aload_n C hl 0 dX1_visit_12 rfl ?_
    refine tk_aload_n C hl 1 dX1_visit_13 rfl ?_
    obtain ⟨hv, hw⟩ := hw
    refine tw_cbv C hS (tk_runI (As := [.inr l0, .inr l1]) hv C hR hS (wk_X9_init l C.hst G (R.frames - 1) (wk_X1_cost l C.hst G 64) (by omega) _ _ _ _ _ σ hw) q581 q582 q100 q583 rfl pd_X9_init ⟨by omega, by omega⟩ hl.1 rfl (tw_r8 [.inr q2] (Nat.le_of_ble_eq_true rfl)) dX1_visit_14) (fun E q σ H locs hX hR hS hi => tw_out C hR hS (fun x hx => (hnx x hx).elim) hi hX) (fun σ H locs hw hR hS => ?_)
    refine tk_astore_n (L' := [(3, .inr q2), (0, .inr l0), (1, .inr l1), (2, .inr l2)]) C hl dX1_visit_17 (by decide) rfl (fun ls hl => ?_)
    refine lv_iconst (v := 0) C.hx C.hb dX1_visit_18 (by decide) ?_
    refine tk_istore (L' := [(4, .inl 0), (3, .inr q2), (0, .inr l0), (1, .inr l1), (2, .inr l2)]) C hl dX1_visit_19 (by decide) rfl (fun ls hl => ?_)
    refine lv_iconst (v := 0) C.hx C.hb dX1_visit_21 (by decide) ?_
    refine tk_istore (L' := [(5, .inl 0), (4, .inl 0), (3, .inr q2), (0, .inr l0), (1, .inr l1), (2, .inr l2)]) C hl dX1_visit_22 (by decide) rfl (fun ls hl => ?_)
    obtain ⟨z, hw⟩ := hw
    exact wk_X1_visitS_b24 C hr hmn hnx hfr hRl hrf_X1_visitS z _ _ _ _ _ _ σ _ _ _ hw hR hS (tk_sub hl [3, 4, 5, 2, 1, 0] rfl)
-- TreeDiffer$Script.insertionOf(LTreeDiffer$Node;)LTreeDiffer$Operation;
def w_X10_insertionOf_b52 (k10 : Option Nat → Option Nat → Tst → Prop) (Q : Option Nat → Tst → Prop) (X : String → Nat → Tst → Prop) (l1 : Option Nat) (l2 : Option Nat) (σ : Tst) : Prop := k10 l1 l2 σ
def w_X10_insertionOf_b10 (Q : Option Nat → Tst → Prop) (X : String → Nat → Tst → Prop) : Nat → Option Nat → Option Nat → Tst → Prop
  | 0, _, _, _ => False
  | n + 1, l1, l2, σ => w_rc σ l2 cJ18 <| w_J18_hasNext l2 (fun x1 σ => w_if (x1 = 0) (Q none σ) (w_rc σ l2 cJ18 <| w_J18_next l2 (fun x2 σ => w_cc σ x2 cX12 <| w_gi σ x2 cX12 0 fun x3 => w_if (x3 = 105) (w_gr σ x2 cX12 2 fun x4 => w_rc σ x4 cX3 <| w_X3_isLike 64 x4 l1 0 (fun x5 σ => w_if (x5 = 0) (w_X10_insertionOf_b52 (w_X10_insertionOf_b10 Q X n) Q X l1 l2 σ) (Q x2 σ)) X σ) (w_X10_insertionOf_b52 (w_X10_insertionOf_b10 Q X n) Q X l1 l2 σ)) X σ)) X σ
def w_X10_insertionOf (l0 : Option Nat) (l1 : Option Nat) (Q : Option Nat → Tst → Prop) (X : String → Nat → Tst → Prop) (σ : Tst) : Prop := w_gr σ l0 cX10 2 fun x1 => w_rc σ x1 cJ6 <| w_J6_iterator x1 (fun x2 σ => ∃ z, w_X10_insertionOf_b10 Q X z l1 x2 σ) X σ
set_option maxHeartbeats 4000000 in
theorem wk_X10_insertionOf_b52  (C : tw_C p l R s m args meth c G cX10_insertionOf 4 yX10_insertionOf.cls) (hr : meth.sig.returnType = (some (.object "TreeDiffer$Operation"))) (hmn : meth.name = yX10_insertionOf.name) (hnx : (∀ x ∈ c.exceptionTable.toList, False)) (hfr : 69 ≤ R.frames) (hRl : R.locals = 40 * R.frames) {Q : Option Nat → Tst → Prop} {X : String → Nat → Tst → Prop}  {k10 : Option Nat → Option Nat → Tst → Prop} (hk10 : ∀ (l1 : Option Nat) (l2 : Option Nat) (σ : Tst) (H : Heap) (locs : List Loc) (ls : Array Slot), k10 l1 l2 σ → tw_R G σ H → va_S (tw_A G) s.heap H locs → tw_l ls 4 [(1, .inr l1), (2, .inr l2)] → tw_W p l e R s m args below meth c σ H locs (tw_E below G (tw_Qq G Q) X args s R) (F0 m 10 ls [])) (l1 : Option Nat) (l2 : Option Nat) (σ : Tst) (H : Heap) (locs : List Loc) (ls : Array Slot) (hw : w_X10_insertionOf_b52 k10 Q X l1 l2 σ) (hR : tw_R G σ H) (hS : va_S (tw_A G) s.heap H locs) (hl : tw_l ls 4 [(1, .inr l1), (2, .inr l2)]) : tw_W p l e R s m args below meth c σ H locs (tw_E below G (tw_Qq G Q) X args s R) (F0 m 52 ls []) := by
  unfold w_X10_insertionOf_b52 at hw
  refine lv_goto (tgt := 10) C.hx C.hb dX10_insertionOf_52 (by decide) ?_
  exact hk10 _ _ σ _ _ _ hw hR hS (tk_sub hl [0, 1] rfl)
set_option maxHeartbeats 4000000 in
theorem wk_X10_insertionOf_b10  (C : tw_C p l R s m args meth c G cX10_insertionOf 4 yX10_insertionOf.cls) (hr : meth.sig.returnType = (some (.object "TreeDiffer$Operation"))) (hmn : meth.name = yX10_insertionOf.name) (hnx : (∀ x ∈ c.exceptionTable.toList, False)) (hfr : 69 ≤ R.frames) (hRl : R.locals = 40 * R.frames) {Q : Option Nat → Tst → Prop} {X : String → Nat → Tst → Prop}  : ∀ (n : Nat) (l1 : Option Nat) (l2 : Option Nat) (σ : Tst) (H : Heap) (locs : List Loc) (ls : Array Slot), w_X10_insertionOf_b10 Q X n l1 l2 σ → tw_R G σ H → va_S (tw_A G) s.heap H locs → tw_l ls 4 [(1, .inr l1), (2, .inr l2)] → tw_W p l e R s m args below meth c σ H locs (tw_E below G (tw_Qq G Q) X args s R) (F0 m 10 ls []) := by
  intro n
  induction n with
  | zero => intro l1 l2 σ H locs ls hw; exact False.elim hw
  | succ n hk10 =>
    intro l1 l2 σ H locs ls hw hR hS hl
    rw [w_X10_insertionOf_b10] at hw
    refine tk_aload_n C hl 1 dX10_insertionOf_10 rfl ?_
    obtain ⟨hv, hw⟩ := hw
    refine tw_cbi5 C hS (tk_runF (As := []) (x := ⟨"java/util/Iterator", "hasNext", "()Z"⟩) C hR hS (wk_J18_hasNext l C.hst G (R.frames - 1) (by omega) _ _ _ σ hw) hv rfl q1345 q333 q335 q90 q337 (by decide +kernel) (show tw_pd ⟨"java/util/Iterator", "hasNext", "()Z"⟩ 0 by decide +kernel) ⟨by omega, by omega⟩ hl.1 rfl (tw_r8 [] (Nat.le_of_ble_eq_true rfl)) dX10_insertionOf_11) (fun E q σ H locs hX hR hS hi => tw_out C hR hS (fun x hx => (hnx x hx).elim) hi hX) (fun x1 σ H locs hw hR hS => ?_)
    refine lv_if_eq (tgt := 55) C.hx C.hb dX10_insertionOf_16 (by decide) (fun c16 => ?_) (fun c16 => ?_)
    · replace hw := hw.1 c16
      refine lv_null C.hx C.hb dX10_insertionOf_55 ?_
      refine W.eq (g2 := F0 m 56 ls (va_rf none :: [])) rfl ?_
      exact tw_aret C hR hS hr (Or.inl ⟨_, rfl⟩) dX10_insertionOf_56 hw
    · replace hw := hw.2 c16
      refine tk_aload_n C hl 1 dX10_insertionOf_19 rfl ?_
      obtain ⟨hv, hw⟩ := hw
      refine tw_cbq5 C hS (tk_runF (As := []) (x := ⟨"java/util/Iterator", "next", "()Ljava/lang/Object;"⟩) C hR hS (wk_J18_next l C.hst G (R.frames - 1) (by omega) _ _ _ σ hw) hv rfl q1347 q566 q568 q90 q570 (by decide +kernel) (show tw_pd ⟨"java/util/Iterator", "next", "()Ljava/lang/Object;"⟩ 0 by decide +kernel) ⟨by omega, by omega⟩ hl.1 rfl (tw_r8 [] (Nat.le_of_ble_eq_true rfl)) dX10_insertionOf_20) (fun E q σ H locs hX hR hS hi => tw_out C hR hS (fun x hx => (hnx x hx).elim) hi hX) (fun x2 σ H locs hw hR hS => ?_)
      refine tk_cc C hR hw rfl q1348 (Or.inl rfl) dX10_insertionOf_25 (fun hw => ?_)
      refine tk_astore_n (L' := [(3, .inr x2), (1, .inr l1), (2, .inr l2)]) C hl dX10_insertionOf_28 (by decide) rfl (fun ls hl => ?_)
      refine tk_aload_n C hl 0 dX10_insertionOf_29 rfl ?_
      refine tk_giN C hR hw rfl in_X12 (by decide) q1025 (fun _ h => h) dX10_insertionOf_30 (fun x3 hw => ?_)
      refine lv_bipush (v := 105) C.hx C.hb dX10_insertionOf_33 (by decide) ?_
      refine lv_icmp_ne (tgt := 52) C.hx C.hb dX10_insertionOf_35 (by decide) (fun c35 => ?_) (fun c35 => ?_)
      · replace hw := hw.2 c35
        exact wk_X10_insertionOf_b52 C hr hmn hnx hfr hRl hk10 _ _ σ _ _ _ hw hR hS (tk_sub hl [1, 2] rfl)
      · replace hw := hw.1 c35
        refine tk_aload_n C hl 0 dX10_insertionOf_38 rfl ?_
        refine tk_grN C hR hw rfl in_X12 (by decide) q1032 (fun _ h => h) dX10_insertionOf_39 (fun x4 hw => ?_)
        refine tk_aload_n C hl 1 dX10_insertionOf_42 rfl ?_
        refine lv_iconst (v := 0) C.hx C.hb dX10_insertionOf_43 (by decide) ?_
        obtain ⟨hv, hw⟩ := hw
        refine tw_cbi C hS (tk_runV (As := [.inr l1, .inl 0]) C hR hS (wk_X3_isLike l C.hst G 64 (R.frames - 1) (by omega) _ _ _ _ _ σ hw) hv rfl q1337 q633 q634 q70 q635 pd_X3_isLike ⟨by omega, by omega⟩ hl.1 rfl (tw_r8 [] (Nat.le_of_ble_eq_true rfl)) dX10_insertionOf_44) (fun E q σ H locs hX hR hS hi => tw_out C hR hS (fun x hx => (hnx x hx).elim) hi hX) (fun x5 σ H locs hw hR hS => ?_)
        refine lv_if_eq (tgt := 52) C.hx C.hb dX10_insertionOf_47 (by decide) (fun c47 => ?_) (fun c47 => ?_)
        · replace hw := hw.1 c47
          exact wk_X10_insertionOf_b52 C hr hmn hnx hfr hRl hk10 _ _ σ _ _ _ hw hR hS (tk_sub hl [1, 2] rfl)
        · replace hw := hw.2 c47
          refine tk_aload_n C hl 0 dX10_insertionOf_50 rfl ?_
          exact tw_aret C hR hS hr (Or.inl ⟨_, rfl⟩) dX10_insertionOf_51 hw
set_option maxHeartbeats 4000000 in
theorem wk_X10_insertionOf (l : Launch) (hl0 : l.stackTraces = false) (G : Tgl) (fr : Nat)  (hfr : 69 ≤ fr) (l0 : Option Nat) (l1 : Option Nat) (Q : Option Nat → Tst → Prop) (X : String → Nat → Tst → Prop) (σ : Tst) (hw : w_X10_insertionOf l0 l1 Q X σ) : tw_M l yX10_insertionOf (ws_ yX10_insertionOf cX10_insertionOf 4 (some (.object "TreeDiffer$Operation"))) fr (40 * fr) G σ [.inr l0, .inr l1] (tw_Qq G Q) X := by
  unfold w_X10_insertionOf at hw
  refine tw_of (ret := (some (.object "TreeDiffer$Operation"))) hl0 (by decide) (Nat.le_of_ble_eq_true rfl) (fun p e R s m args below meth c hRf hRl C hr hmn hnx hR hS ls hl => ?_)
  have hfr : 69 ≤ R.frames := by rw [hRf]; exact hfr
  have hRl : R.locals = 40 * R.frames := by rw [hRl, hRf]
  have hl : tw_l ls 4 [(0, .inr l0), (1, .inr l1)] := hl
  refine tk_aload_n C hl 0 dX10_insertionOf_0 rfl ?_
  refine tk_gr C hR hw rfl in_X10 (by decide) q1896 (fun _ h => h) dX10_insertionOf_1 (fun x1 hw => ?_)
  obtain ⟨hv, hw⟩ := hw
  refine tw_cbq5 C hS (tk_runF (As := []) (x := ⟨"java/util/List", "iterator", "()Ljava/util/Iterator;"⟩) C hR hS (wk_J6_iterator l C.hst G (R.frames - 1) (by omega) _ _ _ σ hw) hv rfl q1343 q294 q296 q73 q298 (by decide +kernel) (show tw_pd ⟨"java/util/List", "iterator", "()Ljava/util/Iterator;"⟩ 0 by decide +kernel) ⟨by omega, by omega⟩ hl.1 rfl (tw_r8 [] (Nat.le_of_ble_eq_true rfl)) dX10_insertionOf_4) (fun E q σ H locs hX hR hS hi => tw_out C hR hS (fun x hx => (hnx x hx).elim) hi hX) (fun x2 σ H locs hw hR hS => ?_)
  refine tk_astore_n (L' := [(2, .inr x2), (0, .inr l0), (1, .inr l1)]) C hl dX10_insertionOf_9 (by decide) rfl (fun ls hl => ?_)
  obtain ⟨z, hw⟩ := hw
  exact wk_X10_insertionOf_b10 C hr hmn hnx hfr hRl z _ _ σ _ _ _ hw hR hS (tk_sub hl [2, 0] rfl)
-- java/util/ArrayList$Itr.remove()V
def w_J18_remove (l0 : Option Nat) (Q : Tst → Prop) (X : String → Nat → Tst → Prop) (σ : Tst) : Prop := w_gi σ l0 cJ18 1 fun x1 => w_if (0 ≤ x1) (w_rc σ l0 cJ18 <| w_J18_checkForComodification l0 (fun σ => w_gr σ l0 cJ18 3 fun x3 => w_gi σ l0 cJ18 1 fun x4 => w_rc σ x3 cJ6 <| w_J6_remove x3 x4 (fun x5 σ => w_gi σ l0 cJ18 1 fun x6 => w_p σ l0 cJ18 0 (.inl x6) fun σ => w_p σ l0 cJ18 1 (.inl (-1)) fun σ => w_gr σ l0 cJ18 3 fun x7 => w_gi σ x7 cJ6 0 fun x8 => w_p σ l0 cJ18 2 (.inl x8) fun σ => Q σ) (fun _ _ _ => False) σ) (fun _ _ _ => False) σ) (False)
set_option maxHeartbeats 4000000 in
theorem wk_J18_remove (l : Launch) (hl0 : l.stackTraces = false) (G : Tgl) (fr : Nat)  (hfr : 4 ≤ fr) (l0 : Option Nat) (Q : Tst → Prop) (X : String → Nat → Tst → Prop) (σ : Tst) (hw : w_J18_remove l0 Q X σ) : tw_M l yJ18_remove (wsW_ yJ18_remove cJ18_remove 2 none [(19, 55, 58, 51)]) fr (40 * fr) G σ [.inr l0] (tw_Qv G Q) X := by
  unfold w_J18_remove at hw
  refine tw_ofW (ret := none) (hh := [(19, 55, 58, 51)]) hl0 (by decide) (Nat.le_of_ble_eq_true rfl) (fun p e R s m args below meth c hRf hRl C hr hmn hnx hR hS ls hl => ?_)
  have hfr : 4 ≤ R.frames := by rw [hRf]; exact hfr
  have hRl : R.locals = 40 * R.frames := by rw [hRl, hRf]
  have hl : tw_l ls 2 [(0, .inr l0)] := hl
  refine tk_aload_n C hl 0 dJ18_remove_0 rfl ?_
  refine tk_gi C hR hw rfl in_J18 (by decide) q306 (fun _ h => h) dJ18_remove_1 (fun x1 hw => ?_)
  refine lv_if_ge (tgt := 15) C.hx C.hb dJ18_remove_4 (by decide) (fun c4 => ?_) (fun c4 => ?_)
  · replace hw := hw.1 c4
    refine tk_aload_n C hl 0 dJ18_remove_15 rfl ?_
    obtain ⟨hv, hw⟩ := hw
    refine tw_cbv C hS (tk_runV (As := []) C hR hS (wk_J18_checkForComodification l C.hst G (R.frames - 1) (by omega) _ _ _ σ hw) hv rfl q571 q572 q573 q90 q574 pd_J18_checkForComodification ⟨by omega, by omega⟩ hl.1 rfl (tw_r8 [] (Nat.le_of_ble_eq_true rfl)) dJ18_remove_16) (fun E q σ H locs hX hR hS hi => hX.elim) (fun σ H locs hw hR hS => ?_)
    refine tk_aload_n C hl 0 dJ18_remove_19 rfl ?_
    refine tk_gr C hR hw rfl in_J18 (by decide) q308 (fun _ h => h) dJ18_remove_20 (fun x3 hw => ?_)
    refine tk_aload_n C hl 0 dJ18_remove_23 rfl ?_
    refine tk_gi C hR hw rfl in_J18 (by decide) q306 (fun _ h => h) dJ18_remove_24 (fun x4 hw => ?_)
    obtain ⟨hv, hw⟩ := hw
    refine tw_cbq C hS (tk_runV (As := [.inl x4]) C hR hS (wk_J6_remove l C.hst G (R.frames - 1) (by omega) _ _ _ _ σ hw) hv rfl q1874 q1143 q2550 q73 q1145 pd_J6_remove ⟨by omega, by omega⟩ hl.1 rfl (tw_r8 [] (Nat.le_of_ble_eq_true rfl)) dJ18_remove_27) (fun E q σ H locs hX hR hS hi => hX.elim) (fun x5 σ H locs hw hR hS => ?_)
    refine tw_pop (x := .inr x5) C.hx C.hb dJ18_remove_30 ?_
    refine tk_aload_n C hl 0 dJ18_remove_31 rfl ?_
    refine tk_aload_n C hl 0 dJ18_remove_32 rfl ?_
    refine tk_gi C hR hw rfl in_J18 (by decide) q306 (fun _ h => h) dJ18_remove_33 (fun x6 hw => ?_)
    refine tk_p (x := .inl x6) C hR hS hw (by decide) rfl in_J18 tyJ18 tyJ18_ok nmJ18 (by decide) q305 (fun _ h => h) rfl (tw_ni _) dJ18_remove_36 (fun σ H locs hw hR hS => ?_)
    refine tk_aload_n C hl 0 dJ18_remove_39 rfl ?_
    refine lv_iconst (v := (-1)) C.hx C.hb dJ18_remove_40 (by decide) ?_
    refine tk_p (x := .inl (-1)) C hR hS hw (by decide) rfl in_J18 tyJ18 tyJ18_ok nmJ18 (by decide) q306 (fun _ h => h) rfl (tw_ni _) dJ18_remove_41 (fun σ H locs hw hR hS => ?_)
    refine tk_aload_n C hl 0 dJ18_remove_44 rfl ?_
    refine tk_aload_n C hl 0 dJ18_remove_45 rfl ?_
    refine tk_gr C hR hw rfl in_J18 (by decide) q308 (fun _ h => h) dJ18_remove_46 (fun x7 hw => ?_)
    refine tk_gi C hR hw rfl in_J6 (by decide) q182 (u_same (C.hts _ q183)) dJ18_remove_49 (fun x8 hw => ?_)
    refine tk_p (x := .inl x8) C hR hS hw (by decide) rfl in_J18 tyJ18 tyJ18_ok nmJ18 (by decide) q307 (fun _ h => h) rfl (tw_ni _) dJ18_remove_52 (fun σ H locs hw hR hS => ?_)
    refine lv_goto (tgt := 67) C.hx C.hb dJ18_remove_55 (by decide) ?_
    exact tw_vret C hR hS hr dJ18_remove_67 hw
  · replace hw := hw.2 c4
    exact hw.elim
-- TreeDiffer$Script.recognizeMoves()V
def w_X10_recognizeMoves_b75 (k10 : Option Nat → Option Nat → Tst → Prop) (Q : Tst → Prop) (X : String → Nat → Tst → Prop) (l0 : Option Nat) (l1 : Option Nat) (σ : Tst) : Prop := k10 l0 l1 σ
def w_X10_recognizeMoves_b50 (k10 : Option Nat → Option Nat → Tst → Prop) (Q : Tst → Prop) (X : String → Nat → Tst → Prop) (l0 : Option Nat) (l1 : Option Nat) (l2 : Option Nat) (s0 : Option Nat) (σ : Tst) : Prop := w_if (s0 = none) (w_X10_recognizeMoves_b75 k10 Q X l0 l1 σ) (w_ok .char 109 ∧ w_p σ s0 cX12 0 (.inl 109) fun σ => w_gr σ l2 cX12 1 fun x1 => w_p σ s0 cX12 1 (.inr x1) fun σ => w_rc σ l1 cJ18 <| w_J18_remove l1 (fun σ => w_X10_recognizeMoves_b75 k10 Q X l0 l1 σ) X σ)
def w_X10_recognizeMoves_b10 (Q : Tst → Prop) (X : String → Nat → Tst → Prop) : Nat → Option Nat → Option Nat → Tst → Prop
  | 0, _, _, _ => False
  | n + 1, l0, l1, σ => w_rc σ l1 cJ18 <| w_J18_hasNext l1 (fun x1 σ => w_if (x1 = 0) (Q σ) (w_rc σ l1 cJ18 <| w_J18_next l1 (fun x2 σ => w_cc σ x2 cX12 <| w_gi σ x2 cX12 0 fun x3 => w_if (x3 = 100) (w_gr σ x2 cX12 1 fun x4 => w_rc σ l0 cX10 <| w_X10_insertionOf l0 x4 (fun x5 σ => w_X10_recognizeMoves_b50 (w_X10_recognizeMoves_b10 Q X n) Q X l0 l1 x2 x5 σ) X σ) (w_X10_recognizeMoves_b50 (w_X10_recognizeMoves_b10 Q X n) Q X l0 l1 x2 none σ)) X σ)) X σ
def w_X10_recognizeMoves (l0 : Option Nat) (Q : Tst → Prop) (X : String → Nat → Tst → Prop) (σ : Tst) : Prop := w_gr σ l0 cX10 2 fun x1 => w_rc σ x1 cJ6 <| w_J6_iterator x1 (fun x2 σ => ∃ z, w_X10_recognizeMoves_b10 Q X z l0 x2 σ) X σ
set_option maxHeartbeats 4000000 in
theorem wk_X10_recognizeMoves_b75  (C : tw_C p l R s m args meth c G cX10_recognizeMoves 4 yX10_recognizeMoves.cls) (hr : meth.sig.returnType = none) (hmn : meth.name = yX10_recognizeMoves.name) (hnx : (∀ x ∈ c.exceptionTable.toList, False)) (hfr : 70 ≤ R.frames) (hRl : R.locals = 40 * R.frames) {Q : Tst → Prop} {X : String → Nat → Tst → Prop}  {k10 : Option Nat → Option Nat → Tst → Prop} (hk10 : ∀ (l0 : Option Nat) (l1 : Option Nat) (σ : Tst) (H : Heap) (locs : List Loc) (ls : Array Slot), k10 l0 l1 σ → tw_R G σ H → va_S (tw_A G) s.heap H locs → tw_l ls 4 [(0, .inr l0), (1, .inr l1)] → tw_W p l e R s m args below meth c σ H locs (tw_E below G (tw_Qv G Q) X args s R) (F0 m 10 ls [])) (l0 : Option Nat) (l1 : Option Nat) (σ : Tst) (H : Heap) (locs : List Loc) (ls : Array Slot) (hw : w_X10_recognizeMoves_b75 k10 Q X l0 l1 σ) (hR : tw_R G σ H) (hS : va_S (tw_A G) s.heap H locs) (hl : tw_l ls 4 [(0, .inr l0), (1, .inr l1)]) : tw_W p l e R s m args below meth c σ H locs (tw_E below G (tw_Qv G Q) X args s R) (F0 m 75 ls []) := by
  unfold w_X10_recognizeMoves_b75 at hw
  refine lv_goto (tgt := 10) C.hx C.hb dX10_recognizeMoves_75 (by decide) ?_
  exact hk10 _ _ σ _ _ _ hw hR hS (tk_sub hl [0, 1] rfl)
set_option maxHeartbeats 4000000 in
theorem wk_X10_recognizeMoves_b50  (C : tw_C p l R s m args meth c G cX10_recognizeMoves 4 yX10_recognizeMoves.cls) (hr : meth.sig.returnType = none) (hmn : meth.name = yX10_recognizeMoves.name) (hnx : (∀ x ∈ c.exceptionTable.toList, False)) (hfr : 70 ≤ R.frames) (hRl : R.locals = 40 * R.frames) {Q : Tst → Prop} {X : String → Nat → Tst → Prop}  {k10 : Option Nat → Option Nat → Tst → Prop} (hk10 : ∀ (l0 : Option Nat) (l1 : Option Nat) (σ : Tst) (H : Heap) (locs : List Loc) (ls : Array Slot), k10 l0 l1 σ → tw_R G σ H → va_S (tw_A G) s.heap H locs → tw_l ls 4 [(0, .inr l0), (1, .inr l1)] → tw_W p l e R s m args below meth c σ H locs (tw_E below G (tw_Qv G Q) X args s R) (F0 m 10 ls [])) (l0 : Option Nat) (l1 : Option Nat) (l2 : Option Nat) (s0 : Option Nat) (σ : Tst) (H : Heap) (locs : List Loc) (ls : Array Slot) (hw : w_X10_recognizeMoves_b50 k10 Q X l0 l1 l2 s0 σ) (hR : tw_R G σ H) (hS : va_S (tw_A G) s.heap H locs) (hl : tw_l ls 4 [(0, .inr l0), (1, .inr l1), (2, .inr l2)]) : tw_W p l e R s m args below meth c σ H locs (tw_E below G (tw_Qv G Q) X args s R) (F0 m 50 ls [va_rf s0]) := by
  unfold w_X10_recognizeMoves_b50 at hw
  refine tk_astore_n (L' := [(3, .inr s0), (0, .inr l0), (1, .inr l1), (2, .inr l2)]) C hl dX10_recognizeMoves_50 (by decide) rfl (fun ls hl => ?_)
  refine tk_aload_n C hl 0 dX10_recognizeMoves_51 rfl ?_
  refine tw_ifnull (tgt := 75) C.hx C.hb dX10_recognizeMoves_52 (by decide) (fun c52 => ?_) (fun c52 => ?_)
  · replace hw := hw.1 c52
    exact wk_X10_recognizeMoves_b75 C hr hmn hnx hfr hRl hk10 _ _ σ _ _ _ hw hR hS (tk_sub hl [1, 2] rfl)
  · replace hw := hw.2 c52
    refine tk_aload_n C hl 0 dX10_recognizeMoves_55 rfl ?_
    refine lv_bipush (v := 109) C.hx C.hb dX10_recognizeMoves_56 (by decide) ?_
    obtain ⟨hok, hw⟩ := hw
    refine tk_pN (x := .inl 109) C hR hS hw (by decide) rfl in_X12 tyX12 tyX12_ok nmX12 (by decide) q1025 (fun _ h => h) rfl hok dX10_recognizeMoves_58 (fun σ H locs hw hR hS => ?_)
    refine tk_aload_n C hl 0 dX10_recognizeMoves_61 rfl ?_
    refine tk_aload_n C hl 3 dX10_recognizeMoves_62 rfl ?_
    refine tk_grN C hR hw rfl in_X12 (by decide) q1029 (fun _ h => h) dX10_recognizeMoves_63 (fun x1 hw => ?_)
    refine tk_pN (x := .inr x1) C hR hS hw (by decide) rfl in_X12 tyX12 tyX12_ok nmX12 (by decide) q1029 (fun _ h => h) rfl (tw_nr _ _) dX10_recognizeMoves_66 (fun σ H locs hw hR hS => ?_)
    refine tk_aload_n C hl 2 dX10_recognizeMoves_69 rfl ?_
    obtain ⟨hv, hw⟩ := hw
    refine tw_cbv5 C hS (tk_runFW (As := []) (x := ⟨"java/util/Iterator", "remove", "()V"⟩) C hR hS (wk_J18_remove l C.hst G (R.frames - 1) (by omega) _ _ _ σ hw) hv rfl q1854 q1867 q1869 q90 q1871 (by decide +kernel) (show tw_pd ⟨"java/util/Iterator", "remove", "()V"⟩ 0 by decide +kernel) ⟨by omega, by omega⟩ hl.1 rfl (tw_r8 [] (Nat.le_of_ble_eq_true rfl)) dX10_recognizeMoves_70) (fun E q σ H locs hX hR hS hi => tw_out C hR hS (fun x hx => (hnx x hx).elim) hi hX) (fun σ H locs hw hR hS => ?_)
    exact wk_X10_recognizeMoves_b75 C hr hmn hnx hfr hRl hk10 _ _ σ _ _ _ hw hR hS (tk_sub hl [1, 2] rfl)
set_option maxHeartbeats 4000000 in
theorem wk_X10_recognizeMoves_b10  (C : tw_C p l R s m args meth c G cX10_recognizeMoves 4 yX10_recognizeMoves.cls) (hr : meth.sig.returnType = none) (hmn : meth.name = yX10_recognizeMoves.name) (hnx : (∀ x ∈ c.exceptionTable.toList, False)) (hfr : 70 ≤ R.frames) (hRl : R.locals = 40 * R.frames) {Q : Tst → Prop} {X : String → Nat → Tst → Prop}  : ∀ (n : Nat) (l0 : Option Nat) (l1 : Option Nat) (σ : Tst) (H : Heap) (locs : List Loc) (ls : Array Slot), w_X10_recognizeMoves_b10 Q X n l0 l1 σ → tw_R G σ H → va_S (tw_A G) s.heap H locs → tw_l ls 4 [(0, .inr l0), (1, .inr l1)] → tw_W p l e R s m args below meth c σ H locs (tw_E below G (tw_Qv G Q) X args s R) (F0 m 10 ls []) := by
  intro n
  induction n with
  | zero => intro l0 l1 σ H locs ls hw; exact False.elim hw
  | succ n hk10 =>
    intro l0 l1 σ H locs ls hw hR hS hl
    rw [w_X10_recognizeMoves_b10] at hw
    refine tk_aload_n C hl 1 dX10_recognizeMoves_10 rfl ?_
    obtain ⟨hv, hw⟩ := hw
    refine tw_cbi5 C hS (tk_runF (As := []) (x := ⟨"java/util/Iterator", "hasNext", "()Z"⟩) C hR hS (wk_J18_hasNext l C.hst G (R.frames - 1) (by omega) _ _ _ σ hw) hv rfl q1345 q333 q335 q90 q337 (by decide +kernel) (show tw_pd ⟨"java/util/Iterator", "hasNext", "()Z"⟩ 0 by decide +kernel) ⟨by omega, by omega⟩ hl.1 rfl (tw_r8 [] (Nat.le_of_ble_eq_true rfl)) dX10_recognizeMoves_11) (fun E q σ H locs hX hR hS hi => tw_out C hR hS (fun x hx => (hnx x hx).elim) hi hX) (fun x1 σ H locs hw hR hS => ?_)
    refine lv_if_eq (tgt := 78) C.hx C.hb dX10_recognizeMoves_16 (by decide) (fun c16 => ?_) (fun c16 => ?_)
    · replace hw := hw.1 c16
      exact tw_vret C hR hS hr dX10_recognizeMoves_78 hw
    · replace hw := hw.2 c16
      refine tk_aload_n C hl 1 dX10_recognizeMoves_19 rfl ?_
      obtain ⟨hv, hw⟩ := hw
      refine tw_cbq5 C hS (tk_runF (As := []) (x := ⟨"java/util/Iterator", "next", "()Ljava/lang/Object;"⟩) C hR hS (wk_J18_next l C.hst G (R.frames - 1) (by omega) _ _ _ σ hw) hv rfl q1347 q566 q568 q90 q570 (by decide +kernel) (show tw_pd ⟨"java/util/Iterator", "next", "()Ljava/lang/Object;"⟩ 0 by decide +kernel) ⟨by omega, by omega⟩ hl.1 rfl (tw_r8 [] (Nat.le_of_ble_eq_true rfl)) dX10_recognizeMoves_20) (fun E q σ H locs hX hR hS hi => tw_out C hR hS (fun x hx => (hnx x hx).elim) hi hX) (fun x2 σ H locs hw hR hS => ?_)
      refine tk_cc C hR hw rfl q1348 (Or.inl rfl) dX10_recognizeMoves_25 (fun hw => ?_)
      refine tk_astore_n (L' := [(2, .inr x2), (0, .inr l0), (1, .inr l1)]) C hl dX10_recognizeMoves_28 (by decide) rfl (fun ls hl => ?_)
      refine tk_aload_n C hl 0 dX10_recognizeMoves_29 rfl ?_
      refine tk_giN C hR hw rfl in_X12 (by decide) q1025 (fun _ h => h) dX10_recognizeMoves_30 (fun x3 hw => ?_)
      refine lv_bipush (v := 100) C.hx C.hb dX10_recognizeMoves_33 (by decide) ?_
      refine lv_icmp_ne (tgt := 49) C.hx C.hb dX10_recognizeMoves_35 (by decide) (fun c35 => ?_) (fun c35 => ?_)
      · replace hw := hw.2 c35
        refine lv_null C.hx C.hb dX10_recognizeMoves_49 ?_
        refine W.eq (g2 := F0 m 50 ls (va_rf none :: [])) rfl ?_
        exact wk_X10_recognizeMoves_b50 C hr hmn hnx hfr hRl hk10 _ _ _ _ σ _ _ _ hw hR hS (tk_sub hl [1, 2, 0] rfl)
      · replace hw := hw.1 c35
        refine tk_aload_n C hl 1 dX10_recognizeMoves_38 rfl ?_
        refine tk_aload_n C hl 0 dX10_recognizeMoves_39 rfl ?_
        refine tk_grN C hR hw rfl in_X12 (by decide) q1029 (fun _ h => h) dX10_recognizeMoves_40 (fun x4 hw => ?_)
        obtain ⟨hv, hw⟩ := hw
        refine tw_cbq C hS (tk_runV (As := [.inr x4]) C hR hS (wk_X10_insertionOf l C.hst G (R.frames - 1) (by omega) _ _ _ _ σ hw) hv rfl q1849 q1851 qs20 q101 q1852 pd_X10_insertionOf ⟨by omega, by omega⟩ hl.1 rfl (tw_r8 [] (Nat.le_of_ble_eq_true rfl)) dX10_recognizeMoves_43) (fun E q σ H locs hX hR hS hi => tw_out C hR hS (fun x hx => (hnx x hx).elim) hi hX) (fun x5 σ H locs hw hR hS => ?_)
        refine lv_goto (tgt := 50) C.hx C.hb dX10_recognizeMoves_46 (by decide) ?_
        exact wk_X10_recognizeMoves_b50 C hr hmn hnx hfr hRl hk10 _ _ _ _ σ _ _ _ hw hR hS (tk_sub hl [1, 2, 0] rfl)
set_option maxHeartbeats 4000000 in
theorem wk_X10_recognizeMoves (l : Launch) (hl0 : l.stackTraces = false) (G : Tgl) (fr : Nat)  (hfr : 70 ≤ fr) (l0 : Option Nat) (Q : Tst → Prop) (X : String → Nat → Tst → Prop) (σ : Tst) (hw : w_X10_recognizeMoves l0 Q X σ) : tw_M l yX10_recognizeMoves (ws_ yX10_recognizeMoves cX10_recognizeMoves 4 none) fr (40 * fr) G σ [.inr l0] (tw_Qv G Q) X := by
  unfold w_X10_recognizeMoves at hw
  refine tw_of (ret := none) hl0 (by decide) (Nat.le_of_ble_eq_true rfl) (fun p e R s m args below meth c hRf hRl C hr hmn hnx hR hS ls hl => ?_)
  have hfr : 70 ≤ R.frames := by rw [hRf]; exact hfr
  have hRl : R.locals = 40 * R.frames := by rw [hRl, hRf]
  have hl : tw_l ls 4 [(0, .inr l0)] := hl
  refine tk_aload_n C hl 0 dX10_recognizeMoves_0 rfl ?_
  refine tk_gr C hR hw rfl in_X10 (by decide) q1896 (fun _ h => h) dX10_recognizeMoves_1 (fun x1 hw => ?_)
  obtain ⟨hv, hw⟩ := hw
  refine tw_cbq5 C hS (tk_runF (As := []) (x := ⟨"java/util/List", "iterator", "()Ljava/util/Iterator;"⟩) C hR hS (wk_J6_iterator l C.hst G (R.frames - 1) (by omega) _ _ _ σ hw) hv rfl q1343 q294 q296 q73 q298 (by decide +kernel) (show tw_pd ⟨"java/util/List", "iterator", "()Ljava/util/Iterator;"⟩ 0 by decide +kernel) ⟨by omega, by omega⟩ hl.1 rfl (tw_r8 [] (Nat.le_of_ble_eq_true rfl)) dX10_recognizeMoves_4) (fun E q σ H locs hX hR hS hi => tw_out C hR hS (fun x hx => (hnx x hx).elim) hi hX) (fun x2 σ H locs hw hR hS => ?_)
  refine tk_astore_n (L' := [(1, .inr x2), (0, .inr l0)]) C hl dX10_recognizeMoves_9 (by decide) rfl (fun ls hl => ?_)
  obtain ⟨z, hw⟩ := hw
  exact wk_X10_recognizeMoves_b10 C hr hmn hnx hfr hRl z _ _ σ _ _ _ hw hR hS (tk_sub hl [1, 0] rfl)
-- TreeDiffer$Script.<init>(LTreeDiffer$Tree;LTreeDiffer$Tree;)V
def w_X10_init (l0 : Option Nat) (l1 : Option Nat) (l2 : Option Nat) (Q : Tst → Prop) (X : String → Nat → Tst → Prop) (σ : Tst) : Prop := w_rf l0 <| w_nw σ cJ6 3 [.inl 0, .inr none, .inl 0] fun q1 σ => w_rf q1 <| w_J6_init q1 (fun σ => w_p σ l0 cX10 2 (.inr q1) fun σ => w_p σ l0 cX10 0 (.inr l1) fun σ => w_p σ l0 cX10 1 (.inr l2) fun σ => w_gr σ l1 cX2 0 fun x3 => w_gr σ l2 cX2 0 fun x4 => w_nw σ cX11 1 [.inr none] fun q5 σ => w_rf q5 <| w_X11_init q5 l0 (fun σ => w_X1_visitS 64 x3 x4 q5 (fun σ => w_rc σ l0 cX10 <| w_X10_recognizeMoves l0 (fun σ => Q σ) X σ) X σ) X σ) X σ
set_option maxHeartbeats 4000000 in
theorem wk_X10_init (l : Launch) (hl0 : l.stackTraces = false) (G : Tgl) (fr : Nat)  (hfr : 396 ≤ fr) (l0 : Option Nat) (l1 : Option Nat) (l2 : Option Nat) (Q : Tst → Prop) (X : String → Nat → Tst → Prop) (σ : Tst) (hw : w_X10_init l0 l1 l2 Q X σ) : tw_M l yX10_init (ws_ yX10_init cX10_init 3 none) fr (40 * fr) G σ [.inr l0, .inr l1, .inr l2] (tw_Qv G Q) X := by
  unfold w_X10_init at hw
  refine tw_of (ret := none) hl0 (by decide) (Nat.le_of_ble_eq_true rfl) (fun p e R s m args below meth c hRf hRl C hr hmn hnx hR hS ls hl => ?_)
  have hfr : 396 ≤ R.frames := by rw [hRf]; exact hfr
  have hRl : R.locals = 40 * R.frames := by rw [hRl, hRf]
  have hl : tw_l ls 3 [(0, .inr l0), (1, .inr l1), (2, .inr l2)] := hl
  refine tk_aload_n C hl 0 dX10_init_0 rfl ?_
  refine tk_obj C hw q1831 q119 q120 hl.1 (tw_r8 [] (Nat.le_of_ble_eq_true rfl)) (by omega) (by omega) dX10_init_1 (fun hw => ?_)
  refine tk_aload_n C hl 0 dX10_init_4 rfl ?_
  refine tk_nw C hR hS hw rfl in_J6 tyJ6 tyJ6_ok q1832 q164 q73 (fun j hj => by rcases (show j = 0 ∨ j = 1 ∨ j = 2 by omega) with rfl | rfl | rfl <;> rfl) dX10_init_5 (fun q1 σ H hw hR hS => ?_)
  refine tw_dup (x := .inr q1) C.hx C.hb dX10_init_8 ?_
  obtain ⟨hv, hw⟩ := hw
  refine tw_cbv C hS (tk_runI (As := []) hv C hR hS (wk_J6_init l C.hst G (R.frames - 1) (by omega) _ _ _ σ hw) q1833 q166 q73 q167 rfl pd_J6_init ⟨by omega, by omega⟩ hl.1 rfl (tw_r8 [.inr q1, .inr l0] (Nat.le_of_ble_eq_true rfl)) dX10_init_9) (fun E q σ H locs hX hR hS hi => tw_out C hR hS (fun x hx => (hnx x hx).elim) hi hX) (fun σ H locs hw hR hS => ?_)
  refine tk_pF (x := .inr q1) C hR hS hw (Or.inl (by decide)) rfl in_X10 tyX10 tyX10_ok nmX10 (by decide) q1896 (fun _ h => h) rfl hmn rfl (tw_nr _ _) dX10_init_12 (fun σ H locs hw hR hS => ?_)
  refine tk_aload_n C hl 0 dX10_init_15 rfl ?_
  refine tk_aload_n C hl 1 dX10_init_16 rfl ?_
  refine tk_pF (x := .inr l1) C hR hS hw (Or.inl (by decide)) rfl in_X10 tyX10 tyX10_ok nmX10 (by decide) q1891 (fun _ h => h) rfl hmn rfl (tw_nr _ _) dX10_init_17 (fun σ H locs hw hR hS => ?_)
  refine tk_aload_n C hl 0 dX10_init_20 rfl ?_
  refine tk_aload_n C hl 2 dX10_init_21 rfl ?_
  refine tk_pF (x := .inr l2) C hR hS hw (Or.inl (by decide)) rfl in_X10 tyX10 tyX10_ok nmX10 (by decide) q1893 (fun _ h => h) rfl hmn rfl (tw_nr _ _) dX10_init_22 (fun σ H locs hw hR hS => ?_)
  refine tk_aload_n C hl 1 dX10_init_25 rfl ?_
  refine tk_grN C hR hw rfl in_X2 (by decide) q240 (fun _ h => h) dX10_init_26 (fun x3 hw => ?_)
  refine tk_aload_n C hl 2 dX10_init_29 rfl ?_
  refine tk_grN C hR hw rfl in_X2 (by decide) q240 (fun _ h => h) dX10_init_30 (fun x4 hw => ?_)
  refine tk_nw C hR hS hw rfl in_X11 tyX11 tyX11_ok q1834 q1835 q102 (fun j hj => by rcases (show j = 0 by omega) with rfl; rfl) dX10_init_33 (fun q5 σ H hw hR hS => ?_)
  refine tw_dup (x := .inr q5) C.hx C.hb dX10_init_36 ?_
  refine tk_aload_n C hl 0 dX10_init_37 rfl ?_
  obtain ⟨hv, hw⟩ := hw
  refine tw_cbv C hS (tk_runI (As := [.inr l0]) hv C hR hS (wk_X11_init l C.hst G (R.frames - 1) (by omega) _ _ _ _ σ hw) q1836 q1837 q102 q1838 rfl pd_X11_init ⟨by omega, by omega⟩ hl.1 rfl (tw_r8 [.inr q5, .inr x4, .inr x3] (Nat.le_of_ble_eq_true rfl)) dX10_init_38) (fun E q σ H locs hX hR hS hi => tw_out C hR hS (fun x hx => (hnx x hx).elim) hi hX) (fun σ H locs hw hR hS => ?_)
  refine tw_cbv C hS (tw_runSN (As := [.inr x3, .inr x4, .inr q5]) C hR hS (wk_X1_visitS l C.hst G 64 (R.frames - 1) (by omega) _ _ _ _ _ σ hw) q1844 q1000 q64 q1001 pd_X1_visit ⟨by omega, by omega⟩ hl.1 rfl (tw_r8 [] (Nat.le_of_ble_eq_true rfl)) dX10_init_41) (fun E q σ H locs hX hR hS hi => tw_out C hR hS (fun x hx => (hnx x hx).elim) hi hX) (fun σ H locs hw hR hS => ?_)
  refine tk_aload_n C hl 0 dX10_init_44 rfl ?_
  obtain ⟨hv, hw⟩ := hw
  refine tw_cbv C hS (tk_runV (As := []) C hR hS (wk_X10_recognizeMoves l C.hst G (R.frames - 1) (by omega) _ _ _ σ hw) hv rfl q1845 q1847 qs19 q101 q1848 pd_X10_recognizeMoves ⟨by omega, by omega⟩ hl.1 rfl (tw_r8 [] (Nat.le_of_ble_eq_true rfl)) dX10_init_45) (fun E q σ H locs hX hR hS hi => tw_out C hR hS (fun x hx => (hnx x hx).elim) hi hX) (fun σ H locs hw hR hS => ?_)
  exact tw_vret C hR hS hr dX10_init_48 hw
-- TreeDiffer.diff(II)I
def w_X1_diff (l0 : Option Nat) (l1 : Int32) (l2 : Int32) (Q : Int32 → Tst → Prop) (X : String → Nat → Tst → Prop) (σ : Tst) : Prop := w_rc σ l0 cX1 <| w_X1_treeOf l0 l1 (fun x1 σ => w_rc σ l0 cX1 <| w_X1_treeOf l0 l2 (fun x2 σ => w_nw σ cX10 3 [.inr none, .inr none, .inr none] fun q3 σ => w_rc σ x1 cX2 <| w_X2_copy x1 (fun x4 σ => w_rc σ x2 cX2 <| w_X2_copy x2 (fun x5 σ => w_rf q3 <| w_X10_init q3 x4 x5 (fun σ => w_p σ l0 cX1 4 (.inr q3) fun σ => w_gr σ l0 cX1 4 fun x7 => w_gr σ x7 cX10 2 fun x8 => w_rc σ x8 cJ6 <| w_J6_size x8 (fun x9 σ => Q x9 σ) X σ) X σ) X σ) X σ) X σ) X σ
set_option maxHeartbeats 4000000 in
theorem wk_X1_diff (l : Launch) (hl0 : l.stackTraces = false) (G : Tgl) (fr : Nat)  (hfr : 397 ≤ fr) (l0 : Option Nat) (l1 : Int32) (l2 : Int32) (Q : Int32 → Tst → Prop) (X : String → Nat → Tst → Prop) (σ : Tst) (hw : w_X1_diff l0 l1 l2 Q X σ) : tw_M l yX1_diff (ws_ yX1_diff cX1_diff 5 (some .int)) fr (40 * fr) G σ [.inr l0, .inl l1, .inl l2] (tw_Qi G Q) X := by
  unfold w_X1_diff at hw
  refine tw_of (ret := (some .int)) hl0 (by decide) (Nat.le_of_ble_eq_true rfl) (fun p e R s m args below meth c hRf hRl C hr hmn hnx hR hS ls hl => ?_)
  have hfr : 397 ≤ R.frames := by rw [hRf]; exact hfr
  have hRl : R.locals = 40 * R.frames := by rw [hRl, hRf]
  have hl : tw_l ls 5 [(0, .inr l0), (1, .inl l1), (2, .inl l2)] := hl
  refine tk_aload_n C hl 0 dX1_diff_0 rfl ?_
  refine tk_iload_n C hl 1 dX1_diff_1 rfl ?_
  obtain ⟨hv, hw⟩ := hw
  refine tw_cbq C hS (tk_runV (As := [.inl l1]) C hR hS (wk_X1_treeOf l C.hst G (R.frames - 1) (by omega) _ _ _ _ σ hw) hv rfl q1581 q1583 qs16 q64 q1584 pd_X1_treeOf ⟨by omega, by omega⟩ hl.1 rfl (tw_r8 [] (Nat.le_of_ble_eq_true rfl)) dX1_diff_2) (fun E q σ H locs hX hR hS hi => tw_out C hR hS (fun x hx => (hnx x hx).elim) hi hX) (fun x1 σ H locs hw hR hS => ?_)
  refine tk_astore_n (L' := [(3, .inr x1), (0, .inr l0), (1, .inl l1), (2, .inl l2)]) C hl dX1_diff_5 (by decide) rfl (fun ls hl => ?_)
  refine tk_aload_n C hl 1 dX1_diff_6 rfl ?_
  refine tk_iload_n C hl 3 dX1_diff_7 rfl ?_
  obtain ⟨hv, hw⟩ := hw
  refine tw_cbq C hS (tk_runV (As := [.inl l2]) C hR hS (wk_X1_treeOf l C.hst G (R.frames - 1) (by omega) _ _ _ _ σ hw) hv rfl q1581 q1583 qs16 q64 q1584 pd_X1_treeOf ⟨by omega, by omega⟩ hl.1 rfl (tw_r8 [] (Nat.le_of_ble_eq_true rfl)) dX1_diff_8) (fun E q σ H locs hX hR hS hi => tw_out C hR hS (fun x hx => (hnx x hx).elim) hi hX) (fun x2 σ H locs hw hR hS => ?_)
  refine tk_astore (L' := [(4, .inr x2), (3, .inr x1), (0, .inr l0), (1, .inl l1), (2, .inl l2)]) C hl dX1_diff_11 (by decide) rfl (fun ls hl => ?_)
  refine tk_aload_n C hl 2 dX1_diff_13 rfl ?_
  refine tk_nw C hR hS hw rfl in_X10 tyX10 tyX10_ok q1826 q1827 q101 (fun j hj => by rcases (show j = 0 ∨ j = 1 ∨ j = 2 by omega) with rfl | rfl | rfl <;> rfl) dX1_diff_14 (fun q3 σ H hw hR hS => ?_)
  refine tw_dup (x := .inr q3) C.hx C.hb dX1_diff_17 ?_
  refine tk_aload_n C hl 1 dX1_diff_18 rfl ?_
  obtain ⟨hv, hw⟩ := hw
  refine tw_cbq C hS (tk_runV (As := []) C hR hS (wk_X2_copy l C.hst G (R.frames - 1) (by omega) _ _ _ σ hw) hv rfl q1715 q658 q659 q69 q660 pd_X2_copy ⟨by omega, by omega⟩ hl.1 rfl (tw_r8 [.inr q3, .inr q3, .inr l0] (Nat.le_of_ble_eq_true rfl)) dX1_diff_19) (fun E q σ H locs hX hR hS hi => tw_out C hR hS (fun x hx => (hnx x hx).elim) hi hX) (fun x4 σ H locs hw hR hS => ?_)
  refine tk_aload C hl 0 dX1_diff_22 rfl ?_
  obtain ⟨hv, hw⟩ := hw
  refine tw_cbq C hS (tk_runV (As := []) C hR hS (wk_X2_copy l C.hst G (R.frames - 1) (by omega) _ _ _ σ hw) hv rfl q1715 q658 q659 q69 q660 pd_X2_copy ⟨by omega, by omega⟩ hl.1 rfl (tw_r8 [.inr x4, .inr q3, .inr q3, .inr l0] (Nat.le_of_ble_eq_true rfl)) dX1_diff_24) (fun E q σ H locs hX hR hS hi => tw_out C hR hS (fun x hx => (hnx x hx).elim) hi hX) (fun x5 σ H locs hw hR hS => ?_)
  obtain ⟨hv, hw⟩ := hw
  refine tw_cbv C hS (tk_runI (As := [.inr x4, .inr x5]) hv C hR hS (wk_X10_init l C.hst G (R.frames - 1) (by omega) _ _ _ _ _ σ hw) q1828 q1829 q101 q1830 rfl pd_X10_init ⟨by omega, by omega⟩ hl.1 rfl (tw_r8 [.inr q3, .inr l0] (Nat.le_of_ble_eq_true rfl)) dX1_diff_27) (fun E q σ H locs hX hR hS hi => tw_out C hR hS (fun x hx => (hnx x hx).elim) hi hX) (fun σ H locs hw hR hS => ?_)
  refine tk_p (x := .inr q3) C hR hS hw (by decide) rfl in_X1 tyX1 tyX1_ok nmX1 (by decide) q251 (fun _ h => h) rfl (tw_nr _ _) dX1_diff_30 (fun σ H locs hw hR hS => ?_)
  refine tk_aload_n C hl 2 dX1_diff_33 rfl ?_
  refine tk_gr C hR hw rfl in_X1 (by decide) q251 (fun _ h => h) dX1_diff_34 (fun x7 hw => ?_)
  refine tk_grN C hR hw rfl in_X10 (by decide) q1899 (fun _ h => h) dX1_diff_37 (fun x8 hw => ?_)
  obtain ⟨hv, hw⟩ := hw
  refine tw_cbi5 C hS (tk_runF (As := []) (x := ⟨"java/util/List", "size", "()I"⟩) C hR hS (wk_J6_size l C.hst G (R.frames - 1) (by omega) _ _ _ σ hw) hv rfl q648 q447 q449 q73 q451 (by decide +kernel) (show tw_pd ⟨"java/util/List", "size", "()I"⟩ 0 by decide +kernel) ⟨by omega, by omega⟩ hl.1 rfl (tw_r8 [] (Nat.le_of_ble_eq_true rfl)) dX1_diff_40) (fun E q σ H locs hX hR hS hi => tw_out C hR hS (fun x hx => (hnx x hx).elim) hi hX) (fun x9 σ H locs hw hR hS => ?_)
  exact tw_iret C hR hS hr rfl dX1_diff_45 hw
-- TreeDifferLaw.diff(LTreeDiffer;II[J)I
def w_X0_diff_b13 (Q : Int32 → Tst → Prop) (X : String → Nat → Tst → Prop) (s0 : Option Nat) (σ : Tst) : Prop := Q 1 σ
def w_X0_diff (l0 : Option Nat) (l1 : Int32) (l2 : Int32) (l3 : Option Nat) (Q : Int32 → Tst → Prop) (X : String → Nat → Tst → Prop) (σ : Tst) : Prop := w_rc σ l0 cX1 <| w_X1_diff l0 l1 l2 (fun x1 σ => w_sl σ l3 0 (x1.toInt64) fun σ => Q 0 σ) (fun E q σ => w_if (E = "java/lang/IndexOutOfBoundsException") (w_X0_diff_b13 Q X (some q) σ) (False)) σ
set_option maxHeartbeats 4000000 in
theorem wk_X0_diff_b13  (C : tw_C p l R s m args meth c G cX0_diff 5 yX0_diff.cls) (hr : meth.sig.returnType = (some .int)) (hmn : meth.name = yX0_diff.name) (hnx : (c.exceptionTable.toList = tableOf [(0, 10, 13, 19)])) (hfr : 398 ≤ R.frames) (hRl : R.locals = 40 * R.frames) {Q : Int32 → Tst → Prop} {X : String → Nat → Tst → Prop}  (s0 : Option Nat) (σ : Tst) (H : Heap) (locs : List Loc) (ls : Array Slot) (hw : w_X0_diff_b13 Q X s0 σ) (hR : tw_R G σ H) (hS : va_S (tw_A G) s.heap H locs) (hl : tw_l ls 5 []) : tw_W p l e R s m args below meth c σ H locs (tw_E below G (tw_Qi G Q) X args s R) (F0 m 13 ls [va_rf s0]) := by
  unfold w_X0_diff_b13 at hw
  refine tk_astore (L' := [(4, .inr s0)]) C hl dX0_diff_13 (by decide) rfl (fun ls hl => ?_)
  refine lv_iconst (v := 1) C.hx C.hb dX0_diff_15 (by decide) ?_
  exact tw_iret C hR hS hr rfl dX0_diff_16 hw
set_option maxHeartbeats 4000000 in
theorem wk_X0_diff (l : Launch) (hl0 : l.stackTraces = false) (G : Tgl) (fr : Nat)  (hfr : 398 ≤ fr) (l0 : Option Nat) (l1 : Int32) (l2 : Int32) (l3 : Option Nat) (Q : Int32 → Tst → Prop) (X : String → Nat → Tst → Prop) (σ : Tst) (hw : w_X0_diff l0 l1 l2 l3 Q X σ) : tw_M l yX0_diff (wsW_ yX0_diff cX0_diff 5 (some .int) [(0, 10, 13, 19)]) fr (40 * fr) G σ [.inr l0, .inl l1, .inl l2, .inr l3] (tw_Qi G Q) X := by
  unfold w_X0_diff at hw
  refine tw_ofW (ret := (some .int)) (hh := [(0, 10, 13, 19)]) hl0 (by decide) (Nat.le_of_ble_eq_true rfl) (fun p e R s m args below meth c hRf hRl C hr hmn hnx hR hS ls hl => ?_)
  have hfr : 398 ≤ R.frames := by rw [hRf]; exact hfr
  have hRl : R.locals = 40 * R.frames := by rw [hRl, hRf]
  have hl : tw_l ls 5 [(0, .inr l0), (1, .inl l1), (2, .inl l2), (3, .inr l3)] := hl
  refine tk_aload_n C hl 3 dX0_diff_0 rfl ?_
  refine lv_iconst (v := 0) C.hx C.hb dX0_diff_1 (by decide) ?_
  refine tk_aload_n C hl 0 dX0_diff_2 rfl ?_
  refine tk_iload_n C hl 1 dX0_diff_3 rfl ?_
  refine tk_iload_n C hl 2 dX0_diff_4 rfl ?_
  obtain ⟨hv, hw⟩ := hw
  refine tw_cbi C hS (tk_runV (As := [.inl l1, .inl l2]) C hR hS (wk_X1_diff l C.hst G (R.frames - 1) (by omega) _ _ _ _ _ σ hw) hv rfl q1822 q1823 q1824 q64 q1825 pd_X1_diff ⟨by omega, by omega⟩ hl.1 rfl (tw_r8 [.inl 0, .inr l3] (Nat.le_of_ble_eq_true rfl)) dX0_diff_5) (fun E q σ H locs hX hR hS hi => ?_) (fun x1 σ H locs hw hR hS => ?_)
  · by_cases cE0 : E = "java/lang/IndexOutOfBoundsException"
    · replace hX := hX.1 cE0
      subst cE0
      refine tw_catch C hnx [] (0, 10, 13, 19) [] rfl (fun z hz => nomatch hz) rfl (by decide) q1394 q687 hi ?_
      exact wk_X0_diff_b13 C hr hmn hnx hfr hRl _ σ _ _ _ hX hR hS (tk_sub hl [] rfl)
    replace hX := hX.2 cE0
    exact hX.elim
  refine lv_i2l (v := x1.toInt64) C.hx C.hb dX0_diff_8 rfl ?_
  refine tk_sl C hR hS hw dX0_diff_9 (fun σ H locs hw hR hS => ?_)
  refine lv_goto (tgt := 17) C.hx C.hb dX0_diff_10 (by decide) ?_
  refine lv_iconst (v := 0) C.hx C.hb dX0_diff_17 (by decide) ?_
  exact tw_iret C hR hS hr rfl dX0_diff_18 hw
-- TreeDiffer.operations()I
def w_X1_operations (l0 : Option Nat) (Q : Int32 → Tst → Prop) (X : String → Nat → Tst → Prop) (σ : Tst) : Prop := w_rc σ l0 cX1 <| w_X1_latest l0 (fun x1 σ => w_gr σ x1 cX10 2 fun x2 => w_rc σ x2 cJ6 <| w_J6_size x2 (fun x3 σ => Q x3 σ) X σ) X σ
set_option maxHeartbeats 4000000 in
theorem wk_X1_operations (l : Launch) (hl0 : l.stackTraces = false) (G : Tgl) (fr : Nat)  (hfr : 8 ≤ fr) (l0 : Option Nat) (Q : Int32 → Tst → Prop) (X : String → Nat → Tst → Prop) (σ : Tst) (hw : w_X1_operations l0 Q X σ) : tw_M l yX1_operations (ws_ yX1_operations cX1_operations 1 (some .int)) fr (40 * fr) G σ [.inr l0] (tw_Qi G Q) X := by
  unfold w_X1_operations at hw
  refine tw_of (ret := (some .int)) hl0 (by decide) (Nat.le_of_ble_eq_true rfl) (fun p e R s m args below meth c hRf hRl C hr hmn hnx hR hS ls hl => ?_)
  have hfr : 8 ≤ R.frames := by rw [hRf]; exact hfr
  have hRl : R.locals = 40 * R.frames := by rw [hRl, hRf]
  have hl : tw_l ls 1 [(0, .inr l0)] := hl
  refine tk_aload_n C hl 0 dX1_operations_0 rfl ?_
  obtain ⟨hv, hw⟩ := hw
  refine tw_cbq C hS (tk_runV (As := []) C hR hS (wk_X1_latest l C.hst G (R.frames - 1) (by omega) _ _ _ σ hw) hv rfl q1601 q1603 qs17 q64 q1604 pd_X1_latest ⟨by omega, by omega⟩ hl.1 rfl (tw_r8 [] (Nat.le_of_ble_eq_true rfl)) dX1_operations_1) (fun E q σ H locs hX hR hS hi => tw_out C hR hS (fun x hx => (hnx x hx).elim) hi hX) (fun x1 σ H locs hw hR hS => ?_)
  refine tk_grN C hR hw rfl in_X10 (by decide) q1899 (fun _ h => h) dX1_operations_4 (fun x2 hw => ?_)
  obtain ⟨hv, hw⟩ := hw
  refine tw_cbi5 C hS (tk_runF (As := []) (x := ⟨"java/util/List", "size", "()I"⟩) C hR hS (wk_J6_size l C.hst G (R.frames - 1) (by omega) _ _ _ σ hw) hv rfl q648 q447 q449 q73 q451 (by decide +kernel) (show tw_pd ⟨"java/util/List", "size", "()I"⟩ 0 by decide +kernel) ⟨by omega, by omega⟩ hl.1 rfl (tw_r8 [] (Nat.le_of_ble_eq_true rfl)) dX1_operations_7) (fun E q σ H locs hX hR hS hi => tw_out C hR hS (fun x hx => (hnx x hx).elim) hi hX) (fun x3 σ H locs hw hR hS => ?_)
  exact tw_iret C hR hS hr rfl dX1_operations_12 hw
-- TreeDifferLaw.operations(LTreeDiffer;[J)I
def w_X0_operations_b11 (Q : Int32 → Tst → Prop) (X : String → Nat → Tst → Prop) (s0 : Option Nat) (σ : Tst) : Prop := Q 1 σ
def w_X0_operations (l0 : Option Nat) (l1 : Option Nat) (Q : Int32 → Tst → Prop) (X : String → Nat → Tst → Prop) (σ : Tst) : Prop := w_rc σ l0 cX1 <| w_X1_operations l0 (fun x1 σ => w_sl σ l1 0 (x1.toInt64) fun σ => Q 0 σ) (fun E q σ => w_if (E = "java/lang/IllegalStateException") (w_X0_operations_b11 Q X (some q) σ) (False)) σ
set_option maxHeartbeats 4000000 in
theorem wk_X0_operations_b11  (C : tw_C p l R s m args meth c G cX0_operations 3 yX0_operations.cls) (hr : meth.sig.returnType = (some .int)) (hmn : meth.name = yX0_operations.name) (hnx : (c.exceptionTable.toList = tableOf [(0, 8, 11, 13)])) (hfr : 9 ≤ R.frames) (hRl : R.locals = 40 * R.frames) {Q : Int32 → Tst → Prop} {X : String → Nat → Tst → Prop}  (s0 : Option Nat) (σ : Tst) (H : Heap) (locs : List Loc) (ls : Array Slot) (hw : w_X0_operations_b11 Q X s0 σ) (hR : tw_R G σ H) (hS : va_S (tw_A G) s.heap H locs) (hl : tw_l ls 3 []) : tw_W p l e R s m args below meth c σ H locs (tw_E below G (tw_Qi G Q) X args s R) (F0 m 11 ls [va_rf s0]) := by
  unfold w_X0_operations_b11 at hw
  refine tk_astore_n (L' := [(2, .inr s0)]) C hl dX0_operations_11 (by decide) rfl (fun ls hl => ?_)
  refine lv_iconst (v := 1) C.hx C.hb dX0_operations_12 (by decide) ?_
  exact tw_iret C hR hS hr rfl dX0_operations_13 hw
set_option maxHeartbeats 4000000 in
theorem wk_X0_operations (l : Launch) (hl0 : l.stackTraces = false) (G : Tgl) (fr : Nat)  (hfr : 9 ≤ fr) (l0 : Option Nat) (l1 : Option Nat) (Q : Int32 → Tst → Prop) (X : String → Nat → Tst → Prop) (σ : Tst) (hw : w_X0_operations l0 l1 Q X σ) : tw_M l yX0_operations (wsW_ yX0_operations cX0_operations 3 (some .int) [(0, 8, 11, 13)]) fr (40 * fr) G σ [.inr l0, .inr l1] (tw_Qi G Q) X := by
  unfold w_X0_operations at hw
  refine tw_ofW (ret := (some .int)) (hh := [(0, 8, 11, 13)]) hl0 (by decide) (Nat.le_of_ble_eq_true rfl) (fun p e R s m args below meth c hRf hRl C hr hmn hnx hR hS ls hl => ?_)
  have hfr : 9 ≤ R.frames := by rw [hRf]; exact hfr
  have hRl : R.locals = 40 * R.frames := by rw [hRl, hRf]
  have hl : tw_l ls 3 [(0, .inr l0), (1, .inr l1)] := hl
  refine tk_aload_n C hl 1 dX0_operations_0 rfl ?_
  refine lv_iconst (v := 0) C.hx C.hb dX0_operations_1 (by decide) ?_
  refine tk_aload_n C hl 0 dX0_operations_2 rfl ?_
  obtain ⟨hv, hw⟩ := hw
  refine tw_cbi C hS (tk_runV (As := []) C hR hS (wk_X1_operations l C.hst G (R.frames - 1) (by omega) _ _ _ σ hw) hv rfl q1910 q1911 q1912 q64 q1913 pd_X1_operations ⟨by omega, by omega⟩ hl.1 rfl (tw_r8 [.inl 0, .inr l1] (Nat.le_of_ble_eq_true rfl)) dX0_operations_3) (fun E q σ H locs hX hR hS hi => ?_) (fun x1 σ H locs hw hR hS => ?_)
  · by_cases cE0 : E = "java/lang/IllegalStateException"
    · replace hX := hX.1 cE0
      subst cE0
      refine tw_catch C hnx [] (0, 8, 11, 13) [] rfl (fun z hz => nomatch hz) rfl (by decide) q1357 q490 hi ?_
      exact wk_X0_operations_b11 C hr hmn hnx hfr hRl _ σ _ _ _ hX hR hS (tk_sub hl [] rfl)
    replace hX := hX.2 cE0
    exact hX.elim
  refine lv_i2l (v := x1.toInt64) C.hx C.hb dX0_operations_6 rfl ?_
  refine tk_sl C hR hS hw dX0_operations_7 (fun σ H locs hw hR hS => ?_)
  refine lv_goto (tgt := 14) C.hx C.hb dX0_operations_8 (by decide) ?_
  refine lv_iconst (v := 0) C.hx C.hb dX0_operations_14 (by decide) ?_
  exact tw_iret C hR hS hr rfl dX0_operations_15 hw
-- TreeDiffer.operationOf(I)LTreeDiffer$Operation;
def w_X1_operationOf (l0 : Option Nat) (l1 : Int32) (Q : Option Nat → Tst → Prop) (X : String → Nat → Tst → Prop) (σ : Tst) : Prop := w_rc σ l0 cX1 <| w_X1_latest l0 (fun x1 σ => w_gr σ x1 cX10 2 fun x2 => w_rc σ x2 cJ6 <| w_J6_size x2 (fun x3 σ => w_X1_isBetween l1 0 (x3 - 1) (fun x4 σ => w_X1_requireIndex x4 (fun σ => w_gr σ x1 cX10 2 fun x6 => w_rc σ x6 cJ6 <| w_J6_get x6 l1 (fun x7 σ => w_cc σ x7 cX12 <| Q x7 σ) X σ) X σ) X σ) X σ) X σ
set_option maxHeartbeats 4000000 in
theorem wk_X1_operationOf (l : Launch) (hl0 : l.stackTraces = false) (G : Tgl) (fr : Nat)  (hfr : 8 ≤ fr) (l0 : Option Nat) (l1 : Int32) (Q : Option Nat → Tst → Prop) (X : String → Nat → Tst → Prop) (σ : Tst) (hw : w_X1_operationOf l0 l1 Q X σ) : tw_M l yX1_operationOf (ws_ yX1_operationOf cX1_operationOf 3 (some (.object "TreeDiffer$Operation"))) fr (40 * fr) G σ [.inr l0, .inl l1] (tw_Qq G Q) X := by
  unfold w_X1_operationOf at hw
  refine tw_of (ret := (some (.object "TreeDiffer$Operation"))) hl0 (by decide) (Nat.le_of_ble_eq_true rfl) (fun p e R s m args below meth c hRf hRl C hr hmn hnx hR hS ls hl => ?_)
  have hfr : 8 ≤ R.frames := by rw [hRf]; exact hfr
  have hRl : R.locals = 40 * R.frames := by rw [hRl, hRf]
  have hl : tw_l ls 3 [(0, .inr l0), (1, .inl l1)] := hl
  refine tk_aload_n C hl 0 dX1_operationOf_0 rfl ?_
  obtain ⟨hv, hw⟩ := hw
  refine tw_cbq C hS (tk_runV (As := []) C hR hS (wk_X1_latest l C.hst G (R.frames - 1) (by omega) _ _ _ σ hw) hv rfl q1601 q1603 qs17 q64 q1604 pd_X1_latest ⟨by omega, by omega⟩ hl.1 rfl (tw_r8 [] (Nat.le_of_ble_eq_true rfl)) dX1_operationOf_1) (fun E q σ H locs hX hR hS hi => tw_out C hR hS (fun x hx => (hnx x hx).elim) hi hX) (fun x1 σ H locs hw hR hS => ?_)
  refine tk_astore_n (L' := [(2, .inr x1), (0, .inr l0), (1, .inl l1)]) C hl dX1_operationOf_4 (by decide) rfl (fun ls hl => ?_)
  refine tk_iload_n C hl 2 dX1_operationOf_5 rfl ?_
  refine lv_iconst (v := 0) C.hx C.hb dX1_operationOf_6 (by decide) ?_
  refine tk_aload_n C hl 0 dX1_operationOf_7 rfl ?_
  refine tk_grN C hR hw rfl in_X10 (by decide) q1899 (fun _ h => h) dX1_operationOf_8 (fun x2 hw => ?_)
  obtain ⟨hv, hw⟩ := hw
  refine tw_cbi5 C hS (tk_runF (As := []) (x := ⟨"java/util/List", "size", "()I"⟩) C hR hS (wk_J6_size l C.hst G (R.frames - 1) (by omega) _ _ _ σ hw) hv rfl q648 q447 q449 q73 q451 (by decide +kernel) (show tw_pd ⟨"java/util/List", "size", "()I"⟩ 0 by decide +kernel) ⟨by omega, by omega⟩ hl.1 rfl (tw_r8 [.inl 0, .inl l1] (Nat.le_of_ble_eq_true rfl)) dX1_operationOf_11) (fun E q σ H locs hX hR hS hi => tw_out C hR hS (fun x hx => (hnx x hx).elim) hi hX) (fun x3 σ H locs hw hR hS => ?_)
  refine lv_iconst (v := 1) C.hx C.hb dX1_operationOf_16 (by decide) ?_
  refine lv_isub C.hx C.hb dX1_operationOf_17 ?_
  refine tw_cbi C hS (tw_runS (As := [.inl l1, .inl 0, .inl (x3 - 1)]) C hR hS (wk_X1_isBetween l C.hst G (R.frames - 1) (by omega) _ _ _ _ _ σ hw) q1416 q1417 q64 q1418 pd_X1_isBetween ⟨by omega, by omega⟩ hl.1 rfl (tw_r8 [] (Nat.le_of_ble_eq_true rfl)) dX1_operationOf_18) (fun E q σ H locs hX hR hS hi => tw_out C hR hS (fun x hx => (hnx x hx).elim) hi hX) (fun x4 σ H locs hw hR hS => ?_)
  refine tw_cbv C hS (tw_runS (As := [.inl x4]) C hR hS (wk_X1_requireIndex l C.hst G (R.frames - 1) (by omega) _ _ _ σ hw) q1419 q1420 q64 q1421 pd_X1_requireIndex ⟨by omega, by omega⟩ hl.1 rfl (tw_r8 [] (Nat.le_of_ble_eq_true rfl)) dX1_operationOf_21) (fun E q σ H locs hX hR hS hi => tw_out C hR hS (fun x hx => (hnx x hx).elim) hi hX) (fun σ H locs hw hR hS => ?_)
  refine tk_aload_n C hl 0 dX1_operationOf_24 rfl ?_
  refine tk_grN C hR hw rfl in_X10 (by decide) q1899 (fun _ h => h) dX1_operationOf_25 (fun x6 hw => ?_)
  refine tk_iload_n C hl 2 dX1_operationOf_28 rfl ?_
  obtain ⟨hv, hw⟩ := hw
  refine tw_cbq5 C hS (tk_runF (As := [.inl l1]) (x := ⟨"java/util/List", "get", "(I)Ljava/lang/Object;"⟩) C hR hS (wk_J6_get l C.hst G (R.frames - 1) (by omega) _ _ _ _ σ hw) hv rfl q650 q456 q458 q73 q460 (by decide +kernel) (show tw_pd ⟨"java/util/List", "get", "(I)Ljava/lang/Object;"⟩ 1 by decide +kernel) ⟨by omega, by omega⟩ hl.1 rfl (tw_r8 [] (Nat.le_of_ble_eq_true rfl)) dX1_operationOf_29) (fun E q σ H locs hX hR hS hi => tw_out C hR hS (fun x hx => (hnx x hx).elim) hi hX) (fun x7 σ H locs hw hR hS => ?_)
  refine tk_cc C hR hw rfl q1611 (Or.inl rfl) dX1_operationOf_34 (fun hw => ?_)
  exact tw_aret C hR hS hr (Or.inl ⟨_, rfl⟩) dX1_operationOf_37 hw
-- TreeDiffer.opKind(I)C
def w_X1_opKind (l0 : Option Nat) (l1 : Int32) (Q : Int32 → Tst → Prop) (X : String → Nat → Tst → Prop) (σ : Tst) : Prop := w_rc σ l0 cX1 <| w_X1_operationOf l0 l1 (fun x1 σ => w_gi σ x1 cX12 0 fun x2 => narrow .char (.int x2) = .int x2 ∧ Q x2 σ) X σ
set_option maxHeartbeats 4000000 in
theorem wk_X1_opKind (l : Launch) (hl0 : l.stackTraces = false) (G : Tgl) (fr : Nat)  (hfr : 9 ≤ fr) (l0 : Option Nat) (l1 : Int32) (Q : Int32 → Tst → Prop) (X : String → Nat → Tst → Prop) (σ : Tst) (hw : w_X1_opKind l0 l1 Q X σ) : tw_M l yX1_opKind (ws_ yX1_opKind cX1_opKind 2 (some .char)) fr (40 * fr) G σ [.inr l0, .inl l1] (tw_Qi G Q) X := by
  unfold w_X1_opKind at hw
  refine tw_of (ret := (some .char)) hl0 (by decide) (Nat.le_of_ble_eq_true rfl) (fun p e R s m args below meth c hRf hRl C hr hmn hnx hR hS ls hl => ?_)
  have hfr : 9 ≤ R.frames := by rw [hRf]; exact hfr
  have hRl : R.locals = 40 * R.frames := by rw [hRl, hRf]
  have hl : tw_l ls 2 [(0, .inr l0), (1, .inl l1)] := hl
  refine tk_aload_n C hl 0 dX1_opKind_0 rfl ?_
  refine tk_iload_n C hl 1 dX1_opKind_1 rfl ?_
  obtain ⟨hv, hw⟩ := hw
  refine tw_cbq C hS (tk_runV (As := [.inl l1]) C hR hS (wk_X1_operationOf l C.hst G (R.frames - 1) (by omega) _ _ _ _ σ hw) hv rfl q1921 q1923 qs21 q64 q1924 pd_X1_operationOf ⟨by omega, by omega⟩ hl.1 rfl (tw_r8 [] (Nat.le_of_ble_eq_true rfl)) dX1_opKind_2) (fun E q σ H locs hX hR hS hi => tw_out C hR hS (fun x hx => (hnx x hx).elim) hi hX) (fun x1 σ H locs hw hR hS => ?_)
  refine tk_giN C hR hw rfl in_X12 (by decide) q1027 (fun _ h => h) dX1_opKind_5 (fun x2 hw => ?_)
  obtain ⟨hok, hw⟩ := hw
  exact tw_iret C hR hS hr hok dX1_opKind_8 hw
-- TreeDifferLaw.opKind(LTreeDiffer;I[J)I
def w_X0_opKind_b12 (Q : Int32 → Tst → Prop) (X : String → Nat → Tst → Prop) (s0 : Option Nat) (σ : Tst) : Prop := Q 1 σ
def w_X0_opKind_b15 (Q : Int32 → Tst → Prop) (X : String → Nat → Tst → Prop) (s0 : Option Nat) (σ : Tst) : Prop := Q 2 σ
def w_X0_opKind (l0 : Option Nat) (l1 : Int32) (l2 : Option Nat) (Q : Int32 → Tst → Prop) (X : String → Nat → Tst → Prop) (σ : Tst) : Prop := w_rc σ l0 cX1 <| w_X1_opKind l0 l1 (fun x1 σ => w_sl σ l2 0 (x1.toInt64) fun σ => Q 0 σ) (fun E q σ => w_if (E = "java/lang/IllegalStateException") (w_X0_opKind_b12 Q X (some q) σ) (w_if (E = "java/lang/IndexOutOfBoundsException") (w_X0_opKind_b15 Q X (some q) σ) (False))) σ
set_option maxHeartbeats 4000000 in
theorem wk_X0_opKind_b12  (C : tw_C p l R s m args meth c G cX0_opKind 4 yX0_opKind.cls) (hr : meth.sig.returnType = (some .int)) (hmn : meth.name = yX0_opKind.name) (hnx : (c.exceptionTable.toList = tableOf [(0, 9, 12, 13), (0, 9, 15, 19)])) (hfr : 10 ≤ R.frames) (hRl : R.locals = 40 * R.frames) {Q : Int32 → Tst → Prop} {X : String → Nat → Tst → Prop}  (s0 : Option Nat) (σ : Tst) (H : Heap) (locs : List Loc) (ls : Array Slot) (hw : w_X0_opKind_b12 Q X s0 σ) (hR : tw_R G σ H) (hS : va_S (tw_A G) s.heap H locs) (hl : tw_l ls 4 []) : tw_W p l e R s m args below meth c σ H locs (tw_E below G (tw_Qi G Q) X args s R) (F0 m 12 ls [va_rf s0]) := by
  unfold w_X0_opKind_b12 at hw
  refine tk_astore_n (L' := [(3, .inr s0)]) C hl dX0_opKind_12 (by decide) rfl (fun ls hl => ?_)
  refine lv_iconst (v := 1) C.hx C.hb dX0_opKind_13 (by decide) ?_
  exact tw_iret C hR hS hr rfl dX0_opKind_14 hw
set_option maxHeartbeats 4000000 in
theorem wk_X0_opKind_b15  (C : tw_C p l R s m args meth c G cX0_opKind 4 yX0_opKind.cls) (hr : meth.sig.returnType = (some .int)) (hmn : meth.name = yX0_opKind.name) (hnx : (c.exceptionTable.toList = tableOf [(0, 9, 12, 13), (0, 9, 15, 19)])) (hfr : 10 ≤ R.frames) (hRl : R.locals = 40 * R.frames) {Q : Int32 → Tst → Prop} {X : String → Nat → Tst → Prop}  (s0 : Option Nat) (σ : Tst) (H : Heap) (locs : List Loc) (ls : Array Slot) (hw : w_X0_opKind_b15 Q X s0 σ) (hR : tw_R G σ H) (hS : va_S (tw_A G) s.heap H locs) (hl : tw_l ls 4 []) : tw_W p l e R s m args below meth c σ H locs (tw_E below G (tw_Qi G Q) X args s R) (F0 m 15 ls [va_rf s0]) := by
  unfold w_X0_opKind_b15 at hw
  refine tk_astore_n (L' := [(3, .inr s0)]) C hl dX0_opKind_15 (by decide) rfl (fun ls hl => ?_)
  refine lv_iconst (v := 2) C.hx C.hb dX0_opKind_16 (by decide) ?_
  exact tw_iret C hR hS hr rfl dX0_opKind_17 hw
set_option maxHeartbeats 4000000 in
theorem wk_X0_opKind (l : Launch) (hl0 : l.stackTraces = false) (G : Tgl) (fr : Nat)  (hfr : 10 ≤ fr) (l0 : Option Nat) (l1 : Int32) (l2 : Option Nat) (Q : Int32 → Tst → Prop) (X : String → Nat → Tst → Prop) (σ : Tst) (hw : w_X0_opKind l0 l1 l2 Q X σ) : tw_M l yX0_opKind (wsW_ yX0_opKind cX0_opKind 4 (some .int) [(0, 9, 12, 13), (0, 9, 15, 19)]) fr (40 * fr) G σ [.inr l0, .inl l1, .inr l2] (tw_Qi G Q) X := by
  unfold w_X0_opKind at hw
  refine tw_ofW (ret := (some .int)) (hh := [(0, 9, 12, 13), (0, 9, 15, 19)]) hl0 (by decide) (Nat.le_of_ble_eq_true rfl) (fun p e R s m args below meth c hRf hRl C hr hmn hnx hR hS ls hl => ?_)
  have hfr : 10 ≤ R.frames := by rw [hRf]; exact hfr
  have hRl : R.locals = 40 * R.frames := by rw [hRl, hRf]
  have hl : tw_l ls 4 [(0, .inr l0), (1, .inl l1), (2, .inr l2)] := hl
  refine tk_aload_n C hl 2 dX0_opKind_0 rfl ?_
  refine lv_iconst (v := 0) C.hx C.hb dX0_opKind_1 (by decide) ?_
  refine tk_aload_n C hl 0 dX0_opKind_2 rfl ?_
  refine tk_iload_n C hl 1 dX0_opKind_3 rfl ?_
  obtain ⟨hv, hw⟩ := hw
  refine tw_cbi C hS (tk_runV (As := [.inl l1]) C hR hS (wk_X1_opKind l C.hst G (R.frames - 1) (by omega) _ _ _ _ σ hw) hv rfl q1917 q1918 q1919 q64 q1920 pd_X1_opKind ⟨by omega, by omega⟩ hl.1 rfl (tw_r8 [.inl 0, .inr l2] (Nat.le_of_ble_eq_true rfl)) dX0_opKind_4) (fun E q σ H locs hX hR hS hi => ?_) (fun x1 σ H locs hw hR hS => ?_)
  · by_cases cE0 : E = "java/lang/IllegalStateException"
    · replace hX := hX.1 cE0
      subst cE0
      refine tw_catch C hnx [] (0, 9, 12, 13) [(0, 9, 15, 19)] rfl (fun z hz => nomatch hz) rfl (by decide) q1357 q490 hi ?_
      exact wk_X0_opKind_b12 C hr hmn hnx hfr hRl _ σ _ _ _ hX hR hS (tk_sub hl [] rfl)
    replace hX := hX.2 cE0
    by_cases cE1 : E = "java/lang/IndexOutOfBoundsException"
    · replace hX := hX.1 cE1
      subst cE1
      refine tw_catch C hnx [(0, 9, 12, 13)] (0, 9, 15, 19) [] rfl (fun z hz => by simp only [List.mem_cons, List.not_mem_nil, or_false] at hz; rcases hz with rfl; exact Or.inr ⟨by decide, _, q1357, by decide +kernel⟩) rfl (by decide) q1394 q687 hi ?_
      exact wk_X0_opKind_b15 C hr hmn hnx hfr hRl _ σ _ _ _ hX hR hS (tk_sub hl [] rfl)
    replace hX := hX.2 cE1
    exact hX.elim
  refine lv_i2l (v := x1.toInt64) C.hx C.hb dX0_opKind_7 rfl ?_
  refine tk_sl C hR hS hw dX0_opKind_8 (fun σ H locs hw hR hS => ?_)
  refine lv_goto (tgt := 18) C.hx C.hb dX0_opKind_9 (by decide) ?_
  refine lv_iconst (v := 0) C.hx C.hb dX0_opKind_18 (by decide) ?_
  exact tw_iret C hR hS hr rfl dX0_opKind_19 hw
-- TreeDiffer.opNode(I)I
def w_X1_opNode (l0 : Option Nat) (l1 : Int32) (Q : Int32 → Tst → Prop) (X : String → Nat → Tst → Prop) (σ : Tst) : Prop := w_rc σ l0 cX1 <| w_X1_operationOf l0 l1 (fun x1 σ => w_gr σ l0 cX1 4 fun x2 => w_rc σ x2 cX10 <| w_X10_nodeNumber x2 x1 (fun x3 σ => Q x3 σ) X σ) X σ
set_option maxHeartbeats 4000000 in
theorem wk_X1_opNode (l : Launch) (hl0 : l.stackTraces = false) (G : Tgl) (fr : Nat)  (hfr : 9 ≤ fr) (l0 : Option Nat) (l1 : Int32) (Q : Int32 → Tst → Prop) (X : String → Nat → Tst → Prop) (σ : Tst) (hw : w_X1_opNode l0 l1 Q X σ) : tw_M l yX1_opNode (ws_ yX1_opNode cX1_opNode 3 (some .int)) fr (40 * fr) G σ [.inr l0, .inl l1] (tw_Qi G Q) X := by
  unfold w_X1_opNode at hw
  refine tw_of (ret := (some .int)) hl0 (by decide) (Nat.le_of_ble_eq_true rfl) (fun p e R s m args below meth c hRf hRl C hr hmn hnx hR hS ls hl => ?_)
  have hfr : 9 ≤ R.frames := by rw [hRf]; exact hfr
  have hRl : R.locals = 40 * R.frames := by rw [hRl, hRf]
  have hl : tw_l ls 3 [(0, .inr l0), (1, .inl l1)] := hl
  refine tk_aload_n C hl 0 dX1_opNode_0 rfl ?_
  refine tk_iload_n C hl 1 dX1_opNode_1 rfl ?_
  obtain ⟨hv, hw⟩ := hw
  refine tw_cbq C hS (tk_runV (As := [.inl l1]) C hR hS (wk_X1_operationOf l C.hst G (R.frames - 1) (by omega) _ _ _ _ σ hw) hv rfl q1921 q1923 qs21 q64 q1924 pd_X1_operationOf ⟨by omega, by omega⟩ hl.1 rfl (tw_r8 [] (Nat.le_of_ble_eq_true rfl)) dX1_opNode_2) (fun E q σ H locs hX hR hS hi => tw_out C hR hS (fun x hx => (hnx x hx).elim) hi hX) (fun x1 σ H locs hw hR hS => ?_)
  refine tk_astore_n (L' := [(2, .inr x1), (0, .inr l0), (1, .inl l1)]) C hl dX1_opNode_5 (by decide) rfl (fun ls hl => ?_)
  refine tk_aload_n C hl 1 dX1_opNode_6 rfl ?_
  refine tk_gr C hR hw rfl in_X1 (by decide) q251 (fun _ h => h) dX1_opNode_7 (fun x2 hw => ?_)
  refine tk_aload_n C hl 0 dX1_opNode_10 rfl ?_
  obtain ⟨hv, hw⟩ := hw
  refine tw_cbi C hS (tk_runV (As := [.inr x1]) C hR hS (wk_X10_nodeNumber l C.hst G (R.frames - 1) (by omega) _ _ _ _ σ hw) hv rfl q1612 q1613 q1614 q101 q1615 pd_X10_nodeNumber ⟨by omega, by omega⟩ hl.1 rfl (tw_r8 [] (Nat.le_of_ble_eq_true rfl)) dX1_opNode_11) (fun E q σ H locs hX hR hS hi => tw_out C hR hS (fun x hx => (hnx x hx).elim) hi hX) (fun x3 σ H locs hw hR hS => ?_)
  exact tw_iret C hR hS hr rfl dX1_opNode_14 hw
-- TreeDifferLaw.opNode(LTreeDiffer;I[J)I
def w_X0_opNode_b12 (Q : Int32 → Tst → Prop) (X : String → Nat → Tst → Prop) (s0 : Option Nat) (σ : Tst) : Prop := Q 1 σ
def w_X0_opNode_b15 (Q : Int32 → Tst → Prop) (X : String → Nat → Tst → Prop) (s0 : Option Nat) (σ : Tst) : Prop := Q 2 σ
def w_X0_opNode (l0 : Option Nat) (l1 : Int32) (l2 : Option Nat) (Q : Int32 → Tst → Prop) (X : String → Nat → Tst → Prop) (σ : Tst) : Prop := w_rc σ l0 cX1 <| w_X1_opNode l0 l1 (fun x1 σ => w_sl σ l2 0 (x1.toInt64) fun σ => Q 0 σ) (fun E q σ => w_if (E = "java/lang/IllegalStateException") (w_X0_opNode_b12 Q X (some q) σ) (w_if (E = "java/lang/IndexOutOfBoundsException") (w_X0_opNode_b15 Q X (some q) σ) (False))) σ
set_option maxHeartbeats 4000000 in
theorem wk_X0_opNode_b12  (C : tw_C p l R s m args meth c G cX0_opNode 4 yX0_opNode.cls) (hr : meth.sig.returnType = (some .int)) (hmn : meth.name = yX0_opNode.name) (hnx : (c.exceptionTable.toList = tableOf [(0, 9, 12, 13), (0, 9, 15, 19)])) (hfr : 10 ≤ R.frames) (hRl : R.locals = 40 * R.frames) {Q : Int32 → Tst → Prop} {X : String → Nat → Tst → Prop}  (s0 : Option Nat) (σ : Tst) (H : Heap) (locs : List Loc) (ls : Array Slot) (hw : w_X0_opNode_b12 Q X s0 σ) (hR : tw_R G σ H) (hS : va_S (tw_A G) s.heap H locs) (hl : tw_l ls 4 []) : tw_W p l e R s m args below meth c σ H locs (tw_E below G (tw_Qi G Q) X args s R) (F0 m 12 ls [va_rf s0]) := by
  unfold w_X0_opNode_b12 at hw
  refine tk_astore_n (L' := [(3, .inr s0)]) C hl dX0_opNode_12 (by decide) rfl (fun ls hl => ?_)
  refine lv_iconst (v := 1) C.hx C.hb dX0_opNode_13 (by decide) ?_
  exact tw_iret C hR hS hr rfl dX0_opNode_14 hw
set_option maxHeartbeats 4000000 in
theorem wk_X0_opNode_b15  (C : tw_C p l R s m args meth c G cX0_opNode 4 yX0_opNode.cls) (hr : meth.sig.returnType = (some .int)) (hmn : meth.name = yX0_opNode.name) (hnx : (c.exceptionTable.toList = tableOf [(0, 9, 12, 13), (0, 9, 15, 19)])) (hfr : 10 ≤ R.frames) (hRl : R.locals = 40 * R.frames) {Q : Int32 → Tst → Prop} {X : String → Nat → Tst → Prop}  (s0 : Option Nat) (σ : Tst) (H : Heap) (locs : List Loc) (ls : Array Slot) (hw : w_X0_opNode_b15 Q X s0 σ) (hR : tw_R G σ H) (hS : va_S (tw_A G) s.heap H locs) (hl : tw_l ls 4 []) : tw_W p l e R s m args below meth c σ H locs (tw_E below G (tw_Qi G Q) X args s R) (F0 m 15 ls [va_rf s0]) := by
  unfold w_X0_opNode_b15 at hw
  refine tk_astore_n (L' := [(3, .inr s0)]) C hl dX0_opNode_15 (by decide) rfl (fun ls hl => ?_)
  refine lv_iconst (v := 2) C.hx C.hb dX0_opNode_16 (by decide) ?_
  exact tw_iret C hR hS hr rfl dX0_opNode_17 hw
set_option maxHeartbeats 4000000 in
theorem wk_X0_opNode (l : Launch) (hl0 : l.stackTraces = false) (G : Tgl) (fr : Nat)  (hfr : 10 ≤ fr) (l0 : Option Nat) (l1 : Int32) (l2 : Option Nat) (Q : Int32 → Tst → Prop) (X : String → Nat → Tst → Prop) (σ : Tst) (hw : w_X0_opNode l0 l1 l2 Q X σ) : tw_M l yX0_opNode (wsW_ yX0_opNode cX0_opNode 4 (some .int) [(0, 9, 12, 13), (0, 9, 15, 19)]) fr (40 * fr) G σ [.inr l0, .inl l1, .inr l2] (tw_Qi G Q) X := by
  unfold w_X0_opNode at hw
  refine tw_ofW (ret := (some .int)) (hh := [(0, 9, 12, 13), (0, 9, 15, 19)]) hl0 (by decide) (Nat.le_of_ble_eq_true rfl) (fun p e R s m args below meth c hRf hRl C hr hmn hnx hR hS ls hl => ?_)
  have hfr : 10 ≤ R.frames := by rw [hRf]; exact hfr
  have hRl : R.locals = 40 * R.frames := by rw [hRl, hRf]
  have hl : tw_l ls 4 [(0, .inr l0), (1, .inl l1), (2, .inr l2)] := hl
  refine tk_aload_n C hl 2 dX0_opNode_0 rfl ?_
  refine lv_iconst (v := 0) C.hx C.hb dX0_opNode_1 (by decide) ?_
  refine tk_aload_n C hl 0 dX0_opNode_2 rfl ?_
  refine tk_iload_n C hl 1 dX0_opNode_3 rfl ?_
  obtain ⟨hv, hw⟩ := hw
  refine tw_cbi C hS (tk_runV (As := [.inl l1]) C hR hS (wk_X1_opNode l C.hst G (R.frames - 1) (by omega) _ _ _ _ σ hw) hv rfl q1928 q1929 q1930 q64 q1931 pd_X1_opNode ⟨by omega, by omega⟩ hl.1 rfl (tw_r8 [.inl 0, .inr l2] (Nat.le_of_ble_eq_true rfl)) dX0_opNode_4) (fun E q σ H locs hX hR hS hi => ?_) (fun x1 σ H locs hw hR hS => ?_)
  · by_cases cE0 : E = "java/lang/IllegalStateException"
    · replace hX := hX.1 cE0
      subst cE0
      refine tw_catch C hnx [] (0, 9, 12, 13) [(0, 9, 15, 19)] rfl (fun z hz => nomatch hz) rfl (by decide) q1357 q490 hi ?_
      exact wk_X0_opNode_b12 C hr hmn hnx hfr hRl _ σ _ _ _ hX hR hS (tk_sub hl [] rfl)
    replace hX := hX.2 cE0
    by_cases cE1 : E = "java/lang/IndexOutOfBoundsException"
    · replace hX := hX.1 cE1
      subst cE1
      refine tw_catch C hnx [(0, 9, 12, 13)] (0, 9, 15, 19) [] rfl (fun z hz => by simp only [List.mem_cons, List.not_mem_nil, or_false] at hz; rcases hz with rfl; exact Or.inr ⟨by decide, _, q1357, by decide +kernel⟩) rfl (by decide) q1394 q687 hi ?_
      exact wk_X0_opNode_b15 C hr hmn hnx hfr hRl _ σ _ _ _ hX hR hS (tk_sub hl [] rfl)
    replace hX := hX.2 cE1
    exact hX.elim
  refine lv_i2l (v := x1.toInt64) C.hx C.hb dX0_opNode_7 rfl ?_
  refine tk_sl C hR hS hw dX0_opNode_8 (fun σ H locs hw hR hS => ?_)
  refine lv_goto (tgt := 18) C.hx C.hb dX0_opNode_9 (by decide) ?_
  refine lv_iconst (v := 0) C.hx C.hb dX0_opNode_18 (by decide) ?_
  exact tw_iret C hR hS hr rfl dX0_opNode_19 hw
-- TreeDiffer.opTarget(I)I
def w_X1_opTarget_b18 (Q : Int32 → Tst → Prop) (X : String → Nat → Tst → Prop) (l0 : Option Nat) (l2 : Option Nat) (s0 : Int32) (σ : Tst) : Prop := w_X1_requireElement s0 (fun σ => w_gr σ l0 cX1 4 fun x2 => w_gr σ x2 cX10 1 fun x3 => w_rc σ x3 cX2 <| w_X2_number x3 l2 (fun x4 σ => Q x4 σ) X σ) X σ
def w_X1_opTarget (l0 : Option Nat) (l1 : Int32) (Q : Int32 → Tst → Prop) (X : String → Nat → Tst → Prop) (σ : Tst) : Prop := w_rc σ l0 cX1 <| w_X1_operationOf l0 l1 (fun x1 σ => w_gr σ x1 cX12 2 fun x2 => w_if (x2 = none) (w_X1_opTarget_b18 Q X l0 x2 0 σ) (w_X1_opTarget_b18 Q X l0 x2 1 σ)) X σ
set_option maxHeartbeats 4000000 in
theorem wk_X1_opTarget_b18  (C : tw_C p l R s m args meth c G cX1_opTarget 3 yX1_opTarget.cls) (hr : meth.sig.returnType = (some .int)) (hmn : meth.name = yX1_opTarget.name) (hnx : (∀ x ∈ c.exceptionTable.toList, False)) (hfr : 9 ≤ R.frames) (hRl : R.locals = 40 * R.frames) {Q : Int32 → Tst → Prop} {X : String → Nat → Tst → Prop}  (l0 : Option Nat) (l2 : Option Nat) (s0 : Int32) (σ : Tst) (H : Heap) (locs : List Loc) (ls : Array Slot) (hw : w_X1_opTarget_b18 Q X l0 l2 s0 σ) (hR : tw_R G σ H) (hS : va_S (tw_A G) s.heap H locs) (hl : tw_l ls 3 [(0, .inr l0), (2, .inr l2)]) : tw_W p l e R s m args below meth c σ H locs (tw_E below G (tw_Qi G Q) X args s R) (F0 m 18 ls [.int s0]) := by
  unfold w_X1_opTarget_b18 at hw
  refine tw_cbv C hS (tw_runS (As := [.inl s0]) C hR hS (wk_X1_requireElement l C.hst G (R.frames - 1) (by omega) _ _ _ σ hw) q1569 q1570 q64 q1571 pd_X1_requireElement ⟨by omega, by omega⟩ hl.1 rfl (tw_r8 [] (Nat.le_of_ble_eq_true rfl)) dX1_opTarget_18) (fun E q σ H locs hX hR hS hi => tw_out C hR hS (fun x hx => (hnx x hx).elim) hi hX) (fun σ H locs hw hR hS => ?_)
  refine tk_aload_n C hl 0 dX1_opTarget_21 rfl ?_
  refine tk_gr C hR hw rfl in_X1 (by decide) q251 (fun _ h => h) dX1_opTarget_22 (fun x2 hw => ?_)
  refine tk_grN C hR hw rfl in_X10 (by decide) q1895 (fun _ h => h) dX1_opTarget_25 (fun x3 hw => ?_)
  refine tk_aload_n C hl 1 dX1_opTarget_28 rfl ?_
  obtain ⟨hv, hw⟩ := hw
  refine tw_cbi C hS (tk_runV (As := [.inr l2]) C hR hS (wk_X2_number l C.hst G (R.frames - 1) (by omega) _ _ _ _ σ hw) hv rfl q1653 q1617 q1618 q69 q1619 pd_X2_number ⟨by omega, by omega⟩ hl.1 rfl (tw_r8 [] (Nat.le_of_ble_eq_true rfl)) dX1_opTarget_29) (fun E q σ H locs hX hR hS hi => tw_out C hR hS (fun x hx => (hnx x hx).elim) hi hX) (fun x4 σ H locs hw hR hS => ?_)
  exact tw_iret C hR hS hr rfl dX1_opTarget_32 hw
set_option maxHeartbeats 4000000 in
theorem wk_X1_opTarget (l : Launch) (hl0 : l.stackTraces = false) (G : Tgl) (fr : Nat)  (hfr : 9 ≤ fr) (l0 : Option Nat) (l1 : Int32) (Q : Int32 → Tst → Prop) (X : String → Nat → Tst → Prop) (σ : Tst) (hw : w_X1_opTarget l0 l1 Q X σ) : tw_M l yX1_opTarget (ws_ yX1_opTarget cX1_opTarget 3 (some .int)) fr (40 * fr) G σ [.inr l0, .inl l1] (tw_Qi G Q) X := by
  unfold w_X1_opTarget at hw
  refine tw_of (ret := (some .int)) hl0 (by decide) (Nat.le_of_ble_eq_true rfl) (fun p e R s m args below meth c hRf hRl C hr hmn hnx hR hS ls hl => ?_)
  have hfr : 9 ≤ R.frames := by rw [hRf]; exact hfr
  have hRl : R.locals = 40 * R.frames := by rw [hRl, hRf]
  have hl : tw_l ls 3 [(0, .inr l0), (1, .inl l1)] := hl
  refine tk_aload_n C hl 0 dX1_opTarget_0 rfl ?_
  refine tk_iload_n C hl 1 dX1_opTarget_1 rfl ?_
  obtain ⟨hv, hw⟩ := hw
  refine tw_cbq C hS (tk_runV (As := [.inl l1]) C hR hS (wk_X1_operationOf l C.hst G (R.frames - 1) (by omega) _ _ _ _ σ hw) hv rfl q1921 q1923 qs21 q64 q1924 pd_X1_operationOf ⟨by omega, by omega⟩ hl.1 rfl (tw_r8 [] (Nat.le_of_ble_eq_true rfl)) dX1_opTarget_2) (fun E q σ H locs hX hR hS hi => tw_out C hR hS (fun x hx => (hnx x hx).elim) hi hX) (fun x1 σ H locs hw hR hS => ?_)
  refine tk_grN C hR hw rfl in_X12 (by decide) q1034 (fun _ h => h) dX1_opTarget_5 (fun x2 hw => ?_)
  refine tk_astore_n (L' := [(2, .inr x2), (0, .inr l0), (1, .inl l1)]) C hl dX1_opTarget_8 (by decide) rfl (fun ls hl => ?_)
  refine tk_aload_n C hl 0 dX1_opTarget_9 rfl ?_
  refine tw_ifnull (tgt := 17) C.hx C.hb dX1_opTarget_10 (by decide) (fun c10 => ?_) (fun c10 => ?_)
  · replace hw := hw.1 c10
    refine lv_iconst (v := 0) C.hx C.hb dX1_opTarget_17 (by decide) ?_
    exact wk_X1_opTarget_b18 C hr hmn hnx hfr hRl _ _ _ σ _ _ _ hw hR hS (tk_sub hl [1, 0] rfl)
  · replace hw := hw.2 c10
    refine lv_iconst (v := 1) C.hx C.hb dX1_opTarget_13 (by decide) ?_
    refine lv_goto (tgt := 18) C.hx C.hb dX1_opTarget_14 (by decide) ?_
    exact wk_X1_opTarget_b18 C hr hmn hnx hfr hRl _ _ _ σ _ _ _ hw hR hS (tk_sub hl [1, 0] rfl)
-- TreeDifferLaw.opTarget(LTreeDiffer;I[J)I
def w_X0_opTarget_b12 (Q : Int32 → Tst → Prop) (X : String → Nat → Tst → Prop) (s0 : Option Nat) (σ : Tst) : Prop := Q 1 σ
def w_X0_opTarget_b15 (Q : Int32 → Tst → Prop) (X : String → Nat → Tst → Prop) (s0 : Option Nat) (σ : Tst) : Prop := Q 2 σ
def w_X0_opTarget_b18 (Q : Int32 → Tst → Prop) (X : String → Nat → Tst → Prop) (s0 : Option Nat) (σ : Tst) : Prop := Q 3 σ
def w_X0_opTarget (l0 : Option Nat) (l1 : Int32) (l2 : Option Nat) (Q : Int32 → Tst → Prop) (X : String → Nat → Tst → Prop) (σ : Tst) : Prop := w_rc σ l0 cX1 <| w_X1_opTarget l0 l1 (fun x1 σ => w_sl σ l2 0 (x1.toInt64) fun σ => Q 0 σ) (fun E q σ => w_if (E = "java/lang/IllegalStateException") (w_X0_opTarget_b12 Q X (some q) σ) (w_if (E = "java/lang/IndexOutOfBoundsException") (w_X0_opTarget_b15 Q X (some q) σ) (w_if (E = "java/util/NoSuchElementException") (w_X0_opTarget_b18 Q X (some q) σ) (False)))) σ
set_option maxHeartbeats 4000000 in
theorem wk_X0_opTarget_b12  (C : tw_C p l R s m args meth c G cX0_opTarget 4 yX0_opTarget.cls) (hr : meth.sig.returnType = (some .int)) (hmn : meth.name = yX0_opTarget.name) (hnx : (c.exceptionTable.toList = tableOf [(0, 9, 12, 13), (0, 9, 15, 19), (0, 9, 18, 27)])) (hfr : 10 ≤ R.frames) (hRl : R.locals = 40 * R.frames) {Q : Int32 → Tst → Prop} {X : String → Nat → Tst → Prop}  (s0 : Option Nat) (σ : Tst) (H : Heap) (locs : List Loc) (ls : Array Slot) (hw : w_X0_opTarget_b12 Q X s0 σ) (hR : tw_R G σ H) (hS : va_S (tw_A G) s.heap H locs) (hl : tw_l ls 4 []) : tw_W p l e R s m args below meth c σ H locs (tw_E below G (tw_Qi G Q) X args s R) (F0 m 12 ls [va_rf s0]) := by
  unfold w_X0_opTarget_b12 at hw
  refine tk_astore_n (L' := [(3, .inr s0)]) C hl dX0_opTarget_12 (by decide) rfl (fun ls hl => ?_)
  refine lv_iconst (v := 1) C.hx C.hb dX0_opTarget_13 (by decide) ?_
  exact tw_iret C hR hS hr rfl dX0_opTarget_14 hw
set_option maxHeartbeats 4000000 in
theorem wk_X0_opTarget_b15  (C : tw_C p l R s m args meth c G cX0_opTarget 4 yX0_opTarget.cls) (hr : meth.sig.returnType = (some .int)) (hmn : meth.name = yX0_opTarget.name) (hnx : (c.exceptionTable.toList = tableOf [(0, 9, 12, 13), (0, 9, 15, 19), (0, 9, 18, 27)])) (hfr : 10 ≤ R.frames) (hRl : R.locals = 40 * R.frames) {Q : Int32 → Tst → Prop} {X : String → Nat → Tst → Prop}  (s0 : Option Nat) (σ : Tst) (H : Heap) (locs : List Loc) (ls : Array Slot) (hw : w_X0_opTarget_b15 Q X s0 σ) (hR : tw_R G σ H) (hS : va_S (tw_A G) s.heap H locs) (hl : tw_l ls 4 []) : tw_W p l e R s m args below meth c σ H locs (tw_E below G (tw_Qi G Q) X args s R) (F0 m 15 ls [va_rf s0]) := by
  unfold w_X0_opTarget_b15 at hw
  refine tk_astore_n (L' := [(3, .inr s0)]) C hl dX0_opTarget_15 (by decide) rfl (fun ls hl => ?_)
  refine lv_iconst (v := 2) C.hx C.hb dX0_opTarget_16 (by decide) ?_
  exact tw_iret C hR hS hr rfl dX0_opTarget_17 hw
set_option maxHeartbeats 4000000 in
theorem wk_X0_opTarget_b18  (C : tw_C p l R s m args meth c G cX0_opTarget 4 yX0_opTarget.cls) (hr : meth.sig.returnType = (some .int)) (hmn : meth.name = yX0_opTarget.name) (hnx : (c.exceptionTable.toList = tableOf [(0, 9, 12, 13), (0, 9, 15, 19), (0, 9, 18, 27)])) (hfr : 10 ≤ R.frames) (hRl : R.locals = 40 * R.frames) {Q : Int32 → Tst → Prop} {X : String → Nat → Tst → Prop}  (s0 : Option Nat) (σ : Tst) (H : Heap) (locs : List Loc) (ls : Array Slot) (hw : w_X0_opTarget_b18 Q X s0 σ) (hR : tw_R G σ H) (hS : va_S (tw_A G) s.heap H locs) (hl : tw_l ls 4 []) : tw_W p l e R s m args below meth c σ H locs (tw_E below G (tw_Qi G Q) X args s R) (F0 m 18 ls [va_rf s0]) := by
  unfold w_X0_opTarget_b18 at hw
  refine tk_astore_n (L' := [(3, .inr s0)]) C hl dX0_opTarget_18 (by decide) rfl (fun ls hl => ?_)
  refine lv_iconst (v := 3) C.hx C.hb dX0_opTarget_19 (by decide) ?_
  exact tw_iret C hR hS hr rfl dX0_opTarget_20 hw
set_option maxHeartbeats 4000000 in
theorem wk_X0_opTarget (l : Launch) (hl0 : l.stackTraces = false) (G : Tgl) (fr : Nat)  (hfr : 10 ≤ fr) (l0 : Option Nat) (l1 : Int32) (l2 : Option Nat) (Q : Int32 → Tst → Prop) (X : String → Nat → Tst → Prop) (σ : Tst) (hw : w_X0_opTarget l0 l1 l2 Q X σ) : tw_M l yX0_opTarget (wsW_ yX0_opTarget cX0_opTarget 4 (some .int) [(0, 9, 12, 13), (0, 9, 15, 19), (0, 9, 18, 27)]) fr (40 * fr) G σ [.inr l0, .inl l1, .inr l2] (tw_Qi G Q) X := by
  unfold w_X0_opTarget at hw
  refine tw_ofW (ret := (some .int)) (hh := [(0, 9, 12, 13), (0, 9, 15, 19), (0, 9, 18, 27)]) hl0 (by decide) (Nat.le_of_ble_eq_true rfl) (fun p e R s m args below meth c hRf hRl C hr hmn hnx hR hS ls hl => ?_)
  have hfr : 10 ≤ R.frames := by rw [hRf]; exact hfr
  have hRl : R.locals = 40 * R.frames := by rw [hRl, hRf]
  have hl : tw_l ls 4 [(0, .inr l0), (1, .inl l1), (2, .inr l2)] := hl
  refine tk_aload_n C hl 2 dX0_opTarget_0 rfl ?_
  refine lv_iconst (v := 0) C.hx C.hb dX0_opTarget_1 (by decide) ?_
  refine tk_aload_n C hl 0 dX0_opTarget_2 rfl ?_
  refine tk_iload_n C hl 1 dX0_opTarget_3 rfl ?_
  obtain ⟨hv, hw⟩ := hw
  refine tw_cbi C hS (tk_runV (As := [.inl l1]) C hR hS (wk_X1_opTarget l C.hst G (R.frames - 1) (by omega) _ _ _ _ σ hw) hv rfl q1935 q1936 q1937 q64 q1938 pd_X1_opTarget ⟨by omega, by omega⟩ hl.1 rfl (tw_r8 [.inl 0, .inr l2] (Nat.le_of_ble_eq_true rfl)) dX0_opTarget_4) (fun E q σ H locs hX hR hS hi => ?_) (fun x1 σ H locs hw hR hS => ?_)
  · by_cases cE0 : E = "java/lang/IllegalStateException"
    · replace hX := hX.1 cE0
      subst cE0
      refine tw_catch C hnx [] (0, 9, 12, 13) [(0, 9, 15, 19), (0, 9, 18, 27)] rfl (fun z hz => nomatch hz) rfl (by decide) q1357 q490 hi ?_
      exact wk_X0_opTarget_b12 C hr hmn hnx hfr hRl _ σ _ _ _ hX hR hS (tk_sub hl [] rfl)
    replace hX := hX.2 cE0
    by_cases cE1 : E = "java/lang/IndexOutOfBoundsException"
    · replace hX := hX.1 cE1
      subst cE1
      refine tw_catch C hnx [(0, 9, 12, 13)] (0, 9, 15, 19) [(0, 9, 18, 27)] rfl (fun z hz => by simp only [List.mem_cons, List.not_mem_nil, or_false] at hz; rcases hz with rfl; exact Or.inr ⟨by decide, _, q1357, by decide +kernel⟩) rfl (by decide) q1394 q687 hi ?_
      exact wk_X0_opTarget_b15 C hr hmn hnx hfr hRl _ σ _ _ _ hX hR hS (tk_sub hl [] rfl)
    replace hX := hX.2 cE1
    by_cases cE2 : E = "java/util/NoSuchElementException"
    · replace hX := hX.1 cE2
      subst cE2
      refine tw_catch C hnx [(0, 9, 12, 13), (0, 9, 15, 19)] (0, 9, 18, 27) [] rfl (fun z hz => by simp only [List.mem_cons, List.not_mem_nil, or_false] at hz; rcases hz with rfl | rfl <;> first | exact Or.inr ⟨by decide, _, q1357, by decide +kernel⟩ | exact Or.inr ⟨by decide, _, q1394, by decide +kernel⟩) rfl (by decide) q1564 q353 hi ?_
      exact wk_X0_opTarget_b18 C hr hmn hnx hfr hRl _ σ _ _ _ hX hR hS (tk_sub hl [] rfl)
    replace hX := hX.2 cE2
    exact hX.elim
  refine lv_i2l (v := x1.toInt64) C.hx C.hb dX0_opTarget_7 rfl ?_
  refine tk_sl C hR hS hw dX0_opTarget_8 (fun σ H locs hw hR hS => ?_)
  refine lv_goto (tgt := 21) C.hx C.hb dX0_opTarget_9 (by decide) ?_
  refine lv_iconst (v := 0) C.hx C.hb dX0_opTarget_21 (by decide) ?_
  exact tw_iret C hR hS hr rfl dX0_opTarget_22 hw
end GW29
