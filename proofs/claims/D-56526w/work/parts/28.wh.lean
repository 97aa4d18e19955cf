set_option maxRecDepth 100000
section GW28
variable {p : Program} {l : Launch} {e : Env} {R : Room} {s : State} {m : MethodId} {args : Array Value} {below : List Frame} {meth : Method} {c : Code} {H : Heap} {locs : List Loc} {G : Tgl}
-- TreeDifferLaw.removeNode(LTreeDiffer;II[J)I
def w_X0_removeNode_b13 (Q : Int32 → Tst → Prop) (X : String → Nat → Tst → Prop) (s0 : Option Nat) (σ : Tst) : Prop := Q 1 σ
def w_X0_removeNode_b17 (Q : Int32 → Tst → Prop) (X : String → Nat → Tst → Prop) (s0 : Option Nat) (σ : Tst) : Prop := Q 2 σ
def w_X0_removeNode (l0 : Option Nat) (l1 : Int32) (l2 : Int32) (l3 : Option Nat) (Q : Int32 → Tst → Prop) (X : String → Nat → Tst → Prop) (σ : Tst) : Prop := w_rc σ l0 cX1 <| w_X1_removeNode l0 l1 l2 (fun x1 σ => w_sl σ l3 0 (x1.toInt64) fun σ => Q 0 σ) (fun E q σ => w_if (E = "java/lang/IndexOutOfBoundsException") (w_X0_removeNode_b13 Q X (some q) σ) (w_if (E = "java/lang/UnsupportedOperationException") (w_X0_removeNode_b17 Q X (some q) σ) (False))) σ
set_option maxHeartbeats 4000000 in
theorem wk_X0_removeNode_b13  (C : tw_C p l R s m args meth c G cX0_removeNode 5 yX0_removeNode.cls) (hr : meth.sig.returnType = (some .int)) (hmn : meth.name = yX0_removeNode.name) (hnx : (c.exceptionTable.toList = tableOf [(0, 10, 13, 19), (0, 10, 17, 47)])) (hfr : 69 ≤ R.frames) (hRl : R.locals = 40 * R.frames) {Q : Int32 → Tst → Prop} {X : String → Nat → Tst → Prop}  (s0 : Option Nat) (σ : Tst) (H : Heap) (locs : List Loc) (ls : Array Slot) (hw : w_X0_removeNode_b13 Q X s0 σ) (hR : tw_R G σ H) (hS : va_S (tw_A G) s.heap H locs) (hl : tw_l ls 5 []) : tw_W p l e R s m args below meth c σ H locs (tw_E below G (tw_Qi G Q) X args s R) (F0 m 13 ls [va_rf s0]) := by
  unfold w_X0_removeNode_b13 at hw
  refine tk_astore (L' := [(4, .inr s0)]) C hl dX0_removeNode_13 (by decide) rfl (fun ls hl => ?_)
  refine lv_iconst (v := 1) C.hx C.hb dX0_removeNode_15 (by decide) ?_
  exact tw_iret C hR hS hr rfl dX0_removeNode_16 hw
set_option maxHeartbeats 4000000 in
theorem wk_X0_removeNode_b17  (C : tw_C p l R s m args meth c G cX0_removeNode 5 yX0_removeNode.cls) (hr : meth.sig.returnType = (some .int)) (hmn : meth.name = yX0_removeNode.name) (hnx : (c.exceptionTable.toList = tableOf [(0, 10, 13, 19), (0, 10, 17, 47)])) (hfr : 69 ≤ R.frames) (hRl : R.locals = 40 * R.frames) {Q : Int32 → Tst → Prop} {X : String → Nat → Tst → Prop}  (s0 : Option Nat) (σ : Tst) (H : Heap) (locs : List Loc) (ls : Array Slot) (hw : w_X0_removeNode_b17 Q X s0 σ) (hR : tw_R G σ H) (hS : va_S (tw_A G) s.heap H locs) (hl : tw_l ls 5 []) : tw_W p l e R s m args below meth c σ H locs (tw_E below G (tw_Qi G Q) X args s R) (F0 m 17 ls [va_rf s0]) := by
  unfold w_X0_removeNode_b17 at hw
  refine tk_astore (L' := [(4, .inr s0)]) C hl dX0_removeNode_17 (by decide) rfl (fun ls hl => ?_)
  refine lv_iconst (v := 2) C.hx C.hb dX0_removeNode_19 (by decide) ?_
  exact tw_iret C hR hS hr rfl dX0_removeNode_20 hw
set_option maxHeartbeats 4000000 in
theorem wk_X0_removeNode (l : Launch) (hl0 : l.stackTraces = false) (G : Tgl) (fr : Nat)  (hfr : 69 ≤ fr) (l0 : Option Nat) (l1 : Int32) (l2 : Int32) (l3 : Option Nat) (Q : Int32 → Tst → Prop) (X : String → Nat → Tst → Prop) (σ : Tst) (hw : w_X0_removeNode l0 l1 l2 l3 Q X σ) : tw_M l yX0_removeNode (wsW_ yX0_removeNode cX0_removeNode 5 (some .int) [(0, 10, 13, 19), (0, 10, 17, 47)]) fr (40 * fr) G σ [.inr l0, .inl l1, .inl l2, .inr l3] (tw_Qi G Q) X := by
  unfold w_X0_removeNode at hw
  refine tw_ofW (ret := (some .int)) (hh := [(0, 10, 13, 19), (0, 10, 17, 47)]) hl0 (by decide) (Nat.le_of_ble_eq_true rfl) (fun p e R s m args below meth c hRf hRl C hr hmn hnx hR hS ls hl => ?_)
  have hfr : 69 ≤ R.frames := by rw [hRf]; exact hfr
  have hRl : R.locals = 40 * R.frames := by rw [hRl, hRf]
  have hl : tw_l ls 5 [(0, .inr l0), (1, .inl l1), (2, .inl l2), (3, .inr l3)] := hl
  refine tk_aload_n C hl 3 dX0_removeNode_0 rfl ?_
  refine lv_iconst (v := 0) C.hx C.hb dX0_removeNode_1 (by decide) ?_
  refine tk_aload_n C hl 0 dX0_removeNode_2 rfl ?_
  refine tk_iload_n C hl 1 dX0_removeNode_3 rfl ?_
  refine tk_iload_n C hl 2 dX0_removeNode_4 rfl ?_
  obtain ⟨hv, hw⟩ := hw
  refine tw_cbi C hS (tk_runV (As := [.inl l1, .inl l2]) C hR hS (wk_X1_removeNode l C.hst G (R.frames - 1) (by omega) _ _ _ _ _ σ hw) hv rfl q1658 q1659 q1660 q64 q1661 pd_X1_removeNode ⟨by omega, by omega⟩ hl.1 rfl (tw_r8 [.inl 0, .inr l3] (Nat.le_of_ble_eq_true rfl)) dX0_removeNode_5) (fun E q σ H locs hX hR hS hi => ?_) (fun x1 σ H locs hw hR hS => ?_)
  · by_cases cE0 : E = "java/lang/IndexOutOfBoundsException"
    · replace hX := hX.1 cE0
      subst cE0
      refine tw_catch C hnx [] (0, 10, 13, 19) [(0, 10, 17, 47)] rfl (fun z hz => nomatch hz) rfl (by decide) q1394 q687 hi ?_
      exact wk_X0_removeNode_b13 C hr hmn hnx hfr hRl _ σ _ _ _ hX hR hS (tk_sub hl [] rfl)
    replace hX := hX.2 cE0
    by_cases cE1 : E = "java/lang/UnsupportedOperationException"
    · replace hX := hX.1 cE1
      subst cE1
      refine tw_catch C hnx [(0, 10, 13, 19)] (0, 10, 17, 47) [] rfl (fun z hz => by simp only [List.mem_cons, List.not_mem_nil, or_false] at hz; rcases hz with rfl; exact Or.inr ⟨by decide, _, q1394, by decide +kernel⟩) rfl (by decide) q1657 q1667 hi ?_
      exact wk_X0_removeNode_b17 C hr hmn hnx hfr hRl _ σ _ _ _ hX hR hS (tk_sub hl [] rfl)
    replace hX := hX.2 cE1
    exact hX.elim
  refine lv_i2l (v := x1.toInt64) C.hx C.hb dX0_removeNode_8 rfl ?_
  refine tk_sl C hR hS hw dX0_removeNode_9 (fun σ H locs hw hR hS => ?_)
  refine lv_goto (tgt := 21) C.hx C.hb dX0_removeNode_10 (by decide) ?_
  refine lv_iconst (v := 0) C.hx C.hb dX0_removeNode_21 (by decide) ?_
  exact tw_iret C hR hS hr rfl dX0_removeNode_22 hw
-- TreeDiffer.setLabel(IIC)I
def w_X1_setLabel_b76 (k38 : Int32 → Int32 → Option Nat → Tst → Prop) (Q : Int32 → Tst → Prop) (X : String → Nat → Tst → Prop) (l3 : Int32) (l7 : Option Nat) (s0 : Int32) (s1 : Int32) (σ : Tst) : Prop := k38 l3 (s0 + s1) l7 σ
def w_X1_setLabel_b38 (Q : Int32 → Tst → Prop) (X : String → Nat → Tst → Prop) : Nat → Int32 → Int32 → Option Nat → Tst → Prop
  | 0, _, _, _, _ => False
  | n + 1, l3, l6, l7, σ => w_rc σ l7 cX8 <| w_X8_hasNext l7 (fun x1 σ => w_if (x1 = 0) (Q l6 σ) (w_rc σ l7 cX8 <| w_X8_next l7 (fun x2 σ => w_cc σ x2 cX3 <| w_gi σ x2 cX3 0 fun x3 => w_if (x3 = l3) (w_X1_setLabel_b76 (w_X1_setLabel_b38 Q X n) Q X l3 l7 l6 1 σ) (w_X1_setLabel_b76 (w_X1_setLabel_b38 Q X n) Q X l3 l7 l6 0 σ)) X σ)) X σ
def w_X1_setLabel (l0 : Option Nat) (l1 : Int32) (l2 : Int32) (l3 : Int32) (Q : Int32 → Tst → Prop) (X : String → Nat → Tst → Prop) (σ : Tst) : Prop := w_rc σ l0 cX1 <| w_X1_treeOf l0 l1 (fun x1 σ => w_rc σ x1 cX2 <| w_X2_node x1 l2 (fun x2 σ => w_X1_isLetter l3 (fun x3 σ => w_X1_requireArgument x3 (fun σ => w_ok .char l3 ∧ w_p σ x2 cX3 0 (.inl l3) fun σ => w_rc σ x1 cX2 <| w_X2_iterator x1 (fun x5 σ => ∃ z, w_X1_setLabel_b38 Q X z l3 0 x5 σ) X σ) X σ) X σ) X σ) X σ
set_option maxHeartbeats 4000000 in
theorem wk_X1_setLabel_b76  (C : tw_C p l R s m args meth c G cX1_setLabel 9 yX1_setLabel.cls) (hr : meth.sig.returnType = (some .int)) (hmn : meth.name = yX1_setLabel.name) (hnx : (∀ x ∈ c.exceptionTable.toList, False)) (hfr : 8 ≤ R.frames) (hRl : R.locals = 40 * R.frames) {Q : Int32 → Tst → Prop} {X : String → Nat → Tst → Prop}  {k38 : Int32 → Int32 → Option Nat → Tst → Prop} (hk38 : ∀ (l3 : Int32) (l6 : Int32) (l7 : Option Nat) (σ : Tst) (H : Heap) (locs : List Loc) (ls : Array Slot), k38 l3 l6 l7 σ → tw_R G σ H → va_S (tw_A G) s.heap H locs → tw_l ls 9 [(3, .inl l3), (6, .inl l6), (7, .inr l7)] → tw_W p l e R s m args below meth c σ H locs (tw_E below G (tw_Qi G Q) X args s R) (F0 m 38 ls [])) (l3 : Int32) (l7 : Option Nat) (s0 : Int32) (s1 : Int32) (σ : Tst) (H : Heap) (locs : List Loc) (ls : Array Slot) (hw : w_X1_setLabel_b76 k38 Q X l3 l7 s0 s1 σ) (hR : tw_R G σ H) (hS : va_S (tw_A G) s.heap H locs) (hl : tw_l ls 9 [(3, .inl l3), (7, .inr l7)]) : tw_W p l e R s m args below meth c σ H locs (tw_E below G (tw_Qi G Q) X args s R) (F0 m 76 ls [.int s1, .int s0]) := by
  unfold w_X1_setLabel_b76 at hw
  refine lv_iadd C.hx C.hb dX1_setLabel_76 ?_
  refine tk_istore (L' := [(6, .inl (s0 + s1)), (3, .inl l3), (7, .inr l7)]) C hl dX1_setLabel_77 (by decide) rfl (fun ls hl => ?_)
  refine lv_goto (tgt := 38) C.hx C.hb dX1_setLabel_79 (by decide) ?_
  exact hk38 _ _ _ σ _ _ _ hw hR hS (tk_sub hl [1, 0, 2] rfl)
set_option maxHeartbeats 4000000 in
theorem wk_X1_setLabel_b38  (C : tw_C p l R s m args meth c G cX1_setLabel 9 yX1_setLabel.cls) (hr : meth.sig.returnType = (some .int)) (hmn : meth.name = yX1_setLabel.name) (hnx : (∀ x ∈ c.exceptionTable.toList, False)) (hfr : 8 ≤ R.frames) (hRl : R.locals = 40 * R.frames) {Q : Int32 → Tst → Prop} {X : String → Nat → Tst → Prop}  : ∀ (n : Nat) (l3 : Int32) (l6 : Int32) (l7 : Option Nat) (σ : Tst) (H : Heap) (locs : List Loc) (ls : Array Slot), w_X1_setLabel_b38 Q X n l3 l6 l7 σ → tw_R G σ H → va_S (tw_A G) s.heap H locs → tw_l ls 9 [(3, .inl l3), (6, .inl l6), (7, .inr l7)] → tw_W p l e R s m args below meth c σ H locs (tw_E below G (tw_Qi G Q) X args s R) (F0 m 38 ls []) := by
  intro n
  induction n with
  | zero => intro l3 l6 l7 σ H locs ls hw; exact False.elim hw
  | succ n hk38 =>
    intro l3 l6 l7 σ H locs ls hw hR hS hl
    rw [w_X1_setLabel_b38] at hw
    refine tk_aload C hl 2 dX1_setLabel_38 rfl ?_
    obtain ⟨hv, hw⟩ := hw
    refine tw_cbi5 C hS (tk_runF (As := []) (x := ⟨"java/util/Iterator", "hasNext", "()Z"⟩) C hR hS (wk_X8_hasNext l C.hst G (R.frames - 1) (by omega) _ _ _ σ hw) hv rfl q1608 q323 q325 q98 q327 (by decide +kernel) (show tw_pd ⟨"java/util/Iterator", "hasNext", "()Z"⟩ 0 by decide +kernel) ⟨by omega, by omega⟩ hl.1 rfl (tw_r8 [] (Nat.le_of_ble_eq_true rfl)) dX1_setLabel_40) (fun E q σ H locs hX hR hS hi => tw_out C hR hS (fun x hx => (hnx x hx).elim) hi hX) (fun x1 σ H locs hw hR hS => ?_)
    refine lv_if_eq (tgt := 82) C.hx C.hb dX1_setLabel_45 (by decide) (fun c45 => ?_) (fun c45 => ?_)
    · replace hw := hw.1 c45
      refine tk_iload C hl 1 dX1_setLabel_82 rfl ?_
      exact tw_iret C hR hS hr rfl dX1_setLabel_84 hw
    · replace hw := hw.2 c45
      refine tk_aload C hl 2 dX1_setLabel_48 rfl ?_
      obtain ⟨hv, hw⟩ := hw
      refine tw_cbq5 C hS (tk_runF (As := []) (x := ⟨"java/util/Iterator", "next", "()Ljava/lang/Object;"⟩) C hR hS (wk_X8_next l C.hst G (R.frames - 1) (by omega) _ _ _ σ hw) hv rfl q1610 q342 q344 q98 q346 (by decide +kernel) (show tw_pd ⟨"java/util/Iterator", "next", "()Ljava/lang/Object;"⟩ 0 by decide +kernel) ⟨by omega, by omega⟩ hl.1 rfl (tw_r8 [] (Nat.le_of_ble_eq_true rfl)) dX1_setLabel_50) (fun E q σ H locs hX hR hS hi => tw_out C hR hS (fun x hx => (hnx x hx).elim) hi hX) (fun x2 σ H locs hw hR hS => ?_)
      refine tk_cc C hR hw rfl q157 (Or.inl rfl) dX1_setLabel_55 (fun hw => ?_)
      refine tk_astore (L' := [(8, .inr x2), (3, .inl l3), (6, .inl l6), (7, .inr l7)]) C hl dX1_setLabel_58 (by decide) rfl (fun ls hl => ?_)
      refine tk_iload C hl 2 dX1_setLabel_60 rfl ?_
      refine tk_aload C hl 0 dX1_setLabel_62 rfl ?_
      refine tk_giN C hR hw rfl in_X3 (by decide) q195 (fun _ h => h) dX1_setLabel_64 (fun x3 hw => ?_)
      refine tk_iload_n C hl 1 dX1_setLabel_67 rfl ?_
      refine lv_icmp_ne (tgt := 75) C.hx C.hb dX1_setLabel_68 (by decide) (fun c68 => ?_) (fun c68 => ?_)
      · replace hw := hw.2 c68
        refine lv_iconst (v := 0) C.hx C.hb dX1_setLabel_75 (by decide) ?_
        exact wk_X1_setLabel_b76 C hr hmn hnx hfr hRl hk38 _ _ _ _ σ _ _ _ hw hR hS (tk_sub hl [1, 3] rfl)
      · replace hw := hw.1 c68
        refine lv_iconst (v := 1) C.hx C.hb dX1_setLabel_71 (by decide) ?_
        refine lv_goto (tgt := 76) C.hx C.hb dX1_setLabel_72 (by decide) ?_
        exact wk_X1_setLabel_b76 C hr hmn hnx hfr hRl hk38 _ _ _ _ σ _ _ _ hw hR hS (tk_sub hl [1, 3] rfl)
set_option maxHeartbeats 4000000 in
theorem wk_X1_setLabel (l : Launch) (hl0 : l.stackTraces = false) (G : Tgl) (fr : Nat)  (hfr : 8 ≤ fr) (l0 : Option Nat) (l1 : Int32) (l2 : Int32) (l3 : Int32) (Q : Int32 → Tst → Prop) (X : String → Nat → Tst → Prop) (σ : Tst) (hw : w_X1_setLabel l0 l1 l2 l3 Q X σ) : tw_M l yX1_setLabel (ws_ yX1_setLabel cX1_setLabel 9 (some .int)) fr (40 * fr) G σ [.inr l0, .inl l1, .inl l2, .inl l3] (tw_Qi G Q) X := by
  unfold w_X1_setLabel at hw
  refine tw_of (ret := (some .int)) hl0 (by decide) (Nat.le_of_ble_eq_true rfl) (fun p e R s m args below meth c hRf hRl C hr hmn hnx hR hS ls hl => ?_)
  have hfr : 8 ≤ R.frames := by rw [hRf]; exact hfr
  have hRl : R.locals = 40 * R.frames := by rw [hRl, hRf]
  have hl : tw_l ls 9 [(0, .inr l0), (1, .inl l1), (2, .inl l2), (3, .inl l3)] := hl
  refine tk_aload_n C hl 0 dX1_setLabel_0 rfl ?_
  refine tk_iload_n C hl 1 dX1_setLabel_1 rfl ?_
  obtain ⟨hv, hw⟩ := hw
  refine tw_cbq C hS (tk_runV (As := [.inl l1]) C hR hS (wk_X1_treeOf l C.hst G (R.frames - 1) (by omega) _ _ _ _ σ hw) hv rfl q1581 q1583 qs16 q64 q1584 pd_X1_treeOf ⟨by omega, by omega⟩ hl.1 rfl (tw_r8 [] (Nat.le_of_ble_eq_true rfl)) dX1_setLabel_2) (fun E q σ H locs hX hR hS hi => tw_out C hR hS (fun x hx => (hnx x hx).elim) hi hX) (fun x1 σ H locs hw hR hS => ?_)
  refine tk_astore (L' := [(4, .inr x1), (0, .inr l0), (1, .inl l1), (2, .inl l2), (3, .inl l3)]) C hl dX1_setLabel_5 (by decide) rfl (fun ls hl => ?_)
  refine tk_aload C hl 0 dX1_setLabel_7 rfl ?_
  refine tk_iload_n C hl 3 dX1_setLabel_9 rfl ?_
  obtain ⟨hv, hw⟩ := hw
  refine tw_cbq C hS (tk_runV (As := [.inl l2]) C hR hS (wk_X2_node l C.hst G (R.frames - 1) (by omega) _ _ _ _ σ hw) hv rfl q1642 q1643 q1644 q69 q1645 pd_X2_node ⟨by omega, by omega⟩ hl.1 rfl (tw_r8 [] (Nat.le_of_ble_eq_true rfl)) dX1_setLabel_10) (fun E q σ H locs hX hR hS hi => tw_out C hR hS (fun x hx => (hnx x hx).elim) hi hX) (fun x2 σ H locs hw hR hS => ?_)
  refine tk_astore (L' := [(5, .inr x2), (4, .inr x1), (0, .inr l0), (1, .inl l1), (2, .inl l2), (3, .inl l3)]) C hl dX1_setLabel_13 (by decide) rfl (fun ls hl => ?_)
  refine tk_iload_n C hl 5 dX1_setLabel_15 rfl ?_
  refine tw_cbi C hS (tw_runS (As := [.inl l3]) C hR hS (wk_X1_isLetter l C.hst G (R.frames - 1) (by omega) _ _ _ σ hw) q1648 q1467 q64 q1468 pd_X1_isLetter ⟨by omega, by omega⟩ hl.1 rfl (tw_r8 [] (Nat.le_of_ble_eq_true rfl)) dX1_setLabel_16) (fun E q σ H locs hX hR hS hi => tw_out C hR hS (fun x hx => (hnx x hx).elim) hi hX) (fun x3 σ H locs hw hR hS => ?_)
  refine tw_cbv C hS (tw_runS (As := [.inl x3]) C hR hS (wk_X1_requireArgument l C.hst G (R.frames - 1) (by omega) _ _ _ σ hw) q1649 q1650 q64 q1651 pd_X1_requireArgument ⟨by omega, by omega⟩ hl.1 rfl (tw_r8 [] (Nat.le_of_ble_eq_true rfl)) dX1_setLabel_19) (fun E q σ H locs hX hR hS hi => tw_out C hR hS (fun x hx => (hnx x hx).elim) hi hX) (fun σ H locs hw hR hS => ?_)
  refine tk_aload C hl 0 dX1_setLabel_22 rfl ?_
  refine tk_iload_n C hl 5 dX1_setLabel_24 rfl ?_
  obtain ⟨hok, hw⟩ := hw
  refine tk_pN (x := .inl l3) C hR hS hw (by decide) rfl in_X3 tyX3 tyX3_ok nmX3 (by decide) q195 (fun _ h => h) rfl hok dX1_setLabel_25 (fun σ H locs hw hR hS => ?_)
  refine lv_iconst (v := 0) C.hx C.hb dX1_setLabel_28 (by decide) ?_
  refine tk_istore (L' := [(6, .inl 0), (5, .inr x2), (4, .inr x1), (0, .inr l0), (1, .inl l1), (2, .inl l2), (3, .inl l3)]) C hl dX1_setLabel_29 (by decide) rfl (fun ls hl => ?_)
  refine tk_aload C hl 2 dX1_setLabel_31 rfl ?_
  obtain ⟨hv, hw⟩ := hw
  refine tw_cbq C hS (tk_runV (As := []) C hR hS (wk_X2_iterator l C.hst G (R.frames - 1) (by omega) _ _ _ σ hw) hv rfl q1688 q951 q952 q69 q953 pd_X2_iterator ⟨by omega, by omega⟩ hl.1 rfl (tw_r8 [] (Nat.le_of_ble_eq_true rfl)) dX1_setLabel_33) (fun E q σ H locs hX hR hS hi => tw_out C hR hS (fun x hx => (hnx x hx).elim) hi hX) (fun x5 σ H locs hw hR hS => ?_)
  refine tk_astore (L' := [(7, .inr x5), (6, .inl 0), (5, .inr x2), (4, .inr x1), (0, .inr l0), (1, .inl l1), (2, .inl l2), (3, .inl l3)]) C hl dX1_setLabel_36 (by decide) rfl (fun ls hl => ?_)
  obtain ⟨z, hw⟩ := hw
  exact wk_X1_setLabel_b38 C hr hmn hnx hfr hRl z _ _ _ σ _ _ _ hw hR hS (tk_sub hl [7, 1, 0] rfl)
-- TreeDifferLaw.setLabel(LTreeDiffer;IIC[J)I
def w_X0_setLabel_b15 (Q : Int32 → Tst → Prop) (X : String → Nat → Tst → Prop) (s0 : Option Nat) (σ : Tst) : Prop := Q 1 σ
def w_X0_setLabel_b19 (Q : Int32 → Tst → Prop) (X : String → Nat → Tst → Prop) (s0 : Option Nat) (σ : Tst) : Prop := Q 2 σ
def w_X0_setLabel (l0 : Option Nat) (l1 : Int32) (l2 : Int32) (l3 : Int32) (l4 : Option Nat) (Q : Int32 → Tst → Prop) (X : String → Nat → Tst → Prop) (σ : Tst) : Prop := w_rc σ l0 cX1 <| w_X1_setLabel l0 l1 l2 l3 (fun x1 σ => w_sl σ l4 0 (x1.toInt64) fun σ => Q 0 σ) (fun E q σ => w_if (E = "java/lang/IndexOutOfBoundsException") (w_X0_setLabel_b15 Q X (some q) σ) (w_if (E = "java/lang/IllegalArgumentException") (w_X0_setLabel_b19 Q X (some q) σ) (False))) σ
set_option maxHeartbeats 4000000 in
theorem wk_X0_setLabel_b15  (C : tw_C p l R s m args meth c G cX0_setLabel 6 yX0_setLabel.cls) (hr : meth.sig.returnType = (some .int)) (hmn : meth.name = yX0_setLabel.name) (hnx : (c.exceptionTable.toList = tableOf [(0, 12, 15, 19), (0, 12, 19, 21)])) (hfr : 9 ≤ R.frames) (hRl : R.locals = 40 * R.frames) {Q : Int32 → Tst → Prop} {X : String → Nat → Tst → Prop}  (s0 : Option Nat) (σ : Tst) (H : Heap) (locs : List Loc) (ls : Array Slot) (hw : w_X0_setLabel_b15 Q X s0 σ) (hR : tw_R G σ H) (hS : va_S (tw_A G) s.heap H locs) (hl : tw_l ls 6 []) : tw_W p l e R s m args below meth c σ H locs (tw_E below G (tw_Qi G Q) X args s R) (F0 m 15 ls [va_rf s0]) := by
  unfold w_X0_setLabel_b15 at hw
  refine tk_astore (L' := [(5, .inr s0)]) C hl dX0_setLabel_15 (by decide) rfl (fun ls hl => ?_)
  refine lv_iconst (v := 1) C.hx C.hb dX0_setLabel_17 (by decide) ?_
  exact tw_iret C hR hS hr rfl dX0_setLabel_18 hw
set_option maxHeartbeats 4000000 in
theorem wk_X0_setLabel_b19  (C : tw_C p l R s m args meth c G cX0_setLabel 6 yX0_setLabel.cls) (hr : meth.sig.returnType = (some .int)) (hmn : meth.name = yX0_setLabel.name) (hnx : (c.exceptionTable.toList = tableOf [(0, 12, 15, 19), (0, 12, 19, 21)])) (hfr : 9 ≤ R.frames) (hRl : R.locals = 40 * R.frames) {Q : Int32 → Tst → Prop} {X : String → Nat → Tst → Prop}  (s0 : Option Nat) (σ : Tst) (H : Heap) (locs : List Loc) (ls : Array Slot) (hw : w_X0_setLabel_b19 Q X s0 σ) (hR : tw_R G σ H) (hS : va_S (tw_A G) s.heap H locs) (hl : tw_l ls 6 []) : tw_W p l e R s m args below meth c σ H locs (tw_E below G (tw_Qi G Q) X args s R) (F0 m 19 ls [va_rf s0]) := by
  unfold w_X0_setLabel_b19 at hw
  refine tk_astore (L' := [(5, .inr s0)]) C hl dX0_setLabel_19 (by decide) rfl (fun ls hl => ?_)
  refine lv_iconst (v := 2) C.hx C.hb dX0_setLabel_21 (by decide) ?_
  exact tw_iret C hR hS hr rfl dX0_setLabel_22 hw
set_option maxHeartbeats 4000000 in
theorem wk_X0_setLabel (l : Launch) (hl0 : l.stackTraces = false) (G : Tgl) (fr : Nat)  (hfr : 9 ≤ fr) (l0 : Option Nat) (l1 : Int32) (l2 : Int32) (l3 : Int32) (l4 : Option Nat) (Q : Int32 → Tst → Prop) (X : String → Nat → Tst → Prop) (σ : Tst) (hw : w_X0_setLabel l0 l1 l2 l3 l4 Q X σ) : tw_M l yX0_setLabel (wsW_ yX0_setLabel cX0_setLabel 6 (some .int) [(0, 12, 15, 19), (0, 12, 19, 21)]) fr (40 * fr) G σ [.inr l0, .inl l1, .inl l2, .inl l3, .inr l4] (tw_Qi G Q) X := by
  unfold w_X0_setLabel at hw
  refine tw_ofW (ret := (some .int)) (hh := [(0, 12, 15, 19), (0, 12, 19, 21)]) hl0 (by decide) (Nat.le_of_ble_eq_true rfl) (fun p e R s m args below meth c hRf hRl C hr hmn hnx hR hS ls hl => ?_)
  have hfr : 9 ≤ R.frames := by rw [hRf]; exact hfr
  have hRl : R.locals = 40 * R.frames := by rw [hRl, hRf]
  have hl : tw_l ls 6 [(0, .inr l0), (1, .inl l1), (2, .inl l2), (3, .inl l3), (4, .inr l4)] := hl
  refine tk_aload C hl 4 dX0_setLabel_0 rfl ?_
  refine lv_iconst (v := 0) C.hx C.hb dX0_setLabel_2 (by decide) ?_
  refine tk_aload_n C hl 0 dX0_setLabel_3 rfl ?_
  refine tk_iload_n C hl 1 dX0_setLabel_4 rfl ?_
  refine tk_iload_n C hl 2 dX0_setLabel_5 rfl ?_
  refine tk_iload_n C hl 3 dX0_setLabel_6 rfl ?_
  obtain ⟨hv, hw⟩ := hw
  refine tw_cbi C hS (tk_runV (As := [.inl l1, .inl l2, .inl l3]) C hR hS (wk_X1_setLabel l C.hst G (R.frames - 1) (by omega) _ _ _ _ _ _ σ hw) hv rfl q1684 q1685 q1686 q64 q1687 pd_X1_setLabel ⟨by omega, by omega⟩ hl.1 rfl (tw_r8 [.inl 0, .inr l4] (Nat.le_of_ble_eq_true rfl)) dX0_setLabel_7) (fun E q σ H locs hX hR hS hi => ?_) (fun x1 σ H locs hw hR hS => ?_)
  · by_cases cE0 : E = "java/lang/IndexOutOfBoundsException"
    · replace hX := hX.1 cE0
      subst cE0
      refine tw_catch C hnx [] (0, 12, 15, 19) [(0, 12, 19, 21)] rfl (fun z hz => nomatch hz) rfl (by decide) q1394 q687 hi ?_
      exact wk_X0_setLabel_b15 C hr hmn hnx hfr hRl _ σ _ _ _ hX hR hS (tk_sub hl [] rfl)
    replace hX := hX.2 cE0
    by_cases cE1 : E = "java/lang/IllegalArgumentException"
    · replace hX := hX.1 cE1
      subst cE1
      refine tw_catch C hnx [(0, 12, 15, 19)] (0, 12, 19, 21) [] rfl (fun z hz => by simp only [List.mem_cons, List.not_mem_nil, or_false] at hz; rcases hz with rfl; exact Or.inr ⟨by decide, _, q1394, by decide +kernel⟩) rfl (by decide) q1410 q879 hi ?_
      exact wk_X0_setLabel_b19 C hr hmn hnx hfr hRl _ σ _ _ _ hX hR hS (tk_sub hl [] rfl)
    replace hX := hX.2 cE1
    exact hX.elim
  refine lv_i2l (v := x1.toInt64) C.hx C.hb dX0_setLabel_10 rfl ?_
  refine tk_sl C hR hS hw dX0_setLabel_11 (fun σ H locs hw hR hS => ?_)
  refine lv_goto (tgt := 23) C.hx C.hb dX0_setLabel_12 (by decide) ?_
  refine lv_iconst (v := 0) C.hx C.hb dX0_setLabel_23 (by decide) ?_
  exact tw_iret C hR hS hr rfl dX0_setLabel_24 hw
-- TreeDiffer.nodeOf(II)LTreeDiffer$Node;
def w_X1_nodeOf (l0 : Option Nat) (l1 : Int32) (l2 : Int32) (Q : Option Nat → Tst → Prop) (X : String → Nat → Tst → Prop) (σ : Tst) : Prop := w_rc σ l0 cX1 <| w_X1_treeOf l0 l1 (fun x1 σ => w_rc σ x1 cX2 <| w_X2_node x1 l2 (fun x2 σ => Q x2 σ) X σ) X σ
set_option maxHeartbeats 4000000 in
theorem wk_X1_nodeOf (l : Launch) (hl0 : l.stackTraces = false) (G : Tgl) (fr : Nat)  (hfr : 8 ≤ fr) (l0 : Option Nat) (l1 : Int32) (l2 : Int32) (Q : Option Nat → Tst → Prop) (X : String → Nat → Tst → Prop) (σ : Tst) (hw : w_X1_nodeOf l0 l1 l2 Q X σ) : tw_M l yX1_nodeOf (ws_ yX1_nodeOf cX1_nodeOf 3 (some (.object "TreeDiffer$Node"))) fr (40 * fr) G σ [.inr l0, .inl l1, .inl l2] (tw_Qq G Q) X := by
  unfold w_X1_nodeOf at hw
  refine tw_of (ret := (some (.object "TreeDiffer$Node"))) hl0 (by decide) (Nat.le_of_ble_eq_true rfl) (fun p e R s m args below meth c hRf hRl C hr hmn hnx hR hS ls hl => ?_)
  have hfr : 8 ≤ R.frames := by rw [hRf]; exact hfr
  have hRl : R.locals = 40 * R.frames := by rw [hRl, hRf]
  have hl : tw_l ls 3 [(0, .inr l0), (1, .inl l1), (2, .inl l2)] := hl
  refine tk_aload_n C hl 0 dX1_nodeOf_0 rfl ?_
  refine tk_iload_n C hl 1 dX1_nodeOf_1 rfl ?_
  obtain ⟨hv, hw⟩ := hw
  refine tw_cbq C hS (tk_runV (As := [.inl l1]) C hR hS (wk_X1_treeOf l C.hst G (R.frames - 1) (by omega) _ _ _ _ σ hw) hv rfl q1581 q1583 qs16 q64 q1584 pd_X1_treeOf ⟨by omega, by omega⟩ hl.1 rfl (tw_r8 [] (Nat.le_of_ble_eq_true rfl)) dX1_nodeOf_2) (fun E q σ H locs hX hR hS hi => tw_out C hR hS (fun x hx => (hnx x hx).elim) hi hX) (fun x1 σ H locs hw hR hS => ?_)
  refine tk_iload_n C hl 2 dX1_nodeOf_5 rfl ?_
  obtain ⟨hv, hw⟩ := hw
  refine tw_cbq C hS (tk_runV (As := [.inl l2]) C hR hS (wk_X2_node l C.hst G (R.frames - 1) (by omega) _ _ _ _ σ hw) hv rfl q1642 q1643 q1644 q69 q1645 pd_X2_node ⟨by omega, by omega⟩ hl.1 rfl (tw_r8 [] (Nat.le_of_ble_eq_true rfl)) dX1_nodeOf_6) (fun E q σ H locs hX hR hS hi => tw_out C hR hS (fun x hx => (hnx x hx).elim) hi hX) (fun x2 σ H locs hw hR hS => ?_)
  exact tw_aret C hR hS hr (Or.inl ⟨_, rfl⟩) dX1_nodeOf_9 hw
-- TreeDiffer.setKey(III)I
def w_X1_setKey_b64 (Q : Int32 → Tst → Prop) (X : String → Nat → Tst → Prop) (l3 : Int32) (l4 : Option Nat) (s0 : Int32) (σ : Tst) : Prop := w_X1_requireState s0 (fun σ => w_gi σ l4 cX3 1 fun x2 => w_p σ l4 cX3 1 (.inl l3) fun σ => Q x2 σ) X σ
def w_X1_setKey_b59 (Q : Int32 → Tst → Prop) (X : String → Nat → Tst → Prop) (l3 : Int32) (l4 : Option Nat) (σ : Tst) : Prop := w_X1_setKey_b64 Q X l3 l4 1 σ
def w_X1_setKey_b31 (Q : Int32 → Tst → Prop) (X : String → Nat → Tst → Prop) (l3 : Int32) (l4 : Option Nat) (s0 : Int32) (σ : Tst) : Prop := w_X1_requireSupport s0 (fun σ => w_if (l3 = 0) (w_X1_setKey_b59 Q X l3 l4 σ) (w_gi σ l4 cX3 1 fun x2 => w_if (l3 = x2) (w_X1_setKey_b59 Q X l3 l4 σ) (w_gr σ l4 cX3 3 fun x3 => w_rc σ x3 cX3 <| w_X3_hasChildWithKey x3 l3 (fun x4 σ => w_if (x4 = 0) (w_X1_setKey_b59 Q X l3 l4 σ) (w_X1_setKey_b64 Q X l3 l4 0 σ)) X σ))) X σ
def w_X1_setKey (l0 : Option Nat) (l1 : Int32) (l2 : Int32) (l3 : Int32) (Q : Int32 → Tst → Prop) (X : String → Nat → Tst → Prop) (σ : Tst) : Prop := w_rc σ l0 cX1 <| w_X1_nodeOf l0 l1 l2 (fun x1 σ => w_X1_isBetween l3 0 9 (fun x2 σ => w_X1_requireArgument x2 (fun σ => w_gr σ x1 cX3 3 fun x4 => w_if (x4 = none) (w_X1_setKey_b31 Q X l3 x1 0 σ) (w_X1_setKey_b31 Q X l3 x1 1 σ)) X σ) X σ) X σ
set_option maxHeartbeats 4000000 in
theorem wk_X1_setKey_b64  (C : tw_C p l R s m args meth c G cX1_setKey 6 yX1_setKey.cls) (hr : meth.sig.returnType = (some .int)) (hmn : meth.name = yX1_setKey.name) (hnx : (∀ x ∈ c.exceptionTable.toList, False)) (hfr : 9 ≤ R.frames) (hRl : R.locals = 40 * R.frames) {Q : Int32 → Tst → Prop} {X : String → Nat → Tst → Prop}  (l3 : Int32) (l4 : Option Nat) (s0 : Int32) (σ : Tst) (H : Heap) (locs : List Loc) (ls : Array Slot) (hw : w_X1_setKey_b64 Q X l3 l4 s0 σ) (hR : tw_R G σ H) (hS : va_S (tw_A G) s.heap H locs) (hl : tw_l ls 6 [(3, .inl l3), (4, .inr l4)]) : tw_W p l e R s m args below meth c σ H locs (tw_E below G (tw_Qi G Q) X args s R) (F0 m 64 ls [.int s0]) := by
  unfold w_X1_setKey_b64 at hw
  refine tw_cbv C hS (tw_runS (As := [.inl s0]) C hR hS (wk_X1_requireState l C.hst G (R.frames - 1) (by omega) _ _ _ σ hw) q1363 q1364 q64 q1365 pd_X1_requireState ⟨by omega, by omega⟩ hl.1 rfl (tw_r8 [] (Nat.le_of_ble_eq_true rfl)) dX1_setKey_64) (fun E q σ H locs hX hR hS hi => tw_out C hR hS (fun x hx => (hnx x hx).elim) hi hX) (fun σ H locs hw hR hS => ?_)
  refine tk_aload C hl 1 dX1_setKey_67 rfl ?_
  refine tk_giN C hR hw rfl in_X3 (by decide) q200 (fun _ h => h) dX1_setKey_69 (fun x2 hw => ?_)
  refine tk_istore (L' := [(5, .inl x2), (3, .inl l3), (4, .inr l4)]) C hl dX1_setKey_72 (by decide) rfl (fun ls hl => ?_)
  refine tk_aload C hl 2 dX1_setKey_74 rfl ?_
  refine tk_iload_n C hl 1 dX1_setKey_76 rfl ?_
  refine tk_pN (x := .inl l3) C hR hS hw (by decide) rfl in_X3 tyX3 tyX3_ok nmX3 (by decide) q200 (fun _ h => h) rfl (tw_ni _) dX1_setKey_77 (fun σ H locs hw hR hS => ?_)
  refine tk_iload C hl 0 dX1_setKey_80 rfl ?_
  exact tw_iret C hR hS hr rfl dX1_setKey_82 hw
set_option maxHeartbeats 4000000 in
theorem wk_X1_setKey_b59  (C : tw_C p l R s m args meth c G cX1_setKey 6 yX1_setKey.cls) (hr : meth.sig.returnType = (some .int)) (hmn : meth.name = yX1_setKey.name) (hnx : (∀ x ∈ c.exceptionTable.toList, False)) (hfr : 9 ≤ R.frames) (hRl : R.locals = 40 * R.frames) {Q : Int32 → Tst → Prop} {X : String → Nat → Tst → Prop}  (l3 : Int32) (l4 : Option Nat) (σ : Tst) (H : Heap) (locs : List Loc) (ls : Array Slot) (hw : w_X1_setKey_b59 Q X l3 l4 σ) (hR : tw_R G σ H) (hS : va_S (tw_A G) s.heap H locs) (hl : tw_l ls 6 [(3, .inl l3), (4, .inr l4)]) : tw_W p l e R s m args below meth c σ H locs (tw_E below G (tw_Qi G Q) X args s R) (F0 m 59 ls []) := by
  unfold w_X1_setKey_b59 at hw
  refine lv_iconst (v := 1) C.hx C.hb dX1_setKey_59 (by decide) ?_
  refine lv_goto (tgt := 64) C.hx C.hb dX1_setKey_60 (by decide) ?_
  exact wk_X1_setKey_b64 C hr hmn hnx hfr hRl _ _ _ σ _ _ _ hw hR hS (tk_sub hl [0, 1] rfl)
set_option maxHeartbeats 4000000 in
theorem wk_X1_setKey_b31  (C : tw_C p l R s m args meth c G cX1_setKey 6 yX1_setKey.cls) (hr : meth.sig.returnType = (some .int)) (hmn : meth.name = yX1_setKey.name) (hnx : (∀ x ∈ c.exceptionTable.toList, False)) (hfr : 9 ≤ R.frames) (hRl : R.locals = 40 * R.frames) {Q : Int32 → Tst → Prop} {X : String → Nat → Tst → Prop}  (l3 : Int32) (l4 : Option Nat) (s0 : Int32) (σ : Tst) (H : Heap) (locs : List Loc) (ls : Array Slot) (hw : w_X1_setKey_b31 Q X l3 l4 s0 σ) (hR : tw_R G σ H) (hS : va_S (tw_A G) s.heap H locs) (hl : tw_l ls 6 [(3, .inl l3), (4, .inr l4)]) : tw_W p l e R s m args below meth c σ H locs (tw_E below G (tw_Qi G Q) X args s R) (F0 m 31 ls [.int s0]) := by
  unfold w_X1_setKey_b31 at hw
  refine tw_cbv C hS (tw_runS (As := [.inl s0]) C hR hS (wk_X1_requireSupport l C.hst G (R.frames - 1) (by omega) _ _ _ σ hw) q1662 q1663 q64 q1664 pd_X1_requireSupport ⟨by omega, by omega⟩ hl.1 rfl (tw_r8 [] (Nat.le_of_ble_eq_true rfl)) dX1_setKey_31) (fun E q σ H locs hX hR hS hi => tw_out C hR hS (fun x hx => (hnx x hx).elim) hi hX) (fun σ H locs hw hR hS => ?_)
  refine tk_iload_n C hl 0 dX1_setKey_34 rfl ?_
  refine lv_if_eq (tgt := 59) C.hx C.hb dX1_setKey_35 (by decide) (fun c35 => ?_) (fun c35 => ?_)
  · replace hw := hw.1 c35
    exact wk_X1_setKey_b59 C hr hmn hnx hfr hRl _ _ σ _ _ _ hw hR hS (tk_sub hl [0, 1] rfl)
  · replace hw := hw.2 c35
    refine tk_iload_n C hl 0 dX1_setKey_38 rfl ?_
    refine tk_aload C hl 1 dX1_setKey_39 rfl ?_
    refine tk_giN C hR hw rfl in_X3 (by decide) q200 (fun _ h => h) dX1_setKey_41 (fun x2 hw => ?_)
    refine lv_icmp_eq (tgt := 59) C.hx C.hb dX1_setKey_44 (by decide) (fun c44 => ?_) (fun c44 => ?_)
    · replace hw := hw.1 c44
      exact wk_X1_setKey_b59 C hr hmn hnx hfr hRl _ _ σ _ _ _ hw hR hS (tk_sub hl [0, 1] rfl)
    · replace hw := hw.2 c44
      refine tk_aload C hl 1 dX1_setKey_47 rfl ?_
      refine tk_grN C hR hw rfl in_X3 (by decide) q208 (fun _ h => h) dX1_setKey_49 (fun x3 hw => ?_)
      refine tk_iload_n C hl 0 dX1_setKey_52 rfl ?_
      obtain ⟨hv, hw⟩ := hw
      refine tw_cbi C hS (tk_runV (As := [.inl l3]) C hR hS (wk_X3_hasChildWithKey l C.hst G (R.frames - 1) (by omega) _ _ _ _ σ hw) hv rfl q1700 q1172 q1173 q70 q1174 pd_X3_hasChildWithKey ⟨by omega, by omega⟩ hl.1 rfl (tw_r8 [] (Nat.le_of_ble_eq_true rfl)) dX1_setKey_53) (fun E q σ H locs hX hR hS hi => tw_out C hR hS (fun x hx => (hnx x hx).elim) hi hX) (fun x4 σ H locs hw hR hS => ?_)
      refine lv_if_ne (tgt := 63) C.hx C.hb dX1_setKey_56 (by decide) (fun c56 => ?_) (fun c56 => ?_)
      · replace hw := hw.2 c56
        refine lv_iconst (v := 0) C.hx C.hb dX1_setKey_63 (by decide) ?_
        exact wk_X1_setKey_b64 C hr hmn hnx hfr hRl _ _ _ σ _ _ _ hw hR hS (tk_sub hl [0, 1] rfl)
      · replace hw := hw.1 c56
        exact wk_X1_setKey_b59 C hr hmn hnx hfr hRl _ _ σ _ _ _ hw hR hS (tk_sub hl [0, 1] rfl)
set_option maxHeartbeats 4000000 in
theorem wk_X1_setKey (l : Launch) (hl0 : l.stackTraces = false) (G : Tgl) (fr : Nat)  (hfr : 9 ≤ fr) (l0 : Option Nat) (l1 : Int32) (l2 : Int32) (l3 : Int32) (Q : Int32 → Tst → Prop) (X : String → Nat → Tst → Prop) (σ : Tst) (hw : w_X1_setKey l0 l1 l2 l3 Q X σ) : tw_M l yX1_setKey (ws_ yX1_setKey cX1_setKey 6 (some .int)) fr (40 * fr) G σ [.inr l0, .inl l1, .inl l2, .inl l3] (tw_Qi G Q) X := by
  unfold w_X1_setKey at hw
  refine tw_of (ret := (some .int)) hl0 (by decide) (Nat.le_of_ble_eq_true rfl) (fun p e R s m args below meth c hRf hRl C hr hmn hnx hR hS ls hl => ?_)
  have hfr : 9 ≤ R.frames := by rw [hRf]; exact hfr
  have hRl : R.locals = 40 * R.frames := by rw [hRl, hRf]
  have hl : tw_l ls 6 [(0, .inr l0), (1, .inl l1), (2, .inl l2), (3, .inl l3)] := hl
  refine tk_aload_n C hl 0 dX1_setKey_0 rfl ?_
  refine tk_iload_n C hl 1 dX1_setKey_1 rfl ?_
  refine tk_iload_n C hl 2 dX1_setKey_2 rfl ?_
  obtain ⟨hv, hw⟩ := hw
  refine tw_cbq C hS (tk_runV (As := [.inl l1, .inl l2]) C hR hS (wk_X1_nodeOf l C.hst G (R.frames - 1) (by omega) _ _ _ _ _ σ hw) hv rfl q1696 q1698 qs18 q64 q1699 pd_X1_nodeOf ⟨by omega, by omega⟩ hl.1 rfl (tw_r8 [] (Nat.le_of_ble_eq_true rfl)) dX1_setKey_3) (fun E q σ H locs hX hR hS hi => tw_out C hR hS (fun x hx => (hnx x hx).elim) hi hX) (fun x1 σ H locs hw hR hS => ?_)
  refine tk_astore (L' := [(4, .inr x1), (0, .inr l0), (1, .inl l1), (2, .inl l2), (3, .inl l3)]) C hl dX1_setKey_6 (by decide) rfl (fun ls hl => ?_)
  refine tk_iload_n C hl 4 dX1_setKey_8 rfl ?_
  refine lv_iconst (v := 0) C.hx C.hb dX1_setKey_9 (by decide) ?_
  refine lv_bipush (v := 9) C.hx C.hb dX1_setKey_10 (by decide) ?_
  refine tw_cbi C hS (tw_runS (As := [.inl l3, .inl 0, .inl 9]) C hR hS (wk_X1_isBetween l C.hst G (R.frames - 1) (by omega) _ _ _ _ _ σ hw) q1416 q1417 q64 q1418 pd_X1_isBetween ⟨by omega, by omega⟩ hl.1 rfl (tw_r8 [] (Nat.le_of_ble_eq_true rfl)) dX1_setKey_12) (fun E q σ H locs hX hR hS hi => tw_out C hR hS (fun x hx => (hnx x hx).elim) hi hX) (fun x2 σ H locs hw hR hS => ?_)
  refine tw_cbv C hS (tw_runS (As := [.inl x2]) C hR hS (wk_X1_requireArgument l C.hst G (R.frames - 1) (by omega) _ _ _ σ hw) q1649 q1650 q64 q1651 pd_X1_requireArgument ⟨by omega, by omega⟩ hl.1 rfl (tw_r8 [] (Nat.le_of_ble_eq_true rfl)) dX1_setKey_15) (fun E q σ H locs hX hR hS hi => tw_out C hR hS (fun x hx => (hnx x hx).elim) hi hX) (fun σ H locs hw hR hS => ?_)
  refine tk_aload C hl 0 dX1_setKey_18 rfl ?_
  refine tk_grN C hR hw rfl in_X3 (by decide) q208 (fun _ h => h) dX1_setKey_20 (fun x4 hw => ?_)
  refine tw_ifnull (tgt := 30) C.hx C.hb dX1_setKey_23 (by decide) (fun c23 => ?_) (fun c23 => ?_)
  · replace hw := hw.1 c23
    refine lv_iconst (v := 0) C.hx C.hb dX1_setKey_30 (by decide) ?_
    exact wk_X1_setKey_b31 C hr hmn hnx hfr hRl _ _ _ σ _ _ _ hw hR hS (tk_sub hl [4, 0] rfl)
  · replace hw := hw.2 c23
    refine lv_iconst (v := 1) C.hx C.hb dX1_setKey_26 (by decide) ?_
    refine lv_goto (tgt := 31) C.hx C.hb dX1_setKey_27 (by decide) ?_
    exact wk_X1_setKey_b31 C hr hmn hnx hfr hRl _ _ _ σ _ _ _ hw hR hS (tk_sub hl [4, 0] rfl)
-- TreeDifferLaw.setKey(LTreeDiffer;III[J)I
def w_X0_setKey_b15 (Q : Int32 → Tst → Prop) (X : String → Nat → Tst → Prop) (s0 : Option Nat) (σ : Tst) : Prop := Q 1 σ
def w_X0_setKey_b19 (Q : Int32 → Tst → Prop) (X : String → Nat → Tst → Prop) (s0 : Option Nat) (σ : Tst) : Prop := Q 2 σ
def w_X0_setKey_b23 (Q : Int32 → Tst → Prop) (X : String → Nat → Tst → Prop) (s0 : Option Nat) (σ : Tst) : Prop := Q 3 σ
def w_X0_setKey_b27 (Q : Int32 → Tst → Prop) (X : String → Nat → Tst → Prop) (s0 : Option Nat) (σ : Tst) : Prop := Q 4 σ
def w_X0_setKey (l0 : Option Nat) (l1 : Int32) (l2 : Int32) (l3 : Int32) (l4 : Option Nat) (Q : Int32 → Tst → Prop) (X : String → Nat → Tst → Prop) (σ : Tst) : Prop := w_rc σ l0 cX1 <| w_X1_setKey l0 l1 l2 l3 (fun x1 σ => w_sl σ l4 0 (x1.toInt64) fun σ => Q 0 σ) (fun E q σ => w_if (E = "java/lang/IndexOutOfBoundsException") (w_X0_setKey_b15 Q X (some q) σ) (w_if (E = "java/lang/IllegalArgumentException") (w_X0_setKey_b19 Q X (some q) σ) (w_if (E = "java/lang/UnsupportedOperationException") (w_X0_setKey_b23 Q X (some q) σ) (w_if (E = "java/lang/IllegalStateException") (w_X0_setKey_b27 Q X (some q) σ) (False))))) σ
set_option maxHeartbeats 4000000 in
theorem wk_X0_setKey_b15  (C : tw_C p l R s m args meth c G cX0_setKey 6 yX0_setKey.cls) (hr : meth.sig.returnType = (some .int)) (hmn : meth.name = yX0_setKey.name) (hnx : (c.exceptionTable.toList = tableOf [(0, 12, 15, 19), (0, 12, 19, 21), (0, 12, 23, 47), (0, 12, 27, 13)])) (hfr : 10 ≤ R.frames) (hRl : R.locals = 40 * R.frames) {Q : Int32 → Tst → Prop} {X : String → Nat → Tst → Prop}  (s0 : Option Nat) (σ : Tst) (H : Heap) (locs : List Loc) (ls : Array Slot) (hw : w_X0_setKey_b15 Q X s0 σ) (hR : tw_R G σ H) (hS : va_S (tw_A G) s.heap H locs) (hl : tw_l ls 6 []) : tw_W p l e R s m args below meth c σ H locs (tw_E below G (tw_Qi G Q) X args s R) (F0 m 15 ls [va_rf s0]) := by
  unfold w_X0_setKey_b15 at hw
  refine tk_astore (L' := [(5, .inr s0)]) C hl dX0_setKey_15 (by decide) rfl (fun ls hl => ?_)
  refine lv_iconst (v := 1) C.hx C.hb dX0_setKey_17 (by decide) ?_
  exact tw_iret C hR hS hr rfl dX0_setKey_18 hw
set_option maxHeartbeats 4000000 in
theorem wk_X0_setKey_b19  (C : tw_C p l R s m args meth c G cX0_setKey 6 yX0_setKey.cls) (hr : meth.sig.returnType = (some .int)) (hmn : meth.name = yX0_setKey.name) (hnx : (c.exceptionTable.toList = tableOf [(0, 12, 15, 19), (0, 12, 19, 21), (0, 12, 23, 47), (0, 12, 27, 13)])) (hfr : 10 ≤ R.frames) (hRl : R.locals = 40 * R.frames) {Q : Int32 → Tst → Prop} {X : String → Nat → Tst → Prop}  (s0 : Option Nat) (σ : Tst) (H : Heap) (locs : List Loc) (ls : Array Slot) (hw : w_X0_setKey_b19 Q X s0 σ) (hR : tw_R G σ H) (hS : va_S (tw_A G) s.heap H locs) (hl : tw_l ls 6 []) : tw_W p l e R s m args below meth c σ H locs (tw_E below G (tw_Qi G Q) X args s R) (F0 m 19 ls [va_rf s0]) := by
  unfold w_X0_setKey_b19 at hw
  refine tk_astore (L' := [(5, .inr s0)]) C hl dX0_setKey_19 (by decide) rfl (fun ls hl => ?_)
  refine lv_iconst (v := 2) C.hx C.hb dX0_setKey_21 (by decide) ?_
  exact tw_iret C hR hS hr rfl dX0_setKey_22 hw
set_option maxHeartbeats 4000000 in
theorem wk_X0_setKey_b23  (C : tw_C p l R s m args meth c G cX0_setKey 6 yX0_setKey.cls) (hr : meth.sig.returnType = (some .int)) (hmn : meth.name = yX0_setKey.name) (hnx : (c.exceptionTable.toList = tableOf [(0, 12, 15, 19), (0, 12, 19, 21), (0, 12, 23, 47), (0, 12, 27, 13)])) (hfr : 10 ≤ R.frames) (hRl : R.locals = 40 * R.frames) {Q : Int32 → Tst → Prop} {X : String → Nat → Tst → Prop}  (s0 : Option Nat) (σ : Tst) (H : Heap) (locs : List Loc) (ls : Array Slot) (hw : w_X0_setKey_b23 Q X s0 σ) (hR : tw_R G σ H) (hS : va_S (tw_A G) s.heap H locs) (hl : tw_l ls 6 []) : tw_W p l e R s m args below meth c σ H locs (tw_E below G (tw_Qi G Q) X args s R) (F0 m 23 ls [va_rf s0]) := by
  unfold w_X0_setKey_b23 at hw
  refine tk_astore (L' := [(5, .inr s0)]) C hl dX0_setKey_23 (by decide) rfl (fun ls hl => ?_)
  refine lv_iconst (v := 3) C.hx C.hb dX0_setKey_25 (by decide) ?_
  exact tw_iret C hR hS hr rfl dX0_setKey_26 hw
set_option maxHeartbeats 4000000 in
theorem wk_X0_setKey_b27  (C : tw_C p l R s m args meth c G cX0_setKey 6 yX0_setKey.cls) (hr : meth.sig.returnType = (some .int)) (hmn : meth.name = yX0_setKey.name) (hnx : (c.exceptionTable.toList = tableOf [(0, 12, 15, 19), (0, 12, 19, 21), (0, 12, 23, 47), (0, 12, 27, 13)])) (hfr : 10 ≤ R.frames) (hRl : R.locals = 40 * R.frames) {Q : Int32 → Tst → Prop} {X : String → Nat → Tst → Prop}  (s0 : Option Nat) (σ : Tst) (H : Heap) (locs : List Loc) (ls : Array Slot) (hw : w_X0_setKey_b27 Q X s0 σ) (hR : tw_R G σ H) (hS : va_S (tw_A G) s.heap H locs) (hl : tw_l ls 6 []) : tw_W p l e R s m args below meth c σ H locs (tw_E below G (tw_Qi G Q) X args s R) (F0 m 27 ls [va_rf s0]) := by
  unfold w_X0_setKey_b27 at hw
  refine tk_astore (L' := [(5, .inr s0)]) C hl dX0_setKey_27 (by decide) rfl (fun ls hl => ?_)
  refine lv_iconst (v := 4) C.hx C.hb dX0_setKey_29 (by decide) ?_
  exact tw_iret C hR hS hr rfl dX0_setKey_30 hw
set_option maxHeartbeats 4000000 in
theorem wk_X0_setKey (l : Launch) (hl0 : l.stackTraces = false) (G : Tgl) (fr : Nat)  (hfr : 10 ≤ fr) (l0 : Option Nat) (l1 : Int32) (l2 : Int32) (l3 : Int32) (l4 : Option Nat) (Q : Int32 → Tst → Prop) (X : String → Nat → Tst → Prop) (σ : Tst) (hw : w_X0_setKey l0 l1 l2 l3 l4 Q X σ) : tw_M l yX0_setKey (wsW_ yX0_setKey cX0_setKey 6 (some .int) [(0, 12, 15, 19), (0, 12, 19, 21), (0, 12, 23, 47), (0, 12, 27, 13)]) fr (40 * fr) G σ [.inr l0, .inl l1, .inl l2, .inl l3, .inr l4] (tw_Qi G Q) X := by
  unfold w_X0_setKey at hw
  refine tw_ofW (ret := (some .int)) (hh := [(0, 12, 15, 19), (0, 12, 19, 21), (0, 12, 23, 47), (0, 12, 27, 13)]) hl0 (by decide) (Nat.le_of_ble_eq_true rfl) (fun p e R s m args below meth c hRf hRl C hr hmn hnx hR hS ls hl => ?_)
  have hfr : 10 ≤ R.frames := by rw [hRf]; exact hfr
  have hRl : R.locals = 40 * R.frames := by rw [hRl, hRf]
  have hl : tw_l ls 6 [(0, .inr l0), (1, .inl l1), (2, .inl l2), (3, .inl l3), (4, .inr l4)] := hl
  refine tk_aload C hl 4 dX0_setKey_0 rfl ?_
  refine lv_iconst (v := 0) C.hx C.hb dX0_setKey_2 (by decide) ?_
  refine tk_aload_n C hl 0 dX0_setKey_3 rfl ?_
  refine tk_iload_n C hl 1 dX0_setKey_4 rfl ?_
  refine tk_iload_n C hl 2 dX0_setKey_5 rfl ?_
  refine tk_iload_n C hl 3 dX0_setKey_6 rfl ?_
  obtain ⟨hv, hw⟩ := hw
  refine tw_cbi C hS (tk_runV (As := [.inl l1, .inl l2, .inl l3]) C hR hS (wk_X1_setKey l C.hst G (R.frames - 1) (by omega) _ _ _ _ _ _ σ hw) hv rfl q1692 q1693 q1694 q64 q1695 pd_X1_setKey ⟨by omega, by omega⟩ hl.1 rfl (tw_r8 [.inl 0, .inr l4] (Nat.le_of_ble_eq_true rfl)) dX0_setKey_7) (fun E q σ H locs hX hR hS hi => ?_) (fun x1 σ H locs hw hR hS => ?_)
  · by_cases cE0 : E = "java/lang/IndexOutOfBoundsException"
    · replace hX := hX.1 cE0
      subst cE0
      refine tw_catch C hnx [] (0, 12, 15, 19) [(0, 12, 19, 21), (0, 12, 23, 47), (0, 12, 27, 13)] rfl (fun z hz => nomatch hz) rfl (by decide) q1394 q687 hi ?_
      exact wk_X0_setKey_b15 C hr hmn hnx hfr hRl _ σ _ _ _ hX hR hS (tk_sub hl [] rfl)
    replace hX := hX.2 cE0
    by_cases cE1 : E = "java/lang/IllegalArgumentException"
    · replace hX := hX.1 cE1
      subst cE1
      refine tw_catch C hnx [(0, 12, 15, 19)] (0, 12, 19, 21) [(0, 12, 23, 47), (0, 12, 27, 13)] rfl (fun z hz => by simp only [List.mem_cons, List.not_mem_nil, or_false] at hz; rcases hz with rfl; exact Or.inr ⟨by decide, _, q1394, by decide +kernel⟩) rfl (by decide) q1410 q879 hi ?_
      exact wk_X0_setKey_b19 C hr hmn hnx hfr hRl _ σ _ _ _ hX hR hS (tk_sub hl [] rfl)
    replace hX := hX.2 cE1
    by_cases cE2 : E = "java/lang/UnsupportedOperationException"
    · replace hX := hX.1 cE2
      subst cE2
      refine tw_catch C hnx [(0, 12, 15, 19), (0, 12, 19, 21)] (0, 12, 23, 47) [(0, 12, 27, 13)] rfl (fun z hz => by simp only [List.mem_cons, List.not_mem_nil, or_false] at hz; rcases hz with rfl | rfl <;> first | exact Or.inr ⟨by decide, _, q1394, by decide +kernel⟩ | exact Or.inr ⟨by decide, _, q1410, by decide +kernel⟩) rfl (by decide) q1657 q1667 hi ?_
      exact wk_X0_setKey_b23 C hr hmn hnx hfr hRl _ σ _ _ _ hX hR hS (tk_sub hl [] rfl)
    replace hX := hX.2 cE2
    by_cases cE3 : E = "java/lang/IllegalStateException"
    · replace hX := hX.1 cE3
      subst cE3
      refine tw_catch C hnx [(0, 12, 15, 19), (0, 12, 19, 21), (0, 12, 23, 47)] (0, 12, 27, 13) [] rfl (fun z hz => by simp only [List.mem_cons, List.not_mem_nil, or_false] at hz; rcases hz with rfl | rfl | rfl <;> first | exact Or.inr ⟨by decide, _, q1394, by decide +kernel⟩ | exact Or.inr ⟨by decide, _, q1410, by decide +kernel⟩ | exact Or.inr ⟨by decide, _, q1657, by decide +kernel⟩) rfl (by decide) q1357 q490 hi ?_
      exact wk_X0_setKey_b27 C hr hmn hnx hfr hRl _ σ _ _ _ hX hR hS (tk_sub hl [] rfl)
    replace hX := hX.2 cE3
    exact hX.elim
  refine lv_i2l (v := x1.toInt64) C.hx C.hb dX0_setKey_10 rfl ?_
  refine tk_sl C hR hS hw dX0_setKey_11 (fun σ H locs hw hR hS => ?_)
  refine lv_goto (tgt := 31) C.hx C.hb dX0_setKey_12 (by decide) ?_
  refine lv_iconst (v := 0) C.hx C.hb dX0_setKey_31 (by decide) ?_
  exact tw_iret C hR hS hr rfl dX0_setKey_32 hw
-- TreeDiffer.setValue(III)I
def w_X1_setValue (l0 : Option Nat) (l1 : Int32) (l2 : Int32) (l3 : Int32) (Q : Int32 → Tst → Prop) (X : String → Nat → Tst → Prop) (σ : Tst) : Prop := w_rc σ l0 cX1 <| w_X1_nodeOf l0 l1 l2 (fun x1 σ => w_X1_isBetween l3 0 99 (fun x2 σ => w_X1_requireArgument x2 (fun σ => w_gi σ x1 cX3 2 fun x4 => w_p σ x1 cX3 2 (.inl l3) fun σ => Q x4 σ) X σ) X σ) X σ
set_option maxHeartbeats 4000000 in
theorem wk_X1_setValue (l : Launch) (hl0 : l.stackTraces = false) (G : Tgl) (fr : Nat)  (hfr : 9 ≤ fr) (l0 : Option Nat) (l1 : Int32) (l2 : Int32) (l3 : Int32) (Q : Int32 → Tst → Prop) (X : String → Nat → Tst → Prop) (σ : Tst) (hw : w_X1_setValue l0 l1 l2 l3 Q X σ) : tw_M l yX1_setValue (ws_ yX1_setValue cX1_setValue 6 (some .int)) fr (40 * fr) G σ [.inr l0, .inl l1, .inl l2, .inl l3] (tw_Qi G Q) X := by
  unfold w_X1_setValue at hw
  refine tw_of (ret := (some .int)) hl0 (by decide) (Nat.le_of_ble_eq_true rfl) (fun p e R s m args below meth c hRf hRl C hr hmn hnx hR hS ls hl => ?_)
  have hfr : 9 ≤ R.frames := by rw [hRf]; exact hfr
  have hRl : R.locals = 40 * R.frames := by rw [hRl, hRf]
  have hl : tw_l ls 6 [(0, .inr l0), (1, .inl l1), (2, .inl l2), (3, .inl l3)] := hl
  refine tk_aload_n C hl 0 dX1_setValue_0 rfl ?_
  refine tk_iload_n C hl 1 dX1_setValue_1 rfl ?_
  refine tk_iload_n C hl 2 dX1_setValue_2 rfl ?_
  obtain ⟨hv, hw⟩ := hw
  refine tw_cbq C hS (tk_runV (As := [.inl l1, .inl l2]) C hR hS (wk_X1_nodeOf l C.hst G (R.frames - 1) (by omega) _ _ _ _ _ σ hw) hv rfl q1696 q1698 qs18 q64 q1699 pd_X1_nodeOf ⟨by omega, by omega⟩ hl.1 rfl (tw_r8 [] (Nat.le_of_ble_eq_true rfl)) dX1_setValue_3) (fun E q σ H locs hX hR hS hi => tw_out C hR hS (fun x hx => (hnx x hx).elim) hi hX) (fun x1 σ H locs hw hR hS => ?_)
  refine tk_astore (L' := [(4, .inr x1), (0, .inr l0), (1, .inl l1), (2, .inl l2), (3, .inl l3)]) C hl dX1_setValue_6 (by decide) rfl (fun ls hl => ?_)
  refine tk_iload_n C hl 4 dX1_setValue_8 rfl ?_
  refine lv_iconst (v := 0) C.hx C.hb dX1_setValue_9 (by decide) ?_
  refine lv_bipush (v := 99) C.hx C.hb dX1_setValue_10 (by decide) ?_
  refine tw_cbi C hS (tw_runS (As := [.inl l3, .inl 0, .inl 99]) C hR hS (wk_X1_isBetween l C.hst G (R.frames - 1) (by omega) _ _ _ _ _ σ hw) q1416 q1417 q64 q1418 pd_X1_isBetween ⟨by omega, by omega⟩ hl.1 rfl (tw_r8 [] (Nat.le_of_ble_eq_true rfl)) dX1_setValue_12) (fun E q σ H locs hX hR hS hi => tw_out C hR hS (fun x hx => (hnx x hx).elim) hi hX) (fun x2 σ H locs hw hR hS => ?_)
  refine tw_cbv C hS (tw_runS (As := [.inl x2]) C hR hS (wk_X1_requireArgument l C.hst G (R.frames - 1) (by omega) _ _ _ σ hw) q1649 q1650 q64 q1651 pd_X1_requireArgument ⟨by omega, by omega⟩ hl.1 rfl (tw_r8 [] (Nat.le_of_ble_eq_true rfl)) dX1_setValue_15) (fun E q σ H locs hX hR hS hi => tw_out C hR hS (fun x hx => (hnx x hx).elim) hi hX) (fun σ H locs hw hR hS => ?_)
  refine tk_aload C hl 0 dX1_setValue_18 rfl ?_
  refine tk_giN C hR hw rfl in_X3 (by decide) q205 (fun _ h => h) dX1_setValue_20 (fun x4 hw => ?_)
  refine tk_istore (L' := [(5, .inl x4), (4, .inr x1), (0, .inr l0), (1, .inl l1), (2, .inl l2), (3, .inl l3)]) C hl dX1_setValue_23 (by decide) rfl (fun ls hl => ?_)
  refine tk_aload C hl 1 dX1_setValue_25 rfl ?_
  refine tk_iload_n C hl 5 dX1_setValue_27 rfl ?_
  refine tk_pN (x := .inl l3) C hR hS hw (by decide) rfl in_X3 tyX3 tyX3_ok nmX3 (by decide) q205 (fun _ h => h) rfl (tw_ni _) dX1_setValue_28 (fun σ H locs hw hR hS => ?_)
  refine tk_iload C hl 0 dX1_setValue_31 rfl ?_
  exact tw_iret C hR hS hr rfl dX1_setValue_33 hw
-- TreeDifferLaw.setValue(LTreeDiffer;III[J)I
def w_X0_setValue_b15 (Q : Int32 → Tst → Prop) (X : String → Nat → Tst → Prop) (s0 : Option Nat) (σ : Tst) : Prop := Q 1 σ
def w_X0_setValue_b19 (Q : Int32 → Tst → Prop) (X : String → Nat → Tst → Prop) (s0 : Option Nat) (σ : Tst) : Prop := Q 2 σ
def w_X0_setValue (l0 : Option Nat) (l1 : Int32) (l2 : Int32) (l3 : Int32) (l4 : Option Nat) (Q : Int32 → Tst → Prop) (X : String → Nat → Tst → Prop) (σ : Tst) : Prop := w_rc σ l0 cX1 <| w_X1_setValue l0 l1 l2 l3 (fun x1 σ => w_sl σ l4 0 (x1.toInt64) fun σ => Q 0 σ) (fun E q σ => w_if (E = "java/lang/IndexOutOfBoundsException") (w_X0_setValue_b15 Q X (some q) σ) (w_if (E = "java/lang/IllegalArgumentException") (w_X0_setValue_b19 Q X (some q) σ) (False))) σ
set_option maxHeartbeats 4000000 in
theorem wk_X0_setValue_b15  (C : tw_C p l R s m args meth c G cX0_setValue 6 yX0_setValue.cls) (hr : meth.sig.returnType = (some .int)) (hmn : meth.name = yX0_setValue.name) (hnx : (c.exceptionTable.toList = tableOf [(0, 12, 15, 19), (0, 12, 19, 21)])) (hfr : 10 ≤ R.frames) (hRl : R.locals = 40 * R.frames) {Q : Int32 → Tst → Prop} {X : String → Nat → Tst → Prop}  (s0 : Option Nat) (σ : Tst) (H : Heap) (locs : List Loc) (ls : Array Slot) (hw : w_X0_setValue_b15 Q X s0 σ) (hR : tw_R G σ H) (hS : va_S (tw_A G) s.heap H locs) (hl : tw_l ls 6 []) : tw_W p l e R s m args below meth c σ H locs (tw_E below G (tw_Qi G Q) X args s R) (F0 m 15 ls [va_rf s0]) := by
  unfold w_X0_setValue_b15 at hw
  refine tk_astore (L' := [(5, .inr s0)]) C hl dX0_setValue_15 (by decide) rfl (fun ls hl => ?_)
  refine lv_iconst (v := 1) C.hx C.hb dX0_setValue_17 (by decide) ?_
  exact tw_iret C hR hS hr rfl dX0_setValue_18 hw
set_option maxHeartbeats 4000000 in
theorem wk_X0_setValue_b19  (C : tw_C p l R s m args meth c G cX0_setValue 6 yX0_setValue.cls) (hr : meth.sig.returnType = (some .int)) (hmn : meth.name = yX0_setValue.name) (hnx : (c.exceptionTable.toList = tableOf [(0, 12, 15, 19), (0, 12, 19, 21)])) (hfr : 10 ≤ R.frames) (hRl : R.locals = 40 * R.frames) {Q : Int32 → Tst → Prop} {X : String → Nat → Tst → Prop}  (s0 : Option Nat) (σ : Tst) (H : Heap) (locs : List Loc) (ls : Array Slot) (hw : w_X0_setValue_b19 Q X s0 σ) (hR : tw_R G σ H) (hS : va_S (tw_A G) s.heap H locs) (hl : tw_l ls 6 []) : tw_W p l e R s m args below meth c σ H locs (tw_E below G (tw_Qi G Q) X args s R) (F0 m 19 ls [va_rf s0]) := by
  unfold w_X0_setValue_b19 at hw
  refine tk_astore (L' := [(5, .inr s0)]) C hl dX0_setValue_19 (by decide) rfl (fun ls hl => ?_)
  refine lv_iconst (v := 2) C.hx C.hb dX0_setValue_21 (by decide) ?_
  exact tw_iret C hR hS hr rfl dX0_setValue_22 hw
set_option maxHeartbeats 4000000 in
theorem wk_X0_setValue (l : Launch) (hl0 : l.stackTraces = false) (G : Tgl) (fr : Nat)  (hfr : 10 ≤ fr) (l0 : Option Nat) (l1 : Int32) (l2 : Int32) (l3 : Int32) (l4 : Option Nat) (Q : Int32 → Tst → Prop) (X : String → Nat → Tst → Prop) (σ : Tst) (hw : w_X0_setValue l0 l1 l2 l3 l4 Q X σ) : tw_M l yX0_setValue (wsW_ yX0_setValue cX0_setValue 6 (some .int) [(0, 12, 15, 19), (0, 12, 19, 21)]) fr (40 * fr) G σ [.inr l0, .inl l1, .inl l2, .inl l3, .inr l4] (tw_Qi G Q) X := by
  unfold w_X0_setValue at hw
  refine tw_ofW (ret := (some .int)) (hh := [(0, 12, 15, 19), (0, 12, 19, 21)]) hl0 (by decide) (Nat.le_of_ble_eq_true rfl) (fun p e R s m args below meth c hRf hRl C hr hmn hnx hR hS ls hl => ?_)
  have hfr : 10 ≤ R.frames := by rw [hRf]; exact hfr
  have hRl : R.locals = 40 * R.frames := by rw [hRl, hRf]
  have hl : tw_l ls 6 [(0, .inr l0), (1, .inl l1), (2, .inl l2), (3, .inl l3), (4, .inr l4)] := hl
  refine tk_aload C hl 4 dX0_setValue_0 rfl ?_
  refine lv_iconst (v := 0) C.hx C.hb dX0_setValue_2 (by decide) ?_
  refine tk_aload_n C hl 0 dX0_setValue_3 rfl ?_
  refine tk_iload_n C hl 1 dX0_setValue_4 rfl ?_
  refine tk_iload_n C hl 2 dX0_setValue_5 rfl ?_
  refine tk_iload_n C hl 3 dX0_setValue_6 rfl ?_
  obtain ⟨hv, hw⟩ := hw
  refine tw_cbi C hS (tk_runV (As := [.inl l1, .inl l2, .inl l3]) C hR hS (wk_X1_setValue l C.hst G (R.frames - 1) (by omega) _ _ _ _ _ _ σ hw) hv rfl q1704 q1705 q1706 q64 q1707 pd_X1_setValue ⟨by omega, by omega⟩ hl.1 rfl (tw_r8 [.inl 0, .inr l4] (Nat.le_of_ble_eq_true rfl)) dX0_setValue_7) (fun E q σ H locs hX hR hS hi => ?_) (fun x1 σ H locs hw hR hS => ?_)
  · by_cases cE0 : E = "java/lang/IndexOutOfBoundsException"
    · replace hX := hX.1 cE0
      subst cE0
      refine tw_catch C hnx [] (0, 12, 15, 19) [(0, 12, 19, 21)] rfl (fun z hz => nomatch hz) rfl (by decide) q1394 q687 hi ?_
      exact wk_X0_setValue_b15 C hr hmn hnx hfr hRl _ σ _ _ _ hX hR hS (tk_sub hl [] rfl)
    replace hX := hX.2 cE0
    by_cases cE1 : E = "java/lang/IllegalArgumentException"
    · replace hX := hX.1 cE1
      subst cE1
      refine tw_catch C hnx [(0, 12, 15, 19)] (0, 12, 19, 21) [] rfl (fun z hz => by simp only [List.mem_cons, List.not_mem_nil, or_false] at hz; rcases hz with rfl; exact Or.inr ⟨by decide, _, q1394, by decide +kernel⟩) rfl (by decide) q1410 q879 hi ?_
      exact wk_X0_setValue_b19 C hr hmn hnx hfr hRl _ σ _ _ _ hX hR hS (tk_sub hl [] rfl)
    replace hX := hX.2 cE1
    exact hX.elim
  refine lv_i2l (v := x1.toInt64) C.hx C.hb dX0_setValue_10 rfl ?_
  refine tk_sl C hR hS hw dX0_setValue_11 (fun σ H locs hw hR hS => ?_)
  refine lv_goto (tgt := 23) C.hx C.hb dX0_setValue_12 (by decide) ?_
  refine lv_iconst (v := 0) C.hx C.hb dX0_setValue_23 (by decide) ?_
  exact tw_iret C hR hS hr rfl dX0_setValue_24 hw
-- TreeDiffer$Tree.copy()LTreeDiffer$Tree;
def w_X2_copy (l0 : Option Nat) (Q : Option Nat → Tst → Prop) (X : String → Nat → Tst → Prop) (σ : Tst) : Prop := w_nw σ cX2 1 [.inr none] fun q1 σ => w_gr σ l0 cX2 0 fun x2 => w_rc σ x2 cX3 <| w_X3_copy 64 x2 (fun x3 σ => w_rf q1 <| w_X2_init q1 x3 (fun σ => Q q1 σ) X σ) X σ
set_option maxHeartbeats 4000000 in
theorem wk_X2_copy (l : Launch) (hl0 : l.stackTraces = false) (G : Tgl) (fr : Nat)  (hfr : 72 ≤ fr) (l0 : Option Nat) (Q : Option Nat → Tst → Prop) (X : String → Nat → Tst → Prop) (σ : Tst) (hw : w_X2_copy l0 Q X σ) : tw_M l yX2_copy (ws_ yX2_copy cX2_copy 1 (some (.object "TreeDiffer$Tree"))) fr (40 * fr) G σ [.inr l0] (tw_Qq G Q) X := by
  unfold w_X2_copy at hw
  refine tw_of (ret := (some (.object "TreeDiffer$Tree"))) hl0 (by decide) (Nat.le_of_ble_eq_true rfl) (fun p e R s m args below meth c hRf hRl C hr hmn hnx hR hS ls hl => ?_)
  have hfr : 72 ≤ R.frames := by rw [hRf]; exact hfr
  have hRl : R.locals = 40 * R.frames := by rw [hRl, hRf]
  have hl : tw_l ls 1 [(0, .inr l0)] := hl
  refine tk_nw C hR hS hw rfl in_X2 tyX2 tyX2_ok q661 q156 q69 (fun j hj => by rcases (show j = 0 by omega) with rfl; rfl) dX2_copy_0 (fun q1 σ H hw hR hS => ?_)
  refine tw_dup (x := .inr q1) C.hx C.hb dX2_copy_3 ?_
  refine tk_aload_n C hl 0 dX2_copy_4 rfl ?_
  refine tk_gr C hR hw rfl in_X2 (by decide) q239 (fun _ h => h) dX2_copy_5 (fun x2 hw => ?_)
  obtain ⟨hv, hw⟩ := hw
  refine tw_cbq C hS (tk_runV (As := []) C hR hS (wk_X3_copy l C.hst G 64 (R.frames - 1) (by omega) _ _ _ σ hw) hv rfl q662 q663 q664 q70 q665 pd_X3_copy ⟨by omega, by omega⟩ hl.1 rfl (tw_r8 [.inr q1, .inr q1] (Nat.le_of_ble_eq_true rfl)) dX2_copy_8) (fun E q σ H locs hX hR hS hi => tw_out C hR hS (fun x hx => (hnx x hx).elim) hi hX) (fun x3 σ H locs hw hR hS => ?_)
  obtain ⟨hv, hw⟩ := hw
  refine tw_cbv C hS (tk_runI (As := [.inr x3]) hv C hR hS (wk_X2_init l C.hst G (R.frames - 1) (by omega) _ _ _ _ σ hw) q943 q236 q69 q237 rfl pd_X2_init ⟨by omega, by omega⟩ hl.1 rfl (tw_r8 [.inr q1] (Nat.le_of_ble_eq_true rfl)) dX2_copy_11) (fun E q σ H locs hX hR hS hi => tw_out C hR hS (fun x hx => (hnx x hx).elim) hi hX) (fun σ H locs hw hR hS => ?_)
  exact tw_aret C hR hS hr (Or.inl ⟨_, rfl⟩) dX2_copy_14 hw
-- TreeDiffer.copyTree(II)I
def w_X1_copyTree (l0 : Option Nat) (l1 : Int32) (l2 : Int32) (Q : Int32 → Tst → Prop) (X : String → Nat → Tst → Prop) (σ : Tst) : Prop := w_rc σ l0 cX1 <| w_X1_treeOf l0 l1 (fun x1 σ => w_X1_isBetween l2 0 2 (fun x2 σ => w_X1_requireIndex x2 (fun σ => w_gr σ l0 cX1 0 fun x4 => w_rc σ x1 cX2 <| w_X2_copy x1 (fun x5 σ => w_sr σ x4 l2 x5 fun σ => w_gr σ x1 cX2 0 fun x6 => w_rc σ x6 cX3 <| w_X3_size 64 x6 (fun x7 σ => Q x7 σ) X σ) X σ) X σ) X σ) X σ
set_option maxHeartbeats 4000000 in
theorem wk_X1_copyTree (l : Launch) (hl0 : l.stackTraces = false) (G : Tgl) (fr : Nat)  (hfr : 73 ≤ fr) (l0 : Option Nat) (l1 : Int32) (l2 : Int32) (Q : Int32 → Tst → Prop) (X : String → Nat → Tst → Prop) (σ : Tst) (hw : w_X1_copyTree l0 l1 l2 Q X σ) : tw_M l yX1_copyTree (ws_ yX1_copyTree cX1_copyTree 4 (some .int)) fr (40 * fr) G σ [.inr l0, .inl l1, .inl l2] (tw_Qi G Q) X := by
  unfold w_X1_copyTree at hw
  refine tw_of (ret := (some .int)) hl0 (by decide) (Nat.le_of_ble_eq_true rfl) (fun p e R s m args below meth c hRf hRl C hr hmn hnx hR hS ls hl => ?_)
  have hfr : 73 ≤ R.frames := by rw [hRf]; exact hfr
  have hRl : R.locals = 40 * R.frames := by rw [hRl, hRf]
  have hl : tw_l ls 4 [(0, .inr l0), (1, .inl l1), (2, .inl l2)] := hl
  refine tk_aload_n C hl 0 dX1_copyTree_0 rfl ?_
  refine tk_iload_n C hl 1 dX1_copyTree_1 rfl ?_
  obtain ⟨hv, hw⟩ := hw
  refine tw_cbq C hS (tk_runV (As := [.inl l1]) C hR hS (wk_X1_treeOf l C.hst G (R.frames - 1) (by omega) _ _ _ _ σ hw) hv rfl q1581 q1583 qs16 q64 q1584 pd_X1_treeOf ⟨by omega, by omega⟩ hl.1 rfl (tw_r8 [] (Nat.le_of_ble_eq_true rfl)) dX1_copyTree_2) (fun E q σ H locs hX hR hS hi => tw_out C hR hS (fun x hx => (hnx x hx).elim) hi hX) (fun x1 σ H locs hw hR hS => ?_)
  refine tk_astore_n (L' := [(3, .inr x1), (0, .inr l0), (1, .inl l1), (2, .inl l2)]) C hl dX1_copyTree_5 (by decide) rfl (fun ls hl => ?_)
  refine tk_iload_n C hl 3 dX1_copyTree_6 rfl ?_
  refine lv_iconst (v := 0) C.hx C.hb dX1_copyTree_7 (by decide) ?_
  refine lv_iconst (v := 2) C.hx C.hb dX1_copyTree_8 (by decide) ?_
  refine tw_cbi C hS (tw_runS (As := [.inl l2, .inl 0, .inl 2]) C hR hS (wk_X1_isBetween l C.hst G (R.frames - 1) (by omega) _ _ _ _ _ σ hw) q1416 q1417 q64 q1418 pd_X1_isBetween ⟨by omega, by omega⟩ hl.1 rfl (tw_r8 [] (Nat.le_of_ble_eq_true rfl)) dX1_copyTree_9) (fun E q σ H locs hX hR hS hi => tw_out C hR hS (fun x hx => (hnx x hx).elim) hi hX) (fun x2 σ H locs hw hR hS => ?_)
  refine tw_cbv C hS (tw_runS (As := [.inl x2]) C hR hS (wk_X1_requireIndex l C.hst G (R.frames - 1) (by omega) _ _ _ σ hw) q1419 q1420 q64 q1421 pd_X1_requireIndex ⟨by omega, by omega⟩ hl.1 rfl (tw_r8 [] (Nat.le_of_ble_eq_true rfl)) dX1_copyTree_12) (fun E q σ H locs hX hR hS hi => tw_out C hR hS (fun x hx => (hnx x hx).elim) hi hX) (fun σ H locs hw hR hS => ?_)
  refine tk_aload_n C hl 1 dX1_copyTree_15 rfl ?_
  refine tk_gr C hR hw rfl in_X1 (by decide) q246 (fun _ h => h) dX1_copyTree_16 (fun x4 hw => ?_)
  refine tk_iload_n C hl 3 dX1_copyTree_19 rfl ?_
  refine tk_aload_n C hl 0 dX1_copyTree_20 rfl ?_
  obtain ⟨hv, hw⟩ := hw
  refine tw_cbq C hS (tk_runV (As := []) C hR hS (wk_X2_copy l C.hst G (R.frames - 1) (by omega) _ _ _ σ hw) hv rfl q1715 q658 q659 q69 q660 pd_X2_copy ⟨by omega, by omega⟩ hl.1 rfl (tw_r8 [.inl l2, .inr x4] (Nat.le_of_ble_eq_true rfl)) dX1_copyTree_21) (fun E q σ H locs hX hR hS hi => tw_out C hR hS (fun x hx => (hnx x hx).elim) hi hX) (fun x5 σ H locs hw hR hS => ?_)
  refine tk_sr C hR hS hw dX1_copyTree_24 (fun σ H locs hw hR hS => ?_)
  refine tk_aload_n C hl 0 dX1_copyTree_25 rfl ?_
  refine tk_grN C hR hw rfl in_X2 (by decide) q242 (fun _ h => h) dX1_copyTree_26 (fun x6 hw => ?_)
  obtain ⟨hv, hw⟩ := hw
  refine tw_cbi C hS (tk_runV (As := []) C hR hS (wk_X3_size l C.hst G 64 (R.frames - 1) (by omega) _ _ _ σ hw) hv rfl q286 q287 q288 q70 q289 pd_X3_size ⟨by omega, by omega⟩ hl.1 rfl (tw_r8 [] (Nat.le_of_ble_eq_true rfl)) dX1_copyTree_29) (fun E q σ H locs hX hR hS hi => tw_out C hR hS (fun x hx => (hnx x hx).elim) hi hX) (fun x7 σ H locs hw hR hS => ?_)
  exact tw_iret C hR hS hr rfl dX1_copyTree_32 hw
-- TreeDifferLaw.copyTree(LTreeDiffer;II[J)I
def w_X0_copyTree_b13 (Q : Int32 → Tst → Prop) (X : String → Nat → Tst → Prop) (s0 : Option Nat) (σ : Tst) : Prop := Q 1 σ
def w_X0_copyTree (l0 : Option Nat) (l1 : Int32) (l2 : Int32) (l3 : Option Nat) (Q : Int32 → Tst → Prop) (X : String → Nat → Tst → Prop) (σ : Tst) : Prop := w_rc σ l0 cX1 <| w_X1_copyTree l0 l1 l2 (fun x1 σ => w_sl σ l3 0 (x1.toInt64) fun σ => Q 0 σ) (fun E q σ => w_if (E = "java/lang/IndexOutOfBoundsException") (w_X0_copyTree_b13 Q X (some q) σ) (False)) σ
set_option maxHeartbeats 4000000 in
theorem wk_X0_copyTree_b13  (C : tw_C p l R s m args meth c G cX0_copyTree 5 yX0_copyTree.cls) (hr : meth.sig.returnType = (some .int)) (hmn : meth.name = yX0_copyTree.name) (hnx : (c.exceptionTable.toList = tableOf [(0, 10, 13, 19)])) (hfr : 74 ≤ R.frames) (hRl : R.locals = 40 * R.frames) {Q : Int32 → Tst → Prop} {X : String → Nat → Tst → Prop}  (s0 : Option Nat) (σ : Tst) (H : Heap) (locs : List Loc) (ls : Array Slot) (hw : w_X0_copyTree_b13 Q X s0 σ) (hR : tw_R G σ H) (hS : va_S (tw_A G) s.heap H locs) (hl : tw_l ls 5 []) : tw_W p l e R s m args below meth c σ H locs (tw_E below G (tw_Qi G Q) X args s R) (F0 m 13 ls [va_rf s0]) := by
  unfold w_X0_copyTree_b13 at hw
  refine tk_astore (L' := [(4, .inr s0)]) C hl dX0_copyTree_13 (by decide) rfl (fun ls hl => ?_)
  refine lv_iconst (v := 1) C.hx C.hb dX0_copyTree_15 (by decide) ?_
  exact tw_iret C hR hS hr rfl dX0_copyTree_16 hw
set_option maxHeartbeats 4000000 in
theorem wk_X0_copyTree (l : Launch) (hl0 : l.stackTraces = false) (G : Tgl) (fr : Nat)  (hfr : 74 ≤ fr) (l0 : Option Nat) (l1 : Int32) (l2 : Int32) (l3 : Option Nat) (Q : Int32 → Tst → Prop) (X : String → Nat → Tst → Prop) (σ : Tst) (hw : w_X0_copyTree l0 l1 l2 l3 Q X σ) : tw_M l yX0_copyTree (wsW_ yX0_copyTree cX0_copyTree 5 (some .int) [(0, 10, 13, 19)]) fr (40 * fr) G σ [.inr l0, .inl l1, .inl l2, .inr l3] (tw_Qi G Q) X := by
  unfold w_X0_copyTree at hw
  refine tw_ofW (ret := (some .int)) (hh := [(0, 10, 13, 19)]) hl0 (by decide) (Nat.le_of_ble_eq_true rfl) (fun p e R s m args below meth c hRf hRl C hr hmn hnx hR hS ls hl => ?_)
  have hfr : 74 ≤ R.frames := by rw [hRf]; exact hfr
  have hRl : R.locals = 40 * R.frames := by rw [hRl, hRf]
  have hl : tw_l ls 5 [(0, .inr l0), (1, .inl l1), (2, .inl l2), (3, .inr l3)] := hl
  refine tk_aload_n C hl 3 dX0_copyTree_0 rfl ?_
  refine lv_iconst (v := 0) C.hx C.hb dX0_copyTree_1 (by decide) ?_
  refine tk_aload_n C hl 0 dX0_copyTree_2 rfl ?_
  refine tk_iload_n C hl 1 dX0_copyTree_3 rfl ?_
  refine tk_iload_n C hl 2 dX0_copyTree_4 rfl ?_
  obtain ⟨hv, hw⟩ := hw
  refine tw_cbi C hS (tk_runV (As := [.inl l1, .inl l2]) C hR hS (wk_X1_copyTree l C.hst G (R.frames - 1) (by omega) _ _ _ _ _ σ hw) hv rfl q1711 q1712 q1713 q64 q1714 pd_X1_copyTree ⟨by omega, by omega⟩ hl.1 rfl (tw_r8 [.inl 0, .inr l3] (Nat.le_of_ble_eq_true rfl)) dX0_copyTree_5) (fun E q σ H locs hX hR hS hi => ?_) (fun x1 σ H locs hw hR hS => ?_)
  · by_cases cE0 : E = "java/lang/IndexOutOfBoundsException"
    · replace hX := hX.1 cE0
      subst cE0
      refine tw_catch C hnx [] (0, 10, 13, 19) [] rfl (fun z hz => nomatch hz) rfl (by decide) q1394 q687 hi ?_
      exact wk_X0_copyTree_b13 C hr hmn hnx hfr hRl _ σ _ _ _ hX hR hS (tk_sub hl [] rfl)
    replace hX := hX.2 cE0
    exact hX.elim
  refine lv_i2l (v := x1.toInt64) C.hx C.hb dX0_copyTree_8 rfl ?_
  refine tk_sl C hR hS hw dX0_copyTree_9 (fun σ H locs hw hR hS => ?_)
  refine lv_goto (tgt := 17) C.hx C.hb dX0_copyTree_10 (by decide) ?_
  refine lv_iconst (v := 0) C.hx C.hb dX0_copyTree_17 (by decide) ?_
  exact tw_iret C hR hS hr rfl dX0_copyTree_18 hw
-- TreeDiffer.size(I)I
def w_X1_size (l0 : Option Nat) (l1 : Int32) (Q : Int32 → Tst → Prop) (X : String → Nat → Tst → Prop) (σ : Tst) : Prop := w_rc σ l0 cX1 <| w_X1_treeOf l0 l1 (fun x1 σ => w_gr σ x1 cX2 0 fun x2 => w_rc σ x2 cX3 <| w_X3_size 64 x2 (fun x3 σ => Q x3 σ) X σ) X σ
set_option maxHeartbeats 4000000 in
theorem wk_X1_size (l : Launch) (hl0 : l.stackTraces = false) (G : Tgl) (fr : Nat)  (hfr : 68 ≤ fr) (l0 : Option Nat) (l1 : Int32) (Q : Int32 → Tst → Prop) (X : String → Nat → Tst → Prop) (σ : Tst) (hw : w_X1_size l0 l1 Q X σ) : tw_M l yX1_size (ws_ yX1_size cX1_size 2 (some .int)) fr (40 * fr) G σ [.inr l0, .inl l1] (tw_Qi G Q) X := by
  unfold w_X1_size at hw
  refine tw_of (ret := (some .int)) hl0 (by decide) (Nat.le_of_ble_eq_true rfl) (fun p e R s m args below meth c hRf hRl C hr hmn hnx hR hS ls hl => ?_)
  have hfr : 68 ≤ R.frames := by rw [hRf]; exact hfr
  have hRl : R.locals = 40 * R.frames := by rw [hRl, hRf]
  have hl : tw_l ls 2 [(0, .inr l0), (1, .inl l1)] := hl
  refine tk_aload_n C hl 0 dX1_size_0 rfl ?_
  refine tk_iload_n C hl 1 dX1_size_1 rfl ?_
  obtain ⟨hv, hw⟩ := hw
  refine tw_cbq C hS (tk_runV (As := [.inl l1]) C hR hS (wk_X1_treeOf l C.hst G (R.frames - 1) (by omega) _ _ _ _ σ hw) hv rfl q1581 q1583 qs16 q64 q1584 pd_X1_treeOf ⟨by omega, by omega⟩ hl.1 rfl (tw_r8 [] (Nat.le_of_ble_eq_true rfl)) dX1_size_2) (fun E q σ H locs hX hR hS hi => tw_out C hR hS (fun x hx => (hnx x hx).elim) hi hX) (fun x1 σ H locs hw hR hS => ?_)
  refine tk_grN C hR hw rfl in_X2 (by decide) q242 (fun _ h => h) dX1_size_5 (fun x2 hw => ?_)
  obtain ⟨hv, hw⟩ := hw
  refine tw_cbi C hS (tk_runV (As := []) C hR hS (wk_X3_size l C.hst G 64 (R.frames - 1) (by omega) _ _ _ σ hw) hv rfl q286 q287 q288 q70 q289 pd_X3_size ⟨by omega, by omega⟩ hl.1 rfl (tw_r8 [] (Nat.le_of_ble_eq_true rfl)) dX1_size_8) (fun E q σ H locs hX hR hS hi => tw_out C hR hS (fun x hx => (hnx x hx).elim) hi hX) (fun x3 σ H locs hw hR hS => ?_)
  exact tw_iret C hR hS hr rfl dX1_size_11 hw
-- TreeDifferLaw.size(LTreeDiffer;I[J)I
def w_X0_size_b12 (Q : Int32 → Tst → Prop) (X : String → Nat → Tst → Prop) (s0 : Option Nat) (σ : Tst) : Prop := Q 1 σ
def w_X0_size (l0 : Option Nat) (l1 : Int32) (l2 : Option Nat) (Q : Int32 → Tst → Prop) (X : String → Nat → Tst → Prop) (σ : Tst) : Prop := w_rc σ l0 cX1 <| w_X1_size l0 l1 (fun x1 σ => w_sl σ l2 0 (x1.toInt64) fun σ => Q 0 σ) (fun E q σ => w_if (E = "java/lang/IndexOutOfBoundsException") (w_X0_size_b12 Q X (some q) σ) (False)) σ
set_option maxHeartbeats 4000000 in
theorem wk_X0_size_b12  (C : tw_C p l R s m args meth c G cX0_size 4 yX0_size.cls) (hr : meth.sig.returnType = (some .int)) (hmn : meth.name = yX0_size.name) (hnx : (c.exceptionTable.toList = tableOf [(0, 9, 12, 19)])) (hfr : 69 ≤ R.frames) (hRl : R.locals = 40 * R.frames) {Q : Int32 → Tst → Prop} {X : String → Nat → Tst → Prop}  (s0 : Option Nat) (σ : Tst) (H : Heap) (locs : List Loc) (ls : Array Slot) (hw : w_X0_size_b12 Q X s0 σ) (hR : tw_R G σ H) (hS : va_S (tw_A G) s.heap H locs) (hl : tw_l ls 4 []) : tw_W p l e R s m args below meth c σ H locs (tw_E below G (tw_Qi G Q) X args s R) (F0 m 12 ls [va_rf s0]) := by
  unfold w_X0_size_b12 at hw
  refine tk_astore_n (L' := [(3, .inr s0)]) C hl dX0_size_12 (by decide) rfl (fun ls hl => ?_)
  refine lv_iconst (v := 1) C.hx C.hb dX0_size_13 (by decide) ?_
  exact tw_iret C hR hS hr rfl dX0_size_14 hw
set_option maxHeartbeats 4000000 in
theorem wk_X0_size (l : Launch) (hl0 : l.stackTraces = false) (G : Tgl) (fr : Nat)  (hfr : 69 ≤ fr) (l0 : Option Nat) (l1 : Int32) (l2 : Option Nat) (Q : Int32 → Tst → Prop) (X : String → Nat → Tst → Prop) (σ : Tst) (hw : w_X0_size l0 l1 l2 Q X σ) : tw_M l yX0_size (wsW_ yX0_size cX0_size 4 (some .int) [(0, 9, 12, 19)]) fr (40 * fr) G σ [.inr l0, .inl l1, .inr l2] (tw_Qi G Q) X := by
  unfold w_X0_size at hw
  refine tw_ofW (ret := (some .int)) (hh := [(0, 9, 12, 19)]) hl0 (by decide) (Nat.le_of_ble_eq_true rfl) (fun p e R s m args below meth c hRf hRl C hr hmn hnx hR hS ls hl => ?_)
  have hfr : 69 ≤ R.frames := by rw [hRf]; exact hfr
  have hRl : R.locals = 40 * R.frames := by rw [hRl, hRf]
  have hl : tw_l ls 4 [(0, .inr l0), (1, .inl l1), (2, .inr l2)] := hl
  refine tk_aload_n C hl 2 dX0_size_0 rfl ?_
  refine lv_iconst (v := 0) C.hx C.hb dX0_size_1 (by decide) ?_
  refine tk_aload_n C hl 0 dX0_size_2 rfl ?_
  refine tk_iload_n C hl 1 dX0_size_3 rfl ?_
  obtain ⟨hv, hw⟩ := hw
  refine tw_cbi C hS (tk_runV (As := [.inl l1]) C hR hS (wk_X1_size l C.hst G (R.frames - 1) (by omega) _ _ _ _ σ hw) hv rfl q1719 q1720 q1721 q64 q1722 pd_X1_size ⟨by omega, by omega⟩ hl.1 rfl (tw_r8 [.inl 0, .inr l2] (Nat.le_of_ble_eq_true rfl)) dX0_size_4) (fun E q σ H locs hX hR hS hi => ?_) (fun x1 σ H locs hw hR hS => ?_)
  · by_cases cE0 : E = "java/lang/IndexOutOfBoundsException"
    · replace hX := hX.1 cE0
      subst cE0
      refine tw_catch C hnx [] (0, 9, 12, 19) [] rfl (fun z hz => nomatch hz) rfl (by decide) q1394 q687 hi ?_
      exact wk_X0_size_b12 C hr hmn hnx hfr hRl _ σ _ _ _ hX hR hS (tk_sub hl [] rfl)
    replace hX := hX.2 cE0
    exact hX.elim
  refine lv_i2l (v := x1.toInt64) C.hx C.hb dX0_size_7 rfl ?_
  refine tk_sl C hR hS hw dX0_size_8 (fun σ H locs hw hR hS => ?_)
  refine lv_goto (tgt := 15) C.hx C.hb dX0_size_9 (by decide) ?_
  refine lv_iconst (v := 0) C.hx C.hb dX0_size_15 (by decide) ?_
  exact tw_iret C hR hS hr rfl dX0_size_16 hw
-- TreeDiffer.label(II)C
def w_X1_label (l0 : Option Nat) (l1 : Int32) (l2 : Int32) (Q : Int32 → Tst → Prop) (X : String → Nat → Tst → Prop) (σ : Tst) : Prop := w_rc σ l0 cX1 <| w_X1_nodeOf l0 l1 l2 (fun x1 σ => w_gi σ x1 cX3 0 fun x2 => narrow .char (.int x2) = .int x2 ∧ Q x2 σ) X σ
set_option maxHeartbeats 4000000 in
theorem wk_X1_label (l : Launch) (hl0 : l.stackTraces = false) (G : Tgl) (fr : Nat)  (hfr : 9 ≤ fr) (l0 : Option Nat) (l1 : Int32) (l2 : Int32) (Q : Int32 → Tst → Prop) (X : String → Nat → Tst → Prop) (σ : Tst) (hw : w_X1_label l0 l1 l2 Q X σ) : tw_M l yX1_label (ws_ yX1_label cX1_label 3 (some .char)) fr (40 * fr) G σ [.inr l0, .inl l1, .inl l2] (tw_Qi G Q) X := by
  unfold w_X1_label at hw
  refine tw_of (ret := (some .char)) hl0 (by decide) (Nat.le_of_ble_eq_true rfl) (fun p e R s m args below meth c hRf hRl C hr hmn hnx hR hS ls hl => ?_)
  have hfr : 9 ≤ R.frames := by rw [hRf]; exact hfr
  have hRl : R.locals = 40 * R.frames := by rw [hRl, hRf]
  have hl : tw_l ls 3 [(0, .inr l0), (1, .inl l1), (2, .inl l2)] := hl
  refine tk_aload_n C hl 0 dX1_label_0 rfl ?_
  refine tk_iload_n C hl 1 dX1_label_1 rfl ?_
  refine tk_iload_n C hl 2 dX1_label_2 rfl ?_
  obtain ⟨hv, hw⟩ := hw
  refine tw_cbq C hS (tk_runV (As := [.inl l1, .inl l2]) C hR hS (wk_X1_nodeOf l C.hst G (R.frames - 1) (by omega) _ _ _ _ _ σ hw) hv rfl q1696 q1698 qs18 q64 q1699 pd_X1_nodeOf ⟨by omega, by omega⟩ hl.1 rfl (tw_r8 [] (Nat.le_of_ble_eq_true rfl)) dX1_label_3) (fun E q σ H locs hX hR hS hi => tw_out C hR hS (fun x hx => (hnx x hx).elim) hi hX) (fun x1 σ H locs hw hR hS => ?_)
  refine tk_giN C hR hw rfl in_X3 (by decide) q195 (fun _ h => h) dX1_label_6 (fun x2 hw => ?_)
  obtain ⟨hok, hw⟩ := hw
  exact tw_iret C hR hS hr hok dX1_label_9 hw
-- TreeDifferLaw.label(LTreeDiffer;II[J)I
def w_X0_label_b13 (Q : Int32 → Tst → Prop) (X : String → Nat → Tst → Prop) (s0 : Option Nat) (σ : Tst) : Prop := Q 1 σ
def w_X0_label (l0 : Option Nat) (l1 : Int32) (l2 : Int32) (l3 : Option Nat) (Q : Int32 → Tst → Prop) (X : String → Nat → Tst → Prop) (σ : Tst) : Prop := w_rc σ l0 cX1 <| w_X1_label l0 l1 l2 (fun x1 σ => w_sl σ l3 0 (x1.toInt64) fun σ => Q 0 σ) (fun E q σ => w_if (E = "java/lang/IndexOutOfBoundsException") (w_X0_label_b13 Q X (some q) σ) (False)) σ
set_option maxHeartbeats 4000000 in
theorem wk_X0_label_b13  (C : tw_C p l R s m args meth c G cX0_label 5 yX0_label.cls) (hr : meth.sig.returnType = (some .int)) (hmn : meth.name = yX0_label.name) (hnx : (c.exceptionTable.toList = tableOf [(0, 10, 13, 19)])) (hfr : 10 ≤ R.frames) (hRl : R.locals = 40 * R.frames) {Q : Int32 → Tst → Prop} {X : String → Nat → Tst → Prop}  (s0 : Option Nat) (σ : Tst) (H : Heap) (locs : List Loc) (ls : Array Slot) (hw : w_X0_label_b13 Q X s0 σ) (hR : tw_R G σ H) (hS : va_S (tw_A G) s.heap H locs) (hl : tw_l ls 5 []) : tw_W p l e R s m args below meth c σ H locs (tw_E below G (tw_Qi G Q) X args s R) (F0 m 13 ls [va_rf s0]) := by
  unfold w_X0_label_b13 at hw
  refine tk_astore (L' := [(4, .inr s0)]) C hl dX0_label_13 (by decide) rfl (fun ls hl => ?_)
  refine lv_iconst (v := 1) C.hx C.hb dX0_label_15 (by decide) ?_
  exact tw_iret C hR hS hr rfl dX0_label_16 hw
set_option maxHeartbeats 4000000 in
theorem wk_X0_label (l : Launch) (hl0 : l.stackTraces = false) (G : Tgl) (fr : Nat)  (hfr : 10 ≤ fr) (l0 : Option Nat) (l1 : Int32) (l2 : Int32) (l3 : Option Nat) (Q : Int32 → Tst → Prop) (X : String → Nat → Tst → Prop) (σ : Tst) (hw : w_X0_label l0 l1 l2 l3 Q X σ) : tw_M l yX0_label (wsW_ yX0_label cX0_label 5 (some .int) [(0, 10, 13, 19)]) fr (40 * fr) G σ [.inr l0, .inl l1, .inl l2, .inr l3] (tw_Qi G Q) X := by
  unfold w_X0_label at hw
  refine tw_ofW (ret := (some .int)) (hh := [(0, 10, 13, 19)]) hl0 (by decide) (Nat.le_of_ble_eq_true rfl) (fun p e R s m args below meth c hRf hRl C hr hmn hnx hR hS ls hl => ?_)
  have hfr : 10 ≤ R.frames := by rw [hRf]; exact hfr
  have hRl : R.locals = 40 * R.frames := by rw [hRl, hRf]
  have hl : tw_l ls 5 [(0, .inr l0), (1, .inl l1), (2, .inl l2), (3, .inr l3)] := hl
  refine tk_aload_n C hl 3 dX0_label_0 rfl ?_
  refine lv_iconst (v := 0) C.hx C.hb dX0_label_1 (by decide) ?_
  refine tk_aload_n C hl 0 dX0_label_2 rfl ?_
  refine tk_iload_n C hl 1 dX0_label_3 rfl ?_
  refine tk_iload_n C hl 2 dX0_label_4 rfl ?_
  obtain ⟨hv, hw⟩ := hw
  refine tw_cbi C hS (tk_runV (As := [.inl l1, .inl l2]) C hR hS (wk_X1_label l C.hst G (R.frames - 1) (by omega) _ _ _ _ _ σ hw) hv rfl q1726 q1727 q1728 q64 q1729 pd_X1_label ⟨by omega, by omega⟩ hl.1 rfl (tw_r8 [.inl 0, .inr l3] (Nat.le_of_ble_eq_true rfl)) dX0_label_5) (fun E q σ H locs hX hR hS hi => ?_) (fun x1 σ H locs hw hR hS => ?_)
  · by_cases cE0 : E = "java/lang/IndexOutOfBoundsException"
    · replace hX := hX.1 cE0
      subst cE0
      refine tw_catch C hnx [] (0, 10, 13, 19) [] rfl (fun z hz => nomatch hz) rfl (by decide) q1394 q687 hi ?_
      exact wk_X0_label_b13 C hr hmn hnx hfr hRl _ σ _ _ _ hX hR hS (tk_sub hl [] rfl)
    replace hX := hX.2 cE0
    exact hX.elim
  refine lv_i2l (v := x1.toInt64) C.hx C.hb dX0_label_8 rfl ?_
  refine tk_sl C hR hS hw dX0_label_9 (fun σ H locs hw hR hS => ?_)
  refine lv_goto (tgt := 17) C.hx C.hb dX0_label_10 (by decide) ?_
  refine lv_iconst (v := 0) C.hx C.hb dX0_label_17 (by decide) ?_
  exact tw_iret C hR hS hr rfl dX0_label_18 hw
-- TreeDiffer.key(II)I
def w_X1_key (l0 : Option Nat) (l1 : Int32) (l2 : Int32) (Q : Int32 → Tst → Prop) (X : String → Nat → Tst → Prop) (σ : Tst) : Prop := w_rc σ l0 cX1 <| w_X1_nodeOf l0 l1 l2 (fun x1 σ => w_gi σ x1 cX3 1 fun x2 => Q x2 σ) X σ
set_option maxHeartbeats 4000000 in
theorem wk_X1_key (l : Launch) (hl0 : l.stackTraces = false) (G : Tgl) (fr : Nat)  (hfr : 9 ≤ fr) (l0 : Option Nat) (l1 : Int32) (l2 : Int32) (Q : Int32 → Tst → Prop) (X : String → Nat → Tst → Prop) (σ : Tst) (hw : w_X1_key l0 l1 l2 Q X σ) : tw_M l yX1_key (ws_ yX1_key cX1_key 3 (some .int)) fr (40 * fr) G σ [.inr l0, .inl l1, .inl l2] (tw_Qi G Q) X := by
  unfold w_X1_key at hw
  refine tw_of (ret := (some .int)) hl0 (by decide) (Nat.le_of_ble_eq_true rfl) (fun p e R s m args below meth c hRf hRl C hr hmn hnx hR hS ls hl => ?_)
  have hfr : 9 ≤ R.frames := by rw [hRf]; exact hfr
  have hRl : R.locals = 40 * R.frames := by rw [hRl, hRf]
  have hl : tw_l ls 3 [(0, .inr l0), (1, .inl l1), (2, .inl l2)] := hl
  refine tk_aload_n C hl 0 dX1_key_0 rfl ?_
  refine tk_iload_n C hl 1 dX1_key_1 rfl ?_
  refine tk_iload_n C hl 2 dX1_key_2 rfl ?_
  obtain ⟨hv, hw⟩ := hw
  refine tw_cbq C hS (tk_runV (As := [.inl l1, .inl l2]) C hR hS (wk_X1_nodeOf l C.hst G (R.frames - 1) (by omega) _ _ _ _ _ σ hw) hv rfl q1696 q1698 qs18 q64 q1699 pd_X1_nodeOf ⟨by omega, by omega⟩ hl.1 rfl (tw_r8 [] (Nat.le_of_ble_eq_true rfl)) dX1_key_3) (fun E q σ H locs hX hR hS hi => tw_out C hR hS (fun x hx => (hnx x hx).elim) hi hX) (fun x1 σ H locs hw hR hS => ?_)
  refine tk_giN C hR hw rfl in_X3 (by decide) q200 (fun _ h => h) dX1_key_6 (fun x2 hw => ?_)
  exact tw_iret C hR hS hr rfl dX1_key_9 hw
-- TreeDifferLaw.key(LTreeDiffer;II[J)I
def w_X0_key_b13 (Q : Int32 → Tst → Prop) (X : String → Nat → Tst → Prop) (s0 : Option Nat) (σ : Tst) : Prop := Q 1 σ
def w_X0_key (l0 : Option Nat) (l1 : Int32) (l2 : Int32) (l3 : Option Nat) (Q : Int32 → Tst → Prop) (X : String → Nat → Tst → Prop) (σ : Tst) : Prop := w_rc σ l0 cX1 <| w_X1_key l0 l1 l2 (fun x1 σ => w_sl σ l3 0 (x1.toInt64) fun σ => Q 0 σ) (fun E q σ => w_if (E = "java/lang/IndexOutOfBoundsException") (w_X0_key_b13 Q X (some q) σ) (False)) σ
set_option maxHeartbeats 4000000 in
theorem wk_X0_key_b13  (C : tw_C p l R s m args meth c G cX0_key 5 yX0_key.cls) (hr : meth.sig.returnType = (some .int)) (hmn : meth.name = yX0_key.name) (hnx : (c.exceptionTable.toList = tableOf [(0, 10, 13, 19)])) (hfr : 10 ≤ R.frames) (hRl : R.locals = 40 * R.frames) {Q : Int32 → Tst → Prop} {X : String → Nat → Tst → Prop}  (s0 : Option Nat) (σ : Tst) (H : Heap) (locs : List Loc) (ls : Array Slot) (hw : w_X0_key_b13 Q X s0 σ) (hR : tw_R G σ H) (hS : va_S (tw_A G) s.heap H locs) (hl : tw_l ls 5 []) : tw_W p l e R s m args below meth c σ H locs (tw_E below G (tw_Qi G Q) X args s R) (F0 m 13 ls [va_rf s0]) := by
  unfold w_X0_key_b13 at hw
  refine tk_astore (L' := [(4, .inr s0)]) C hl dX0_key_13 (by decide) rfl (fun ls hl => ?_)
  refine lv_iconst (v := 1) C.hx C.hb dX0_key_15 (by decide) ?_
  exact tw_iret C hR hS hr rfl dX0_key_16 hw
set_option maxHeartbeats 4000000 in
theorem wk_X0_key (l : Launch) (hl0 : l.stackTraces = false) (G : Tgl) (fr : Nat)  (hfr : 10 ≤ fr) (l0 : Option Nat) (l1 : Int32) (l2 : Int32) (l3 : Option Nat) (Q : Int32 → Tst → Prop) (X : String → Nat → Tst → Prop) (σ : Tst) (hw : w_X0_key l0 l1 l2 l3 Q X σ) : tw_M l yX0_key (wsW_ yX0_key cX0_key 5 (some .int) [(0, 10, 13, 19)]) fr (40 * fr) G σ [.inr l0, .inl l1, .inl l2, .inr l3] (tw_Qi G Q) X := by
  unfold w_X0_key at hw
  refine tw_ofW (ret := (some .int)) (hh := [(0, 10, 13, 19)]) hl0 (by decide) (Nat.le_of_ble_eq_true rfl) (fun p e R s m args below meth c hRf hRl C hr hmn hnx hR hS ls hl => ?_)
  have hfr : 10 ≤ R.frames := by rw [hRf]; exact hfr
  have hRl : R.locals = 40 * R.frames := by rw [hRl, hRf]
  have hl : tw_l ls 5 [(0, .inr l0), (1, .inl l1), (2, .inl l2), (3, .inr l3)] := hl
  refine tk_aload_n C hl 3 dX0_key_0 rfl ?_
  refine lv_iconst (v := 0) C.hx C.hb dX0_key_1 (by decide) ?_
  refine tk_aload_n C hl 0 dX0_key_2 rfl ?_
  refine tk_iload_n C hl 1 dX0_key_3 rfl ?_
  refine tk_iload_n C hl 2 dX0_key_4 rfl ?_
  obtain ⟨hv, hw⟩ := hw
  refine tw_cbi C hS (tk_runV (As := [.inl l1, .inl l2]) C hR hS (wk_X1_key l C.hst G (R.frames - 1) (by omega) _ _ _ _ _ σ hw) hv rfl q1733 q1734 q1735 q64 q1736 pd_X1_key ⟨by omega, by omega⟩ hl.1 rfl (tw_r8 [.inl 0, .inr l3] (Nat.le_of_ble_eq_true rfl)) dX0_key_5) (fun E q σ H locs hX hR hS hi => ?_) (fun x1 σ H locs hw hR hS => ?_)
  · by_cases cE0 : E = "java/lang/IndexOutOfBoundsException"
    · replace hX := hX.1 cE0
      subst cE0
      refine tw_catch C hnx [] (0, 10, 13, 19) [] rfl (fun z hz => nomatch hz) rfl (by decide) q1394 q687 hi ?_
      exact wk_X0_key_b13 C hr hmn hnx hfr hRl _ σ _ _ _ hX hR hS (tk_sub hl [] rfl)
    replace hX := hX.2 cE0
    exact hX.elim
  refine lv_i2l (v := x1.toInt64) C.hx C.hb dX0_key_8 rfl ?_
  refine tk_sl C hR hS hw dX0_key_9 (fun σ H locs hw hR hS => ?_)
  refine lv_goto (tgt := 17) C.hx C.hb dX0_key_10 (by decide) ?_
  refine lv_iconst (v := 0) C.hx C.hb dX0_key_17 (by decide) ?_
  exact tw_iret C hR hS hr rfl dX0_key_18 hw
-- TreeDiffer.value(II)I
def w_X1_value (l0 : Option Nat) (l1 : Int32) (l2 : Int32) (Q : Int32 → Tst → Prop) (X : String → Nat → Tst → Prop) (σ : Tst) : Prop := w_rc σ l0 cX1 <| w_X1_nodeOf l0 l1 l2 (fun x1 σ => w_gi σ x1 cX3 2 fun x2 => Q x2 σ) X σ
set_option maxHeartbeats 4000000 in
theorem wk_X1_value (l : Launch) (hl0 : l.stackTraces = false) (G : Tgl) (fr : Nat)  (hfr : 9 ≤ fr) (l0 : Option Nat) (l1 : Int32) (l2 : Int32) (Q : Int32 → Tst → Prop) (X : String → Nat → Tst → Prop) (σ : Tst) (hw : w_X1_value l0 l1 l2 Q X σ) : tw_M l yX1_value (ws_ yX1_value cX1_value 3 (some .int)) fr (40 * fr) G σ [.inr l0, .inl l1, .inl l2] (tw_Qi G Q) X := by
  unfold w_X1_value at hw
  refine tw_of (ret := (some .int)) hl0 (by decide) (Nat.le_of_ble_eq_true rfl) (fun p e R s m args below meth c hRf hRl C hr hmn hnx hR hS ls hl => ?_)
  have hfr : 9 ≤ R.frames := by rw [hRf]; exact hfr
  have hRl : R.locals = 40 * R.frames := by rw [hRl, hRf]
  have hl : tw_l ls 3 [(0, .inr l0), (1, .inl l1), (2, .inl l2)] := hl
  refine tk_aload_n C hl 0 dX1_value_0 rfl ?_
  refine tk_iload_n C hl 1 dX1_value_1 rfl ?_
  refine tk_iload_n C hl 2 dX1_value_2 rfl ?_
  obtain ⟨hv, hw⟩ := hw
  refine tw_cbq C hS (tk_runV (As := [.inl l1, .inl l2]) C hR hS (wk_X1_nodeOf l C.hst G (R.frames - 1) (by omega) _ _ _ _ _ σ hw) hv rfl q1696 q1698 qs18 q64 q1699 pd_X1_nodeOf ⟨by omega, by omega⟩ hl.1 rfl (tw_r8 [] (Nat.le_of_ble_eq_true rfl)) dX1_value_3) (fun E q σ H locs hX hR hS hi => tw_out C hR hS (fun x hx => (hnx x hx).elim) hi hX) (fun x1 σ H locs hw hR hS => ?_)
  refine tk_giN C hR hw rfl in_X3 (by decide) q205 (fun _ h => h) dX1_value_6 (fun x2 hw => ?_)
  exact tw_iret C hR hS hr rfl dX1_value_9 hw
-- TreeDifferLaw.value(LTreeDiffer;II[J)I
def w_X0_value_b13 (Q : Int32 → Tst → Prop) (X : String → Nat → Tst → Prop) (s0 : Option Nat) (σ : Tst) : Prop := Q 1 σ
def w_X0_value (l0 : Option Nat) (l1 : Int32) (l2 : Int32) (l3 : Option Nat) (Q : Int32 → Tst → Prop) (X : String → Nat → Tst → Prop) (σ : Tst) : Prop := w_rc σ l0 cX1 <| w_X1_value l0 l1 l2 (fun x1 σ => w_sl σ l3 0 (x1.toInt64) fun σ => Q 0 σ) (fun E q σ => w_if (E = "java/lang/IndexOutOfBoundsException") (w_X0_value_b13 Q X (some q) σ) (False)) σ
set_option maxHeartbeats 4000000 in
theorem wk_X0_value_b13  (C : tw_C p l R s m args meth c G cX0_value 5 yX0_value.cls) (hr : meth.sig.returnType = (some .int)) (hmn : meth.name = yX0_value.name) (hnx : (c.exceptionTable.toList = tableOf [(0, 10, 13, 19)])) (hfr : 10 ≤ R.frames) (hRl : R.locals = 40 * R.frames) {Q : Int32 → Tst → Prop} {X : String → Nat → Tst → Prop}  (s0 : Option Nat) (σ : Tst) (H : Heap) (locs : List Loc) (ls : Array Slot) (hw : w_X0_value_b13 Q X s0 σ) (hR : tw_R G σ H) (hS : va_S (tw_A G) s.heap H locs) (hl : tw_l ls 5 []) : tw_W p l e R s m args below meth c σ H locs (tw_E below G (tw_Qi G Q) X args s R) (F0 m 13 ls [va_rf s0]) := by
  unfold w_X0_value_b13 at hw
  refine tk_astore (L' := [(4, .inr s0)]) C hl dX0_value_13 (by decide) rfl (fun ls hl => ?_)
  refine lv_iconst (v := 1) C.hx C.hb dX0_value_15 (by decide) ?_
  exact tw_iret C hR hS hr rfl dX0_value_16 hw
set_option maxHeartbeats 4000000 in
theorem wk_X0_value (l : Launch) (hl0 : l.stackTraces = false) (G : Tgl) (fr : Nat)  (hfr : 10 ≤ fr) (l0 : Option Nat) (l1 : Int32) (l2 : Int32) (l3 : Option Nat) (Q : Int32 → Tst → Prop) (X : String → Nat → Tst → Prop) (σ : Tst) (hw : w_X0_value l0 l1 l2 l3 Q X σ) : tw_M l yX0_value (wsW_ yX0_value cX0_value 5 (some .int) [(0, 10, 13, 19)]) fr (40 * fr) G σ [.inr l0, .inl l1, .inl l2, .inr l3] (tw_Qi G Q) X := by
  unfold w_X0_value at hw
  refine tw_ofW (ret := (some .int)) (hh := [(0, 10, 13, 19)]) hl0 (by decide) (Nat.le_of_ble_eq_true rfl) (fun p e R s m args below meth c hRf hRl C hr hmn hnx hR hS ls hl => ?_)
  have hfr : 10 ≤ R.frames := by rw [hRf]; exact hfr
  have hRl : R.locals = 40 * R.frames := by rw [hRl, hRf]
  have hl : tw_l ls 5 [(0, .inr l0), (1, .inl l1), (2, .inl l2), (3, .inr l3)] := hl
  refine tk_aload_n C hl 3 dX0_value_0 rfl ?_
  refine lv_iconst (v := 0) C.hx C.hb dX0_value_1 (by decide) ?_
  refine tk_aload_n C hl 0 dX0_value_2 rfl ?_
  refine tk_iload_n C hl 1 dX0_value_3 rfl ?_
  refine tk_iload_n C hl 2 dX0_value_4 rfl ?_
  obtain ⟨hv, hw⟩ := hw
  refine tw_cbi C hS (tk_runV (As := [.inl l1, .inl l2]) C hR hS (wk_X1_value l C.hst G (R.frames - 1) (by omega) _ _ _ _ _ σ hw) hv rfl q1740 q1741 q1742 q64 q1743 pd_X1_value ⟨by omega, by omega⟩ hl.1 rfl (tw_r8 [.inl 0, .inr l3] (Nat.le_of_ble_eq_true rfl)) dX0_value_5) (fun E q σ H locs hX hR hS hi => ?_) (fun x1 σ H locs hw hR hS => ?_)
  · by_cases cE0 : E = "java/lang/IndexOutOfBoundsException"
    · replace hX := hX.1 cE0
      subst cE0
      refine tw_catch C hnx [] (0, 10, 13, 19) [] rfl (fun z hz => nomatch hz) rfl (by decide) q1394 q687 hi ?_
      exact wk_X0_value_b13 C hr hmn hnx hfr hRl _ σ _ _ _ hX hR hS (tk_sub hl [] rfl)
    replace hX := hX.2 cE0
    exact hX.elim
  refine lv_i2l (v := x1.toInt64) C.hx C.hb dX0_value_8 rfl ?_
  refine tk_sl C hR hS hw dX0_value_9 (fun σ H locs hw hR hS => ?_)
  refine lv_goto (tgt := 17) C.hx C.hb dX0_value_10 (by decide) ?_
  refine lv_iconst (v := 0) C.hx C.hb dX0_value_17 (by decide) ?_
  exact tw_iret C hR hS hr rfl dX0_value_18 hw
-- TreeDiffer.children(II)I
def w_X1_children (l0 : Option Nat) (l1 : Int32) (l2 : Int32) (Q : Int32 → Tst → Prop) (X : String → Nat → Tst → Prop) (σ : Tst) : Prop := w_rc σ l0 cX1 <| w_X1_nodeOf l0 l1 l2 (fun x1 σ => w_gr σ x1 cX3 4 fun x2 => w_rc σ x2 cJ6 <| w_J6_size x2 (fun x3 σ => Q x3 σ) X σ) X σ
set_option maxHeartbeats 4000000 in
theorem wk_X1_children (l : Launch) (hl0 : l.stackTraces = false) (G : Tgl) (fr : Nat)  (hfr : 9 ≤ fr) (l0 : Option Nat) (l1 : Int32) (l2 : Int32) (Q : Int32 → Tst → Prop) (X : String → Nat → Tst → Prop) (σ : Tst) (hw : w_X1_children l0 l1 l2 Q X σ) : tw_M l yX1_children (ws_ yX1_children cX1_children 3 (some .int)) fr (40 * fr) G σ [.inr l0, .inl l1, .inl l2] (tw_Qi G Q) X := by
  unfold w_X1_children at hw
  refine tw_of (ret := (some .int)) hl0 (by decide) (Nat.le_of_ble_eq_true rfl) (fun p e R s m args below meth c hRf hRl C hr hmn hnx hR hS ls hl => ?_)
  have hfr : 9 ≤ R.frames := by rw [hRf]; exact hfr
  have hRl : R.locals = 40 * R.frames := by rw [hRl, hRf]
  have hl : tw_l ls 3 [(0, .inr l0), (1, .inl l1), (2, .inl l2)] := hl
  refine tk_aload_n C hl 0 dX1_children_0 rfl ?_
  refine tk_iload_n C hl 1 dX1_children_1 rfl ?_
  refine tk_iload_n C hl 2 dX1_children_2 rfl ?_
  obtain ⟨hv, hw⟩ := hw
  refine tw_cbq C hS (tk_runV (As := [.inl l1, .inl l2]) C hR hS (wk_X1_nodeOf l C.hst G (R.frames - 1) (by omega) _ _ _ _ _ σ hw) hv rfl q1696 q1698 qs18 q64 q1699 pd_X1_nodeOf ⟨by omega, by omega⟩ hl.1 rfl (tw_r8 [] (Nat.le_of_ble_eq_true rfl)) dX1_children_3) (fun E q σ H locs hX hR hS hi => tw_out C hR hS (fun x hx => (hnx x hx).elim) hi hX) (fun x1 σ H locs hw hR hS => ?_)
  refine tk_grN C hR hw rfl in_X3 (by decide) q214 (fun _ h => h) dX1_children_6 (fun x2 hw => ?_)
  obtain ⟨hv, hw⟩ := hw
  refine tw_cbi5 C hS (tk_runF (As := []) (x := ⟨"java/util/List", "size", "()I"⟩) C hR hS (wk_J6_size l C.hst G (R.frames - 1) (by omega) _ _ _ σ hw) hv rfl q648 q447 q449 q73 q451 (by decide +kernel) (show tw_pd ⟨"java/util/List", "size", "()I"⟩ 0 by decide +kernel) ⟨by omega, by omega⟩ hl.1 rfl (tw_r8 [] (Nat.le_of_ble_eq_true rfl)) dX1_children_9) (fun E q σ H locs hX hR hS hi => tw_out C hR hS (fun x hx => (hnx x hx).elim) hi hX) (fun x3 σ H locs hw hR hS => ?_)
  exact tw_iret C hR hS hr rfl dX1_children_14 hw
-- TreeDifferLaw.children(LTreeDiffer;II[J)I
def w_X0_children_b13 (Q : Int32 → Tst → Prop) (X : String → Nat → Tst → Prop) (s0 : Option Nat) (σ : Tst) : Prop := Q 1 σ
def w_X0_children (l0 : Option Nat) (l1 : Int32) (l2 : Int32) (l3 : Option Nat) (Q : Int32 → Tst → Prop) (X : String → Nat → Tst → Prop) (σ : Tst) : Prop := w_rc σ l0 cX1 <| w_X1_children l0 l1 l2 (fun x1 σ => w_sl σ l3 0 (x1.toInt64) fun σ => Q 0 σ) (fun E q σ => w_if (E = "java/lang/IndexOutOfBoundsException") (w_X0_children_b13 Q X (some q) σ) (False)) σ
set_option maxHeartbeats 4000000 in
theorem wk_X0_children_b13  (C : tw_C p l R s m args meth c G cX0_children 5 yX0_children.cls) (hr : meth.sig.returnType = (some .int)) (hmn : meth.name = yX0_children.name) (hnx : (c.exceptionTable.toList = tableOf [(0, 10, 13, 19)])) (hfr : 10 ≤ R.frames) (hRl : R.locals = 40 * R.frames) {Q : Int32 → Tst → Prop} {X : String → Nat → Tst → Prop}  (s0 : Option Nat) (σ : Tst) (H : Heap) (locs : List Loc) (ls : Array Slot) (hw : w_X0_children_b13 Q X s0 σ) (hR : tw_R G σ H) (hS : va_S (tw_A G) s.heap H locs) (hl : tw_l ls 5 []) : tw_W p l e R s m args below meth c σ H locs (tw_E below G (tw_Qi G Q) X args s R) (F0 m 13 ls [va_rf s0]) := by
  unfold w_X0_children_b13 at hw
  refine tk_astore (L' := [(4, .inr s0)]) C hl dX0_children_13 (by decide) rfl (fun ls hl => ?_)
  refine lv_iconst (v := 1) C.hx C.hb dX0_children_15 (by decide) ?_
  exact tw_iret C hR hS hr rfl dX0_children_16 hw
set_option maxHeartbeats 4000000 in
theorem wk_X0_children (l : Launch) (hl0 : l.stackTraces = false) (G : Tgl) (fr : Nat)  (hfr : 10 ≤ fr) (l0 : Option Nat) (l1 : Int32) (l2 : Int32) (l3 : Option Nat) (Q : Int32 → Tst → Prop) (X : String → Nat → Tst → Prop) (σ : Tst) (hw : w_X0_children l0 l1 l2 l3 Q X σ) : tw_M l yX0_children (wsW_ yX0_children cX0_children 5 (some .int) [(0, 10, 13, 19)]) fr (40 * fr) G σ [.inr l0, .inl l1, .inl l2, .inr l3] (tw_Qi G Q) X := by
  unfold w_X0_children at hw
  refine tw_ofW (ret := (some .int)) (hh := [(0, 10, 13, 19)]) hl0 (by decide) (Nat.le_of_ble_eq_true rfl) (fun p e R s m args below meth c hRf hRl C hr hmn hnx hR hS ls hl => ?_)
  have hfr : 10 ≤ R.frames := by rw [hRf]; exact hfr
  have hRl : R.locals = 40 * R.frames := by rw [hRl, hRf]
  have hl : tw_l ls 5 [(0, .inr l0), (1, .inl l1), (2, .inl l2), (3, .inr l3)] := hl
  refine tk_aload_n C hl 3 dX0_children_0 rfl ?_
  refine lv_iconst (v := 0) C.hx C.hb dX0_children_1 (by decide) ?_
  refine tk_aload_n C hl 0 dX0_children_2 rfl ?_
  refine tk_iload_n C hl 1 dX0_children_3 rfl ?_
  refine tk_iload_n C hl 2 dX0_children_4 rfl ?_
  obtain ⟨hv, hw⟩ := hw
  refine tw_cbi C hS (tk_runV (As := [.inl l1, .inl l2]) C hR hS (wk_X1_children l C.hst G (R.frames - 1) (by omega) _ _ _ _ _ σ hw) hv rfl q1747 q1748 q1749 q64 q1750 pd_X1_children ⟨by omega, by omega⟩ hl.1 rfl (tw_r8 [.inl 0, .inr l3] (Nat.le_of_ble_eq_true rfl)) dX0_children_5) (fun E q σ H locs hX hR hS hi => ?_) (fun x1 σ H locs hw hR hS => ?_)
  · by_cases cE0 : E = "java/lang/IndexOutOfBoundsException"
    · replace hX := hX.1 cE0
      subst cE0
      refine tw_catch C hnx [] (0, 10, 13, 19) [] rfl (fun z hz => nomatch hz) rfl (by decide) q1394 q687 hi ?_
      exact wk_X0_children_b13 C hr hmn hnx hfr hRl _ σ _ _ _ hX hR hS (tk_sub hl [] rfl)
    replace hX := hX.2 cE0
    exact hX.elim
  refine lv_i2l (v := x1.toInt64) C.hx C.hb dX0_children_8 rfl ?_
  refine tk_sl C hR hS hw dX0_children_9 (fun σ H locs hw hR hS => ?_)
  refine lv_goto (tgt := 17) C.hx C.hb dX0_children_10 (by decide) ?_
  refine lv_iconst (v := 0) C.hx C.hb dX0_children_17 (by decide) ?_
  exact tw_iret C hR hS hr rfl dX0_children_18 hw
-- TreeDiffer.parent(II)I
def w_X1_parent_b26 (Q : Int32 → Tst → Prop) (X : String → Nat → Tst → Prop) (l3 : Option Nat) (l4 : Option Nat) (s0 : Int32) (σ : Tst) : Prop := w_X1_requireElement s0 (fun σ => w_gr σ l4 cX3 3 fun x2 => w_rc σ l3 cX2 <| w_X2_number l3 x2 (fun x3 σ => Q x3 σ) X σ) X σ
def w_X1_parent (l0 : Option Nat) (l1 : Int32) (l2 : Int32) (Q : Int32 → Tst → Prop) (X : String → Nat → Tst → Prop) (σ : Tst) : Prop := w_rc σ l0 cX1 <| w_X1_treeOf l0 l1 (fun x1 σ => w_rc σ x1 cX2 <| w_X2_node x1 l2 (fun x2 σ => w_gr σ x2 cX3 3 fun x3 => w_if (x3 = none) (w_X1_parent_b26 Q X x1 x2 0 σ) (w_X1_parent_b26 Q X x1 x2 1 σ)) X σ) X σ
set_option maxHeartbeats 4000000 in
theorem wk_X1_parent_b26  (C : tw_C p l R s m args meth c G cX1_parent 5 yX1_parent.cls) (hr : meth.sig.returnType = (some .int)) (hmn : meth.name = yX1_parent.name) (hnx : (∀ x ∈ c.exceptionTable.toList, False)) (hfr : 8 ≤ R.frames) (hRl : R.locals = 40 * R.frames) {Q : Int32 → Tst → Prop} {X : String → Nat → Tst → Prop}  (l3 : Option Nat) (l4 : Option Nat) (s0 : Int32) (σ : Tst) (H : Heap) (locs : List Loc) (ls : Array Slot) (hw : w_X1_parent_b26 Q X l3 l4 s0 σ) (hR : tw_R G σ H) (hS : va_S (tw_A G) s.heap H locs) (hl : tw_l ls 5 [(3, .inr l3), (4, .inr l4)]) : tw_W p l e R s m args below meth c σ H locs (tw_E below G (tw_Qi G Q) X args s R) (F0 m 26 ls [.int s0]) := by
  unfold w_X1_parent_b26 at hw
  refine tw_cbv C hS (tw_runS (As := [.inl s0]) C hR hS (wk_X1_requireElement l C.hst G (R.frames - 1) (by omega) _ _ _ σ hw) q1569 q1570 q64 q1571 pd_X1_requireElement ⟨by omega, by omega⟩ hl.1 rfl (tw_r8 [] (Nat.le_of_ble_eq_true rfl)) dX1_parent_26) (fun E q σ H locs hX hR hS hi => tw_out C hR hS (fun x hx => (hnx x hx).elim) hi hX) (fun σ H locs hw hR hS => ?_)
  refine tk_aload_n C hl 0 dX1_parent_29 rfl ?_
  refine tk_aload C hl 1 dX1_parent_30 rfl ?_
  refine tk_grN C hR hw rfl in_X3 (by decide) q208 (fun _ h => h) dX1_parent_32 (fun x2 hw => ?_)
  obtain ⟨hv, hw⟩ := hw
  refine tw_cbi C hS (tk_runV (As := [.inr x2]) C hR hS (wk_X2_number l C.hst G (R.frames - 1) (by omega) _ _ _ _ σ hw) hv rfl q1653 q1617 q1618 q69 q1619 pd_X2_number ⟨by omega, by omega⟩ hl.1 rfl (tw_r8 [] (Nat.le_of_ble_eq_true rfl)) dX1_parent_35) (fun E q σ H locs hX hR hS hi => tw_out C hR hS (fun x hx => (hnx x hx).elim) hi hX) (fun x3 σ H locs hw hR hS => ?_)
  exact tw_iret C hR hS hr rfl dX1_parent_38 hw
set_option maxHeartbeats 4000000 in
theorem wk_X1_parent (l : Launch) (hl0 : l.stackTraces = false) (G : Tgl) (fr : Nat)  (hfr : 8 ≤ fr) (l0 : Option Nat) (l1 : Int32) (l2 : Int32) (Q : Int32 → Tst → Prop) (X : String → Nat → Tst → Prop) (σ : Tst) (hw : w_X1_parent l0 l1 l2 Q X σ) : tw_M l yX1_parent (ws_ yX1_parent cX1_parent 5 (some .int)) fr (40 * fr) G σ [.inr l0, .inl l1, .inl l2] (tw_Qi G Q) X := by
  unfold w_X1_parent at hw
  refine tw_of (ret := (some .int)) hl0 (by decide) (Nat.le_of_ble_eq_true rfl) (fun p e R s m args below meth c hRf hRl C hr hmn hnx hR hS ls hl => ?_)
  have hfr : 8 ≤ R.frames := by rw [hRf]; exact hfr
  have hRl : R.locals = 40 * R.frames := by rw [hRl, hRf]
  have hl : tw_l ls 5 [(0, .inr l0), (1, .inl l1), (2, .inl l2)] := hl
  refine tk_aload_n C hl 0 dX1_parent_0 rfl ?_
  refine tk_iload_n C hl 1 dX1_parent_1 rfl ?_
  obtain ⟨hv, hw⟩ := hw
  refine tw_cbq C hS (tk_runV (As := [.inl l1]) C hR hS (wk_X1_treeOf l C.hst G (R.frames - 1) (by omega) _ _ _ _ σ hw) hv rfl q1581 q1583 qs16 q64 q1584 pd_X1_treeOf ⟨by omega, by omega⟩ hl.1 rfl (tw_r8 [] (Nat.le_of_ble_eq_true rfl)) dX1_parent_2) (fun E q σ H locs hX hR hS hi => tw_out C hR hS (fun x hx => (hnx x hx).elim) hi hX) (fun x1 σ H locs hw hR hS => ?_)
  refine tk_astore_n (L' := [(3, .inr x1), (0, .inr l0), (1, .inl l1), (2, .inl l2)]) C hl dX1_parent_5 (by decide) rfl (fun ls hl => ?_)
  refine tk_aload_n C hl 0 dX1_parent_6 rfl ?_
  refine tk_iload_n C hl 3 dX1_parent_7 rfl ?_
  obtain ⟨hv, hw⟩ := hw
  refine tw_cbq C hS (tk_runV (As := [.inl l2]) C hR hS (wk_X2_node l C.hst G (R.frames - 1) (by omega) _ _ _ _ σ hw) hv rfl q1642 q1643 q1644 q69 q1645 pd_X2_node ⟨by omega, by omega⟩ hl.1 rfl (tw_r8 [] (Nat.le_of_ble_eq_true rfl)) dX1_parent_8) (fun E q σ H locs hX hR hS hi => tw_out C hR hS (fun x hx => (hnx x hx).elim) hi hX) (fun x2 σ H locs hw hR hS => ?_)
  refine tk_astore (L' := [(4, .inr x2), (3, .inr x1), (0, .inr l0), (1, .inl l1), (2, .inl l2)]) C hl dX1_parent_11 (by decide) rfl (fun ls hl => ?_)
  refine tk_aload C hl 0 dX1_parent_13 rfl ?_
  refine tk_grN C hR hw rfl in_X3 (by decide) q208 (fun _ h => h) dX1_parent_15 (fun x3 hw => ?_)
  refine tw_ifnull (tgt := 25) C.hx C.hb dX1_parent_18 (by decide) (fun c18 => ?_) (fun c18 => ?_)
  · replace hw := hw.1 c18
    refine lv_iconst (v := 0) C.hx C.hb dX1_parent_25 (by decide) ?_
    exact wk_X1_parent_b26 C hr hmn hnx hfr hRl _ _ _ σ _ _ _ hw hR hS (tk_sub hl [1, 0] rfl)
  · replace hw := hw.2 c18
    refine lv_iconst (v := 1) C.hx C.hb dX1_parent_21 (by decide) ?_
    refine lv_goto (tgt := 26) C.hx C.hb dX1_parent_22 (by decide) ?_
    exact wk_X1_parent_b26 C hr hmn hnx hfr hRl _ _ _ σ _ _ _ hw hR hS (tk_sub hl [1, 0] rfl)
-- TreeDifferLaw.parent(LTreeDiffer;II[J)I
def w_X0_parent_b13 (Q : Int32 → Tst → Prop) (X : String → Nat → Tst → Prop) (s0 : Option Nat) (σ : Tst) : Prop := Q 1 σ
def w_X0_parent_b17 (Q : Int32 → Tst → Prop) (X : String → Nat → Tst → Prop) (s0 : Option Nat) (σ : Tst) : Prop := Q 2 σ
def w_X0_parent (l0 : Option Nat) (l1 : Int32) (l2 : Int32) (l3 : Option Nat) (Q : Int32 → Tst → Prop) (X : String → Nat → Tst → Prop) (σ : Tst) : Prop := w_rc σ l0 cX1 <| w_X1_parent l0 l1 l2 (fun x1 σ => w_sl σ l3 0 (x1.toInt64) fun σ => Q 0 σ) (fun E q σ => w_if (E = "java/lang/IndexOutOfBoundsException") (w_X0_parent_b13 Q X (some q) σ) (w_if (E = "java/util/NoSuchElementException") (w_X0_parent_b17 Q X (some q) σ) (False))) σ
set_option maxHeartbeats 4000000 in
theorem wk_X0_parent_b13  (C : tw_C p l R s m args meth c G cX0_parent 5 yX0_parent.cls) (hr : meth.sig.returnType = (some .int)) (hmn : meth.name = yX0_parent.name) (hnx : (c.exceptionTable.toList = tableOf [(0, 10, 13, 19), (0, 10, 17, 27)])) (hfr : 9 ≤ R.frames) (hRl : R.locals = 40 * R.frames) {Q : Int32 → Tst → Prop} {X : String → Nat → Tst → Prop}  (s0 : Option Nat) (σ : Tst) (H : Heap) (locs : List Loc) (ls : Array Slot) (hw : w_X0_parent_b13 Q X s0 σ) (hR : tw_R G σ H) (hS : va_S (tw_A G) s.heap H locs) (hl : tw_l ls 5 []) : tw_W p l e R s m args below meth c σ H locs (tw_E below G (tw_Qi G Q) X args s R) (F0 m 13 ls [va_rf s0]) := by
  unfold w_X0_parent_b13 at hw
  refine tk_astore (L' := [(4, .inr s0)]) C hl dX0_parent_13 (by decide) rfl (fun ls hl => ?_)
  refine lv_iconst (v := 1) C.hx C.hb dX0_parent_15 (by decide) ?_
  exact tw_iret C hR hS hr rfl dX0_parent_16 hw
set_option maxHeartbeats 4000000 in
theorem wk_X0_parent_b17  (C : tw_C p l R s m args meth c G cX0_parent 5 yX0_parent.cls) (hr : meth.sig.returnType = (some .int)) (hmn : meth.name = yX0_parent.name) (hnx : (c.exceptionTable.toList = tableOf [(0, 10, 13, 19), (0, 10, 17, 27)])) (hfr : 9 ≤ R.frames) (hRl : R.locals = 40 * R.frames) {Q : Int32 → Tst → Prop} {X : String → Nat → Tst → Prop}  (s0 : Option Nat) (σ : Tst) (H : Heap) (locs : List Loc) (ls : Array Slot) (hw : w_X0_parent_b17 Q X s0 σ) (hR : tw_R G σ H) (hS : va_S (tw_A G) s.heap H locs) (hl : tw_l ls 5 []) : tw_W p l e R s m args below meth c σ H locs (tw_E below G (tw_Qi G Q) X args s R) (F0 m 17 ls [va_rf s0]) := by
  unfold w_X0_parent_b17 at hw
  refine tk_astore (L' := [(4, .inr s0)]) C hl dX0_parent_17 (by decide) rfl (fun ls hl => ?_)
  refine lv_iconst (v := 2) C.hx C.hb dX0_parent_19 (by decide) ?_
  exact tw_iret C hR hS hr rfl dX0_parent_20 hw
set_option maxHeartbeats 4000000 in
theorem wk_X0_parent (l : Launch) (hl0 : l.stackTraces = false) (G : Tgl) (fr : Nat)  (hfr : 9 ≤ fr) (l0 : Option Nat) (l1 : Int32) (l2 : Int32) (l3 : Option Nat) (Q : Int32 → Tst → Prop) (X : String → Nat → Tst → Prop) (σ : Tst) (hw : w_X0_parent l0 l1 l2 l3 Q X σ) : tw_M l yX0_parent (wsW_ yX0_parent cX0_parent 5 (some .int) [(0, 10, 13, 19), (0, 10, 17, 27)]) fr (40 * fr) G σ [.inr l0, .inl l1, .inl l2, .inr l3] (tw_Qi G Q) X := by
  unfold w_X0_parent at hw
  refine tw_ofW (ret := (some .int)) (hh := [(0, 10, 13, 19), (0, 10, 17, 27)]) hl0 (by decide) (Nat.le_of_ble_eq_true rfl) (fun p e R s m args below meth c hRf hRl C hr hmn hnx hR hS ls hl => ?_)
  have hfr : 9 ≤ R.frames := by rw [hRf]; exact hfr
  have hRl : R.locals = 40 * R.frames := by rw [hRl, hRf]
  have hl : tw_l ls 5 [(0, .inr l0), (1, .inl l1), (2, .inl l2), (3, .inr l3)] := hl
  refine tk_aload_n C hl 3 dX0_parent_0 rfl ?_
  refine lv_iconst (v := 0) C.hx C.hb dX0_parent_1 (by decide) ?_
  refine tk_aload_n C hl 0 dX0_parent_2 rfl ?_
  refine tk_iload_n C hl 1 dX0_parent_3 rfl ?_
  refine tk_iload_n C hl 2 dX0_parent_4 rfl ?_
  obtain ⟨hv, hw⟩ := hw
  refine tw_cbi C hS (tk_runV (As := [.inl l1, .inl l2]) C hR hS (wk_X1_parent l C.hst G (R.frames - 1) (by omega) _ _ _ _ _ σ hw) hv rfl q1754 q1755 q1756 q64 q1757 pd_X1_parent ⟨by omega, by omega⟩ hl.1 rfl (tw_r8 [.inl 0, .inr l3] (Nat.le_of_ble_eq_true rfl)) dX0_parent_5) (fun E q σ H locs hX hR hS hi => ?_) (fun x1 σ H locs hw hR hS => ?_)
  · by_cases cE0 : E = "java/lang/IndexOutOfBoundsException"
    · replace hX := hX.1 cE0
      subst cE0
      refine tw_catch C hnx [] (0, 10, 13, 19) [(0, 10, 17, 27)] rfl (fun z hz => nomatch hz) rfl (by decide) q1394 q687 hi ?_
      exact wk_X0_parent_b13 C hr hmn hnx hfr hRl _ σ _ _ _ hX hR hS (tk_sub hl [] rfl)
    replace hX := hX.2 cE0
    by_cases cE1 : E = "java/util/NoSuchElementException"
    · replace hX := hX.1 cE1
      subst cE1
      refine tw_catch C hnx [(0, 10, 13, 19)] (0, 10, 17, 27) [] rfl (fun z hz => by simp only [List.mem_cons, List.not_mem_nil, or_false] at hz; rcases hz with rfl; exact Or.inr ⟨by decide, _, q1394, by decide +kernel⟩) rfl (by decide) q1564 q353 hi ?_
      exact wk_X0_parent_b17 C hr hmn hnx hfr hRl _ σ _ _ _ hX hR hS (tk_sub hl [] rfl)
    replace hX := hX.2 cE1
    exact hX.elim
  refine lv_i2l (v := x1.toInt64) C.hx C.hb dX0_parent_8 rfl ?_
  refine tk_sl C hR hS hw dX0_parent_9 (fun σ H locs hw hR hS => ?_)
  refine lv_goto (tgt := 21) C.hx C.hb dX0_parent_10 (by decide) ?_
  refine lv_iconst (v := 0) C.hx C.hb dX0_parent_21 (by decide) ?_
  exact tw_iret C hR hS hr rfl dX0_parent_22 hw
-- TreeDiffer.subtreeSize(II)I
def w_X1_subtreeSize (l0 : Option Nat) (l1 : Int32) (l2 : Int32) (Q : Int32 → Tst → Prop) (X : String → Nat → Tst → Prop) (σ : Tst) : Prop := w_rc σ l0 cX1 <| w_X1_nodeOf l0 l1 l2 (fun x1 σ => w_rc σ x1 cX3 <| w_X3_size 64 x1 (fun x2 σ => Q x2 σ) X σ) X σ
set_option maxHeartbeats 4000000 in
theorem wk_X1_subtreeSize (l : Launch) (hl0 : l.stackTraces = false) (G : Tgl) (fr : Nat)  (hfr : 68 ≤ fr) (l0 : Option Nat) (l1 : Int32) (l2 : Int32) (Q : Int32 → Tst → Prop) (X : String → Nat → Tst → Prop) (σ : Tst) (hw : w_X1_subtreeSize l0 l1 l2 Q X σ) : tw_M l yX1_subtreeSize (ws_ yX1_subtreeSize cX1_subtreeSize 3 (some .int)) fr (40 * fr) G σ [.inr l0, .inl l1, .inl l2] (tw_Qi G Q) X := by
  unfold w_X1_subtreeSize at hw
  refine tw_of (ret := (some .int)) hl0 (by decide) (Nat.le_of_ble_eq_true rfl) (fun p e R s m args below meth c hRf hRl C hr hmn hnx hR hS ls hl => ?_)
  have hfr : 68 ≤ R.frames := by rw [hRf]; exact hfr
  have hRl : R.locals = 40 * R.frames := by rw [hRl, hRf]
  have hl : tw_l ls 3 [(0, .inr l0), (1, .inl l1), (2, .inl l2)] := hl
  refine tk_aload_n C hl 0 dX1_subtreeSize_0 rfl ?_
  refine tk_iload_n C hl 1 dX1_subtreeSize_1 rfl ?_
  refine tk_iload_n C hl 2 dX1_subtreeSize_2 rfl ?_
  obtain ⟨hv, hw⟩ := hw
  refine tw_cbq C hS (tk_runV (As := [.inl l1, .inl l2]) C hR hS (wk_X1_nodeOf l C.hst G (R.frames - 1) (by omega) _ _ _ _ _ σ hw) hv rfl q1696 q1698 qs18 q64 q1699 pd_X1_nodeOf ⟨by omega, by omega⟩ hl.1 rfl (tw_r8 [] (Nat.le_of_ble_eq_true rfl)) dX1_subtreeSize_3) (fun E q σ H locs hX hR hS hi => tw_out C hR hS (fun x hx => (hnx x hx).elim) hi hX) (fun x1 σ H locs hw hR hS => ?_)
  obtain ⟨hv, hw⟩ := hw
  refine tw_cbi C hS (tk_runV (As := []) C hR hS (wk_X3_size l C.hst G 64 (R.frames - 1) (by omega) _ _ _ σ hw) hv rfl q286 q287 q288 q70 q289 pd_X3_size ⟨by omega, by omega⟩ hl.1 rfl (tw_r8 [] (Nat.le_of_ble_eq_true rfl)) dX1_subtreeSize_6) (fun E q σ H locs hX hR hS hi => tw_out C hR hS (fun x hx => (hnx x hx).elim) hi hX) (fun x2 σ H locs hw hR hS => ?_)
  exact tw_iret C hR hS hr rfl dX1_subtreeSize_9 hw
-- TreeDifferLaw.subtreeSize(LTreeDiffer;II[J)I
def w_X0_subtreeSize_b13 (Q : Int32 → Tst → Prop) (X : String → Nat → Tst → Prop) (s0 : Option Nat) (σ : Tst) : Prop := Q 1 σ
def w_X0_subtreeSize (l0 : Option Nat) (l1 : Int32) (l2 : Int32) (l3 : Option Nat) (Q : Int32 → Tst → Prop) (X : String → Nat → Tst → Prop) (σ : Tst) : Prop := w_rc σ l0 cX1 <| w_X1_subtreeSize l0 l1 l2 (fun x1 σ => w_sl σ l3 0 (x1.toInt64) fun σ => Q 0 σ) (fun E q σ => w_if (E = "java/lang/IndexOutOfBoundsException") (w_X0_subtreeSize_b13 Q X (some q) σ) (False)) σ
set_option maxHeartbeats 4000000 in
theorem wk_X0_subtreeSize_b13  (C : tw_C p l R s m args meth c G cX0_subtreeSize 5 yX0_subtreeSize.cls) (hr : meth.sig.returnType = (some .int)) (hmn : meth.name = yX0_subtreeSize.name) (hnx : (c.exceptionTable.toList = tableOf [(0, 10, 13, 19)])) (hfr : 69 ≤ R.frames) (hRl : R.locals = 40 * R.frames) {Q : Int32 → Tst → Prop} {X : String → Nat → Tst → Prop}  (s0 : Option Nat) (σ : Tst) (H : Heap) (locs : List Loc) (ls : Array Slot) (hw : w_X0_subtreeSize_b13 Q X s0 σ) (hR : tw_R G σ H) (hS : va_S (tw_A G) s.heap H locs) (hl : tw_l ls 5 []) : tw_W p l e R s m args below meth c σ H locs (tw_E below G (tw_Qi G Q) X args s R) (F0 m 13 ls [va_rf s0]) := by
  unfold w_X0_subtreeSize_b13 at hw
  refine tk_astore (L' := [(4, .inr s0)]) C hl dX0_subtreeSize_13 (by decide) rfl (fun ls hl => ?_)
  refine lv_iconst (v := 1) C.hx C.hb dX0_subtreeSize_15 (by decide) ?_
  exact tw_iret C hR hS hr rfl dX0_subtreeSize_16 hw
set_option maxHeartbeats 4000000 in
theorem wk_X0_subtreeSize (l : Launch) (hl0 : l.stackTraces = false) (G : Tgl) (fr : Nat)  (hfr : 69 ≤ fr) (l0 : Option Nat) (l1 : Int32) (l2 : Int32) (l3 : Option Nat) (Q : Int32 → Tst → Prop) (X : String → Nat → Tst → Prop) (σ : Tst) (hw : w_X0_subtreeSize l0 l1 l2 l3 Q X σ) : tw_M l yX0_subtreeSize (wsW_ yX0_subtreeSize cX0_subtreeSize 5 (some .int) [(0, 10, 13, 19)]) fr (40 * fr) G σ [.inr l0, .inl l1, .inl l2, .inr l3] (tw_Qi G Q) X := by
  unfold w_X0_subtreeSize at hw
  refine tw_ofW (ret := (some .int)) (hh := [(0, 10, 13, 19)]) hl0 (by decide) (Nat.le_of_ble_eq_true rfl) (fun p e R s m args below meth c hRf hRl C hr hmn hnx hR hS ls hl => ?_)
  have hfr : 69 ≤ R.frames := by rw [hRf]; exact hfr
  have hRl : R.locals = 40 * R.frames := by rw [hRl, hRf]
  have hl : tw_l ls 5 [(0, .inr l0), (1, .inl l1), (2, .inl l2), (3, .inr l3)] := hl
  refine tk_aload_n C hl 3 dX0_subtreeSize_0 rfl ?_
  refine lv_iconst (v := 0) C.hx C.hb dX0_subtreeSize_1 (by decide) ?_
  refine tk_aload_n C hl 0 dX0_subtreeSize_2 rfl ?_
  refine tk_iload_n C hl 1 dX0_subtreeSize_3 rfl ?_
  refine tk_iload_n C hl 2 dX0_subtreeSize_4 rfl ?_
  obtain ⟨hv, hw⟩ := hw
  refine tw_cbi C hS (tk_runV (As := [.inl l1, .inl l2]) C hR hS (wk_X1_subtreeSize l C.hst G (R.frames - 1) (by omega) _ _ _ _ _ σ hw) hv rfl q1761 q1762 q1763 q64 q1764 pd_X1_subtreeSize ⟨by omega, by omega⟩ hl.1 rfl (tw_r8 [.inl 0, .inr l3] (Nat.le_of_ble_eq_true rfl)) dX0_subtreeSize_5) (fun E q σ H locs hX hR hS hi => ?_) (fun x1 σ H locs hw hR hS => ?_)
  · by_cases cE0 : E = "java/lang/IndexOutOfBoundsException"
    · replace hX := hX.1 cE0
      subst cE0
      refine tw_catch C hnx [] (0, 10, 13, 19) [] rfl (fun z hz => nomatch hz) rfl (by decide) q1394 q687 hi ?_
      exact wk_X0_subtreeSize_b13 C hr hmn hnx hfr hRl _ σ _ _ _ hX hR hS (tk_sub hl [] rfl)
    replace hX := hX.2 cE0
    exact hX.elim
  refine lv_i2l (v := x1.toInt64) C.hx C.hb dX0_subtreeSize_8 rfl ?_
  refine tk_sl C hR hS hw dX0_subtreeSize_9 (fun σ H locs hw hR hS => ?_)
  refine lv_goto (tgt := 17) C.hx C.hb dX0_subtreeSize_10 (by decide) ?_
  refine lv_iconst (v := 0) C.hx C.hb dX0_subtreeSize_17 (by decide) ?_
  exact tw_iret C hR hS hr rfl dX0_subtreeSize_18 hw
-- TreeDiffer.subtreeHash(II)I
def w_X1_subtreeHash (l0 : Option Nat) (l1 : Int32) (l2 : Int32) (Q : Int32 → Tst → Prop) (X : String → Nat → Tst → Prop) (σ : Tst) : Prop := w_rc σ l0 cX1 <| w_X1_nodeOf l0 l1 l2 (fun x1 σ => w_rc σ x1 cX3 <| w_X3_hash 64 x1 (fun x2 σ => Q x2 σ) X σ) X σ
set_option maxHeartbeats 4000000 in
theorem wk_X1_subtreeHash (l : Launch) (hl0 : l.stackTraces = false) (G : Tgl) (fr : Nat)  (hfr : 68 ≤ fr) (l0 : Option Nat) (l1 : Int32) (l2 : Int32) (Q : Int32 → Tst → Prop) (X : String → Nat → Tst → Prop) (σ : Tst) (hw : w_X1_subtreeHash l0 l1 l2 Q X σ) : tw_M l yX1_subtreeHash (ws_ yX1_subtreeHash cX1_subtreeHash 3 (some .int)) fr (40 * fr) G σ [.inr l0, .inl l1, .inl l2] (tw_Qi G Q) X := by
  unfold w_X1_subtreeHash at hw
  refine tw_of (ret := (some .int)) hl0 (by decide) (Nat.le_of_ble_eq_true rfl) (fun p e R s m args below meth c hRf hRl C hr hmn hnx hR hS ls hl => ?_)
  have hfr : 68 ≤ R.frames := by rw [hRf]; exact hfr
  have hRl : R.locals = 40 * R.frames := by rw [hRl, hRf]
  have hl : tw_l ls 3 [(0, .inr l0), (1, .inl l1), (2, .inl l2)] := hl
  refine tk_aload_n C hl 0 dX1_subtreeHash_0 rfl ?_
  refine tk_iload_n C hl 1 dX1_subtreeHash_1 rfl ?_
  refine tk_iload_n C hl 2 dX1_subtreeHash_2 rfl ?_
  obtain ⟨hv, hw⟩ := hw
  refine tw_cbq C hS (tk_runV (As := [.inl l1, .inl l2]) C hR hS (wk_X1_nodeOf l C.hst G (R.frames - 1) (by omega) _ _ _ _ _ σ hw) hv rfl q1696 q1698 qs18 q64 q1699 pd_X1_nodeOf ⟨by omega, by omega⟩ hl.1 rfl (tw_r8 [] (Nat.le_of_ble_eq_true rfl)) dX1_subtreeHash_3) (fun E q σ H locs hX hR hS hi => tw_out C hR hS (fun x hx => (hnx x hx).elim) hi hX) (fun x1 σ H locs hw hR hS => ?_)
  obtain ⟨hv, hw⟩ := hw
  refine tw_cbi C hS (tk_runV (As := []) C hR hS (wk_X3_hash l C.hst G 64 (R.frames - 1) (by omega) _ _ _ σ hw) hv rfl q1772 q1773 q1774 q70 q1775 pd_X3_hash ⟨by omega, by omega⟩ hl.1 rfl (tw_r8 [] (Nat.le_of_ble_eq_true rfl)) dX1_subtreeHash_6) (fun E q σ H locs hX hR hS hi => tw_out C hR hS (fun x hx => (hnx x hx).elim) hi hX) (fun x2 σ H locs hw hR hS => ?_)
  exact tw_iret C hR hS hr rfl dX1_subtreeHash_9 hw
-- TreeDifferLaw.subtreeHash(LTreeDiffer;II[J)I
def w_X0_subtreeHash_b13 (Q : Int32 → Tst → Prop) (X : String → Nat → Tst → Prop) (s0 : Option Nat) (σ : Tst) : Prop := Q 1 σ
def w_X0_subtreeHash (l0 : Option Nat) (l1 : Int32) (l2 : Int32) (l3 : Option Nat) (Q : Int32 → Tst → Prop) (X : String → Nat → Tst → Prop) (σ : Tst) : Prop := w_rc σ l0 cX1 <| w_X1_subtreeHash l0 l1 l2 (fun x1 σ => w_sl σ l3 0 (x1.toInt64) fun σ => Q 0 σ) (fun E q σ => w_if (E = "java/lang/IndexOutOfBoundsException") (w_X0_subtreeHash_b13 Q X (some q) σ) (False)) σ
set_option maxHeartbeats 4000000 in
theorem wk_X0_subtreeHash_b13  (C : tw_C p l R s m args meth c G cX0_subtreeHash 5 yX0_subtreeHash.cls) (hr : meth.sig.returnType = (some .int)) (hmn : meth.name = yX0_subtreeHash.name) (hnx : (c.exceptionTable.toList = tableOf [(0, 10, 13, 19)])) (hfr : 69 ≤ R.frames) (hRl : R.locals = 40 * R.frames) {Q : Int32 → Tst → Prop} {X : String → Nat → Tst → Prop}  (s0 : Option Nat) (σ : Tst) (H : Heap) (locs : List Loc) (ls : Array Slot) (hw : w_X0_subtreeHash_b13 Q X s0 σ) (hR : tw_R G σ H) (hS : va_S (tw_A G) s.heap H locs) (hl : tw_l ls 5 []) : tw_W p l e R s m args below meth c σ H locs (tw_E below G (tw_Qi G Q) X args s R) (F0 m 13 ls [va_rf s0]) := by
  unfold w_X0_subtreeHash_b13 at hw
  refine tk_astore (L' := [(4, .inr s0)]) C hl dX0_subtreeHash_13 (by decide) rfl (fun ls hl => ?_)
  refine lv_iconst (v := 1) C.hx C.hb dX0_subtreeHash_15 (by decide) ?_
  exact tw_iret C hR hS hr rfl dX0_subtreeHash_16 hw
set_option maxHeartbeats 4000000 in
theorem wk_X0_subtreeHash (l : Launch) (hl0 : l.stackTraces = false) (G : Tgl) (fr : Nat)  (hfr : 69 ≤ fr) (l0 : Option Nat) (l1 : Int32) (l2 : Int32) (l3 : Option Nat) (Q : Int32 → Tst → Prop) (X : String → Nat → Tst → Prop) (σ : Tst) (hw : w_X0_subtreeHash l0 l1 l2 l3 Q X σ) : tw_M l yX0_subtreeHash (wsW_ yX0_subtreeHash cX0_subtreeHash 5 (some .int) [(0, 10, 13, 19)]) fr (40 * fr) G σ [.inr l0, .inl l1, .inl l2, .inr l3] (tw_Qi G Q) X := by
  unfold w_X0_subtreeHash at hw
  refine tw_ofW (ret := (some .int)) (hh := [(0, 10, 13, 19)]) hl0 (by decide) (Nat.le_of_ble_eq_true rfl) (fun p e R s m args below meth c hRf hRl C hr hmn hnx hR hS ls hl => ?_)
  have hfr : 69 ≤ R.frames := by rw [hRf]; exact hfr
  have hRl : R.locals = 40 * R.frames := by rw [hRl, hRf]
  have hl : tw_l ls 5 [(0, .inr l0), (1, .inl l1), (2, .inl l2), (3, .inr l3)] := hl
  refine tk_aload_n C hl 3 dX0_subtreeHash_0 rfl ?_
  refine lv_iconst (v := 0) C.hx C.hb dX0_subtreeHash_1 (by decide) ?_
  refine tk_aload_n C hl 0 dX0_subtreeHash_2 rfl ?_
  refine tk_iload_n C hl 1 dX0_subtreeHash_3 rfl ?_
  refine tk_iload_n C hl 2 dX0_subtreeHash_4 rfl ?_
  obtain ⟨hv, hw⟩ := hw
  refine tw_cbi C hS (tk_runV (As := [.inl l1, .inl l2]) C hR hS (wk_X1_subtreeHash l C.hst G (R.frames - 1) (by omega) _ _ _ _ _ σ hw) hv rfl q1768 q1769 q1770 q64 q1771 pd_X1_subtreeHash ⟨by omega, by omega⟩ hl.1 rfl (tw_r8 [.inl 0, .inr l3] (Nat.le_of_ble_eq_true rfl)) dX0_subtreeHash_5) (fun E q σ H locs hX hR hS hi => ?_) (fun x1 σ H locs hw hR hS => ?_)
  · by_cases cE0 : E = "java/lang/IndexOutOfBoundsException"
    · replace hX := hX.1 cE0
      subst cE0
      refine tw_catch C hnx [] (0, 10, 13, 19) [] rfl (fun z hz => nomatch hz) rfl (by decide) q1394 q687 hi ?_
      exact wk_X0_subtreeHash_b13 C hr hmn hnx hfr hRl _ σ _ _ _ hX hR hS (tk_sub hl [] rfl)
    replace hX := hX.2 cE0
    exact hX.elim
  refine lv_i2l (v := x1.toInt64) C.hx C.hb dX0_subtreeHash_8 rfl ?_
  refine tk_sl C hR hS hw dX0_subtreeHash_9 (fun σ H locs hw hR hS => ?_)
  refine lv_goto (tgt := 17) C.hx C.hb dX0_subtreeHash_10 (by decide) ?_
  refine lv_iconst (v := 0) C.hx C.hb dX0_subtreeHash_17 (by decide) ?_
  exact tw_iret C hR hS hr rfl dX0_subtreeHash_18 hw
-- TreeDiffer.areEqual(IIII)Z
def w_X1_areEqual (l0 : Option Nat) (l1 : Int32) (l2 : Int32) (l3 : Int32) (l4 : Int32) (Q : Int32 → Tst → Prop) (X : String → Nat → Tst → Prop) (σ : Tst) : Prop := w_rc σ l0 cX1 <| w_X1_nodeOf l0 l1 l2 (fun x1 σ => w_rc σ l0 cX1 <| w_X1_nodeOf l0 l3 l4 (fun x2 σ => w_rc σ x1 cX3 <| w_X3_isLike 64 x1 x2 0 (fun x3 σ => narrow .boolean (.int x3) = .int x3 ∧ Q x3 σ) X σ) X σ) X σ
set_option maxHeartbeats 4000000 in
theorem wk_X1_areEqual (l : Launch) (hl0 : l.stackTraces = false) (G : Tgl) (fr : Nat)  (hfr : 69 ≤ fr) (l0 : Option Nat) (l1 : Int32) (l2 : Int32) (l3 : Int32) (l4 : Int32) (Q : Int32 → Tst → Prop) (X : String → Nat → Tst → Prop) (σ : Tst) (hw : w_X1_areEqual l0 l1 l2 l3 l4 Q X σ) : tw_M l yX1_areEqual (ws_ yX1_areEqual cX1_areEqual 6 (some .boolean)) fr (40 * fr) G σ [.inr l0, .inl l1, .inl l2, .inl l3, .inl l4] (tw_Qi G Q) X := by
  unfold w_X1_areEqual at hw
  refine tw_of (ret := (some .boolean)) hl0 (by decide) (Nat.le_of_ble_eq_true rfl) (fun p e R s m args below meth c hRf hRl C hr hmn hnx hR hS ls hl => ?_)
  have hfr : 69 ≤ R.frames := by rw [hRf]; exact hfr
  have hRl : R.locals = 40 * R.frames := by rw [hRl, hRf]
  have hl : tw_l ls 6 [(0, .inr l0), (1, .inl l1), (2, .inl l2), (3, .inl l3), (4, .inl l4)] := hl
  refine tk_aload_n C hl 0 dX1_areEqual_0 rfl ?_
  refine tk_iload_n C hl 1 dX1_areEqual_1 rfl ?_
  refine tk_iload_n C hl 2 dX1_areEqual_2 rfl ?_
  obtain ⟨hv, hw⟩ := hw
  refine tw_cbq C hS (tk_runV (As := [.inl l1, .inl l2]) C hR hS (wk_X1_nodeOf l C.hst G (R.frames - 1) (by omega) _ _ _ _ _ σ hw) hv rfl q1696 q1698 qs18 q64 q1699 pd_X1_nodeOf ⟨by omega, by omega⟩ hl.1 rfl (tw_r8 [] (Nat.le_of_ble_eq_true rfl)) dX1_areEqual_3) (fun E q σ H locs hX hR hS hi => tw_out C hR hS (fun x hx => (hnx x hx).elim) hi hX) (fun x1 σ H locs hw hR hS => ?_)
  refine tk_astore (L' := [(5, .inr x1), (0, .inr l0), (1, .inl l1), (2, .inl l2), (3, .inl l3), (4, .inl l4)]) C hl dX1_areEqual_6 (by decide) rfl (fun ls hl => ?_)
  refine tk_aload C hl 0 dX1_areEqual_8 rfl ?_
  refine tk_aload_n C hl 1 dX1_areEqual_10 rfl ?_
  refine tk_iload_n C hl 4 dX1_areEqual_11 rfl ?_
  refine tk_iload C hl 5 dX1_areEqual_12 rfl ?_
  obtain ⟨hv, hw⟩ := hw
  refine tw_cbq C hS (tk_runV (As := [.inl l3, .inl l4]) C hR hS (wk_X1_nodeOf l C.hst G (R.frames - 1) (by omega) _ _ _ _ _ σ hw) hv rfl q1696 q1698 qs18 q64 q1699 pd_X1_nodeOf ⟨by omega, by omega⟩ hl.1 rfl (tw_r8 [.inr x1] (Nat.le_of_ble_eq_true rfl)) dX1_areEqual_14) (fun E q σ H locs hX hR hS hi => tw_out C hR hS (fun x hx => (hnx x hx).elim) hi hX) (fun x2 σ H locs hw hR hS => ?_)
  refine lv_iconst (v := 0) C.hx C.hb dX1_areEqual_17 (by decide) ?_
  obtain ⟨hv, hw⟩ := hw
  refine tw_cbi C hS (tk_runV (As := [.inr x2, .inl 0]) C hR hS (wk_X3_isLike l C.hst G 64 (R.frames - 1) (by omega) _ _ _ _ _ σ hw) hv rfl q632 q633 q634 q70 q635 pd_X3_isLike ⟨by omega, by omega⟩ hl.1 rfl (tw_r8 [] (Nat.le_of_ble_eq_true rfl)) dX1_areEqual_18) (fun E q σ H locs hX hR hS hi => tw_out C hR hS (fun x hx => (hnx x hx).elim) hi hX) (fun x3 σ H locs hw hR hS => ?_)
  obtain ⟨hok, hw⟩ := hw
  exact tw_iret C hR hS hr hok dX1_areEqual_21 hw
-- TreeDifferLaw.areEqual(LTreeDiffer;IIII[J)I
def w_X0_areEqual_b24 (Q : Int32 → Tst → Prop) (X : String → Nat → Tst → Prop) (s0 : Option Nat) (σ : Tst) : Prop := Q 1 σ
def w_X0_areEqual_b20 (Q : Int32 → Tst → Prop) (X : String → Nat → Tst → Prop) (s0 : Option Nat) (s1 : Int32) (s2 : Int64) (σ : Tst) : Prop := w_sl σ s0 s1 s2 fun σ => Q 0 σ
def w_X0_areEqual (l0 : Option Nat) (l1 : Int32) (l2 : Int32) (l3 : Int32) (l4 : Int32) (l5 : Option Nat) (Q : Int32 → Tst → Prop) (X : String → Nat → Tst → Prop) (σ : Tst) : Prop := w_rc σ l0 cX1 <| w_X1_areEqual l0 l1 l2 l3 l4 (fun x1 σ => w_if (x1 = 0) (w_X0_areEqual_b20 Q X l5 0 0 σ) (w_X0_areEqual_b20 Q X l5 0 1 σ)) (fun E q σ => w_if (E = "java/lang/IndexOutOfBoundsException") (w_X0_areEqual_b24 Q X (some q) σ) (False)) σ
set_option maxHeartbeats 4000000 in
theorem wk_X0_areEqual_b24  (C : tw_C p l R s m args meth c G cX0_areEqual 7 yX0_areEqual.cls) (hr : meth.sig.returnType = (some .int)) (hmn : meth.name = yX0_areEqual.name) (hnx : (c.exceptionTable.toList = tableOf [(0, 21, 24, 19)])) (hfr : 70 ≤ R.frames) (hRl : R.locals = 40 * R.frames) {Q : Int32 → Tst → Prop} {X : String → Nat → Tst → Prop}  (s0 : Option Nat) (σ : Tst) (H : Heap) (locs : List Loc) (ls : Array Slot) (hw : w_X0_areEqual_b24 Q X s0 σ) (hR : tw_R G σ H) (hS : va_S (tw_A G) s.heap H locs) (hl : tw_l ls 7 []) : tw_W p l e R s m args below meth c σ H locs (tw_E below G (tw_Qi G Q) X args s R) (F0 m 24 ls [va_rf s0]) := by
  unfold w_X0_areEqual_b24 at hw
  refine tk_astore (L' := [(6, .inr s0)]) C hl dX0_areEqual_24 (by decide) rfl (fun ls hl => ?_)
  refine lv_iconst (v := 1) C.hx C.hb dX0_areEqual_26 (by decide) ?_
  exact tw_iret C hR hS hr rfl dX0_areEqual_27 hw
set_option maxHeartbeats 4000000 in
theorem wk_X0_areEqual_b20  (C : tw_C p l R s m args meth c G cX0_areEqual 7 yX0_areEqual.cls) (hr : meth.sig.returnType = (some .int)) (hmn : meth.name = yX0_areEqual.name) (hnx : (c.exceptionTable.toList = tableOf [(0, 21, 24, 19)])) (hfr : 70 ≤ R.frames) (hRl : R.locals = 40 * R.frames) {Q : Int32 → Tst → Prop} {X : String → Nat → Tst → Prop}  (s0 : Option Nat) (s1 : Int32) (s2 : Int64) (σ : Tst) (H : Heap) (locs : List Loc) (ls : Array Slot) (hw : w_X0_areEqual_b20 Q X s0 s1 s2 σ) (hR : tw_R G σ H) (hS : va_S (tw_A G) s.heap H locs) (hl : tw_l ls 7 []) : tw_W p l e R s m args below meth c σ H locs (tw_E below G (tw_Qi G Q) X args s R) (F0 m 20 ls [.long s2, .int s1, va_rf s0]) := by
  unfold w_X0_areEqual_b20 at hw
  refine tk_sl C hR hS hw dX0_areEqual_20 (fun σ H locs hw hR hS => ?_)
  refine lv_goto (tgt := 28) C.hx C.hb dX0_areEqual_21 (by decide) ?_
  refine lv_iconst (v := 0) C.hx C.hb dX0_areEqual_28 (by decide) ?_
  exact tw_iret C hR hS hr rfl dX0_areEqual_29 hw
set_option maxHeartbeats 4000000 in
theorem wk_X0_areEqual (l : Launch) (hl0 : l.stackTraces = false) (G : Tgl) (fr : Nat)  (hfr : 70 ≤ fr) (l0 : Option Nat) (l1 : Int32) (l2 : Int32) (l3 : Int32) (l4 : Int32) (l5 : Option Nat) (Q : Int32 → Tst → Prop) (X : String → Nat → Tst → Prop) (σ : Tst) (hw : w_X0_areEqual l0 l1 l2 l3 l4 l5 Q X σ) : tw_M l yX0_areEqual (wsW_ yX0_areEqual cX0_areEqual 7 (some .int) [(0, 21, 24, 19)]) fr (40 * fr) G σ [.inr l0, .inl l1, .inl l2, .inl l3, .inl l4, .inr l5] (tw_Qi G Q) X := by
  unfold w_X0_areEqual at hw
  refine tw_ofW (ret := (some .int)) (hh := [(0, 21, 24, 19)]) hl0 (by decide) (Nat.le_of_ble_eq_true rfl) (fun p e R s m args below meth c hRf hRl C hr hmn hnx hR hS ls hl => ?_)
  have hfr : 70 ≤ R.frames := by rw [hRf]; exact hfr
  have hRl : R.locals = 40 * R.frames := by rw [hRl, hRf]
  have hl : tw_l ls 7 [(0, .inr l0), (1, .inl l1), (2, .inl l2), (3, .inl l3), (4, .inl l4), (5, .inr l5)] := hl
  refine tk_aload C hl 5 dX0_areEqual_0 rfl ?_
  refine lv_iconst (v := 0) C.hx C.hb dX0_areEqual_2 (by decide) ?_
  refine tk_aload_n C hl 0 dX0_areEqual_3 rfl ?_
  refine tk_iload_n C hl 1 dX0_areEqual_4 rfl ?_
  refine tk_iload_n C hl 2 dX0_areEqual_5 rfl ?_
  refine tk_iload_n C hl 3 dX0_areEqual_6 rfl ?_
  refine tk_iload C hl 4 dX0_areEqual_7 rfl ?_
  obtain ⟨hv, hw⟩ := hw
  refine tw_cbi C hS (tk_runV (As := [.inl l1, .inl l2, .inl l3, .inl l4]) C hR hS (wk_X1_areEqual l C.hst G (R.frames - 1) (by omega) _ _ _ _ _ _ _ σ hw) hv rfl q1780 q1781 q1782 q64 q1783 pd_X1_areEqual ⟨by omega, by omega⟩ hl.1 rfl (tw_r8 [.inl 0, .inr l5] (Nat.le_of_ble_eq_true rfl)) dX0_areEqual_9) (fun E q σ H locs hX hR hS hi => ?_) (fun x1 σ H locs hw hR hS => ?_)
  · by_cases cE0 : E = "java/lang/IndexOutOfBoundsException"
    · replace hX := hX.1 cE0
      subst cE0
      refine tw_catch C hnx [] (0, 21, 24, 19) [] rfl (fun z hz => nomatch hz) rfl (by decide) q1394 q687 hi ?_
      exact wk_X0_areEqual_b24 C hr hmn hnx hfr hRl _ σ _ _ _ hX hR hS (tk_sub hl [] rfl)
    replace hX := hX.2 cE0
    exact hX.elim
  refine lv_if_eq (tgt := 19) C.hx C.hb dX0_areEqual_12 (by decide) (fun c12 => ?_) (fun c12 => ?_)
  · replace hw := hw.1 c12
    refine lv_lconst (v := 0) C.hx C.hb dX0_areEqual_19 (by decide) ?_
    exact wk_X0_areEqual_b20 C hr hmn hnx hfr hRl _ _ _ σ _ _ _ hw hR hS (tk_sub hl [] rfl)
  · replace hw := hw.2 c12
    refine lv_lconst (v := 1) C.hx C.hb dX0_areEqual_15 (by decide) ?_
    refine lv_goto (tgt := 20) C.hx C.hb dX0_areEqual_16 (by decide) ?_
    exact wk_X0_areEqual_b20 C hr hmn hnx hfr hRl _ _ _ σ _ _ _ hw hR hS (tk_sub hl [] rfl)
-- TreeDiffer.twin(III)I
def w_X1_twin_b74 (k28 : Option Nat → Int32 → Int32 → Option Nat → Tst → Prop) (Q : Int32 → Tst → Prop) (X : String → Nat → Tst → Prop) (l4 : Option Nat) (l5 : Int32) (l6 : Int32) (l7 : Option Nat) (σ : Tst) : Prop := k28 l4 l5 (l6 + 1) l7 σ
def w_X1_twin_b28 (Q : Int32 → Tst → Prop) (X : String → Nat → Tst → Prop) : Nat → Option Nat → Int32 → Int32 → Option Nat → Tst → Prop
  | 0, _, _, _, _, _ => False
  | n + 1, l4, l5, l6, l7, σ => w_rc σ l7 cX8 <| w_X8_hasNext l7 (fun x1 σ => w_if (x1 = 0) (w_nw σ cJ19 6 [.inr none, .inr none, .inr none, .inr none, .inr none, .inl 0] fun q2 σ => w_rf q2 <| w_J19_init q2 (fun σ => w_th σ q2 X) X σ) (w_rc σ l7 cX8 <| w_X8_next l7 (fun x4 σ => w_cc σ x4 cX3 <| w_rc σ x4 cX3 <| w_X3_hash 64 x4 (fun x5 σ => w_if (x5 = l5) (w_rc σ x4 cX3 <| w_X3_isLike 64 x4 l4 0 (fun x6 σ => w_if (x6 = 0) (w_X1_twin_b74 (w_X1_twin_b28 Q X n) Q X l4 l5 l6 l7 σ) (Q l6 σ)) X σ) (w_X1_twin_b74 (w_X1_twin_b28 Q X n) Q X l4 l5 l6 l7 σ)) X σ) X σ)) X σ
def w_X1_twin (l0 : Option Nat) (l1 : Int32) (l2 : Int32) (l3 : Int32) (Q : Int32 → Tst → Prop) (X : String → Nat → Tst → Prop) (σ : Tst) : Prop := w_rc σ l0 cX1 <| w_X1_nodeOf l0 l1 l2 (fun x1 σ => w_rc σ x1 cX3 <| w_X3_hash 64 x1 (fun x2 σ => w_rc σ l0 cX1 <| w_X1_treeOf l0 l3 (fun x3 σ => w_rc σ x3 cX2 <| w_X2_iterator x3 (fun x4 σ => ∃ z, w_X1_twin_b28 Q X z x1 x2 0 x4 σ) X σ) X σ) X σ) X σ
set_option maxHeartbeats 4000000 in
theorem wk_X1_twin_b74  (C : tw_C p l R s m args meth c G cX1_twin 9 yX1_twin.cls) (hr : meth.sig.returnType = (some .int)) (hmn : meth.name = yX1_twin.name) (hnx : (∀ x ∈ c.exceptionTable.toList, False)) (hfr : 69 ≤ R.frames) (hRl : R.locals = 40 * R.frames) {Q : Int32 → Tst → Prop} {X : String → Nat → Tst → Prop}  {k28 : Option Nat → Int32 → Int32 → Option Nat → Tst → Prop} (hk28 : ∀ (l4 : Option Nat) (l5 : Int32) (l6 : Int32) (l7 : Option Nat) (σ : Tst) (H : Heap) (locs : List Loc) (ls : Array Slot), k28 l4 l5 l6 l7 σ → tw_R G σ H → va_S (tw_A G) s.heap H locs → tw_l ls 9 [(4, .inr l4), (5, .inl l5), (6, .inl l6), (7, .inr l7)] → tw_W p l e R s m args below meth c σ H locs (tw_E below G (tw_Qi G Q) X args s R) (F0 m 28 ls [])) (l4 : Option Nat) (l5 : Int32) (l6 : Int32) (l7 : Option Nat) (σ : Tst) (H : Heap) (locs : List Loc) (ls : Array Slot) (hw : w_X1_twin_b74 k28 Q X l4 l5 l6 l7 σ) (hR : tw_R G σ H) (hS : va_S (tw_A G) s.heap H locs) (hl : tw_l ls 9 [(4, .inr l4), (5, .inl l5), (6, .inl l6), (7, .inr l7)]) : tw_W p l e R s m args below meth c σ H locs (tw_E below G (tw_Qi G Q) X args s R) (F0 m 74 ls []) := by
  unfold w_X1_twin_b74 at hw
  refine tk_iinc (L' := [(6, .inl (l6 + 1)), (4, .inr l4), (5, .inl l5), (7, .inr l7)]) (y := (l6 + 1)) C hl 2 dX1_twin_74 rfl rfl (by decide) rfl (fun ls hl => ?_)
  refine lv_goto (tgt := 28) C.hx C.hb dX1_twin_77 (by decide) ?_
  exact hk28 _ _ _ _ σ _ _ _ hw hR hS (tk_sub hl [1, 2, 0, 3] rfl)
set_option maxHeartbeats 4000000 in
theorem wk_X1_twin_b28  (C : tw_C p l R s m args meth c G cX1_twin 9 yX1_twin.cls) (hr : meth.sig.returnType = (some .int)) (hmn : meth.name = yX1_twin.name) (hnx : (∀ x ∈ c.exceptionTable.toList, False)) (hfr : 69 ≤ R.frames) (hRl : R.locals = 40 * R.frames) {Q : Int32 → Tst → Prop} {X : String → Nat → Tst → Prop}  : ∀ (n : Nat) (l4 : Option Nat) (l5 : Int32) (l6 : Int32) (l7 : Option Nat) (σ : Tst) (H : Heap) (locs : List Loc) (ls : Array Slot), w_X1_twin_b28 Q X n l4 l5 l6 l7 σ → tw_R G σ H → va_S (tw_A G) s.heap H locs → tw_l ls 9 [(4, .inr l4), (5, .inl l5), (6, .inl l6), (7, .inr l7)] → tw_W p l e R s m args below meth c σ H locs (tw_E below G (tw_Qi G Q) X args s R) (F0 m 28 ls []) := by
  intro n
  induction n with
  | zero => intro l4 l5 l6 l7 σ H locs ls hw; exact False.elim hw
  | succ n hk28 =>
    intro l4 l5 l6 l7 σ H locs ls hw hR hS hl
    rw [w_X1_twin_b28] at hw
    refine tk_aload C hl 3 dX1_twin_28 rfl ?_
    obtain ⟨hv, hw⟩ := hw
    refine tw_cbi5 C hS (tk_runF (As := []) (x := ⟨"java/util/Iterator", "hasNext", "()Z"⟩) C hR hS (wk_X8_hasNext l C.hst G (R.frames - 1) (by omega) _ _ _ σ hw) hv rfl q1608 q323 q325 q98 q327 (by decide +kernel) (show tw_pd ⟨"java/util/Iterator", "hasNext", "()Z"⟩ 0 by decide +kernel) ⟨by omega, by omega⟩ hl.1 rfl (tw_r8 [] (Nat.le_of_ble_eq_true rfl)) dX1_twin_30) (fun E q σ H locs hX hR hS hi => tw_out C hR hS (fun x hx => (hnx x hx).elim) hi hX) (fun x1 σ H locs hw hR hS => ?_)
    refine lv_if_eq (tgt := 80) C.hx C.hb dX1_twin_35 (by decide) (fun c35 => ?_) (fun c35 => ?_)
    · replace hw := hw.1 c35
      refine tk_nw C hR hS hw rfl in_J19 tyJ19 tyJ19_ok q1572 q352 q91 (fun j hj => by rcases (show j = 0 ∨ j = 1 ∨ j = 2 ∨ j = 3 ∨ j = 4 ∨ j = 5 by omega) with rfl | rfl | rfl | rfl | rfl | rfl <;> rfl) dX1_twin_80 (fun q2 σ H hw hR hS => ?_)
      refine tw_dup (x := .inr q2) C.hx C.hb dX1_twin_83 ?_
      obtain ⟨hv, hw⟩ := hw
      refine tw_cbv C hS (tk_runI (As := []) hv C hR hS (wk_J19_init l C.hst G (R.frames - 1) (by omega) _ _ _ σ hw) q1573 q404 q91 q405 rfl pd_J19_init ⟨by omega, by omega⟩ hl.1 rfl (tw_r8 [.inr q2] (Nat.le_of_ble_eq_true rfl)) dX1_twin_84) (fun E q σ H locs hX hR hS hi => tw_out C hR hS (fun x hx => (hnx x hx).elim) hi hX) (fun σ H locs hw hR hS => ?_)
      exact tk_th C hR hS hw (fun x hx => (hnx x hx).elim) dX1_twin_87
    · replace hw := hw.2 c35
      refine tk_aload C hl 3 dX1_twin_38 rfl ?_
      obtain ⟨hv, hw⟩ := hw
      refine tw_cbq5 C hS (tk_runF (As := []) (x := ⟨"java/util/Iterator", "next", "()Ljava/lang/Object;"⟩) C hR hS (wk_X8_next l C.hst G (R.frames - 1) (by omega) _ _ _ σ hw) hv rfl q1610 q342 q344 q98 q346 (by decide +kernel) (show tw_pd ⟨"java/util/Iterator", "next", "()Ljava/lang/Object;"⟩ 0 by decide +kernel) ⟨by omega, by omega⟩ hl.1 rfl (tw_r8 [] (Nat.le_of_ble_eq_true rfl)) dX1_twin_40) (fun E q σ H locs hX hR hS hi => tw_out C hR hS (fun x hx => (hnx x hx).elim) hi hX) (fun x4 σ H locs hw hR hS => ?_)
      refine tk_cc C hR hw rfl q157 (Or.inl rfl) dX1_twin_45 (fun hw => ?_)
      refine tk_astore (L' := [(8, .inr x4), (4, .inr l4), (5, .inl l5), (6, .inl l6), (7, .inr l7)]) C hl dX1_twin_48 (by decide) rfl (fun ls hl => ?_)
      refine tk_aload C hl 0 dX1_twin_50 rfl ?_
      obtain ⟨hv, hw⟩ := hw
      refine tw_cbi C hS (tk_runV (As := []) C hR hS (wk_X3_hash l C.hst G 64 (R.frames - 1) (by omega) _ _ _ σ hw) hv rfl q1772 q1773 q1774 q70 q1775 pd_X3_hash ⟨by omega, by omega⟩ hl.1 rfl (tw_r8 [] (Nat.le_of_ble_eq_true rfl)) dX1_twin_52) (fun E q σ H locs hX hR hS hi => tw_out C hR hS (fun x hx => (hnx x hx).elim) hi hX) (fun x5 σ H locs hw hR hS => ?_)
      refine tk_iload C hl 2 dX1_twin_55 rfl ?_
      refine lv_icmp_ne (tgt := 74) C.hx C.hb dX1_twin_57 (by decide) (fun c57 => ?_) (fun c57 => ?_)
      · replace hw := hw.2 c57
        exact wk_X1_twin_b74 C hr hmn hnx hfr hRl hk28 _ _ _ _ σ _ _ _ hw hR hS (tk_sub hl [1, 2, 3, 4] rfl)
      · replace hw := hw.1 c57
        refine tk_aload C hl 0 dX1_twin_60 rfl ?_
        refine tk_aload C hl 1 dX1_twin_62 rfl ?_
        refine lv_iconst (v := 0) C.hx C.hb dX1_twin_64 (by decide) ?_
        obtain ⟨hv, hw⟩ := hw
        refine tw_cbi C hS (tk_runV (As := [.inr l4, .inl 0]) C hR hS (wk_X3_isLike l C.hst G 64 (R.frames - 1) (by omega) _ _ _ _ _ σ hw) hv rfl q632 q633 q634 q70 q635 pd_X3_isLike ⟨by omega, by omega⟩ hl.1 rfl (tw_r8 [] (Nat.le_of_ble_eq_true rfl)) dX1_twin_65) (fun E q σ H locs hX hR hS hi => tw_out C hR hS (fun x hx => (hnx x hx).elim) hi hX) (fun x6 σ H locs hw hR hS => ?_)
        refine lv_if_eq (tgt := 74) C.hx C.hb dX1_twin_68 (by decide) (fun c68 => ?_) (fun c68 => ?_)
        · replace hw := hw.1 c68
          exact wk_X1_twin_b74 C hr hmn hnx hfr hRl hk28 _ _ _ _ σ _ _ _ hw hR hS (tk_sub hl [1, 2, 3, 4] rfl)
        · replace hw := hw.2 c68
          refine tk_iload C hl 3 dX1_twin_71 rfl ?_
          exact tw_iret C hR hS hr rfl dX1_twin_73 hw
set_option maxHeartbeats 4000000 in
theorem wk_X1_twin (l : Launch) (hl0 : l.stackTraces = false) (G : Tgl) (fr : Nat)  (hfr : 69 ≤ fr) (l0 : Option Nat) (l1 : Int32) (l2 : Int32) (l3 : Int32) (Q : Int32 → Tst → Prop) (X : String → Nat → Tst → Prop) (σ : Tst) (hw : w_X1_twin l0 l1 l2 l3 Q X σ) : tw_M l yX1_twin (ws_ yX1_twin cX1_twin 9 (some .int)) fr (40 * fr) G σ [.inr l0, .inl l1, .inl l2, .inl l3] (tw_Qi G Q) X := by
  unfold w_X1_twin at hw
  refine tw_of (ret := (some .int)) hl0 (by decide) (Nat.le_of_ble_eq_true rfl) (fun p e R s m args below meth c hRf hRl C hr hmn hnx hR hS ls hl => ?_)
  have hfr : 69 ≤ R.frames := by rw [hRf]; exact hfr
  have hRl : R.locals = 40 * R.frames := by rw [hRl, hRf]
  have hl : tw_l ls 9 [(0, .inr l0), (1, .inl l1), (2, .inl l2), (3, .inl l3)] := hl
  refine tk_aload_n C hl 0 dX1_twin_0 rfl ?_
  refine tk_iload_n C hl 1 dX1_twin_1 rfl ?_
  refine tk_iload_n C hl 2 dX1_twin_2 rfl ?_
  obtain ⟨hv, hw⟩ := hw
  refine tw_cbq C hS (tk_runV (As := [.inl l1, .inl l2]) C hR hS (wk_X1_nodeOf l C.hst G (R.frames - 1) (by omega) _ _ _ _ _ σ hw) hv rfl q1696 q1698 qs18 q64 q1699 pd_X1_nodeOf ⟨by omega, by omega⟩ hl.1 rfl (tw_r8 [] (Nat.le_of_ble_eq_true rfl)) dX1_twin_3) (fun E q σ H locs hX hR hS hi => tw_out C hR hS (fun x hx => (hnx x hx).elim) hi hX) (fun x1 σ H locs hw hR hS => ?_)
  refine tk_astore (L' := [(4, .inr x1), (0, .inr l0), (1, .inl l1), (2, .inl l2), (3, .inl l3)]) C hl dX1_twin_6 (by decide) rfl (fun ls hl => ?_)
  refine tk_aload C hl 0 dX1_twin_8 rfl ?_
  obtain ⟨hv, hw⟩ := hw
  refine tw_cbi C hS (tk_runV (As := []) C hR hS (wk_X3_hash l C.hst G 64 (R.frames - 1) (by omega) _ _ _ σ hw) hv rfl q1772 q1773 q1774 q70 q1775 pd_X3_hash ⟨by omega, by omega⟩ hl.1 rfl (tw_r8 [] (Nat.le_of_ble_eq_true rfl)) dX1_twin_10) (fun E q σ H locs hX hR hS hi => tw_out C hR hS (fun x hx => (hnx x hx).elim) hi hX) (fun x2 σ H locs hw hR hS => ?_)
  refine tk_istore (L' := [(5, .inl x2), (4, .inr x1), (0, .inr l0), (1, .inl l1), (2, .inl l2), (3, .inl l3)]) C hl dX1_twin_13 (by decide) rfl (fun ls hl => ?_)
  refine lv_iconst (v := 0) C.hx C.hb dX1_twin_15 (by decide) ?_
  refine tk_istore (L' := [(6, .inl 0), (5, .inl x2), (4, .inr x1), (0, .inr l0), (1, .inl l1), (2, .inl l2), (3, .inl l3)]) C hl dX1_twin_16 (by decide) rfl (fun ls hl => ?_)
  refine tk_aload_n C hl 3 dX1_twin_18 rfl ?_
  refine tk_iload_n C hl 6 dX1_twin_19 rfl ?_
  obtain ⟨hv, hw⟩ := hw
  refine tw_cbq C hS (tk_runV (As := [.inl l3]) C hR hS (wk_X1_treeOf l C.hst G (R.frames - 1) (by omega) _ _ _ _ σ hw) hv rfl q1581 q1583 qs16 q64 q1584 pd_X1_treeOf ⟨by omega, by omega⟩ hl.1 rfl (tw_r8 [] (Nat.le_of_ble_eq_true rfl)) dX1_twin_20) (fun E q σ H locs hX hR hS hi => tw_out C hR hS (fun x hx => (hnx x hx).elim) hi hX) (fun x3 σ H locs hw hR hS => ?_)
  obtain ⟨hv, hw⟩ := hw
  refine tw_cbq C hS (tk_runV (As := []) C hR hS (wk_X2_iterator l C.hst G (R.frames - 1) (by omega) _ _ _ σ hw) hv rfl q1688 q951 q952 q69 q953 pd_X2_iterator ⟨by omega, by omega⟩ hl.1 rfl (tw_r8 [] (Nat.le_of_ble_eq_true rfl)) dX1_twin_23) (fun E q σ H locs hX hR hS hi => tw_out C hR hS (fun x hx => (hnx x hx).elim) hi hX) (fun x4 σ H locs hw hR hS => ?_)
  refine tk_astore (L' := [(7, .inr x4), (6, .inl 0), (5, .inl x2), (4, .inr x1), (0, .inr l0), (1, .inl l1), (2, .inl l2), (3, .inl l3)]) C hl dX1_twin_26 (by decide) rfl (fun ls hl => ?_)
  obtain ⟨z, hw⟩ := hw
  exact wk_X1_twin_b28 C hr hmn hnx hfr hRl z _ _ _ _ σ _ _ _ hw hR hS (tk_sub hl [3, 2, 1, 0] rfl)
-- TreeDifferLaw.twin(LTreeDiffer;III[J)I
def w_X0_twin_b15 (Q : Int32 → Tst → Prop) (X : String → Nat → Tst → Prop) (s0 : Option Nat) (σ : Tst) : Prop := Q 1 σ
def w_X0_twin_b19 (Q : Int32 → Tst → Prop) (X : String → Nat → Tst → Prop) (s0 : Option Nat) (σ : Tst) : Prop := Q 2 σ
def w_X0_twin (l0 : Option Nat) (l1 : Int32) (l2 : Int32) (l3 : Int32) (l4 : Option Nat) (Q : Int32 → Tst → Prop) (X : String → Nat → Tst → Prop) (σ : Tst) : Prop := w_rc σ l0 cX1 <| w_X1_twin l0 l1 l2 l3 (fun x1 σ => w_sl σ l4 0 (x1.toInt64) fun σ => Q 0 σ) (fun E q σ => w_if (E = "java/lang/IndexOutOfBoundsException") (w_X0_twin_b15 Q X (some q) σ) (w_if (E = "java/util/NoSuchElementException") (w_X0_twin_b19 Q X (some q) σ) (False))) σ
set_option maxHeartbeats 4000000 in
theorem wk_X0_twin_b15  (C : tw_C p l R s m args meth c G cX0_twin 6 yX0_twin.cls) (hr : meth.sig.returnType = (some .int)) (hmn : meth.name = yX0_twin.name) (hnx : (c.exceptionTable.toList = tableOf [(0, 12, 15, 19), (0, 12, 19, 27)])) (hfr : 70 ≤ R.frames) (hRl : R.locals = 40 * R.frames) {Q : Int32 → Tst → Prop} {X : String → Nat → Tst → Prop}  (s0 : Option Nat) (σ : Tst) (H : Heap) (locs : List Loc) (ls : Array Slot) (hw : w_X0_twin_b15 Q X s0 σ) (hR : tw_R G σ H) (hS : va_S (tw_A G) s.heap H locs) (hl : tw_l ls 6 []) : tw_W p l e R s m args below meth c σ H locs (tw_E below G (tw_Qi G Q) X args s R) (F0 m 15 ls [va_rf s0]) := by
  unfold w_X0_twin_b15 at hw
  refine tk_astore (L' := [(5, .inr s0)]) C hl dX0_twin_15 (by decide) rfl (fun ls hl => ?_)
  refine lv_iconst (v := 1) C.hx C.hb dX0_twin_17 (by decide) ?_
  exact tw_iret C hR hS hr rfl dX0_twin_18 hw
set_option maxHeartbeats 4000000 in
theorem wk_X0_twin_b19  (C : tw_C p l R s m args meth c G cX0_twin 6 yX0_twin.cls) (hr : meth.sig.returnType = (some .int)) (hmn : meth.name = yX0_twin.name) (hnx : (c.exceptionTable.toList = tableOf [(0, 12, 15, 19), (0, 12, 19, 27)])) (hfr : 70 ≤ R.frames) (hRl : R.locals = 40 * R.frames) {Q : Int32 → Tst → Prop} {X : String → Nat → Tst → Prop}  (s0 : Option Nat) (σ : Tst) (H : Heap) (locs : List Loc) (ls : Array Slot) (hw : w_X0_twin_b19 Q X s0 σ) (hR : tw_R G σ H) (hS : va_S (tw_A G) s.heap H locs) (hl : tw_l ls 6 []) : tw_W p l e R s m args below meth c σ H locs (tw_E below G (tw_Qi G Q) X args s R) (F0 m 19 ls [va_rf s0]) := by
  unfold w_X0_twin_b19 at hw
  refine tk_astore (L' := [(5, .inr s0)]) C hl dX0_twin_19 (by decide) rfl (fun ls hl => ?_)
  refine lv_iconst (v := 2) C.hx C.hb dX0_twin_21 (by decide) ?_
  exact tw_iret C hR hS hr rfl dX0_twin_22 hw
set_option maxHeartbeats 4000000 in
theorem wk_X0_twin (l : Launch) (hl0 : l.stackTraces = false) (G : Tgl) (fr : Nat)  (hfr : 70 ≤ fr) (l0 : Option Nat) (l1 : Int32) (l2 : Int32) (l3 : Int32) (l4 : Option Nat) (Q : Int32 → Tst → Prop) (X : String → Nat → Tst → Prop) (σ : Tst) (hw : w_X0_twin l0 l1 l2 l3 l4 Q X σ) : tw_M l yX0_twin (wsW_ yX0_twin cX0_twin 6 (some .int) [(0, 12, 15, 19), (0, 12, 19, 27)]) fr (40 * fr) G σ [.inr l0, .inl l1, .inl l2, .inl l3, .inr l4] (tw_Qi G Q) X := by
  unfold w_X0_twin at hw
  refine tw_ofW (ret := (some .int)) (hh := [(0, 12, 15, 19), (0, 12, 19, 27)]) hl0 (by decide) (Nat.le_of_ble_eq_true rfl) (fun p e R s m args below meth c hRf hRl C hr hmn hnx hR hS ls hl => ?_)
  have hfr : 70 ≤ R.frames := by rw [hRf]; exact hfr
  have hRl : R.locals = 40 * R.frames := by rw [hRl, hRf]
  have hl : tw_l ls 6 [(0, .inr l0), (1, .inl l1), (2, .inl l2), (3, .inl l3), (4, .inr l4)] := hl
  refine tk_aload C hl 4 dX0_twin_0 rfl ?_
  refine lv_iconst (v := 0) C.hx C.hb dX0_twin_2 (by decide) ?_
  refine tk_aload_n C hl 0 dX0_twin_3 rfl ?_
  refine tk_iload_n C hl 1 dX0_twin_4 rfl ?_
  refine tk_iload_n C hl 2 dX0_twin_5 rfl ?_
  refine tk_iload_n C hl 3 dX0_twin_6 rfl ?_
  obtain ⟨hv, hw⟩ := hw
  refine tw_cbi C hS (tk_runV (As := [.inl l1, .inl l2, .inl l3]) C hR hS (wk_X1_twin l C.hst G (R.frames - 1) (by omega) _ _ _ _ _ _ σ hw) hv rfl q1787 q1788 q1789 q64 q1790 pd_X1_twin ⟨by omega, by omega⟩ hl.1 rfl (tw_r8 [.inl 0, .inr l4] (Nat.le_of_ble_eq_true rfl)) dX0_twin_7) (fun E q σ H locs hX hR hS hi => ?_) (fun x1 σ H locs hw hR hS => ?_)
  · by_cases cE0 : E = "java/lang/IndexOutOfBoundsException"
    · replace hX := hX.1 cE0
      subst cE0
      refine tw_catch C hnx [] (0, 12, 15, 19) [(0, 12, 19, 27)] rfl (fun z hz => nomatch hz) rfl (by decide) q1394 q687 hi ?_
      exact wk_X0_twin_b15 C hr hmn hnx hfr hRl _ σ _ _ _ hX hR hS (tk_sub hl [] rfl)
    replace hX := hX.2 cE0
    by_cases cE1 : E = "java/util/NoSuchElementException"
    · replace hX := hX.1 cE1
      subst cE1
      refine tw_catch C hnx [(0, 12, 15, 19)] (0, 12, 19, 27) [] rfl (fun z hz => by simp only [List.mem_cons, List.not_mem_nil, or_false] at hz; rcases hz with rfl; exact Or.inr ⟨by decide, _, q1394, by decide +kernel⟩) rfl (by decide) q1564 q353 hi ?_
      exact wk_X0_twin_b19 C hr hmn hnx hfr hRl _ σ _ _ _ hX hR hS (tk_sub hl [] rfl)
    replace hX := hX.2 cE1
    exact hX.elim
  refine lv_i2l (v := x1.toInt64) C.hx C.hb dX0_twin_10 rfl ?_
  refine tk_sl C hR hS hw dX0_twin_11 (fun σ H locs hw hR hS => ?_)
  refine lv_goto (tgt := 23) C.hx C.hb dX0_twin_12 (by decide) ?_
  refine lv_iconst (v := 0) C.hx C.hb dX0_twin_23 (by decide) ?_
  exact tw_iret C hR hS hr rfl dX0_twin_24 hw
-- TreeDiffer.shapeTwin(III)I
def w_X1_shapeTwin_b21 (Q : Int32 → Tst → Prop) (X : String → Nat → Tst → Prop) : Nat → Option Nat → Int32 → Option Nat → Tst → Prop
  | 0, _, _, _, _ => False
  | n + 1, l4, l5, l6, σ => w_rc σ l6 cX8 <| w_X8_hasNext l6 (fun x1 σ => w_if (x1 = 0) (w_nw σ cJ19 6 [.inr none, .inr none, .inr none, .inr none, .inr none, .inl 0] fun q2 σ => w_rf q2 <| w_J19_init q2 (fun σ => w_th σ q2 X) X σ) (w_rc σ l6 cX8 <| w_X8_next l6 (fun x4 σ => w_cc σ x4 cX3 <| w_rc σ x4 cX3 <| w_X3_isLike 64 x4 l4 1 (fun x5 σ => w_if (x5 = 0) ((w_X1_shapeTwin_b21 Q X n) l4 (l5 + 1) l6 σ) (Q l5 σ)) X σ) X σ)) X σ
def w_X1_shapeTwin (l0 : Option Nat) (l1 : Int32) (l2 : Int32) (l3 : Int32) (Q : Int32 → Tst → Prop) (X : String → Nat → Tst → Prop) (σ : Tst) : Prop := w_rc σ l0 cX1 <| w_X1_nodeOf l0 l1 l2 (fun x1 σ => w_rc σ l0 cX1 <| w_X1_treeOf l0 l3 (fun x2 σ => w_rc σ x2 cX2 <| w_X2_iterator x2 (fun x3 σ => ∃ z, w_X1_shapeTwin_b21 Q X z x1 0 x3 σ) X σ) X σ) X σ
set_option maxHeartbeats 4000000 in
theorem wk_X1_shapeTwin_b21  (C : tw_C p l R s m args meth c G cX1_shapeTwin 8 yX1_shapeTwin.cls) (hr : meth.sig.returnType = (some .int)) (hmn : meth.name = yX1_shapeTwin.name) (hnx : (∀ x ∈ c.exceptionTable.toList, False)) (hfr : 69 ≤ R.frames) (hRl : R.locals = 40 * R.frames) {Q : Int32 → Tst → Prop} {X : String → Nat → Tst → Prop}  : ∀ (n : Nat) (l4 : Option Nat) (l5 : Int32) (l6 : Option Nat) (σ : Tst) (H : Heap) (locs : List Loc) (ls : Array Slot), w_X1_shapeTwin_b21 Q X n l4 l5 l6 σ → tw_R G σ H → va_S (tw_A G) s.heap H locs → tw_l ls 8 [(4, .inr l4), (5, .inl l5), (6, .inr l6)] → tw_W p l e R s m args below meth c σ H locs (tw_E below G (tw_Qi G Q) X args s R) (F0 m 21 ls []) := by
  intro n
  induction n with
  | zero => intro l4 l5 l6 σ H locs ls hw; exact False.elim hw
  | succ n hk21 =>
    intro l4 l5 l6 σ H locs ls hw hR hS hl
    rw [w_X1_shapeTwin_b21] at hw
    refine tk_aload C hl 2 dX1_shapeTwin_21 rfl ?_
    obtain ⟨hv, hw⟩ := hw
    refine tw_cbi5 C hS (tk_runF (As := []) (x := ⟨"java/util/Iterator", "hasNext", "()Z"⟩) C hR hS (wk_X8_hasNext l C.hst G (R.frames - 1) (by omega) _ _ _ σ hw) hv rfl q1608 q323 q325 q98 q327 (by decide +kernel) (show tw_pd ⟨"java/util/Iterator", "hasNext", "()Z"⟩ 0 by decide +kernel) ⟨by omega, by omega⟩ hl.1 rfl (tw_r8 [] (Nat.le_of_ble_eq_true rfl)) dX1_shapeTwin_23) (fun E q σ H locs hX hR hS hi => tw_out C hR hS (fun x hx => (hnx x hx).elim) hi hX) (fun x1 σ H locs hw hR hS => ?_)
    refine lv_if_eq (tgt := 63) C.hx C.hb dX1_shapeTwin_28 (by decide) (fun c28 => ?_) (fun c28 => ?_)
    · replace hw := hw.1 c28
      refine tk_nw C hR hS hw rfl in_J19 tyJ19 tyJ19_ok q1572 q352 q91 (fun j hj => by rcases (show j = 0 ∨ j = 1 ∨ j = 2 ∨ j = 3 ∨ j = 4 ∨ j = 5 by omega) with rfl | rfl | rfl | rfl | rfl | rfl <;> rfl) dX1_shapeTwin_63 (fun q2 σ H hw hR hS => ?_)
      refine tw_dup (x := .inr q2) C.hx C.hb dX1_shapeTwin_66 ?_
      obtain ⟨hv, hw⟩ := hw
      refine tw_cbv C hS (tk_runI (As := []) hv C hR hS (wk_J19_init l C.hst G (R.frames - 1) (by omega) _ _ _ σ hw) q1573 q404 q91 q405 rfl pd_J19_init ⟨by omega, by omega⟩ hl.1 rfl (tw_r8 [.inr q2] (Nat.le_of_ble_eq_true rfl)) dX1_shapeTwin_67) (fun E q σ H locs hX hR hS hi => tw_out C hR hS (fun x hx => (hnx x hx).elim) hi hX) (fun σ H locs hw hR hS => ?_)
      exact tk_th C hR hS hw (fun x hx => (hnx x hx).elim) dX1_shapeTwin_70
    · replace hw := hw.2 c28
      refine tk_aload C hl 2 dX1_shapeTwin_31 rfl ?_
      obtain ⟨hv, hw⟩ := hw
      refine tw_cbq5 C hS (tk_runF (As := []) (x := ⟨"java/util/Iterator", "next", "()Ljava/lang/Object;"⟩) C hR hS (wk_X8_next l C.hst G (R.frames - 1) (by omega) _ _ _ σ hw) hv rfl q1610 q342 q344 q98 q346 (by decide +kernel) (show tw_pd ⟨"java/util/Iterator", "next", "()Ljava/lang/Object;"⟩ 0 by decide +kernel) ⟨by omega, by omega⟩ hl.1 rfl (tw_r8 [] (Nat.le_of_ble_eq_true rfl)) dX1_shapeTwin_33) (fun E q σ H locs hX hR hS hi => tw_out C hR hS (fun x hx => (hnx x hx).elim) hi hX) (fun x4 σ H locs hw hR hS => ?_)
      refine tk_cc C hR hw rfl q157 (Or.inl rfl) dX1_shapeTwin_38 (fun hw => ?_)
      refine tk_astore (L' := [(7, .inr x4), (4, .inr l4), (5, .inl l5), (6, .inr l6)]) C hl dX1_shapeTwin_41 (by decide) rfl (fun ls hl => ?_)
      refine tk_aload C hl 0 dX1_shapeTwin_43 rfl ?_
      refine tk_aload C hl 1 dX1_shapeTwin_45 rfl ?_
      refine lv_iconst (v := 1) C.hx C.hb dX1_shapeTwin_47 (by decide) ?_
      obtain ⟨hv, hw⟩ := hw
      refine tw_cbi C hS (tk_runV (As := [.inr l4, .inl 1]) C hR hS (wk_X3_isLike l C.hst G 64 (R.frames - 1) (by omega) _ _ _ _ _ σ hw) hv rfl q632 q633 q634 q70 q635 pd_X3_isLike ⟨by omega, by omega⟩ hl.1 rfl (tw_r8 [] (Nat.le_of_ble_eq_true rfl)) dX1_shapeTwin_48) (fun E q σ H locs hX hR hS hi => tw_out C hR hS (fun x hx => (hnx x hx).elim) hi hX) (fun x5 σ H locs hw hR hS => ?_)
      refine lv_if_eq (tgt := 57) C.hx C.hb dX1_shapeTwin_51 (by decide) (fun c51 => ?_) (fun c51 => ?_)
      · replace hw := hw.1 c51
        refine tk_iinc (L' := [(5, .inl (l5 + 1)), (7, .inr x4), (4, .inr l4), (6, .inr l6)]) (y := (l5 + 1)) C hl 2 dX1_shapeTwin_57 rfl rfl (by decide) rfl (fun ls hl => ?_)
        refine lv_goto (tgt := 21) C.hx C.hb dX1_shapeTwin_60 (by decide) ?_
        exact hk21 _ _ _ σ _ _ _ hw hR hS (tk_sub hl [2, 0, 3] rfl)
      · replace hw := hw.2 c51
        refine tk_iload C hl 2 dX1_shapeTwin_54 rfl ?_
        exact tw_iret C hR hS hr rfl dX1_shapeTwin_56 hw
set_option maxHeartbeats 4000000 in
theorem wk_X1_shapeTwin (l : Launch) (hl0 : l.stackTraces = false) (G : Tgl) (fr : Nat)  (hfr : 69 ≤ fr) (l0 : Option Nat) (l1 : Int32) (l2 : Int32) (l3 : Int32) (Q : Int32 → Tst → Prop) (X : String → Nat → Tst → Prop) (σ : Tst) (hw : w_X1_shapeTwin l0 l1 l2 l3 Q X σ) : tw_M l yX1_shapeTwin (ws_ yX1_shapeTwin cX1_shapeTwin 8 (some .int)) fr (40 * fr) G σ [.inr l0, .inl l1, .inl l2, .inl l3] (tw_Qi G Q) X := by
  unfold w_X1_shapeTwin at hw
  refine tw_of (ret := (some .int)) hl0 (by decide) (Nat.le_of_ble_eq_true rfl) (fun p e R s m args below meth c hRf hRl C hr hmn hnx hR hS ls hl => ?_)
  have hfr : 69 ≤ R.frames := by rw [hRf]; exact hfr
  have hRl : R.locals = 40 * R.frames := by rw [hRl, hRf]
  have hl : tw_l ls 8 [(0, .inr l0), (1, .inl l1), (2, .inl l2), (3, .inl l3)] := hl
  refine tk_aload_n C hl 0 dX1_shapeTwin_0 rfl ?_
  refine tk_iload_n C hl 1 dX1_shapeTwin_1 rfl ?_
  refine tk_iload_n C hl 2 dX1_shapeTwin_2 rfl ?_
  obtain ⟨hv, hw⟩ := hw
  refine tw_cbq C hS (tk_runV (As := [.inl l1, .inl l2]) C hR hS (wk_X1_nodeOf l C.hst G (R.frames - 1) (by omega) _ _ _ _ _ σ hw) hv rfl q1696 q1698 qs18 q64 q1699 pd_X1_nodeOf ⟨by omega, by omega⟩ hl.1 rfl (tw_r8 [] (Nat.le_of_ble_eq_true rfl)) dX1_shapeTwin_3) (fun E q σ H locs hX hR hS hi => tw_out C hR hS (fun x hx => (hnx x hx).elim) hi hX) (fun x1 σ H locs hw hR hS => ?_)
  refine tk_astore (L' := [(4, .inr x1), (0, .inr l0), (1, .inl l1), (2, .inl l2), (3, .inl l3)]) C hl dX1_shapeTwin_6 (by decide) rfl (fun ls hl => ?_)
  refine lv_iconst (v := 0) C.hx C.hb dX1_shapeTwin_8 (by decide) ?_
  refine tk_istore (L' := [(5, .inl 0), (4, .inr x1), (0, .inr l0), (1, .inl l1), (2, .inl l2), (3, .inl l3)]) C hl dX1_shapeTwin_9 (by decide) rfl (fun ls hl => ?_)
  refine tk_aload_n C hl 2 dX1_shapeTwin_11 rfl ?_
  refine tk_iload_n C hl 5 dX1_shapeTwin_12 rfl ?_
  obtain ⟨hv, hw⟩ := hw
  refine tw_cbq C hS (tk_runV (As := [.inl l3]) C hR hS (wk_X1_treeOf l C.hst G (R.frames - 1) (by omega) _ _ _ _ σ hw) hv rfl q1581 q1583 qs16 q64 q1584 pd_X1_treeOf ⟨by omega, by omega⟩ hl.1 rfl (tw_r8 [] (Nat.le_of_ble_eq_true rfl)) dX1_shapeTwin_13) (fun E q σ H locs hX hR hS hi => tw_out C hR hS (fun x hx => (hnx x hx).elim) hi hX) (fun x2 σ H locs hw hR hS => ?_)
  obtain ⟨hv, hw⟩ := hw
  refine tw_cbq C hS (tk_runV (As := []) C hR hS (wk_X2_iterator l C.hst G (R.frames - 1) (by omega) _ _ _ σ hw) hv rfl q1688 q951 q952 q69 q953 pd_X2_iterator ⟨by omega, by omega⟩ hl.1 rfl (tw_r8 [] (Nat.le_of_ble_eq_true rfl)) dX1_shapeTwin_16) (fun E q σ H locs hX hR hS hi => tw_out C hR hS (fun x hx => (hnx x hx).elim) hi hX) (fun x3 σ H locs hw hR hS => ?_)
  refine tk_astore (L' := [(6, .inr x3), (5, .inl 0), (4, .inr x1), (0, .inr l0), (1, .inl l1), (2, .inl l2), (3, .inl l3)]) C hl dX1_shapeTwin_19 (by decide) rfl (fun ls hl => ?_)
  obtain ⟨z, hw⟩ := hw
  exact wk_X1_shapeTwin_b21 C hr hmn hnx hfr hRl z _ _ _ σ _ _ _ hw hR hS (tk_sub hl [2, 1, 0] rfl)
-- TreeDifferLaw.shapeTwin(LTreeDiffer;III[J)I
def w_X0_shapeTwin_b15 (Q : Int32 → Tst → Prop) (X : String → Nat → Tst → Prop) (s0 : Option Nat) (σ : Tst) : Prop := Q 1 σ
def w_X0_shapeTwin_b19 (Q : Int32 → Tst → Prop) (X : String → Nat → Tst → Prop) (s0 : Option Nat) (σ : Tst) : Prop := Q 2 σ
def w_X0_shapeTwin (l0 : Option Nat) (l1 : Int32) (l2 : Int32) (l3 : Int32) (l4 : Option Nat) (Q : Int32 → Tst → Prop) (X : String → Nat → Tst → Prop) (σ : Tst) : Prop := w_rc σ l0 cX1 <| w_X1_shapeTwin l0 l1 l2 l3 (fun x1 σ => w_sl σ l4 0 (x1.toInt64) fun σ => Q 0 σ) (fun E q σ => w_if (E = "java/lang/IndexOutOfBoundsException") (w_X0_shapeTwin_b15 Q X (some q) σ) (w_if (E = "java/util/NoSuchElementException") (w_X0_shapeTwin_b19 Q X (some q) σ) (False))) σ
set_option maxHeartbeats 4000000 in
theorem wk_X0_shapeTwin_b15  (C : tw_C p l R s m args meth c G cX0_shapeTwin 6 yX0_shapeTwin.cls) (hr : meth.sig.returnType = (some .int)) (hmn : meth.name = yX0_shapeTwin.name) (hnx : (c.exceptionTable.toList = tableOf [(0, 12, 15, 19), (0, 12, 19, 27)])) (hfr : 70 ≤ R.frames) (hRl : R.locals = 40 * R.frames) {Q : Int32 → Tst → Prop} {X : String → Nat → Tst → Prop}  (s0 : Option Nat) (σ : Tst) (H : Heap) (locs : List Loc) (ls : Array Slot) (hw : w_X0_shapeTwin_b15 Q X s0 σ) (hR : tw_R G σ H) (hS : va_S (tw_A G) s.heap H locs) (hl : tw_l ls 6 []) : tw_W p l e R s m args below meth c σ H locs (tw_E below G (tw_Qi G Q) X args s R) (F0 m 15 ls [va_rf s0]) := by
  unfold w_X0_shapeTwin_b15 at hw
  refine tk_astore (L' := [(5, .inr s0)]) C hl dX0_shapeTwin_15 (by decide) rfl (fun ls hl => ?_)
  refine lv_iconst (v := 1) C.hx C.hb dX0_shapeTwin_17 (by decide) ?_
  exact tw_iret C hR hS hr rfl dX0_shapeTwin_18 hw
set_option maxHeartbeats 4000000 in
theorem wk_X0_shapeTwin_b19  (C : tw_C p l R s m args meth c G cX0_shapeTwin 6 yX0_shapeTwin.cls) (hr : meth.sig.returnType = (some .int)) (hmn : meth.name = yX0_shapeTwin.name) (hnx : (c.exceptionTable.toList = tableOf [(0, 12, 15, 19), (0, 12, 19, 27)])) (hfr : 70 ≤ R.frames) (hRl : R.locals = 40 * R.frames) {Q : Int32 → Tst → Prop} {X : String → Nat → Tst → Prop}  (s0 : Option Nat) (σ : Tst) (H : Heap) (locs : List Loc) (ls : Array Slot) (hw : w_X0_shapeTwin_b19 Q X s0 σ) (hR : tw_R G σ H) (hS : va_S (tw_A G) s.heap H locs) (hl : tw_l ls 6 []) : tw_W p l e R s m args below meth c σ H locs (tw_E below G (tw_Qi G Q) X args s R) (F0 m 19 ls [va_rf s0]) := by
  unfold w_X0_shapeTwin_b19 at hw
  refine tk_astore (L' := [(5, .inr s0)]) C hl dX0_shapeTwin_19 (by decide) rfl (fun ls hl => ?_)
  refine lv_iconst (v := 2) C.hx C.hb dX0_shapeTwin_21 (by decide) ?_
  exact tw_iret C hR hS hr rfl dX0_shapeTwin_22 hw
set_option maxHeartbeats 4000000 in
theorem wk_X0_shapeTwin (l : Launch) (hl0 : l.stackTraces = false) (G : Tgl) (fr : Nat)  (hfr : 70 ≤ fr) (l0 : Option Nat) (l1 : Int32) (l2 : Int32) (l3 : Int32) (l4 : Option Nat) (Q : Int32 → Tst → Prop) (X : String → Nat → Tst → Prop) (σ : Tst) (hw : w_X0_shapeTwin l0 l1 l2 l3 l4 Q X σ) : tw_M l yX0_shapeTwin (wsW_ yX0_shapeTwin cX0_shapeTwin 6 (some .int) [(0, 12, 15, 19), (0, 12, 19, 27)]) fr (40 * fr) G σ [.inr l0, .inl l1, .inl l2, .inl l3, .inr l4] (tw_Qi G Q) X := by
  unfold w_X0_shapeTwin at hw
  refine tw_ofW (ret := (some .int)) (hh := [(0, 12, 15, 19), (0, 12, 19, 27)]) hl0 (by decide) (Nat.le_of_ble_eq_true rfl) (fun p e R s m args below meth c hRf hRl C hr hmn hnx hR hS ls hl => ?_)
  have hfr : 70 ≤ R.frames := by rw [hRf]; exact hfr
  have hRl : R.locals = 40 * R.frames := by rw [hRl, hRf]
  have hl : tw_l ls 6 [(0, .inr l0), (1, .inl l1), (2, .inl l2), (3, .inl l3), (4, .inr l4)] := hl
  refine tk_aload C hl 4 dX0_shapeTwin_0 rfl ?_
  refine lv_iconst (v := 0) C.hx C.hb dX0_shapeTwin_2 (by decide) ?_
  refine tk_aload_n C hl 0 dX0_shapeTwin_3 rfl ?_
  refine tk_iload_n C hl 1 dX0_shapeTwin_4 rfl ?_
  refine tk_iload_n C hl 2 dX0_shapeTwin_5 rfl ?_
  refine tk_iload_n C hl 3 dX0_shapeTwin_6 rfl ?_
  obtain ⟨hv, hw⟩ := hw
  refine tw_cbi C hS (tk_runV (As := [.inl l1, .inl l2, .inl l3]) C hR hS (wk_X1_shapeTwin l C.hst G (R.frames - 1) (by omega) _ _ _ _ _ _ σ hw) hv rfl q1794 q1795 q1796 q64 q1797 pd_X1_shapeTwin ⟨by omega, by omega⟩ hl.1 rfl (tw_r8 [.inl 0, .inr l4] (Nat.le_of_ble_eq_true rfl)) dX0_shapeTwin_7) (fun E q σ H locs hX hR hS hi => ?_) (fun x1 σ H locs hw hR hS => ?_)
  · by_cases cE0 : E = "java/lang/IndexOutOfBoundsException"
    · replace hX := hX.1 cE0
      subst cE0
      refine tw_catch C hnx [] (0, 12, 15, 19) [(0, 12, 19, 27)] rfl (fun z hz => nomatch hz) rfl (by decide) q1394 q687 hi ?_
      exact wk_X0_shapeTwin_b15 C hr hmn hnx hfr hRl _ σ _ _ _ hX hR hS (tk_sub hl [] rfl)
    replace hX := hX.2 cE0
    by_cases cE1 : E = "java/util/NoSuchElementException"
    · replace hX := hX.1 cE1
      subst cE1
      refine tw_catch C hnx [(0, 12, 15, 19)] (0, 12, 19, 27) [] rfl (fun z hz => by simp only [List.mem_cons, List.not_mem_nil, or_false] at hz; rcases hz with rfl; exact Or.inr ⟨by decide, _, q1394, by decide +kernel⟩) rfl (by decide) q1564 q353 hi ?_
      exact wk_X0_shapeTwin_b19 C hr hmn hnx hfr hRl _ σ _ _ _ hX hR hS (tk_sub hl [] rfl)
    replace hX := hX.2 cE1
    exact hX.elim
  refine lv_i2l (v := x1.toInt64) C.hx C.hb dX0_shapeTwin_10 rfl ?_
  refine tk_sl C hR hS hw dX0_shapeTwin_11 (fun σ H locs hw hR hS => ?_)
  refine lv_goto (tgt := 23) C.hx C.hb dX0_shapeTwin_12 (by decide) ?_
  refine lv_iconst (v := 0) C.hx C.hb dX0_shapeTwin_23 (by decide) ?_
  exact tw_iret C hR hS hr rfl dX0_shapeTwin_24 hw
-- TreeDiffer.pairCost(LTreeDiffer$Node;LTreeDiffer$Node;)I
def w_X1_pairCost_b32 (Q : Int32 → Tst → Prop) (X : String → Nat → Tst → Prop) (s0 : Int32) (s1 : Int32) (σ : Tst) : Prop := Q (s0 + s1) σ
def w_X1_pairCost_b16 (Q : Int32 → Tst → Prop) (X : String → Nat → Tst → Prop) (l0 : Option Nat) (l1 : Option Nat) (s0 : Int32) (σ : Tst) : Prop := w_gi σ l0 cX3 2 fun x1 => w_gi σ l1 cX3 2 fun x2 => w_if (x1 = x2) (w_X1_pairCost_b32 Q X s0 0 σ) (w_X1_pairCost_b32 Q X s0 1 σ)
def w_X1_pairCost (l0 : Option Nat) (l1 : Option Nat) (Q : Int32 → Tst → Prop) (X : String → Nat → Tst → Prop) (σ : Tst) : Prop := w_gi σ l0 cX3 0 fun x1 => w_gi σ l1 cX3 0 fun x2 => w_if (x1 = x2) (w_X1_pairCost_b16 Q X l0 l1 0 σ) (w_X1_pairCost_b16 Q X l0 l1 3 σ)
set_option maxHeartbeats 4000000 in
theorem wk_X1_pairCost_b32  (C : tw_C p l R s m args meth c G cX1_pairCost 2 yX1_pairCost.cls) (hr : meth.sig.returnType = (some .int)) (hmn : meth.name = yX1_pairCost.name) (hnx : (∀ x ∈ c.exceptionTable.toList, False)) (hfr : 1 ≤ R.frames) (hRl : R.locals = 40 * R.frames) {Q : Int32 → Tst → Prop} {X : String → Nat → Tst → Prop}  (s0 : Int32) (s1 : Int32) (σ : Tst) (H : Heap) (locs : List Loc) (ls : Array Slot) (hw : w_X1_pairCost_b32 Q X s0 s1 σ) (hR : tw_R G σ H) (hS : va_S (tw_A G) s.heap H locs) (hl : tw_l ls 2 []) : tw_W p l e R s m args below meth c σ H locs (tw_E below G (tw_Qi G Q) X args s R) (F0 m 32 ls [.int s1, .int s0]) := by
  unfold w_X1_pairCost_b32 at hw
  refine lv_iadd C.hx C.hb dX1_pairCost_32 ?_
  exact tw_iret C hR hS hr rfl dX1_pairCost_33 hw
set_option maxHeartbeats 4000000 in
theorem wk_X1_pairCost_b16  (C : tw_C p l R s m args meth c G cX1_pairCost 2 yX1_pairCost.cls) (hr : meth.sig.returnType = (some .int)) (hmn : meth.name = yX1_pairCost.name) (hnx : (∀ x ∈ c.exceptionTable.toList, False)) (hfr : 1 ≤ R.frames) (hRl : R.locals = 40 * R.frames) {Q : Int32 → Tst → Prop} {X : String → Nat → Tst → Prop}  (l0 : Option Nat) (l1 : Option Nat) (s0 : Int32) (σ : Tst) (H : Heap) (locs : List Loc) (ls : Array Slot) (hw : w_X1_pairCost_b16 Q X l0 l1 s0 σ) (hR : tw_R G σ H) (hS : va_S (tw_A G) s.heap H locs) (hl : tw_l ls 2 [(0, .inr l0), (1, .inr l1)]) : tw_W p l e R s m args below meth c σ H locs (tw_E below G (tw_Qi G Q) X args s R) (F0 m 16 ls [.int s0]) := by
  unfold w_X1_pairCost_b16 at hw
  refine tk_aload_n C hl 0 dX1_pairCost_16 rfl ?_
  refine tk_giN C hR hw rfl in_X3 (by decide) q205 (fun _ h => h) dX1_pairCost_17 (fun x1 hw => ?_)
  refine tk_aload_n C hl 1 dX1_pairCost_20 rfl ?_
  refine tk_giN C hR hw rfl in_X3 (by decide) q205 (fun _ h => h) dX1_pairCost_21 (fun x2 hw => ?_)
  refine lv_icmp_ne (tgt := 31) C.hx C.hb dX1_pairCost_24 (by decide) (fun c24 => ?_) (fun c24 => ?_)
  · replace hw := hw.2 c24
    refine lv_iconst (v := 1) C.hx C.hb dX1_pairCost_31 (by decide) ?_
    exact wk_X1_pairCost_b32 C hr hmn hnx hfr hRl _ _ σ _ _ _ hw hR hS (tk_sub hl [] rfl)
  · replace hw := hw.1 c24
    refine lv_iconst (v := 0) C.hx C.hb dX1_pairCost_27 (by decide) ?_
    refine lv_goto (tgt := 32) C.hx C.hb dX1_pairCost_28 (by decide) ?_
    exact wk_X1_pairCost_b32 C hr hmn hnx hfr hRl _ _ σ _ _ _ hw hR hS (tk_sub hl [] rfl)
set_option maxHeartbeats 4000000 in
theorem wk_X1_pairCost (l : Launch) (hl0 : l.stackTraces = false) (G : Tgl) (fr : Nat)  (hfr : 1 ≤ fr) (l0 : Option Nat) (l1 : Option Nat) (Q : Int32 → Tst → Prop) (X : String → Nat → Tst → Prop) (σ : Tst) (hw : w_X1_pairCost l0 l1 Q X σ) : tw_M l yX1_pairCost (ws_ yX1_pairCost cX1_pairCost 2 (some .int)) fr (40 * fr) G σ [.inr l0, .inr l1] (tw_Qi G Q) X := by
  unfold w_X1_pairCost at hw
  refine tw_of (ret := (some .int)) hl0 (by decide) (Nat.le_of_ble_eq_true rfl) (fun p e R s m args below meth c hRf hRl C hr hmn hnx hR hS ls hl => ?_)
  have hfr : 1 ≤ R.frames := by rw [hRf]; exact hfr
  have hRl : R.locals = 40 * R.frames := by rw [hRl, hRf]
  have hl : tw_l ls 2 [(0, .inr l0), (1, .inr l1)] := hl
  refine tk_aload_n C hl 0 dX1_pairCost_0 rfl ?_
  refine tk_giN C hR hw rfl in_X3 (by decide) q195 (fun _ h => h) dX1_pairCost_1 (fun x1 hw => ?_)
  refine tk_aload_n C hl 1 dX1_pairCost_4 rfl ?_
  refine tk_giN C hR hw rfl in_X3 (by decide) q195 (fun _ h => h) dX1_pairCost_5 (fun x2 hw => ?_)
  refine lv_icmp_ne (tgt := 15) C.hx C.hb dX1_pairCost_8 (by decide) (fun c8 => ?_) (fun c8 => ?_)
  · replace hw := hw.2 c8
    refine lv_iconst (v := 3) C.hx C.hb dX1_pairCost_15 (by decide) ?_
    exact wk_X1_pairCost_b16 C hr hmn hnx hfr hRl _ _ _ σ _ _ _ hw hR hS (tk_sub hl [0, 1] rfl)
  · replace hw := hw.1 c8
    refine lv_iconst (v := 0) C.hx C.hb dX1_pairCost_11 (by decide) ?_
    refine lv_goto (tgt := 16) C.hx C.hb dX1_pairCost_12 (by decide) ?_
    exact wk_X1_pairCost_b16 C hr hmn hnx hfr hRl _ _ _ σ _ _ _ hw hR hS (tk_sub hl [0, 1] rfl)
-- TreeDiffer$Table.at(II)I
def w_X9_at (l0 : Option Nat) (l1 : Int32) (l2 : Int32) (Q : Int32 → Tst → Prop) (X : String → Nat → Tst → Prop) (σ : Tst) : Prop := w_gr σ l0 cX9 3 fun x1 => w_gi σ l0 cX9 2 fun x2 => w_li σ x1 ((l1 * x2) + l2) fun x3 => Q x3 σ
set_option maxHeartbeats 4000000 in
theorem wk_X9_at (l : Launch) (hl0 : l.stackTraces = false) (G : Tgl) (fr : Nat)  (hfr : 1 ≤ fr) (l0 : Option Nat) (l1 : Int32) (l2 : Int32) (Q : Int32 → Tst → Prop) (X : String → Nat → Tst → Prop) (σ : Tst) (hw : w_X9_at l0 l1 l2 Q X σ) : tw_M l yX9_at (ws_ yX9_at cX9_at 3 (some .int)) fr (40 * fr) G σ [.inr l0, .inl l1, .inl l2] (tw_Qi G Q) X := by
  unfold w_X9_at at hw
  refine tw_of (ret := (some .int)) hl0 (by decide) (Nat.le_of_ble_eq_true rfl) (fun p e R s m args below meth c hRf hRl C hr hmn hnx hR hS ls hl => ?_)
  have hfr : 1 ≤ R.frames := by rw [hRf]; exact hfr
  have hRl : R.locals = 40 * R.frames := by rw [hRl, hRf]
  have hl : tw_l ls 3 [(0, .inr l0), (1, .inl l1), (2, .inl l2)] := hl
  refine tk_aload_n C hl 0 dX9_at_0 rfl ?_
  refine tk_gr C hR hw rfl in_X9 (by decide) q620 (fun _ h => h) dX9_at_1 (fun x1 hw => ?_)
  refine tk_iload_n C hl 1 dX9_at_4 rfl ?_
  refine tk_aload_n C hl 0 dX9_at_5 rfl ?_
  refine tk_gi C hR hw rfl in_X9 (by decide) q619 (fun _ h => h) dX9_at_6 (fun x2 hw => ?_)
  refine lv_imul C.hx C.hb dX9_at_9 ?_
  refine tk_iload_n C hl 2 dX9_at_10 rfl ?_
  refine lv_iadd C.hx C.hb dX9_at_11 ?_
  refine tk_li C hR hw dX9_at_12 (fun x3 hw => ?_)
  exact tw_iret C hR hS hr rfl dX9_at_13 hw
-- TreeDiffer$Table.byInsertion(II)I
def w_X9_byInsertion (l0 : Option Nat) (l1 : Int32) (l2 : Int32) (Q : Int32 → Tst → Prop) (X : String → Nat → Tst → Prop) (σ : Tst) : Prop := w_gr σ l0 cX9 1 fun x1 => w_gr σ x1 cX3 4 fun x2 => w_rc σ x2 cJ6 <| w_J6_get x2 l2 (fun x3 σ => w_cc σ x3 cX3 <| w_rc σ x3 cX3 <| w_X3_size 64 x3 (fun x4 σ => w_rc σ l0 cX9 <| w_X9_at l0 l1 (l2 + 1) (fun x5 σ => Q ((2 * x4) + x5) σ) X σ) X σ) X σ
set_option maxHeartbeats 4000000 in
theorem wk_X9_byInsertion (l : Launch) (hl0 : l.stackTraces = false) (G : Tgl) (fr : Nat)  (hfr : 68 ≤ fr) (l0 : Option Nat) (l1 : Int32) (l2 : Int32) (Q : Int32 → Tst → Prop) (X : String → Nat → Tst → Prop) (σ : Tst) (hw : w_X9_byInsertion l0 l1 l2 Q X σ) : tw_M l yX9_byInsertion (ws_ yX9_byInsertion cX9_byInsertion 3 (some .int)) fr (40 * fr) G σ [.inr l0, .inl l1, .inl l2] (tw_Qi G Q) X := by
  unfold w_X9_byInsertion at hw
  refine tw_of (ret := (some .int)) hl0 (by decide) (Nat.le_of_ble_eq_true rfl) (fun p e R s m args below meth c hRf hRl C hr hmn hnx hR hS ls hl => ?_)
  have hfr : 68 ≤ R.frames := by rw [hRf]; exact hfr
  have hRl : R.locals = 40 * R.frames := by rw [hRl, hRf]
  have hl : tw_l ls 3 [(0, .inr l0), (1, .inl l1), (2, .inl l2)] := hl
  refine lv_iconst (v := 2) C.hx C.hb dX9_byInsertion_0 (by decide) ?_
  refine tk_aload_n C hl 0 dX9_byInsertion_1 rfl ?_
  refine tk_gr C hR hw rfl in_X9 (by decide) q618 (fun _ h => h) dX9_byInsertion_2 (fun x1 hw => ?_)
  refine tk_grN C hR hw rfl in_X3 (by decide) q210 (fun _ h => h) dX9_byInsertion_5 (fun x2 hw => ?_)
  refine tk_iload_n C hl 2 dX9_byInsertion_8 rfl ?_
  obtain ⟨hv, hw⟩ := hw
  refine tw_cbq5 C hS (tk_runF (As := [.inl l2]) (x := ⟨"java/util/List", "get", "(I)Ljava/lang/Object;"⟩) C hR hS (wk_J6_get l C.hst G (R.frames - 1) (by omega) _ _ _ _ σ hw) hv rfl q596 q456 q458 q73 q460 (by decide +kernel) (show tw_pd ⟨"java/util/List", "get", "(I)Ljava/lang/Object;"⟩ 1 by decide +kernel) ⟨by omega, by omega⟩ hl.1 rfl (tw_r8 [.inl 2] (Nat.le_of_ble_eq_true rfl)) dX9_byInsertion_9) (fun E q σ H locs hX hR hS hi => tw_out C hR hS (fun x hx => (hnx x hx).elim) hi hX) (fun x3 σ H locs hw hR hS => ?_)
  refine tk_cc C hR hw rfl q597 (Or.inl rfl) dX9_byInsertion_14 (fun hw => ?_)
  obtain ⟨hv, hw⟩ := hw
  refine tw_cbi C hS (tk_runV (As := []) C hR hS (wk_X3_size l C.hst G 64 (R.frames - 1) (by omega) _ _ _ σ hw) hv rfl q598 q287 q288 q70 q289 pd_X3_size ⟨by omega, by omega⟩ hl.1 rfl (tw_r8 [.inl 2] (Nat.le_of_ble_eq_true rfl)) dX9_byInsertion_17) (fun E q σ H locs hX hR hS hi => tw_out C hR hS (fun x hx => (hnx x hx).elim) hi hX) (fun x4 σ H locs hw hR hS => ?_)
  refine lv_imul C.hx C.hb dX9_byInsertion_20 ?_
  refine tk_aload_n C hl 0 dX9_byInsertion_21 rfl ?_
  refine tk_iload_n C hl 1 dX9_byInsertion_22 rfl ?_
  refine tk_iload_n C hl 2 dX9_byInsertion_23 rfl ?_
  refine lv_iconst (v := 1) C.hx C.hb dX9_byInsertion_24 (by decide) ?_
  refine lv_iadd C.hx C.hb dX9_byInsertion_25 ?_
  obtain ⟨hv, hw⟩ := hw
  refine tw_cbi C hS (tk_runV (As := [.inl l1, .inl (l2 + 1)]) C hR hS (wk_X9_at l C.hst G (R.frames - 1) (by omega) _ _ _ _ _ σ hw) hv rfl q599 q600 q601 q100 q602 pd_X9_at ⟨by omega, by omega⟩ hl.1 rfl (tw_r8 [.inl (2 * x4)] (Nat.le_of_ble_eq_true rfl)) dX9_byInsertion_26) (fun E q σ H locs hX hR hS hi => tw_out C hR hS (fun x hx => (hnx x hx).elim) hi hX) (fun x5 σ H locs hw hR hS => ?_)
  refine lv_iadd C.hx C.hb dX9_byInsertion_29 ?_
  exact tw_iret C hR hS hr rfl dX9_byInsertion_30 hw
-- TreeDiffer$Table.byDeletion(II)I
def w_X9_byDeletion (l0 : Option Nat) (l1 : Int32) (l2 : Int32) (Q : Int32 → Tst → Prop) (X : String → Nat → Tst → Prop) (σ : Tst) : Prop := w_gr σ l0 cX9 0 fun x1 => w_gr σ x1 cX3 4 fun x2 => w_rc σ x2 cJ6 <| w_J6_get x2 l1 (fun x3 σ => w_cc σ x3 cX3 <| w_rc σ x3 cX3 <| w_X3_size 64 x3 (fun x4 σ => w_rc σ l0 cX9 <| w_X9_at l0 (l1 + 1) l2 (fun x5 σ => Q ((2 * x4) + x5) σ) X σ) X σ) X σ
set_option maxHeartbeats 4000000 in
theorem wk_X9_byDeletion (l : Launch) (hl0 : l.stackTraces = false) (G : Tgl) (fr : Nat)  (hfr : 68 ≤ fr) (l0 : Option Nat) (l1 : Int32) (l2 : Int32) (Q : Int32 → Tst → Prop) (X : String → Nat → Tst → Prop) (σ : Tst) (hw : w_X9_byDeletion l0 l1 l2 Q X σ) : tw_M l yX9_byDeletion (ws_ yX9_byDeletion cX9_byDeletion 3 (some .int)) fr (40 * fr) G σ [.inr l0, .inl l1, .inl l2] (tw_Qi G Q) X := by
  unfold w_X9_byDeletion at hw
  refine tw_of (ret := (some .int)) hl0 (by decide) (Nat.le_of_ble_eq_true rfl) (fun p e R s m args below meth c hRf hRl C hr hmn hnx hR hS ls hl => ?_)
  have hfr : 68 ≤ R.frames := by rw [hRf]; exact hfr
  have hRl : R.locals = 40 * R.frames := by rw [hRl, hRf]
  have hl : tw_l ls 3 [(0, .inr l0), (1, .inl l1), (2, .inl l2)] := hl
  refine lv_iconst (v := 2) C.hx C.hb dX9_byDeletion_0 (by decide) ?_
  refine tk_aload_n C hl 0 dX9_byDeletion_1 rfl ?_
  refine tk_gr C hR hw rfl in_X9 (by decide) q617 (fun _ h => h) dX9_byDeletion_2 (fun x1 hw => ?_)
  refine tk_grN C hR hw rfl in_X3 (by decide) q210 (fun _ h => h) dX9_byDeletion_5 (fun x2 hw => ?_)
  refine tk_iload_n C hl 1 dX9_byDeletion_8 rfl ?_
  obtain ⟨hv, hw⟩ := hw
  refine tw_cbq5 C hS (tk_runF (As := [.inl l1]) (x := ⟨"java/util/List", "get", "(I)Ljava/lang/Object;"⟩) C hR hS (wk_J6_get l C.hst G (R.frames - 1) (by omega) _ _ _ _ σ hw) hv rfl q596 q456 q458 q73 q460 (by decide +kernel) (show tw_pd ⟨"java/util/List", "get", "(I)Ljava/lang/Object;"⟩ 1 by decide +kernel) ⟨by omega, by omega⟩ hl.1 rfl (tw_r8 [.inl 2] (Nat.le_of_ble_eq_true rfl)) dX9_byDeletion_9) (fun E q σ H locs hX hR hS hi => tw_out C hR hS (fun x hx => (hnx x hx).elim) hi hX) (fun x3 σ H locs hw hR hS => ?_)
  refine tk_cc C hR hw rfl q597 (Or.inl rfl) dX9_byDeletion_14 (fun hw => ?_)
  obtain ⟨hv, hw⟩ := hw
  refine tw_cbi C hS (tk_runV (As := []) C hR hS (wk_X3_size l C.hst G 64 (R.frames - 1) (by omega) _ _ _ σ hw) hv rfl q598 q287 q288 q70 q289 pd_X3_size ⟨by omega, by omega⟩ hl.1 rfl (tw_r8 [.inl 2] (Nat.le_of_ble_eq_true rfl)) dX9_byDeletion_17) (fun E q σ H locs hX hR hS hi => tw_out C hR hS (fun x hx => (hnx x hx).elim) hi hX) (fun x4 σ H locs hw hR hS => ?_)
  refine lv_imul C.hx C.hb dX9_byDeletion_20 ?_
  refine tk_aload_n C hl 0 dX9_byDeletion_21 rfl ?_
  refine tk_iload_n C hl 1 dX9_byDeletion_22 rfl ?_
  refine lv_iconst (v := 1) C.hx C.hb dX9_byDeletion_23 (by decide) ?_
  refine lv_iadd C.hx C.hb dX9_byDeletion_24 ?_
  refine tk_iload_n C hl 2 dX9_byDeletion_25 rfl ?_
  obtain ⟨hv, hw⟩ := hw
  refine tw_cbi C hS (tk_runV (As := [.inl (l1 + 1), .inl l2]) C hR hS (wk_X9_at l C.hst G (R.frames - 1) (by omega) _ _ _ _ _ σ hw) hv rfl q599 q600 q601 q100 q602 pd_X9_at ⟨by omega, by omega⟩ hl.1 rfl (tw_r8 [.inl (2 * x4)] (Nat.le_of_ble_eq_true rfl)) dX9_byDeletion_26) (fun E q σ H locs hX hR hS hi => tw_out C hR hS (fun x hx => (hnx x hx).elim) hi hX) (fun x5 σ H locs hw hR hS => ?_)
  refine lv_iadd C.hx C.hb dX9_byDeletion_29 ?_
  exact tw_iret C hR hS hr rfl dX9_byDeletion_30 hw
-- TreeDiffer$Table.canPair(II)Z
def w_X9_canPair_b78 (Q : Int32 → Tst → Prop) (X : String → Nat → Tst → Prop) (s0 : Int32) (σ : Tst) : Prop := narrow .boolean (.int s0) = .int s0 ∧ Q s0 σ
def w_X9_canPair_b77 (Q : Int32 → Tst → Prop) (X : String → Nat → Tst → Prop) (σ : Tst) : Prop := w_X9_canPair_b78 Q X 0 σ
def w_X9_canPair (l0 : Option Nat) (l1 : Int32) (l2 : Int32) (Q : Int32 → Tst → Prop) (X : String → Nat → Tst → Prop) (σ : Tst) : Prop := w_gr σ l0 cX9 0 fun x1 => w_gr σ x1 cX3 4 fun x2 => w_rc σ x2 cJ6 <| w_J6_size x2 (fun x3 σ => w_if (x3 ≤ l1) (w_X9_canPair_b77 Q X σ) (w_gr σ l0 cX9 1 fun x4 => w_gr σ x4 cX3 4 fun x5 => w_rc σ x5 cJ6 <| w_J6_size x5 (fun x6 σ => w_if (x6 ≤ l2) (w_X9_canPair_b77 Q X σ) (w_gr σ l0 cX9 0 fun x7 => w_gr σ x7 cX3 4 fun x8 => w_rc σ x8 cJ6 <| w_J6_get x8 l1 (fun x9 σ => w_cc σ x9 cX3 <| w_gi σ x9 cX3 1 fun x10 => w_gr σ l0 cX9 1 fun x11 => w_gr σ x11 cX3 4 fun x12 => w_rc σ x12 cJ6 <| w_J6_get x12 l2 (fun x13 σ => w_cc σ x13 cX3 <| w_gi σ x13 cX3 1 fun x14 => w_if (x10 = x14) (w_X9_canPair_b78 Q X 1 σ) (w_X9_canPair_b77 Q X σ)) X σ) X σ)) X σ)) X σ
set_option maxHeartbeats 4000000 in
theorem wk_X9_canPair_b78  (C : tw_C p l R s m args meth c G cX9_canPair 3 yX9_canPair.cls) (hr : meth.sig.returnType = (some .boolean)) (hmn : meth.name = yX9_canPair.name) (hnx : (∀ x ∈ c.exceptionTable.toList, False)) (hfr : 4 ≤ R.frames) (hRl : R.locals = 40 * R.frames) {Q : Int32 → Tst → Prop} {X : String → Nat → Tst → Prop}  (s0 : Int32) (σ : Tst) (H : Heap) (locs : List Loc) (ls : Array Slot) (hw : w_X9_canPair_b78 Q X s0 σ) (hR : tw_R G σ H) (hS : va_S (tw_A G) s.heap H locs) (hl : tw_l ls 3 []) : tw_W p l e R s m args below meth c σ H locs (tw_E below G (tw_Qi G Q) X args s R) (F0 m 78 ls [.int s0]) := by
  unfold w_X9_canPair_b78 at hw
  obtain ⟨hok, hw⟩ := hw
  exact tw_iret C hR hS hr hok dX9_canPair_78 hw
set_option maxHeartbeats 4000000 in
theorem wk_X9_canPair_b77  (C : tw_C p l R s m args meth c G cX9_canPair 3 yX9_canPair.cls) (hr : meth.sig.returnType = (some .boolean)) (hmn : meth.name = yX9_canPair.name) (hnx : (∀ x ∈ c.exceptionTable.toList, False)) (hfr : 4 ≤ R.frames) (hRl : R.locals = 40 * R.frames) {Q : Int32 → Tst → Prop} {X : String → Nat → Tst → Prop}   (σ : Tst) (H : Heap) (locs : List Loc) (ls : Array Slot) (hw : w_X9_canPair_b77 Q X  σ) (hR : tw_R G σ H) (hS : va_S (tw_A G) s.heap H locs) (hl : tw_l ls 3 []) : tw_W p l e R s m args below meth c σ H locs (tw_E below G (tw_Qi G Q) X args s R) (F0 m 77 ls []) := by
  unfold w_X9_canPair_b77 at hw
  refine lv_iconst (v := 0) C.hx C.hb dX9_canPair_77 (by decide) ?_
  exact wk_X9_canPair_b78 C hr hmn hnx hfr hRl _ σ _ _ _ hw hR hS (tk_sub hl [] rfl)
set_option maxHeartbeats 4000000 in
theorem wk_X9_canPair (l : Launch) (hl0 : l.stackTraces = false) (G : Tgl) (fr : Nat)  (hfr : 4 ≤ fr) (l0 : Option Nat) (l1 : Int32) (l2 : Int32) (Q : Int32 → Tst → Prop) (X : String → Nat → Tst → Prop) (σ : Tst) (hw : w_X9_canPair l0 l1 l2 Q X σ) : tw_M l yX9_canPair (ws_ yX9_canPair cX9_canPair 3 (some .boolean)) fr (40 * fr) G σ [.inr l0, .inl l1, .inl l2] (tw_Qi G Q) X := by
  unfold w_X9_canPair at hw
  refine tw_of (ret := (some .boolean)) hl0 (by decide) (Nat.le_of_ble_eq_true rfl) (fun p e R s m args below meth c hRf hRl C hr hmn hnx hR hS ls hl => ?_)
  have hfr : 4 ≤ R.frames := by rw [hRf]; exact hfr
  have hRl : R.locals = 40 * R.frames := by rw [hRl, hRf]
  have hl : tw_l ls 3 [(0, .inr l0), (1, .inl l1), (2, .inl l2)] := hl
  refine tk_iload_n C hl 1 dX9_canPair_0 rfl ?_
  refine tk_aload_n C hl 0 dX9_canPair_1 rfl ?_
  refine tk_gr C hR hw rfl in_X9 (by decide) q617 (fun _ h => h) dX9_canPair_2 (fun x1 hw => ?_)
  refine tk_grN C hR hw rfl in_X3 (by decide) q210 (fun _ h => h) dX9_canPair_5 (fun x2 hw => ?_)
  obtain ⟨hv, hw⟩ := hw
  refine tw_cbi5 C hS (tk_runF (As := []) (x := ⟨"java/util/List", "size", "()I"⟩) C hR hS (wk_J6_size l C.hst G (R.frames - 1) (by omega) _ _ _ σ hw) hv rfl q586 q447 q449 q73 q451 (by decide +kernel) (show tw_pd ⟨"java/util/List", "size", "()I"⟩ 0 by decide +kernel) ⟨by omega, by omega⟩ hl.1 rfl (tw_r8 [.inl l1] (Nat.le_of_ble_eq_true rfl)) dX9_canPair_8) (fun E q σ H locs hX hR hS hi => tw_out C hR hS (fun x hx => (hnx x hx).elim) hi hX) (fun x3 σ H locs hw hR hS => ?_)
  refine lv_icmp_ge (tgt := 77) C.hx C.hb dX9_canPair_13 (by decide) (fun c13 => ?_) (fun c13 => ?_)
  · replace hw := hw.1 c13
    exact wk_X9_canPair_b77 C hr hmn hnx hfr hRl σ _ _ _ hw hR hS (tk_sub hl [] rfl)
  · replace hw := hw.2 c13
    refine tk_iload_n C hl 2 dX9_canPair_16 rfl ?_
    refine tk_aload_n C hl 0 dX9_canPair_17 rfl ?_
    refine tk_gr C hR hw rfl in_X9 (by decide) q618 (fun _ h => h) dX9_canPair_18 (fun x4 hw => ?_)
    refine tk_grN C hR hw rfl in_X3 (by decide) q210 (fun _ h => h) dX9_canPair_21 (fun x5 hw => ?_)
    obtain ⟨hv, hw⟩ := hw
    refine tw_cbi5 C hS (tk_runF (As := []) (x := ⟨"java/util/List", "size", "()I"⟩) C hR hS (wk_J6_size l C.hst G (R.frames - 1) (by omega) _ _ _ σ hw) hv rfl q586 q447 q449 q73 q451 (by decide +kernel) (show tw_pd ⟨"java/util/List", "size", "()I"⟩ 0 by decide +kernel) ⟨by omega, by omega⟩ hl.1 rfl (tw_r8 [.inl l2] (Nat.le_of_ble_eq_true rfl)) dX9_canPair_24) (fun E q σ H locs hX hR hS hi => tw_out C hR hS (fun x hx => (hnx x hx).elim) hi hX) (fun x6 σ H locs hw hR hS => ?_)
    refine lv_icmp_ge (tgt := 77) C.hx C.hb dX9_canPair_29 (by decide) (fun c29 => ?_) (fun c29 => ?_)
    · replace hw := hw.1 c29
      exact wk_X9_canPair_b77 C hr hmn hnx hfr hRl σ _ _ _ hw hR hS (tk_sub hl [] rfl)
    · replace hw := hw.2 c29
      refine tk_aload_n C hl 0 dX9_canPair_32 rfl ?_
      refine tk_gr C hR hw rfl in_X9 (by decide) q617 (fun _ h => h) dX9_canPair_33 (fun x7 hw => ?_)
      refine tk_grN C hR hw rfl in_X3 (by decide) q210 (fun _ h => h) dX9_canPair_36 (fun x8 hw => ?_)
      refine tk_iload_n C hl 1 dX9_canPair_39 rfl ?_
      obtain ⟨hv, hw⟩ := hw
      refine tw_cbq5 C hS (tk_runF (As := [.inl l1]) (x := ⟨"java/util/List", "get", "(I)Ljava/lang/Object;"⟩) C hR hS (wk_J6_get l C.hst G (R.frames - 1) (by omega) _ _ _ _ σ hw) hv rfl q596 q456 q458 q73 q460 (by decide +kernel) (show tw_pd ⟨"java/util/List", "get", "(I)Ljava/lang/Object;"⟩ 1 by decide +kernel) ⟨by omega, by omega⟩ hl.1 rfl (tw_r8 [] (Nat.le_of_ble_eq_true rfl)) dX9_canPair_40) (fun E q σ H locs hX hR hS hi => tw_out C hR hS (fun x hx => (hnx x hx).elim) hi hX) (fun x9 σ H locs hw hR hS => ?_)
      refine tk_cc C hR hw rfl q597 (Or.inl rfl) dX9_canPair_45 (fun hw => ?_)
      refine tk_giN C hR hw rfl in_X3 (by decide) q197 (fun _ h => h) dX9_canPair_48 (fun x10 hw => ?_)
      refine tk_aload_n C hl 0 dX9_canPair_51 rfl ?_
      refine tk_gr C hR hw rfl in_X9 (by decide) q618 (fun _ h => h) dX9_canPair_52 (fun x11 hw => ?_)
      refine tk_grN C hR hw rfl in_X3 (by decide) q210 (fun _ h => h) dX9_canPair_55 (fun x12 hw => ?_)
      refine tk_iload_n C hl 2 dX9_canPair_58 rfl ?_
      obtain ⟨hv, hw⟩ := hw
      refine tw_cbq5 C hS (tk_runF (As := [.inl l2]) (x := ⟨"java/util/List", "get", "(I)Ljava/lang/Object;"⟩) C hR hS (wk_J6_get l C.hst G (R.frames - 1) (by omega) _ _ _ _ σ hw) hv rfl q596 q456 q458 q73 q460 (by decide +kernel) (show tw_pd ⟨"java/util/List", "get", "(I)Ljava/lang/Object;"⟩ 1 by decide +kernel) ⟨by omega, by omega⟩ hl.1 rfl (tw_r8 [.inl x10] (Nat.le_of_ble_eq_true rfl)) dX9_canPair_59) (fun E q σ H locs hX hR hS hi => tw_out C hR hS (fun x hx => (hnx x hx).elim) hi hX) (fun x13 σ H locs hw hR hS => ?_)
      refine tk_cc C hR hw rfl q597 (Or.inl rfl) dX9_canPair_64 (fun hw => ?_)
      refine tk_giN C hR hw rfl in_X3 (by decide) q197 (fun _ h => h) dX9_canPair_67 (fun x14 hw => ?_)
      refine lv_icmp_ne (tgt := 77) C.hx C.hb dX9_canPair_70 (by decide) (fun c70 => ?_) (fun c70 => ?_)
      · replace hw := hw.2 c70
        exact wk_X9_canPair_b77 C hr hmn hnx hfr hRl σ _ _ _ hw hR hS (tk_sub hl [] rfl)
      · replace hw := hw.1 c70
        refine lv_iconst (v := 1) C.hx C.hb dX9_canPair_73 (by decide) ?_
        refine lv_goto (tgt := 78) C.hx C.hb dX9_canPair_74 (by decide) ?_
        exact wk_X9_canPair_b78 C hr hmn hnx hfr hRl _ σ _ _ _ hw hR hS (tk_sub hl [] rfl)
-- TreeDiffer$Table.byPair(II)I
def w_X9_byPair (rf_X1_cost : (Option Nat) → (Option Nat) → (Int32 → Tst → Prop) → (String → Nat → Tst → Prop) → Tst → Prop) (l0 : Option Nat) (l1 : Int32) (l2 : Int32) (Q : Int32 → Tst → Prop) (X : String → Nat → Tst → Prop) (σ : Tst) : Prop := w_gr σ l0 cX9 0 fun x1 => w_gr σ x1 cX3 4 fun x2 => w_rc σ x2 cJ6 <| w_J6_get x2 l1 (fun x3 σ => w_cc σ x3 cX3 <| w_gr σ l0 cX9 1 fun x4 => w_gr σ x4 cX3 4 fun x5 => w_rc σ x5 cJ6 <| w_J6_get x5 l2 (fun x6 σ => w_cc σ x6 cX3 <| rf_X1_cost x3 x6 (fun x7 σ => w_rc σ l0 cX9 <| w_X9_at l0 (l1 + 1) (l2 + 1) (fun x8 σ => Q (x7 + x8) σ) X σ) X σ) X σ) X σ
set_option maxHeartbeats 4000000 in
theorem wk_X9_byPair (l : Launch) (hl0 : l.stackTraces = false) (G : Tgl) (fr : Nat) {rf_X1_cost : (Option Nat) → (Option Nat) → (Int32 → Tst → Prop) → (String → Nat → Tst → Prop) → Tst → Prop} {frf_X1_cost : Nat} (hrf_X1_cost : ∀ fr : Nat, frf_X1_cost ≤ fr → ∀ (a0 : Option Nat) (a1 : Option Nat) (Q : Int32 → Tst → Prop) (X : String → Nat → Tst → Prop) (σ : Tst), rf_X1_cost a0 a1 Q X σ → tw_M l yX1_cost (ws_ yX1_cost cX1_cost 3 (some .int)) fr (40 * fr) G σ [.inr a0, .inr a1] (tw_Qi G Q) X) (hfr : 4 ≤ fr ∧ frf_X1_cost + 1 ≤ fr) (l0 : Option Nat) (l1 : Int32) (l2 : Int32) (Q : Int32 → Tst → Prop) (X : String → Nat → Tst → Prop) (σ : Tst) (hw : w_X9_byPair rf_X1_cost l0 l1 l2 Q X σ) : tw_M l yX9_byPair (ws_ yX9_byPair cX9_byPair 3 (some .int)) fr (40 * fr) G σ [.inr l0, .inl l1, .inl l2] (tw_Qi G Q) X := by
  unfold w_X9_byPair at hw
  refine tw_of (ret := (some .int)) hl0 (by decide) (Nat.le_of_ble_eq_true rfl) (fun p e R s m args below meth c hRf hRl C hr hmn hnx hR hS ls hl => ?_)
  have hfr : 4 ≤ R.frames ∧ frf_X1_cost + 1 ≤ R.frames := by rw [hRf]; exact hfr
  have hRl : R.locals = 40 * R.frames := by rw [hRl, hRf]
  have hl : tw_l ls 3 [(0, .inr l0), (1, .inl l1), (2, .inl l2)] := hl
  refine tk_aload_n C hl 0 dX9_byPair_0 rfl ?_
  refine tk_gr C hR hw rfl in_X9 (by decide) q617 (fun _ h => h) dX9_byPair_1 (fun x1 hw => ?_)
  refine tk_grN C hR hw rfl in_X3 (by decide) q210 (fun _ h => h) dX9_byPair_4 (fun x2 hw => ?_)
  refine tk_iload_n C hl 1 dX9_byPair_7 rfl ?_
  obtain ⟨hv, hw⟩ := hw
  refine tw_cbq5 C hS (tk_runF (As := [.inl l1]) (x := ⟨"java/util/List", "get", "(I)Ljava/lang/Object;"⟩) C hR hS (wk_J6_get l C.hst G (R.frames - 1) (by omega) _ _ _ _ σ hw) hv rfl q596 q456 q458 q73 q460 (by decide +kernel) (show tw_pd ⟨"java/util/List", "get", "(I)Ljava/lang/Object;"⟩ 1 by decide +kernel) ⟨by omega, by omega⟩ hl.1 rfl (tw_r8 [] (Nat.le_of_ble_eq_true rfl)) dX9_byPair_8) (fun E q σ H locs hX hR hS hi => tw_out C hR hS (fun x hx => (hnx x hx).elim) hi hX) (fun x3 σ H locs hw hR hS => ?_)
  refine tk_cc C hR hw rfl q597 (Or.inl rfl) dX9_byPair_13 (fun hw => ?_)
  refine tk_aload_n C hl 0 dX9_byPair_16 rfl ?_
  refine tk_gr C hR hw rfl in_X9 (by decide) q618 (fun _ h => h) dX9_byPair_17 (fun x4 hw => ?_)
  refine tk_grN C hR hw rfl in_X3 (by decide) q210 (fun _ h => h) dX9_byPair_20 (fun x5 hw => ?_)
  refine tk_iload_n C hl 2 dX9_byPair_23 rfl ?_
  obtain ⟨hv, hw⟩ := hw
  refine tw_cbq5 C hS (tk_runF (As := [.inl l2]) (x := ⟨"java/util/List", "get", "(I)Ljava/lang/Object;"⟩) C hR hS (wk_J6_get l C.hst G (R.frames - 1) (by omega) _ _ _ _ σ hw) hv rfl q596 q456 q458 q73 q460 (by decide +kernel) (show tw_pd ⟨"java/util/List", "get", "(I)Ljava/lang/Object;"⟩ 1 by decide +kernel) ⟨by omega, by omega⟩ hl.1 rfl (tw_r8 [.inr x3] (Nat.le_of_ble_eq_true rfl)) dX9_byPair_24) (fun E q σ H locs hX hR hS hi => tw_out C hR hS (fun x hx => (hnx x hx).elim) hi hX) (fun x6 σ H locs hw hR hS => ?_)
  refine tk_cc C hR hw rfl q597 (Or.inl rfl) dX9_byPair_29 (fun hw => ?_)
  refine tw_cbi C hS (tw_runSN (As := [.inr x3, .inr x6]) C hR hS (hrf_X1_cost (R.frames - 1) (by omega) _ _ _ _ σ hw) q616 q271 q64 q272 pd_X1_cost ⟨by omega, by omega⟩ hl.1 rfl (tw_r8 [] (Nat.le_of_ble_eq_true rfl)) dX9_byPair_32) (fun E q σ H locs hX hR hS hi => tw_out C hR hS (fun x hx => (hnx x hx).elim) hi hX) (fun x7 σ H locs hw hR hS => ?_)
  refine tk_aload_n C hl 0 dX9_byPair_35 rfl ?_
  refine tk_iload_n C hl 1 dX9_byPair_36 rfl ?_
  refine lv_iconst (v := 1) C.hx C.hb dX9_byPair_37 (by decide) ?_
  refine lv_iadd C.hx C.hb dX9_byPair_38 ?_
  refine tk_iload_n C hl 2 dX9_byPair_39 rfl ?_
  refine lv_iconst (v := 1) C.hx C.hb dX9_byPair_40 (by decide) ?_
  refine lv_iadd C.hx C.hb dX9_byPair_41 ?_
  obtain ⟨hv, hw⟩ := hw
  refine tw_cbi C hS (tk_runV (As := [.inl (l1 + 1), .inl (l2 + 1)]) C hR hS (wk_X9_at l C.hst G (R.frames - 1) (by omega) _ _ _ _ _ σ hw) hv rfl q599 q600 q601 q100 q602 pd_X9_at ⟨by omega, by omega⟩ hl.1 rfl (tw_r8 [.inl x7] (Nat.le_of_ble_eq_true rfl)) dX9_byPair_42) (fun E q σ H locs hX hR hS hi => tw_out C hR hS (fun x hx => (hnx x hx).elim) hi hX) (fun x8 σ H locs hw hR hS => ?_)
  refine lv_iadd C.hx C.hb dX9_byPair_45 ?_
  exact tw_iret C hR hS hr rfl dX9_byPair_46 hw
-- TreeDiffer$Table.least(II)I
def w_X9_least_b42 (rf_X1_cost : (Option Nat) → (Option Nat) → (Int32 → Tst → Prop) → (String → Nat → Tst → Prop) → Tst → Prop) (Q : Int32 → Tst → Prop) (X : String → Nat → Tst → Prop) (s0 : Int32) (σ : Tst) : Prop := Q s0 σ
def w_X9_least_b105 (rf_X1_cost : (Option Nat) → (Option Nat) → (Int32 → Tst → Prop) → (String → Nat → Tst → Prop) → Tst → Prop) (Q : Int32 → Tst → Prop) (X : String → Nat → Tst → Prop) (s0 : Int32) (σ : Tst) : Prop := Q s0 σ
def w_X9_least (rf_X1_cost : (Option Nat) → (Option Nat) → (Int32 → Tst → Prop) → (String → Nat → Tst → Prop) → Tst → Prop) (l0 : Option Nat) (l1 : Int32) (l2 : Int32) (Q : Int32 → Tst → Prop) (X : String → Nat → Tst → Prop) (σ : Tst) : Prop := w_gr σ l0 cX9 0 fun x1 => w_gr σ x1 cX3 4 fun x2 => w_rc σ x2 cJ6 <| w_J6_size x2 (fun x3 σ => w_if (l1 = x3) (w_gr σ l0 cX9 1 fun x12 => w_gr σ x12 cX3 4 fun x13 => w_rc σ x13 cJ6 <| w_J6_size x13 (fun x14 σ => w_if (l2 = x14) (w_X9_least_b42 rf_X1_cost Q X 0 σ) (w_rc σ l0 cX9 <| w_X9_byInsertion l0 l1 l2 (fun x15 σ => w_X9_least_b42 rf_X1_cost Q X x15 σ) X σ)) X σ) (w_gr σ l0 cX9 1 fun x4 => w_gr σ x4 cX3 4 fun x5 => w_rc σ x5 cJ6 <| w_J6_size x5 (fun x6 σ => w_if (l2 = x6) (w_rc σ l0 cX9 <| w_X9_byDeletion l0 l1 l2 (fun x11 σ => Q x11 σ) X σ) (w_rc σ l0 cX9 <| w_X9_byDeletion l0 l1 l2 (fun x7 σ => w_rc σ l0 cX9 <| w_X9_byInsertion l0 l1 l2 (fun x8 σ => w_rc σ l0 cX9 <| w_X9_canPair l0 l1 l2 (fun x9 σ => w_if (x9 = 0) (w_X9_least_b105 rf_X1_cost Q X (if x8 < x7 then x8 else x7) σ) (w_rc σ l0 cX9 <| w_X9_byPair rf_X1_cost l0 l1 l2 (fun x10 σ => w_X9_least_b105 rf_X1_cost Q X (if x10 < (if x8 < x7 then x8 else x7) then x10 else (if x8 < x7 then x8 else x7)) σ) X σ)) X σ) X σ) X σ)) X σ)) X σ
set_option maxHeartbeats 4000000 in
theorem wk_X9_least_b42 {rf_X1_cost : (Option Nat) → (Option Nat) → (Int32 → Tst → Prop) → (String → Nat → Tst → Prop) → Tst → Prop} {frf_X1_cost : Nat}  (C : tw_C p l R s m args meth c G cX9_least 4 yX9_least.cls) (hr : meth.sig.returnType = (some .int)) (hmn : meth.name = yX9_least.name) (hnx : (∀ x ∈ c.exceptionTable.toList, False)) (hfr : 69 ≤ R.frames ∧ frf_X1_cost + 2 ≤ R.frames) (hRl : R.locals = 40 * R.frames) {Q : Int32 → Tst → Prop} {X : String → Nat → Tst → Prop} (hrf_X1_cost : ∀ fr : Nat, frf_X1_cost ≤ fr → ∀ (a0 : Option Nat) (a1 : Option Nat) (Q : Int32 → Tst → Prop) (X : String → Nat → Tst → Prop) (σ : Tst), rf_X1_cost a0 a1 Q X σ → tw_M l yX1_cost (ws_ yX1_cost cX1_cost 3 (some .int)) fr (40 * fr) G σ [.inr a0, .inr a1] (tw_Qi G Q) X) (s0 : Int32) (σ : Tst) (H : Heap) (locs : List Loc) (ls : Array Slot) (hw : w_X9_least_b42 rf_X1_cost Q X s0 σ) (hR : tw_R G σ H) (hS : va_S (tw_A G) s.heap H locs) (hl : tw_l ls 4 []) : tw_W p l e R s m args below meth c σ H locs (tw_E below G (tw_Qi G Q) X args s R) (F0 m 42 ls [.int s0]) := by
  unfold w_X9_least_b42 at hw
  exact tw_iret C hR hS hr rfl dX9_least_42 hw
set_option maxHeartbeats 4000000 in
theorem wk_X9_least_b105 {rf_X1_cost : (Option Nat) → (Option Nat) → (Int32 → Tst → Prop) → (String → Nat → Tst → Prop) → Tst → Prop} {frf_X1_cost : Nat}  (C : tw_C p l R s m args meth c G cX9_least 4 yX9_least.cls) (hr : meth.sig.returnType = (some .int)) (hmn : meth.name = yX9_least.name) (hnx : (∀ x ∈ c.exceptionTable.toList, False)) (hfr : 69 ≤ R.frames ∧ frf_X1_cost + 2 ≤ R.frames) (hRl : R.locals = 40 * R.frames) {Q : Int32 → Tst → Prop} {X : String → Nat → Tst → Prop} (hrf_X1_cost : ∀ fr : Nat, frf_X1_cost ≤ fr → ∀ (a0 : Option Nat) (a1 : Option Nat) (Q : Int32 → Tst → Prop) (X : String → Nat → Tst → Prop) (σ : Tst), rf_X1_cost a0 a1 Q X σ → tw_M l yX1_cost (ws_ yX1_cost cX1_cost 3 (some .int)) fr (40 * fr) G σ [.inr a0, .inr a1] (tw_Qi G Q) X) (s0 : Int32) (σ : Tst) (H : Heap) (locs : List Loc) (ls : Array Slot) (hw : w_X9_least_b105 rf_X1_cost Q X s0 σ) (hR : tw_R G σ H) (hS : va_S (tw_A G) s.heap H locs) (hl : tw_l ls 4 []) : tw_W p l e R s m args below meth c σ H locs (tw_E below G (tw_Qi G Q) X args s R) (F0 m 105 ls [.int s0]) := by
  unfold w_X9_least_b105 at hw
  exact tw_iret C hR hS hr rfl dX9_least_105 hw
set_option maxHeartbeats 4000000 in
theorem wk_X9_least (l : Launch) (hl0 : l.stackTraces = false) (G : Tgl) (fr : Nat) {rf_X1_cost : (Option Nat) → (Option Nat) → (Int32 → Tst → Prop) → (String → Nat → Tst → Prop) → Tst → Prop} {frf_X1_cost : Nat} (hrf_X1_cost : ∀ fr : Nat, frf_X1_cost ≤ fr → ∀ (a0 : Option Nat) (a1 : Option Nat) (Q : Int32 → Tst → Prop) (X : String → Nat → Tst → Prop) (σ : Tst), rf_X1_cost a0 a1 Q X σ → tw_M l yX1_cost (ws_ yX1_cost cX1_cost 3 (some .int)) fr (40 * fr) G σ [.inr a0, .inr a1] (tw_Qi G Q) X) (hfr : 69 ≤ fr ∧ frf_X1_cost + 2 ≤ fr) (l0 : Option Nat) (l1 : Int32) (l2 : Int32) (Q : Int32 → Tst → Prop) (X : String → Nat → Tst → Prop) (σ : Tst) (hw : w_X9_least rf_X1_cost l0 l1 l2 Q X σ) : tw_M l yX9_least (ws_ yX9_least cX9_least 4 (some .int)) fr (40 * fr) G σ [.inr l0, .inl l1, .inl l2] (tw_Qi G Q) X := by
  unfold w_X9_least at hw
  refine tw_of (ret := (some .int)) hl0 (by decide) (Nat.le_of_ble_eq_true rfl) (fun p e R s m args below meth c hRf hRl C hr hmn hnx hR hS ls hl => ?_)
  have hfr : 69 ≤ R.frames ∧ frf_X1_cost + 2 ≤ R.frames := by rw [hRf]; exact hfr
  have hRl : R.locals = 40 * R.frames := by rw [hRl, hRf]
  have hl : tw_l ls 4 [(0, .inr l0), (1, .inl l1), (2, .inl l2)] := hl
  refine tk_iload_n C hl 1 dX9_least_0 rfl ?_
  refine tk_aload_n C hl 0 dX9_least_1 rfl ?_
  refine tk_gr C hR hw rfl in_X9 (by decide) q617 (fun _ h => h) dX9_least_2 (fun x1 hw => ?_)
  refine tk_grN C hR hw rfl in_X3 (by decide) q210 (fun _ h => h) dX9_least_5 (fun x2 hw => ?_)
  obtain ⟨hv, hw⟩ := hw
  refine tw_cbi5 C hS (tk_runF (As := []) (x := ⟨"java/util/List", "size", "()I"⟩) C hR hS (wk_J6_size l C.hst G (R.frames - 1) (by omega) _ _ _ σ hw) hv rfl q586 q447 q449 q73 q451 (by decide +kernel) (show tw_pd ⟨"java/util/List", "size", "()I"⟩ 0 by decide +kernel) ⟨by omega, by omega⟩ hl.1 rfl (tw_r8 [.inl l1] (Nat.le_of_ble_eq_true rfl)) dX9_least_8) (fun E q σ H locs hX hR hS hi => tw_out C hR hS (fun x hx => (hnx x hx).elim) hi hX) (fun x3 σ H locs hw hR hS => ?_)
  refine lv_icmp_ne (tgt := 43) C.hx C.hb dX9_least_13 (by decide) (fun c13 => ?_) (fun c13 => ?_)
  · replace hw := hw.2 c13
    refine tk_iload_n C hl 2 dX9_least_43 rfl ?_
    refine tk_aload_n C hl 0 dX9_least_44 rfl ?_
    refine tk_gr C hR hw rfl in_X9 (by decide) q618 (fun _ h => h) dX9_least_45 (fun x4 hw => ?_)
    refine tk_grN C hR hw rfl in_X3 (by decide) q210 (fun _ h => h) dX9_least_48 (fun x5 hw => ?_)
    obtain ⟨hv, hw⟩ := hw
    refine tw_cbi5 C hS (tk_runF (As := []) (x := ⟨"java/util/List", "size", "()I"⟩) C hR hS (wk_J6_size l C.hst G (R.frames - 1) (by omega) _ _ _ σ hw) hv rfl q586 q447 q449 q73 q451 (by decide +kernel) (show tw_pd ⟨"java/util/List", "size", "()I"⟩ 0 by decide +kernel) ⟨by omega, by omega⟩ hl.1 rfl (tw_r8 [.inl l2] (Nat.le_of_ble_eq_true rfl)) dX9_least_51) (fun E q σ H locs hX hR hS hi => tw_out C hR hS (fun x hx => (hnx x hx).elim) hi hX) (fun x6 σ H locs hw hR hS => ?_)
    refine lv_icmp_ne (tgt := 66) C.hx C.hb dX9_least_56 (by decide) (fun c56 => ?_) (fun c56 => ?_)
    · replace hw := hw.2 c56
      refine tk_aload_n C hl 0 dX9_least_66 rfl ?_
      refine tk_iload_n C hl 1 dX9_least_67 rfl ?_
      refine tk_iload_n C hl 2 dX9_least_68 rfl ?_
      obtain ⟨hv, hw⟩ := hw
      refine tw_cbi C hS (tk_runV (As := [.inl l1, .inl l2]) C hR hS (wk_X9_byDeletion l C.hst G (R.frames - 1) (by omega) _ _ _ _ _ σ hw) hv rfl q603 q604 q605 q100 q606 pd_X9_byDeletion ⟨by omega, by omega⟩ hl.1 rfl (tw_r8 [] (Nat.le_of_ble_eq_true rfl)) dX9_least_69) (fun E q σ H locs hX hR hS hi => tw_out C hR hS (fun x hx => (hnx x hx).elim) hi hX) (fun x7 σ H locs hw hR hS => ?_)
      refine tk_aload_n C hl 0 dX9_least_72 rfl ?_
      refine tk_iload_n C hl 1 dX9_least_73 rfl ?_
      refine tk_iload_n C hl 2 dX9_least_74 rfl ?_
      obtain ⟨hv, hw⟩ := hw
      refine tw_cbi C hS (tk_runV (As := [.inl l1, .inl l2]) C hR hS (wk_X9_byInsertion l C.hst G (R.frames - 1) (by omega) _ _ _ _ _ σ hw) hv rfl q591 q592 q593 q100 q594 pd_X9_byInsertion ⟨by omega, by omega⟩ hl.1 rfl (tw_r8 [.inl x7] (Nat.le_of_ble_eq_true rfl)) dX9_least_75) (fun E q σ H locs hX hR hS hi => tw_out C hR hS (fun x hx => (hnx x hx).elim) hi hX) (fun x8 σ H locs hw hR hS => ?_)
      refine tk_min C q607 hl.1 (by omega) hRl (tw_r8 [] (Nat.le_of_ble_eq_true rfl)) dX9_least_78 ?_
      refine tk_istore_n (L' := [(3, .inl (if x8 < x7 then x8 else x7)), (0, .inr l0), (1, .inl l1), (2, .inl l2)]) C hl dX9_least_81 (by decide) rfl (fun ls hl => ?_)
      refine tk_aload_n C hl 1 dX9_least_82 rfl ?_
      refine tk_iload_n C hl 2 dX9_least_83 rfl ?_
      refine tk_iload_n C hl 3 dX9_least_84 rfl ?_
      obtain ⟨hv, hw⟩ := hw
      refine tw_cbi C hS (tk_runV (As := [.inl l1, .inl l2]) C hR hS (wk_X9_canPair l C.hst G (R.frames - 1) (by omega) _ _ _ _ _ σ hw) hv rfl q608 q609 q610 q100 q611 pd_X9_canPair ⟨by omega, by omega⟩ hl.1 rfl (tw_r8 [] (Nat.le_of_ble_eq_true rfl)) dX9_least_85) (fun E q σ H locs hX hR hS hi => tw_out C hR hS (fun x hx => (hnx x hx).elim) hi hX) (fun x9 σ H locs hw hR hS => ?_)
      refine lv_if_eq (tgt := 104) C.hx C.hb dX9_least_88 (by decide) (fun c88 => ?_) (fun c88 => ?_)
      · replace hw := hw.1 c88
        refine tk_iload_n C hl 0 dX9_least_104 rfl ?_
        exact wk_X9_least_b105 C hr hmn hnx hfr hRl hrf_X1_cost _ σ _ _ _ hw hR hS (tk_sub hl [] rfl)
      · replace hw := hw.2 c88
        refine tk_iload_n C hl 0 dX9_least_91 rfl ?_
        refine tk_aload_n C hl 1 dX9_least_92 rfl ?_
        refine tk_iload_n C hl 2 dX9_least_93 rfl ?_
        refine tk_iload_n C hl 3 dX9_least_94 rfl ?_
        obtain ⟨hv, hw⟩ := hw
        refine tw_cbi C hS (tk_runV (As := [.inl l1, .inl l2]) C hR hS (wk_X9_byPair l C.hst G (R.frames - 1) hrf_X1_cost (by omega) _ _ _ _ _ σ hw) hv rfl q612 q613 q614 q100 q615 pd_X9_byPair ⟨by omega, by omega⟩ hl.1 rfl (tw_r8 [.inl (if x8 < x7 then x8 else x7)] (Nat.le_of_ble_eq_true rfl)) dX9_least_95) (fun E q σ H locs hX hR hS hi => tw_out C hR hS (fun x hx => (hnx x hx).elim) hi hX) (fun x10 σ H locs hw hR hS => ?_)
        refine tk_min C q607 hl.1 (by omega) hRl (tw_r8 [] (Nat.le_of_ble_eq_true rfl)) dX9_least_98 ?_
        refine lv_goto (tgt := 105) C.hx C.hb dX9_least_101 (by decide) ?_
        exact wk_X9_least_b105 C hr hmn hnx hfr hRl hrf_X1_cost _ σ _ _ _ hw hR hS (tk_sub hl [] rfl)
    · replace hw := hw.1 c56
      refine tk_aload_n C hl 0 dX9_least_59 rfl ?_
      refine tk_iload_n C hl 1 dX9_least_60 rfl ?_
      refine tk_iload_n C hl 2 dX9_least_61 rfl ?_
      obtain ⟨hv, hw⟩ := hw
      refine tw_cbi C hS (tk_runV (As := [.inl l1, .inl l2]) C hR hS (wk_X9_byDeletion l C.hst G (R.frames - 1) (by omega) _ _ _ _ _ σ hw) hv rfl q603 q604 q605 q100 q606 pd_X9_byDeletion ⟨by omega, by omega⟩ hl.1 rfl (tw_r8 [] (Nat.le_of_ble_eq_true rfl)) dX9_least_62) (fun E q σ H locs hX hR hS hi => tw_out C hR hS (fun x hx => (hnx x hx).elim) hi hX) (fun x11 σ H locs hw hR hS => ?_)
      exact tw_iret C hR hS hr rfl dX9_least_65 hw
  · replace hw := hw.1 c13
    refine tk_iload_n C hl 2 dX9_least_16 rfl ?_
    refine tk_aload_n C hl 0 dX9_least_17 rfl ?_
    refine tk_gr C hR hw rfl in_X9 (by decide) q618 (fun _ h => h) dX9_least_18 (fun x12 hw => ?_)
    refine tk_grN C hR hw rfl in_X3 (by decide) q210 (fun _ h => h) dX9_least_21 (fun x13 hw => ?_)
    obtain ⟨hv, hw⟩ := hw
    refine tw_cbi5 C hS (tk_runF (As := []) (x := ⟨"java/util/List", "size", "()I"⟩) C hR hS (wk_J6_size l C.hst G (R.frames - 1) (by omega) _ _ _ σ hw) hv rfl q586 q447 q449 q73 q451 (by decide +kernel) (show tw_pd ⟨"java/util/List", "size", "()I"⟩ 0 by decide +kernel) ⟨by omega, by omega⟩ hl.1 rfl (tw_r8 [.inl l2] (Nat.le_of_ble_eq_true rfl)) dX9_least_24) (fun E q σ H locs hX hR hS hi => tw_out C hR hS (fun x hx => (hnx x hx).elim) hi hX) (fun x14 σ H locs hw hR hS => ?_)
    refine lv_icmp_ne (tgt := 36) C.hx C.hb dX9_least_29 (by decide) (fun c29 => ?_) (fun c29 => ?_)
    · replace hw := hw.2 c29
      refine tk_aload_n C hl 0 dX9_least_36 rfl ?_
      refine tk_iload_n C hl 1 dX9_least_37 rfl ?_
      refine tk_iload_n C hl 2 dX9_least_38 rfl ?_
      obtain ⟨hv, hw⟩ := hw
      refine tw_cbi C hS (tk_runV (As := [.inl l1, .inl l2]) C hR hS (wk_X9_byInsertion l C.hst G (R.frames - 1) (by omega) _ _ _ _ _ σ hw) hv rfl q591 q592 q593 q100 q594 pd_X9_byInsertion ⟨by omega, by omega⟩ hl.1 rfl (tw_r8 [] (Nat.le_of_ble_eq_true rfl)) dX9_least_39) (fun E q σ H locs hX hR hS hi => tw_out C hR hS (fun x hx => (hnx x hx).elim) hi hX) (fun x15 σ H locs hw hR hS => ?_)
      exact wk_X9_least_b42 C hr hmn hnx hfr hRl hrf_X1_cost _ σ _ _ _ hw hR hS (tk_sub hl [] rfl)
    · replace hw := hw.1 c29
      refine lv_iconst (v := 0) C.hx C.hb dX9_least_32 (by decide) ?_
      refine lv_goto (tgt := 42) C.hx C.hb dX9_least_33 (by decide) ?_
      exact wk_X9_least_b42 C hr hmn hnx hfr hRl hrf_X1_cost _ σ _ _ _ hw hR hS (tk_sub hl [] rfl)
end GW28
