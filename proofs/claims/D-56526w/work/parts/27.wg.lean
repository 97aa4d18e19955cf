set_option maxRecDepth 100000
section GW27
variable {p : Program} {l : Launch} {e : Env} {R : Room} {s : State} {m : MethodId} {args : Array Value} {below : List Frame} {meth : Method} {c : Code} {H : Heap} {locs : List Loc} {G : Tgl}
-- java/util/Arrays.fill([BIIB)V
def w_J13_fill_b10 (Q : Tst → Prop) (X : String → Nat → Tst → Prop) : Nat → Option Nat → Int32 → Int32 → Int32 → Tst → Prop
  | 0, _, _, _, _, _ => False
  | n + 1, l0, l2, l3, l4, σ => w_if (l2 ≤ l4) (Q σ) (w_sb σ l0 l4 l3 fun σ => (w_J13_fill_b10 Q X n) l0 l2 l3 (l4 + 1) σ)
def w_J13_fill (l0 : Option Nat) (l1 : Int32) (l2 : Int32) (l3 : Int32) (Q : Tst → Prop) (X : String → Nat → Tst → Prop) (σ : Tst) : Prop := w_al σ l0 fun x1 => w_J13_rangeCheck x1 l1 l2 (fun σ => ∃ z, w_J13_fill_b10 Q X z l0 l2 l3 l1 σ) X σ
set_option maxHeartbeats 4000000 in
theorem wk_J13_fill_b10  (C : tw_C p l R s m args meth c G cJ13_fill 5 yJ13_fill.cls) (hr : meth.sig.returnType = none) (hmn : meth.name = yJ13_fill.name) (hnx : (∀ x ∈ c.exceptionTable.toList, False)) (hfr : 2 ≤ R.frames) (hRl : R.locals = 40 * R.frames) {Q : Tst → Prop} {X : String → Nat → Tst → Prop}  : ∀ (n : Nat) (l0 : Option Nat) (l2 : Int32) (l3 : Int32) (l4 : Int32) (σ : Tst) (H : Heap) (locs : List Loc) (ls : Array Slot), w_J13_fill_b10 Q X n l0 l2 l3 l4 σ → tw_R G σ H → va_S (tw_A G) s.heap H locs → tw_l ls 5 [(0, .inr l0), (2, .inl l2), (3, .inl l3), (4, .inl l4)] → tw_W p l e R s m args below meth c σ H locs (tw_E below G (tw_Qv G Q) X args s R) (F0 m 10 ls []) := by
  intro n
  induction n with
  | zero => intro l0 l2 l3 l4 σ H locs ls hw; exact False.elim hw
  | succ n hk10 =>
    intro l0 l2 l3 l4 σ H locs ls hw hR hS hl
    rw [w_J13_fill_b10] at hw
    refine tk_iload C hl 3 dJ13_fill_10 rfl ?_
    refine tk_iload_n C hl 1 dJ13_fill_12 rfl ?_
    refine lv_icmp_ge (tgt := 27) C.hx C.hb dJ13_fill_13 (by decide) (fun c13 => ?_) (fun c13 => ?_)
    · replace hw := hw.1 c13
      exact tw_vret C hR hS hr dJ13_fill_27 hw
    · replace hw := hw.2 c13
      refine tk_aload_n C hl 0 dJ13_fill_16 rfl ?_
      refine tk_iload C hl 3 dJ13_fill_17 rfl ?_
      refine tk_iload_n C hl 2 dJ13_fill_19 rfl ?_
      refine tk_sb C hR hS hw dJ13_fill_20 (fun σ H locs hw hR hS => ?_)
      refine tk_iinc (L' := [(4, .inl (l4 + 1)), (0, .inr l0), (2, .inl l2), (3, .inl l3)]) (y := (l4 + 1)) C hl 3 dJ13_fill_21 rfl rfl (by decide) rfl (fun ls hl => ?_)
      refine lv_goto (tgt := 10) C.hx C.hb dJ13_fill_24 (by decide) ?_
      exact hk10 _ _ _ _ σ _ _ _ hw hR hS (tk_sub hl [1, 2, 3, 0] rfl)
set_option maxHeartbeats 4000000 in
theorem wk_J13_fill (l : Launch) (hl0 : l.stackTraces = false) (G : Tgl) (fr : Nat)  (hfr : 2 ≤ fr) (l0 : Option Nat) (l1 : Int32) (l2 : Int32) (l3 : Int32) (Q : Tst → Prop) (X : String → Nat → Tst → Prop) (σ : Tst) (hw : w_J13_fill l0 l1 l2 l3 Q X σ) : tw_M l yJ13_fill (ws_ yJ13_fill cJ13_fill 5 none) fr (40 * fr) G σ [.inr l0, .inl l1, .inl l2, .inl l3] (tw_Qv G Q) X := by
  unfold w_J13_fill at hw
  refine tw_of (ret := none) hl0 (by decide) (Nat.le_of_ble_eq_true rfl) (fun p e R s m args below meth c hRf hRl C hr hmn hnx hR hS ls hl => ?_)
  have hfr : 2 ≤ R.frames := by rw [hRf]; exact hfr
  have hRl : R.locals = 40 * R.frames := by rw [hRl, hRf]
  have hl : tw_l ls 5 [(0, .inr l0), (1, .inl l1), (2, .inl l2), (3, .inl l3)] := hl
  refine tk_aload_n C hl 0 dJ13_fill_0 rfl ?_
  refine tk_al C hR hw dJ13_fill_1 (fun x1 hw => ?_)
  refine tk_iload_n C hl 1 dJ13_fill_2 rfl ?_
  refine tk_iload_n C hl 2 dJ13_fill_3 rfl ?_
  refine tw_cbv C hS (tw_runS (As := [.inl x1, .inl l1, .inl l2]) C hR hS (wk_J13_rangeCheck l C.hst G (R.frames - 1) (by omega) _ _ _ _ _ σ hw) q1536 q1537 q82 q1538 pd_J13_rangeCheck ⟨by omega, by omega⟩ hl.1 rfl (tw_r8 [] (Nat.le_of_ble_eq_true rfl)) dJ13_fill_4) (fun E q σ H locs hX hR hS hi => tw_out C hR hS (fun x hx => (hnx x hx).elim) hi hX) (fun σ H locs hw hR hS => ?_)
  refine tk_iload_n C hl 1 dJ13_fill_7 rfl ?_
  refine tk_istore (L' := [(4, .inl l1), (0, .inr l0), (1, .inl l1), (2, .inl l2), (3, .inl l3)]) C hl dJ13_fill_8 (by decide) rfl (fun ls hl => ?_)
  obtain ⟨z, hw⟩ := hw
  exact wk_J13_fill_b10 C hr hmn hnx hfr hRl z _ _ _ _ σ _ _ _ hw hR hS (tk_sub hl [1, 3, 4, 0] rfl)
-- java/lang/StringLatin1.fillNull([BII)V
def w_J14_fillNull (l0 : Option Nat) (l1 : Int32) (l2 : Int32) (Q : Tst → Prop) (X : String → Nat → Tst → Prop) (σ : Tst) : Prop := w_J13_fill l0 l1 l2 0 (fun σ => Q σ) X σ
set_option maxHeartbeats 4000000 in
theorem wk_J14_fillNull (l : Launch) (hl0 : l.stackTraces = false) (G : Tgl) (fr : Nat)  (hfr : 3 ≤ fr) (l0 : Option Nat) (l1 : Int32) (l2 : Int32) (Q : Tst → Prop) (X : String → Nat → Tst → Prop) (σ : Tst) (hw : w_J14_fillNull l0 l1 l2 Q X σ) : tw_M l yJ14_fillNull (ws_ yJ14_fillNull cJ14_fillNull 3 none) fr (40 * fr) G σ [.inr l0, .inl l1, .inl l2] (tw_Qv G Q) X := by
  unfold w_J14_fillNull at hw
  refine tw_of (ret := none) hl0 (by decide) (Nat.le_of_ble_eq_true rfl) (fun p e R s m args below meth c hRf hRl C hr hmn hnx hR hS ls hl => ?_)
  have hfr : 3 ≤ R.frames := by rw [hRf]; exact hfr
  have hRl : R.locals = 40 * R.frames := by rw [hRl, hRf]
  have hl : tw_l ls 3 [(0, .inr l0), (1, .inl l1), (2, .inl l2)] := hl
  refine tk_aload_n C hl 0 dJ14_fillNull_0 rfl ?_
  refine tk_iload_n C hl 1 dJ14_fillNull_1 rfl ?_
  refine tk_iload_n C hl 2 dJ14_fillNull_2 rfl ?_
  refine lv_iconst (v := 0) C.hx C.hb dJ14_fillNull_3 (by decide) ?_
  refine tw_cbv C hS (tw_runS (As := [.inr l0, .inl l1, .inl l2, .inl 0]) C hR hS (wk_J13_fill l C.hst G (R.frames - 1) (by omega) _ _ _ _ _ _ σ hw) q1533 q1534 q82 q1535 pd_J13_fill ⟨by omega, by omega⟩ hl.1 rfl (tw_r8 [] (Nat.le_of_ble_eq_true rfl)) dJ14_fillNull_4) (fun E q σ H locs hX hR hS hi => tw_out C hR hS (fun x hx => (hnx x hx).elim) hi hX) (fun σ H locs hw hR hS => ?_)
  exact tw_vret C hR hS hr dJ14_fillNull_7 hw
-- java/lang/StringUTF16.fillNull([BII)V
def w_J3_fillNull (l0 : Option Nat) (l1 : Int32) (l2 : Int32) (Q : Tst → Prop) (X : String → Nat → Tst → Prop) (σ : Tst) : Prop := w_J13_fill l0 (l1 <<< (1 &&& 31)) (l2 <<< (1 &&& 31)) 0 (fun σ => Q σ) X σ
set_option maxHeartbeats 4000000 in
theorem wk_J3_fillNull (l : Launch) (hl0 : l.stackTraces = false) (G : Tgl) (fr : Nat)  (hfr : 3 ≤ fr) (l0 : Option Nat) (l1 : Int32) (l2 : Int32) (Q : Tst → Prop) (X : String → Nat → Tst → Prop) (σ : Tst) (hw : w_J3_fillNull l0 l1 l2 Q X σ) : tw_M l yJ3_fillNull (ws_ yJ3_fillNull cJ3_fillNull 3 none) fr (40 * fr) G σ [.inr l0, .inl l1, .inl l2] (tw_Qv G Q) X := by
  unfold w_J3_fillNull at hw
  refine tw_of (ret := none) hl0 (by decide) (Nat.le_of_ble_eq_true rfl) (fun p e R s m args below meth c hRf hRl C hr hmn hnx hR hS ls hl => ?_)
  have hfr : 3 ≤ R.frames := by rw [hRf]; exact hfr
  have hRl : R.locals = 40 * R.frames := by rw [hRl, hRf]
  have hl : tw_l ls 3 [(0, .inr l0), (1, .inl l1), (2, .inl l2)] := hl
  refine tk_aload_n C hl 0 dJ3_fillNull_0 rfl ?_
  refine tk_iload_n C hl 1 dJ3_fillNull_1 rfl ?_
  refine lv_iconst (v := 1) C.hx C.hb dJ3_fillNull_2 (by decide) ?_
  refine lv_ishl C.hx C.hb dJ3_fillNull_3 ?_
  refine tk_iload_n C hl 2 dJ3_fillNull_4 rfl ?_
  refine lv_iconst (v := 1) C.hx C.hb dJ3_fillNull_5 (by decide) ?_
  refine lv_ishl C.hx C.hb dJ3_fillNull_6 ?_
  refine lv_iconst (v := 0) C.hx C.hb dJ3_fillNull_7 (by decide) ?_
  refine tw_cbv C hS (tw_runS (As := [.inr l0, .inl (l1 <<< (1 &&& 31)), .inl (l2 <<< (1 &&& 31)), .inl 0]) C hR hS (wk_J13_fill l C.hst G (R.frames - 1) (by omega) _ _ _ _ _ _ σ hw) q1555 q1534 q82 q1535 pd_J13_fill ⟨by omega, by omega⟩ hl.1 rfl (tw_r8 [] (Nat.le_of_ble_eq_true rfl)) dJ3_fillNull_8) (fun E q σ H locs hX hR hS hi => tw_out C hR hS (fun x hx => (hnx x hx).elim) hi hX) (fun σ H locs hw hR hS => ?_)
  exact tw_vret C hR hS hr dJ3_fillNull_11 hw
-- java/lang/AbstractStringBuilder.setLength(I)V
def w_J0_setLength_b76 (Q : Tst → Prop) (X : String → Nat → Tst → Prop) (l0 : Option Nat) (l1 : Int32) (σ : Tst) : Prop := w_p σ l0 cJ1 3 (.inl l1) fun σ => Q σ
def w_J0_setLength (l0 : Option Nat) (l1 : Int32) (Q : Tst → Prop) (X : String → Nat → Tst → Prop) (σ : Tst) : Prop := w_if (0 ≤ l1) (w_rc σ l0 cJ1 <| w_J0_ensureCapacityInternal l0 l1 (fun σ => w_gi σ l0 cJ1 3 fun x2 => w_if (l1 ≤ x2) (w_gi σ l0 cJ1 3 fun x3 => w_if (x3 ≤ l1) (w_J0_setLength_b76 Q X l0 l1 σ) (w_ok .boolean 1 ∧ w_p σ l0 cJ1 2 (.inl 1) fun σ => w_J0_setLength_b76 Q X l0 l1 σ)) (w_rc σ l0 cJ1 <| w_J0_isLatin1 l0 (fun x4 σ => w_if (x4 = 0) (w_gr σ l0 cJ1 0 fun x5 => w_gi σ l0 cJ1 3 fun x6 => w_J3_fillNull x5 x6 l1 (fun σ => w_J0_setLength_b76 Q X l0 l1 σ) X σ) (w_gr σ l0 cJ1 0 fun x8 => w_gi σ l0 cJ1 3 fun x9 => w_J14_fillNull x8 x9 l1 (fun σ => w_J0_setLength_b76 Q X l0 l1 σ) X σ)) X σ)) X σ) (False)
set_option maxHeartbeats 4000000 in
theorem wk_J0_setLength_b76  (C : tw_C p l R s m args meth c G cJ0_setLength 2 yJ0_setLength.cls) (hr : meth.sig.returnType = none) (hmn : meth.name = yJ0_setLength.name) (hnx : (∀ x ∈ c.exceptionTable.toList, False)) (hfr : 5 ≤ R.frames) (hRl : R.locals = 40 * R.frames) {Q : Tst → Prop} {X : String → Nat → Tst → Prop}  (l0 : Option Nat) (l1 : Int32) (σ : Tst) (H : Heap) (locs : List Loc) (ls : Array Slot) (hw : w_J0_setLength_b76 Q X l0 l1 σ) (hR : tw_R G σ H) (hS : va_S (tw_A G) s.heap H locs) (hl : tw_l ls 2 [(0, .inr l0), (1, .inl l1)]) : tw_W p l e R s m args below meth c σ H locs (tw_E below G (tw_Qv G Q) X args s R) (F0 m 76 ls []) := by
  unfold w_J0_setLength_b76 at hw
  refine tk_aload_n C hl 0 dJ0_setLength_76 rfl ?_
  refine tk_iload_n C hl 1 dJ0_setLength_77 rfl ?_
  refine tk_p (x := .inl l1) C hR hS hw (by decide) rfl in_J1 tyJ1 tyJ1_ok nmJ1 (by decide) q145 (fun _ h => h) rfl (tw_ni _) dJ0_setLength_78 (fun σ H locs hw hR hS => ?_)
  exact tw_vret C hR hS hr dJ0_setLength_81 hw
set_option maxHeartbeats 4000000 in
theorem wk_J0_setLength (l : Launch) (hl0 : l.stackTraces = false) (G : Tgl) (fr : Nat)  (hfr : 5 ≤ fr) (l0 : Option Nat) (l1 : Int32) (Q : Tst → Prop) (X : String → Nat → Tst → Prop) (σ : Tst) (hw : w_J0_setLength l0 l1 Q X σ) : tw_M l yJ0_setLength (ws_ yJ0_setLength cJ0_setLength 2 none) fr (40 * fr) G σ [.inr l0, .inl l1] (tw_Qv G Q) X := by
  unfold w_J0_setLength at hw
  refine tw_of (ret := none) hl0 (by decide) (Nat.le_of_ble_eq_true rfl) (fun p e R s m args below meth c hRf hRl C hr hmn hnx hR hS ls hl => ?_)
  have hfr : 5 ≤ R.frames := by rw [hRf]; exact hfr
  have hRl : R.locals = 40 * R.frames := by rw [hRl, hRf]
  have hl : tw_l ls 2 [(0, .inr l0), (1, .inl l1)] := hl
  refine tk_iload_n C hl 1 dJ0_setLength_0 rfl ?_
  refine lv_if_ge (tgt := 13) C.hx C.hb dJ0_setLength_1 (by decide) (fun c1 => ?_) (fun c1 => ?_)
  · replace hw := hw.1 c1
    refine tk_aload_n C hl 0 dJ0_setLength_13 rfl ?_
    refine tk_iload_n C hl 1 dJ0_setLength_14 rfl ?_
    obtain ⟨hv, hw⟩ := hw
    refine tw_cbv C hS (tk_runP (As := [.inl l1]) (Cn := "java/lang/StringBuilder") (y := yJ0_ensureCapacityInternal) C hR hS (wk_J0_ensureCapacityInternal l C.hst G (R.frames - 1) (by omega) _ _ _ _ σ hw) hv rfl q712 q714 (List.Mem.head _) q65 q715 pd_J0_ensureCapacityInternal ⟨by omega, by omega⟩ hl.1 rfl (tw_r8 [] (Nat.le_of_ble_eq_true rfl)) dJ0_setLength_15) (fun E q σ H locs hX hR hS hi => tw_out C hR hS (fun x hx => (hnx x hx).elim) hi hX) (fun σ H locs hw hR hS => ?_)
    refine tk_aload_n C hl 0 dJ0_setLength_18 rfl ?_
    refine tk_gi C hR hw rfl in_J1 (by decide) q145 (fun _ h => h) dJ0_setLength_19 (fun x2 hw => ?_)
    refine tk_iload_n C hl 1 dJ0_setLength_22 rfl ?_
    refine lv_icmp_ge (tgt := 63) C.hx C.hb dJ0_setLength_23 (by decide) (fun c23 => ?_) (fun c23 => ?_)
    · replace hw := hw.1 c23
      refine tk_aload_n C hl 0 dJ0_setLength_63 rfl ?_
      refine tk_gi C hR hw rfl in_J1 (by decide) q145 (fun _ h => h) dJ0_setLength_64 (fun x3 hw => ?_)
      refine tk_iload_n C hl 1 dJ0_setLength_67 rfl ?_
      refine lv_icmp_le (tgt := 76) C.hx C.hb dJ0_setLength_68 (by decide) (fun c68 => ?_) (fun c68 => ?_)
      · replace hw := hw.1 c68
        exact wk_J0_setLength_b76 C hr hmn hnx hfr hRl _ _ σ _ _ _ hw hR hS (tk_sub hl [0, 1] rfl)
      · replace hw := hw.2 c68
        refine tk_aload_n C hl 0 dJ0_setLength_71 rfl ?_
        refine lv_iconst (v := 1) C.hx C.hb dJ0_setLength_72 (by decide) ?_
        obtain ⟨hok, hw⟩ := hw
        refine tk_p (x := .inl 1) C hR hS hw (by decide) rfl in_J1 tyJ1 tyJ1_ok nmJ1 (by decide) q143 (fun _ h => h) rfl hok dJ0_setLength_73 (fun σ H locs hw hR hS => ?_)
        exact wk_J0_setLength_b76 C hr hmn hnx hfr hRl _ _ σ _ _ _ hw hR hS (tk_sub hl [0, 1] rfl)
    · replace hw := hw.2 c23
      refine tk_aload_n C hl 0 dJ0_setLength_26 rfl ?_
      obtain ⟨hv, hw⟩ := hw
      refine tw_cbi C hS (tk_runU (As := []) (Cn := "java/lang/StringBuilder") (owner := "java/lang/AbstractStringBuilder") (x := ⟨"java/lang/AbstractStringBuilder", "isLatin1", "()Z"⟩) C hR hS (wk_J0_isLatin1 l C.hst G (R.frames - 1) (by omega) _ _ _ σ hw) hv rfl q741 q743 q744 q742 q65 q745 ⟨by decide, by decide, by exact (by decide +kernel : (parseMethodDescriptor "()Z").map (fun d => d.parameters.length) = some 0)⟩ ⟨by omega, by omega⟩ hl.1 rfl (tw_r8 [] (Nat.le_of_ble_eq_true rfl)) dJ0_setLength_27) (fun E q σ H locs hX hR hS hi => tw_out C hR hS (fun x hx => (hnx x hx).elim) hi hX) (fun x4 σ H locs hw hR hS => ?_)
      refine lv_if_eq (tgt := 48) C.hx C.hb dJ0_setLength_30 (by decide) (fun c30 => ?_) (fun c30 => ?_)
      · replace hw := hw.1 c30
        refine tk_aload_n C hl 0 dJ0_setLength_48 rfl ?_
        refine tk_gr C hR hw rfl in_J1 (by decide) q141 (fun _ h => h) dJ0_setLength_49 (fun x5 hw => ?_)
        refine tk_aload_n C hl 0 dJ0_setLength_52 rfl ?_
        refine tk_gi C hR hw rfl in_J1 (by decide) q145 (fun _ h => h) dJ0_setLength_53 (fun x6 hw => ?_)
        refine tk_iload_n C hl 1 dJ0_setLength_56 rfl ?_
        refine tw_cbv C hS (tw_runS (As := [.inr x5, .inl x6, .inl l1]) C hR hS (wk_J3_fillNull l C.hst G (R.frames - 1) (by omega) _ _ _ _ _ σ hw) q1552 q1553 q68 q1554 pd_J3_fillNull ⟨by omega, by omega⟩ hl.1 rfl (tw_r8 [] (Nat.le_of_ble_eq_true rfl)) dJ0_setLength_57) (fun E q σ H locs hX hR hS hi => tw_out C hR hS (fun x hx => (hnx x hx).elim) hi hX) (fun σ H locs hw hR hS => ?_)
        refine lv_goto (tgt := 76) C.hx C.hb dJ0_setLength_60 (by decide) ?_
        exact wk_J0_setLength_b76 C hr hmn hnx hfr hRl _ _ σ _ _ _ hw hR hS (tk_sub hl [0, 1] rfl)
      · replace hw := hw.2 c30
        refine tk_aload_n C hl 0 dJ0_setLength_33 rfl ?_
        refine tk_gr C hR hw rfl in_J1 (by decide) q141 (fun _ h => h) dJ0_setLength_34 (fun x8 hw => ?_)
        refine tk_aload_n C hl 0 dJ0_setLength_37 rfl ?_
        refine tk_gi C hR hw rfl in_J1 (by decide) q145 (fun _ h => h) dJ0_setLength_38 (fun x9 hw => ?_)
        refine tk_iload_n C hl 1 dJ0_setLength_41 rfl ?_
        refine tw_cbv C hS (tw_runS (As := [.inr x8, .inl x9, .inl l1]) C hR hS (wk_J14_fillNull l C.hst G (R.frames - 1) (by omega) _ _ _ _ _ σ hw) q1530 q1531 q84 q1532 pd_J14_fillNull ⟨by omega, by omega⟩ hl.1 rfl (tw_r8 [] (Nat.le_of_ble_eq_true rfl)) dJ0_setLength_42) (fun E q σ H locs hX hR hS hi => tw_out C hR hS (fun x hx => (hnx x hx).elim) hi hX) (fun σ H locs hw hR hS => ?_)
        refine lv_goto (tgt := 76) C.hx C.hb dJ0_setLength_45 (by decide) ?_
        exact wk_J0_setLength_b76 C hr hmn hnx hfr hRl _ _ σ _ _ _ hw hR hS (tk_sub hl [0, 1] rfl)
  · replace hw := hw.2 c1
    exact hw.elim
-- java/lang/StringBuilder.setLength(I)V
def w_J1_setLength (l0 : Option Nat) (l1 : Int32) (Q : Tst → Prop) (X : String → Nat → Tst → Prop) (σ : Tst) : Prop := w_rc σ l0 cJ1 <| w_J0_setLength l0 l1 (fun σ => Q σ) X σ
set_option maxHeartbeats 4000000 in
theorem wk_J1_setLength (l : Launch) (hl0 : l.stackTraces = false) (G : Tgl) (fr : Nat)  (hfr : 6 ≤ fr) (l0 : Option Nat) (l1 : Int32) (Q : Tst → Prop) (X : String → Nat → Tst → Prop) (σ : Tst) (hw : w_J1_setLength l0 l1 Q X σ) : tw_M l yJ1_setLength (ws_ yJ1_setLength cJ1_setLength 2 none) fr (40 * fr) G σ [.inr l0, .inl l1] (tw_Qv G Q) X := by
  unfold w_J1_setLength at hw
  refine tw_of (ret := none) hl0 (by decide) (Nat.le_of_ble_eq_true rfl) (fun p e R s m args below meth c hRf hRl C hr hmn hnx hR hS ls hl => ?_)
  have hfr : 6 ≤ R.frames := by rw [hRf]; exact hfr
  have hRl : R.locals = 40 * R.frames := by rw [hRl, hRf]
  have hl : tw_l ls 2 [(0, .inr l0), (1, .inl l1)] := hl
  refine tk_aload_n C hl 0 dJ1_setLength_0 rfl ?_
  refine tk_iload_n C hl 1 dJ1_setLength_1 rfl ?_
  obtain ⟨hv, hw⟩ := hw
  refine tw_cbv C hS (tk_runSU (As := [.inl l1]) (Cn := "java/lang/StringBuilder") C hR hS (wk_J0_setLength l C.hst G (R.frames - 1) (by omega) _ _ _ _ σ hw) hv rfl q1508 q2549 q154 q1509 q65 q1510 (by decide) (by exact (by decide +kernel : (parseMethodDescriptor "(I)V").map (fun d => d.parameters.length) = some 1)) ⟨by omega, by omega⟩ hl.1 rfl (tw_r8 [] (Nat.le_of_ble_eq_true rfl)) dJ1_setLength_2) (fun E q σ H locs hX hR hS hi => tw_out C hR hS (fun x hx => (hnx x hx).elim) hi hX) (fun σ H locs hw hR hS => ?_)
  exact tw_vret C hR hS hr dJ1_setLength_5 hw
-- java/lang/IllegalArgumentException.<init>()V
def w_J23_init_3 (l0 : Option Nat) (Q : Tst → Prop) (X : String → Nat → Tst → Prop) (σ : Tst) : Prop := w_rf l0 <| w_J9_init l0 (fun σ => Q σ) X σ
set_option maxHeartbeats 4000000 in
theorem wk_J23_init_3 (l : Launch) (hl0 : l.stackTraces = false) (G : Tgl) (fr : Nat)  (hfr : 5 ≤ fr) (l0 : Option Nat) (Q : Tst → Prop) (X : String → Nat → Tst → Prop) (σ : Tst) (hw : w_J23_init_3 l0 Q X σ) : tw_M l yJ23_init_3 (ws_ yJ23_init_3 cJ23_init_3 1 none) fr (40 * fr) G σ [.inr l0] (tw_Qv G Q) X := by
  unfold w_J23_init_3 at hw
  refine tw_of (ret := none) hl0 (by decide) (Nat.le_of_ble_eq_true rfl) (fun p e R s m args below meth c hRf hRl C hr hmn hnx hR hS ls hl => ?_)
  have hfr : 5 ≤ R.frames := by rw [hRf]; exact hfr
  have hRl : R.locals = 40 * R.frames := by rw [hRl, hRf]
  have hl : tw_l ls 1 [(0, .inr l0)] := hl
  refine tk_aload_n C hl 0 dJ23_init_3_0 rfl ?_
  obtain ⟨hv, hw⟩ := hw
  refine tw_cbv C hS (tk_runI (As := []) hv C hR hS (wk_J9_init l C.hst G (R.frames - 1) (by omega) _ _ _ σ hw) q1560 q407 q78 q408 rfl pd_J9_init ⟨by omega, by omega⟩ hl.1 rfl (tw_r8 [] (Nat.le_of_ble_eq_true rfl)) dJ23_init_3_1) (fun E q σ H locs hX hR hS hi => tw_out C hR hS (fun x hx => (hnx x hx).elim) hi hX) (fun σ H locs hw hR hS => ?_)
  exact tw_vret C hR hS hr dJ23_init_3_4 hw
-- TreeDiffer.read(I)I
def w_X1_read_b54 (Q : Int32 → Tst → Prop) (X : String → Nat → Tst → Prop) (l0 : Option Nat) (s0 : Option Nat) (σ : Tst) : Prop := w_gr σ l0 cX1 1 fun x1 => w_rc σ x1 cJ1 <| w_J1_setLength x1 0 (fun σ => w_th σ s0 X) X σ
def w_X1_read_b37 (Q : Int32 → Tst → Prop) (X : String → Nat → Tst → Prop) (l0 : Option Nat) (s0 : Option Nat) (σ : Tst) : Prop := w_gi σ s0 cX7 6 fun x1 => w_p σ l0 cX1 3 (.inl x1) fun σ => w_nw σ cJ23 6 [.inr none, .inr none, .inr none, .inr none, .inr none, .inl 0] fun q2 σ => w_rf q2 <| w_J23_init_3 q2 (fun σ => w_th σ q2 (fun E q σ => (w_X1_read_b54 Q X l0 (some q) σ))) (fun E q σ => (w_X1_read_b54 Q X l0 (some q) σ)) σ
def w_X1_read (l0 : Option Nat) (l1 : Int32) (Q : Int32 → Tst → Prop) (X : String → Nat → Tst → Prop) (σ : Tst) : Prop := w_X1_isBetween l1 0 2 (fun x1 σ => w_X1_requireIndex x1 (fun σ => w_gr σ l0 cX1 0 fun x3 => w_nw σ cX6 3 [.inl 0, .inl 0, .inr none] fun q4 σ => w_rf q4 <| w_X6_init q4 l0 (fun σ => w_rc σ q4 cX6 <| w_X6_read q4 (fun x6 σ => w_sr σ x3 l1 x6 fun σ => w_gr σ l0 cX1 1 fun x7 => w_rc σ x7 cJ1 <| w_J1_setLength x7 0 (fun σ => w_gr σ l0 cX1 0 fun x9 => w_lr σ x9 l1 fun x10 => w_gr σ x10 cX2 0 fun x11 => w_rc σ x11 cX3 <| w_X3_size 64 x11 (fun x12 σ => Q x12 σ) X σ) X σ) (fun E q σ => w_if (E = "TreeDiffer$WrongText") (w_X1_read_b37 Q X l0 (some q) σ) (False)) σ) (fun E q σ => w_if (E = "TreeDiffer$WrongText") (w_X1_read_b37 Q X l0 (some q) σ) (False)) σ) X σ) X σ
set_option maxHeartbeats 4000000 in
theorem wk_X1_read_b54  (C : tw_C p l R s m args meth c G cX1_read 4 yX1_read.cls) (hr : meth.sig.returnType = (some .int)) (hmn : meth.name = yX1_read.name) (hnx : (c.exceptionTable.toList = tableOf [(9, 26, 37, 92), (9, 26, 54, 0), (37, 55, 54, 0)])) (hfr : 73 ≤ R.frames) (hRl : R.locals = 40 * R.frames) {Q : Int32 → Tst → Prop} {X : String → Nat → Tst → Prop}  (l0 : Option Nat) (s0 : Option Nat) (σ : Tst) (H : Heap) (locs : List Loc) (ls : Array Slot) (hw : w_X1_read_b54 Q X l0 s0 σ) (hR : tw_R G σ H) (hS : va_S (tw_A G) s.heap H locs) (hl : tw_l ls 4 [(0, .inr l0)]) : tw_W p l e R s m args below meth c σ H locs (tw_E below G (tw_Qi G Q) X args s R) (F0 m 54 ls [va_rf s0]) := by
  unfold w_X1_read_b54 at hw
  refine tk_astore_n (L' := [(3, .inr s0), (0, .inr l0)]) C hl dX1_read_54 (by decide) rfl (fun ls hl => ?_)
  refine tk_aload_n C hl 1 dX1_read_55 rfl ?_
  refine tk_gr C hR hw rfl in_X1 (by decide) q247 (fun _ h => h) dX1_read_56 (fun x1 hw => ?_)
  refine lv_iconst (v := 0) C.hx C.hb dX1_read_59 (by decide) ?_
  obtain ⟨hv, hw⟩ := hw
  refine tw_cbv C hS (tk_runV (As := [.inl 0]) C hR hS (wk_J1_setLength l C.hst G (R.frames - 1) (by omega) _ _ _ _ σ hw) hv rfl q1504 q1505 q1506 q66 q1507 pd_J1_setLength ⟨by omega, by omega⟩ hl.1 rfl (tw_r8 [] (Nat.le_of_ble_eq_true rfl)) dX1_read_60) (fun E q σ H locs hX hR hS hi => tw_out C hR hS (by rw [hnx]; decide) hi hX) (fun σ H locs hw hR hS => ?_)
  refine tk_aload_n C hl 0 dX1_read_63 rfl ?_
  exact tk_th C hR hS hw (by rw [hnx]; decide) dX1_read_64
set_option maxHeartbeats 4000000 in
theorem wk_X1_read_b37  (C : tw_C p l R s m args meth c G cX1_read 4 yX1_read.cls) (hr : meth.sig.returnType = (some .int)) (hmn : meth.name = yX1_read.name) (hnx : (c.exceptionTable.toList = tableOf [(9, 26, 37, 92), (9, 26, 54, 0), (37, 55, 54, 0)])) (hfr : 73 ≤ R.frames) (hRl : R.locals = 40 * R.frames) {Q : Int32 → Tst → Prop} {X : String → Nat → Tst → Prop}  (l0 : Option Nat) (s0 : Option Nat) (σ : Tst) (H : Heap) (locs : List Loc) (ls : Array Slot) (hw : w_X1_read_b37 Q X l0 s0 σ) (hR : tw_R G σ H) (hS : va_S (tw_A G) s.heap H locs) (hl : tw_l ls 4 [(0, .inr l0)]) : tw_W p l e R s m args below meth c σ H locs (tw_E below G (tw_Qi G Q) X args s R) (F0 m 37 ls [va_rf s0]) := by
  unfold w_X1_read_b37 at hw
  refine tk_astore_n (L' := [(2, .inr s0), (0, .inr l0)]) C hl dX1_read_37 (by decide) rfl (fun ls hl => ?_)
  refine tk_aload_n C hl 1 dX1_read_38 rfl ?_
  refine tk_aload_n C hl 0 dX1_read_39 rfl ?_
  refine tk_giN C hR hw rfl in_X7 (by decide) q1483 (fun _ h => h) dX1_read_40 (fun x1 hw => ?_)
  refine tk_p (x := .inl x1) C hR hS hw (by decide) rfl in_X1 tyX1 tyX1_ok nmX1 (by decide) q250 (fun _ h => h) rfl (tw_ni _) dX1_read_43 (fun σ H locs hw hR hS => ?_)
  refine tk_nw C hR hS hw rfl in_J23 tyJ23 tyJ23_ok q1556 q878 q96 (fun j hj => by rcases (show j = 0 ∨ j = 1 ∨ j = 2 ∨ j = 3 ∨ j = 4 ∨ j = 5 by omega) with rfl | rfl | rfl | rfl | rfl | rfl <;> rfl) dX1_read_46 (fun q2 σ H hw hR hS => ?_)
  refine tw_dup (x := .inr q2) C.hx C.hb dX1_read_49 ?_
  obtain ⟨hv, hw⟩ := hw
  refine tw_cbv C hS (tk_runI (As := []) hv C hR hS (wk_J23_init_3 l C.hst G (R.frames - 1) (by omega) _ _ _ σ hw) q1557 q1558 q96 q1559 rfl pd_J23_init_3 ⟨by omega, by omega⟩ hl.1 rfl (tw_r8 [.inr q2] (Nat.le_of_ble_eq_true rfl)) dX1_read_50) (fun E q σ H locs hX hR hS hi => ?_) (fun σ H locs hw hR hS => ?_)
  · refine tw_any C hnx [(9, 26, 37, 92), (9, 26, 54, 0)] (37, 55, 54, 0) [] rfl (fun z hz => by simp only [List.mem_cons, List.not_mem_nil, or_false] at hz; rcases hz with rfl | rfl <;> first | exact Or.inl (by decide)) rfl rfl hi ?_
    exact wk_X1_read_b54 C hr hmn hnx hfr hRl _ _ σ _ _ _ hX hR hS (tk_sub hl [1] rfl)
  refine tk_thH C hR hS hw dX1_read_53 (fun E q σ H locs hX hR hS hi => ?_)
  · refine tw_any C hnx [(9, 26, 37, 92), (9, 26, 54, 0)] (37, 55, 54, 0) [] rfl (fun z hz => by simp only [List.mem_cons, List.not_mem_nil, or_false] at hz; rcases hz with rfl | rfl <;> first | exact Or.inl (by decide)) rfl rfl hi ?_
    exact wk_X1_read_b54 C hr hmn hnx hfr hRl _ _ σ _ _ _ hX hR hS (tk_sub hl [1] rfl)
set_option maxHeartbeats 4000000 in
theorem wk_X1_read (l : Launch) (hl0 : l.stackTraces = false) (G : Tgl) (fr : Nat)  (hfr : 73 ≤ fr) (l0 : Option Nat) (l1 : Int32) (Q : Int32 → Tst → Prop) (X : String → Nat → Tst → Prop) (σ : Tst) (hw : w_X1_read l0 l1 Q X σ) : tw_M l yX1_read (wsW_ yX1_read cX1_read 4 (some .int) [(9, 26, 37, 92), (9, 26, 54, 0), (37, 55, 54, 0)]) fr (40 * fr) G σ [.inr l0, .inl l1] (tw_Qi G Q) X := by
  unfold w_X1_read at hw
  refine tw_ofW (ret := (some .int)) (hh := [(9, 26, 37, 92), (9, 26, 54, 0), (37, 55, 54, 0)]) hl0 (by decide) (Nat.le_of_ble_eq_true rfl) (fun p e R s m args below meth c hRf hRl C hr hmn hnx hR hS ls hl => ?_)
  have hfr : 73 ≤ R.frames := by rw [hRf]; exact hfr
  have hRl : R.locals = 40 * R.frames := by rw [hRl, hRf]
  have hl : tw_l ls 4 [(0, .inr l0), (1, .inl l1)] := hl
  refine tk_iload_n C hl 1 dX1_read_0 rfl ?_
  refine lv_iconst (v := 0) C.hx C.hb dX1_read_1 (by decide) ?_
  refine lv_iconst (v := 2) C.hx C.hb dX1_read_2 (by decide) ?_
  refine tw_cbi C hS (tw_runS (As := [.inl l1, .inl 0, .inl 2]) C hR hS (wk_X1_isBetween l C.hst G (R.frames - 1) (by omega) _ _ _ _ _ σ hw) q1416 q1417 q64 q1418 pd_X1_isBetween ⟨by omega, by omega⟩ hl.1 rfl (tw_r8 [] (Nat.le_of_ble_eq_true rfl)) dX1_read_3) (fun E q σ H locs hX hR hS hi => tw_out C hR hS (by rw [hnx]; decide) hi hX) (fun x1 σ H locs hw hR hS => ?_)
  refine tw_cbv C hS (tw_runS (As := [.inl x1]) C hR hS (wk_X1_requireIndex l C.hst G (R.frames - 1) (by omega) _ _ _ σ hw) q1419 q1420 q64 q1421 pd_X1_requireIndex ⟨by omega, by omega⟩ hl.1 rfl (tw_r8 [] (Nat.le_of_ble_eq_true rfl)) dX1_read_6) (fun E q σ H locs hX hR hS hi => tw_out C hR hS (by rw [hnx]; decide) hi hX) (fun σ H locs hw hR hS => ?_)
  refine tk_aload_n C hl 0 dX1_read_9 rfl ?_
  refine tk_gr C hR hw rfl in_X1 (by decide) q246 (fun _ h => h) dX1_read_10 (fun x3 hw => ?_)
  refine tk_iload_n C hl 1 dX1_read_13 rfl ?_
  refine tk_nw C hR hS hw rfl in_X6 tyX6 tyX6_ok q1427 q1428 q88 (fun j hj => by rcases (show j = 0 ∨ j = 1 ∨ j = 2 by omega) with rfl | rfl | rfl <;> rfl) dX1_read_14 (fun q4 σ H hw hR hS => ?_)
  refine tw_dup (x := .inr q4) C.hx C.hb dX1_read_17 ?_
  refine tk_aload_n C hl 0 dX1_read_18 rfl ?_
  obtain ⟨hv, hw⟩ := hw
  refine tw_cbv C hS (tk_runIN (As := [.inr l0]) hv C hR hS (wk_X6_init l C.hst G (R.frames - 1) (by omega) _ _ _ _ σ hw) q1429 q1430 q88 q1431 rfl pd_X6_init ⟨by omega, by omega⟩ hl.1 rfl (tw_r8 [.inr q4, .inl l1, .inr x3] (Nat.le_of_ble_eq_true rfl)) dX1_read_19) (fun E q σ H locs hX hR hS hi => ?_) (fun σ H locs hw hR hS => ?_)
  · by_cases cE0 : E = "TreeDiffer$WrongText"
    · replace hX := hX.1 cE0
      subst cE0
      refine tw_catch C hnx [] (9, 26, 37, 92) [(9, 26, 54, 0), (37, 55, 54, 0)] rfl (fun z hz => nomatch hz) rfl (by decide) q1415 q1471 hi ?_
      exact wk_X1_read_b37 C hr hmn hnx hfr hRl _ _ σ _ _ _ hX hR hS (tk_sub hl [0] rfl)
    replace hX := hX.2 cE0
    exact hX.elim
  obtain ⟨hv, hw⟩ := hw
  refine tw_cbq C hS (tk_runV (As := []) C hR hS (wk_X6_read l C.hst G (R.frames - 1) (by omega) _ _ _ σ hw) hv rfl q1443 q1444 q1445 q88 q1446 pd_X6_read ⟨by omega, by omega⟩ hl.1 rfl (tw_r8 [.inl l1, .inr x3] (Nat.le_of_ble_eq_true rfl)) dX1_read_22) (fun E q σ H locs hX hR hS hi => ?_) (fun x6 σ H locs hw hR hS => ?_)
  · by_cases cE0 : E = "TreeDiffer$WrongText"
    · replace hX := hX.1 cE0
      subst cE0
      refine tw_catch C hnx [] (9, 26, 37, 92) [(9, 26, 54, 0), (37, 55, 54, 0)] rfl (fun z hz => nomatch hz) rfl (by decide) q1415 q1471 hi ?_
      exact wk_X1_read_b37 C hr hmn hnx hfr hRl _ _ σ _ _ _ hX hR hS (tk_sub hl [0] rfl)
    replace hX := hX.2 cE0
    exact hX.elim
  refine tk_sr C hR hS hw dX1_read_25 (fun σ H locs hw hR hS => ?_)
  refine tk_aload_n C hl 0 dX1_read_26 rfl ?_
  refine tk_gr C hR hw rfl in_X1 (by decide) q247 (fun _ h => h) dX1_read_27 (fun x7 hw => ?_)
  refine lv_iconst (v := 0) C.hx C.hb dX1_read_30 (by decide) ?_
  obtain ⟨hv, hw⟩ := hw
  refine tw_cbv C hS (tk_runV (As := [.inl 0]) C hR hS (wk_J1_setLength l C.hst G (R.frames - 1) (by omega) _ _ _ _ σ hw) hv rfl q1504 q1505 q1506 q66 q1507 pd_J1_setLength ⟨by omega, by omega⟩ hl.1 rfl (tw_r8 [] (Nat.le_of_ble_eq_true rfl)) dX1_read_31) (fun E q σ H locs hX hR hS hi => tw_out C hR hS (by rw [hnx]; decide) hi hX) (fun σ H locs hw hR hS => ?_)
  refine lv_goto (tgt := 65) C.hx C.hb dX1_read_34 (by decide) ?_
  refine tk_aload_n C hl 0 dX1_read_65 rfl ?_
  refine tk_gr C hR hw rfl in_X1 (by decide) q246 (fun _ h => h) dX1_read_66 (fun x9 hw => ?_)
  refine tk_iload_n C hl 1 dX1_read_69 rfl ?_
  refine tk_lr C hR hw dX1_read_70 (fun x10 hw => ?_)
  refine tk_grN C hR hw rfl in_X2 (by decide) q242 (fun _ h => h) dX1_read_71 (fun x11 hw => ?_)
  obtain ⟨hv, hw⟩ := hw
  refine tw_cbi C hS (tk_runV (As := []) C hR hS (wk_X3_size l C.hst G 64 (R.frames - 1) (by omega) _ _ _ σ hw) hv rfl q286 q287 q288 q70 q289 pd_X3_size ⟨by omega, by omega⟩ hl.1 rfl (tw_r8 [] (Nat.le_of_ble_eq_true rfl)) dX1_read_74) (fun E q σ H locs hX hR hS hi => tw_out C hR hS (by rw [hnx]; decide) hi hX) (fun x12 σ H locs hw hR hS => ?_)
  exact tw_iret C hR hS hr rfl dX1_read_77 hw
-- TreeDifferLaw.read(LTreeDiffer;I[J)I
def w_X0_read_b12 (Q : Int32 → Tst → Prop) (X : String → Nat → Tst → Prop) (s0 : Option Nat) (σ : Tst) : Prop := Q 1 σ
def w_X0_read_b15 (Q : Int32 → Tst → Prop) (X : String → Nat → Tst → Prop) (s0 : Option Nat) (σ : Tst) : Prop := Q 2 σ
def w_X0_read (l0 : Option Nat) (l1 : Int32) (l2 : Option Nat) (Q : Int32 → Tst → Prop) (X : String → Nat → Tst → Prop) (σ : Tst) : Prop := w_rc σ l0 cX1 <| w_X1_read l0 l1 (fun x1 σ => w_sl σ l2 0 (x1.toInt64) fun σ => Q 0 σ) (fun E q σ => w_if (E = "java/lang/IndexOutOfBoundsException") (w_X0_read_b12 Q X (some q) σ) (w_if (E = "java/lang/IllegalArgumentException") (w_X0_read_b15 Q X (some q) σ) (False))) σ
set_option maxHeartbeats 4000000 in
theorem wk_X0_read_b12  (C : tw_C p l R s m args meth c G cX0_read 4 yX0_read.cls) (hr : meth.sig.returnType = (some .int)) (hmn : meth.name = yX0_read.name) (hnx : (c.exceptionTable.toList = tableOf [(0, 9, 12, 19), (0, 9, 15, 21)])) (hfr : 74 ≤ R.frames) (hRl : R.locals = 40 * R.frames) {Q : Int32 → Tst → Prop} {X : String → Nat → Tst → Prop}  (s0 : Option Nat) (σ : Tst) (H : Heap) (locs : List Loc) (ls : Array Slot) (hw : w_X0_read_b12 Q X s0 σ) (hR : tw_R G σ H) (hS : va_S (tw_A G) s.heap H locs) (hl : tw_l ls 4 []) : tw_W p l e R s m args below meth c σ H locs (tw_E below G (tw_Qi G Q) X args s R) (F0 m 12 ls [va_rf s0]) := by
  unfold w_X0_read_b12 at hw
  refine tk_astore_n (L' := [(3, .inr s0)]) C hl dX0_read_12 (by decide) rfl (fun ls hl => ?_)
  refine lv_iconst (v := 1) C.hx C.hb dX0_read_13 (by decide) ?_
  exact tw_iret C hR hS hr rfl dX0_read_14 hw
set_option maxHeartbeats 4000000 in
theorem wk_X0_read_b15  (C : tw_C p l R s m args meth c G cX0_read 4 yX0_read.cls) (hr : meth.sig.returnType = (some .int)) (hmn : meth.name = yX0_read.name) (hnx : (c.exceptionTable.toList = tableOf [(0, 9, 12, 19), (0, 9, 15, 21)])) (hfr : 74 ≤ R.frames) (hRl : R.locals = 40 * R.frames) {Q : Int32 → Tst → Prop} {X : String → Nat → Tst → Prop}  (s0 : Option Nat) (σ : Tst) (H : Heap) (locs : List Loc) (ls : Array Slot) (hw : w_X0_read_b15 Q X s0 σ) (hR : tw_R G σ H) (hS : va_S (tw_A G) s.heap H locs) (hl : tw_l ls 4 []) : tw_W p l e R s m args below meth c σ H locs (tw_E below G (tw_Qi G Q) X args s R) (F0 m 15 ls [va_rf s0]) := by
  unfold w_X0_read_b15 at hw
  refine tk_astore_n (L' := [(3, .inr s0)]) C hl dX0_read_15 (by decide) rfl (fun ls hl => ?_)
  refine lv_iconst (v := 2) C.hx C.hb dX0_read_16 (by decide) ?_
  exact tw_iret C hR hS hr rfl dX0_read_17 hw
set_option maxHeartbeats 4000000 in
theorem wk_X0_read (l : Launch) (hl0 : l.stackTraces = false) (G : Tgl) (fr : Nat)  (hfr : 74 ≤ fr) (l0 : Option Nat) (l1 : Int32) (l2 : Option Nat) (Q : Int32 → Tst → Prop) (X : String → Nat → Tst → Prop) (σ : Tst) (hw : w_X0_read l0 l1 l2 Q X σ) : tw_M l yX0_read (wsW_ yX0_read cX0_read 4 (some .int) [(0, 9, 12, 19), (0, 9, 15, 21)]) fr (40 * fr) G σ [.inr l0, .inl l1, .inr l2] (tw_Qi G Q) X := by
  unfold w_X0_read at hw
  refine tw_ofW (ret := (some .int)) (hh := [(0, 9, 12, 19), (0, 9, 15, 21)]) hl0 (by decide) (Nat.le_of_ble_eq_true rfl) (fun p e R s m args below meth c hRf hRl C hr hmn hnx hR hS ls hl => ?_)
  have hfr : 74 ≤ R.frames := by rw [hRf]; exact hfr
  have hRl : R.locals = 40 * R.frames := by rw [hRl, hRf]
  have hl : tw_l ls 4 [(0, .inr l0), (1, .inl l1), (2, .inr l2)] := hl
  refine tk_aload_n C hl 2 dX0_read_0 rfl ?_
  refine lv_iconst (v := 0) C.hx C.hb dX0_read_1 (by decide) ?_
  refine tk_aload_n C hl 0 dX0_read_2 rfl ?_
  refine tk_iload_n C hl 1 dX0_read_3 rfl ?_
  obtain ⟨hv, hw⟩ := hw
  refine tw_cbi C hS (tk_runVW (As := [.inl l1]) C hR hS (wk_X1_read l C.hst G (R.frames - 1) (by omega) _ _ _ _ σ hw) hv rfl q1411 q1412 q1413 q64 q1414 pd_X1_read ⟨by omega, by omega⟩ hl.1 rfl (tw_r8 [.inl 0, .inr l2] (Nat.le_of_ble_eq_true rfl)) dX0_read_4) (fun E q σ H locs hX hR hS hi => ?_) (fun x1 σ H locs hw hR hS => ?_)
  · by_cases cE0 : E = "java/lang/IndexOutOfBoundsException"
    · replace hX := hX.1 cE0
      subst cE0
      refine tw_catch C hnx [] (0, 9, 12, 19) [(0, 9, 15, 21)] rfl (fun z hz => nomatch hz) rfl (by decide) q1394 q687 hi ?_
      exact wk_X0_read_b12 C hr hmn hnx hfr hRl _ σ _ _ _ hX hR hS (tk_sub hl [] rfl)
    replace hX := hX.2 cE0
    by_cases cE1 : E = "java/lang/IllegalArgumentException"
    · replace hX := hX.1 cE1
      subst cE1
      refine tw_catch C hnx [(0, 9, 12, 19)] (0, 9, 15, 21) [] rfl (fun z hz => by simp only [List.mem_cons, List.not_mem_nil, or_false] at hz; rcases hz with rfl; exact Or.inr ⟨by decide, _, q1394, by decide +kernel⟩) rfl (by decide) q1410 q879 hi ?_
      exact wk_X0_read_b15 C hr hmn hnx hfr hRl _ σ _ _ _ hX hR hS (tk_sub hl [] rfl)
    replace hX := hX.2 cE1
    exact hX.elim
  refine lv_i2l (v := x1.toInt64) C.hx C.hb dX0_read_7 rfl ?_
  refine tk_sl C hR hS hw dX0_read_8 (fun σ H locs hw hR hS => ?_)
  refine lv_goto (tgt := 18) C.hx C.hb dX0_read_9 (by decide) ?_
  refine lv_iconst (v := 0) C.hx C.hb dX0_read_18 (by decide) ?_
  exact tw_iret C hR hS hr rfl dX0_read_19 hw
-- java/util/NoSuchElementException.<init>()V
def w_J19_init (l0 : Option Nat) (Q : Tst → Prop) (X : String → Nat → Tst → Prop) (σ : Tst) : Prop := w_rf l0 <| w_J9_init l0 (fun σ => Q σ) X σ
set_option maxHeartbeats 4000000 in
theorem wk_J19_init (l : Launch) (hl0 : l.stackTraces = false) (G : Tgl) (fr : Nat)  (hfr : 5 ≤ fr) (l0 : Option Nat) (Q : Tst → Prop) (X : String → Nat → Tst → Prop) (σ : Tst) (hw : w_J19_init l0 Q X σ) : tw_M l yJ19_init (ws_ yJ19_init cJ19_init 1 none) fr (40 * fr) G σ [.inr l0] (tw_Qv G Q) X := by
  unfold w_J19_init at hw
  refine tw_of (ret := none) hl0 (by decide) (Nat.le_of_ble_eq_true rfl) (fun p e R s m args below meth c hRf hRl C hr hmn hnx hR hS ls hl => ?_)
  have hfr : 5 ≤ R.frames := by rw [hRf]; exact hfr
  have hRl : R.locals = 40 * R.frames := by rw [hRl, hRf]
  have hl : tw_l ls 1 [(0, .inr l0)] := hl
  refine tk_aload_n C hl 0 dJ19_init_0 rfl ?_
  obtain ⟨hv, hw⟩ := hw
  refine tw_cbv C hS (tk_runI (As := []) hv C hR hS (wk_J9_init l C.hst G (R.frames - 1) (by omega) _ _ _ σ hw) q406 q407 q78 q408 rfl pd_J9_init ⟨by omega, by omega⟩ hl.1 rfl (tw_r8 [] (Nat.le_of_ble_eq_true rfl)) dJ19_init_1) (fun E q σ H locs hX hR hS hi => tw_out C hR hS (fun x hx => (hnx x hx).elim) hi hX) (fun σ H locs hw hR hS => ?_)
  exact tw_vret C hR hS hr dJ19_init_4 hw
-- TreeDiffer.requireElement(Z)V
def w_X1_requireElement (l0 : Int32) (Q : Tst → Prop) (X : String → Nat → Tst → Prop) (σ : Tst) : Prop := w_if (l0 = 0) (w_nw σ cJ19 6 [.inr none, .inr none, .inr none, .inr none, .inr none, .inl 0] fun q1 σ => w_rf q1 <| w_J19_init q1 (fun σ => w_th σ q1 X) X σ) (Q σ)
set_option maxHeartbeats 4000000 in
theorem wk_X1_requireElement (l : Launch) (hl0 : l.stackTraces = false) (G : Tgl) (fr : Nat)  (hfr : 6 ≤ fr) (l0 : Int32) (Q : Tst → Prop) (X : String → Nat → Tst → Prop) (σ : Tst) (hw : w_X1_requireElement l0 Q X σ) : tw_M l yX1_requireElement (ws_ yX1_requireElement cX1_requireElement 1 none) fr (40 * fr) G σ [.inl l0] (tw_Qv G Q) X := by
  unfold w_X1_requireElement at hw
  refine tw_of (ret := none) hl0 (by decide) (Nat.le_of_ble_eq_true rfl) (fun p e R s m args below meth c hRf hRl C hr hmn hnx hR hS ls hl => ?_)
  have hfr : 6 ≤ R.frames := by rw [hRf]; exact hfr
  have hRl : R.locals = 40 * R.frames := by rw [hRl, hRf]
  have hl : tw_l ls 1 [(0, .inl l0)] := hl
  refine tk_iload_n C hl 0 dX1_requireElement_0 rfl ?_
  refine lv_if_ne (tgt := 12) C.hx C.hb dX1_requireElement_1 (by decide) (fun c1 => ?_) (fun c1 => ?_)
  · replace hw := hw.2 c1
    exact tw_vret C hR hS hr dX1_requireElement_12 hw
  · replace hw := hw.1 c1
    refine tk_nw C hR hS hw rfl in_J19 tyJ19 tyJ19_ok q1572 q352 q91 (fun j hj => by rcases (show j = 0 ∨ j = 1 ∨ j = 2 ∨ j = 3 ∨ j = 4 ∨ j = 5 by omega) with rfl | rfl | rfl | rfl | rfl | rfl <;> rfl) dX1_requireElement_4 (fun q1 σ H hw hR hS => ?_)
    refine tw_dup (x := .inr q1) C.hx C.hb dX1_requireElement_7 ?_
    obtain ⟨hv, hw⟩ := hw
    refine tw_cbv C hS (tk_runI (As := []) hv C hR hS (wk_J19_init l C.hst G (R.frames - 1) (by omega) _ _ _ σ hw) q1573 q404 q91 q405 rfl pd_J19_init ⟨by omega, by omega⟩ hl.1 rfl (tw_r8 [.inr q1] (Nat.le_of_ble_eq_true rfl)) dX1_requireElement_8) (fun E q σ H locs hX hR hS hi => tw_out C hR hS (fun x hx => (hnx x hx).elim) hi hX) (fun σ H locs hw hR hS => ?_)
    exact tk_th C hR hS hw (fun x hx => (hnx x hx).elim) dX1_requireElement_11
-- TreeDiffer.errorPosition()I
def w_X1_errorPosition_b13 (Q : Int32 → Tst → Prop) (X : String → Nat → Tst → Prop) (l0 : Option Nat) (s0 : Int32) (σ : Tst) : Prop := w_X1_requireElement s0 (fun σ => w_gi σ l0 cX1 3 fun x2 => Q x2 σ) X σ
def w_X1_errorPosition (l0 : Option Nat) (Q : Int32 → Tst → Prop) (X : String → Nat → Tst → Prop) (σ : Tst) : Prop := w_gi σ l0 cX1 3 fun x1 => w_if (x1 = (-1)) (w_X1_errorPosition_b13 Q X l0 0 σ) (w_X1_errorPosition_b13 Q X l0 1 σ)
set_option maxHeartbeats 4000000 in
theorem wk_X1_errorPosition_b13  (C : tw_C p l R s m args meth c G cX1_errorPosition 1 yX1_errorPosition.cls) (hr : meth.sig.returnType = (some .int)) (hmn : meth.name = yX1_errorPosition.name) (hnx : (∀ x ∈ c.exceptionTable.toList, False)) (hfr : 7 ≤ R.frames) (hRl : R.locals = 40 * R.frames) {Q : Int32 → Tst → Prop} {X : String → Nat → Tst → Prop}  (l0 : Option Nat) (s0 : Int32) (σ : Tst) (H : Heap) (locs : List Loc) (ls : Array Slot) (hw : w_X1_errorPosition_b13 Q X l0 s0 σ) (hR : tw_R G σ H) (hS : va_S (tw_A G) s.heap H locs) (hl : tw_l ls 1 [(0, .inr l0)]) : tw_W p l e R s m args below meth c σ H locs (tw_E below G (tw_Qi G Q) X args s R) (F0 m 13 ls [.int s0]) := by
  unfold w_X1_errorPosition_b13 at hw
  refine tw_cbv C hS (tw_runS (As := [.inl s0]) C hR hS (wk_X1_requireElement l C.hst G (R.frames - 1) (by omega) _ _ _ σ hw) q1569 q1570 q64 q1571 pd_X1_requireElement ⟨by omega, by omega⟩ hl.1 rfl (tw_r8 [] (Nat.le_of_ble_eq_true rfl)) dX1_errorPosition_13) (fun E q σ H locs hX hR hS hi => tw_out C hR hS (fun x hx => (hnx x hx).elim) hi hX) (fun σ H locs hw hR hS => ?_)
  refine tk_aload_n C hl 0 dX1_errorPosition_16 rfl ?_
  refine tk_gi C hR hw rfl in_X1 (by decide) q250 (fun _ h => h) dX1_errorPosition_17 (fun x2 hw => ?_)
  exact tw_iret C hR hS hr rfl dX1_errorPosition_20 hw
set_option maxHeartbeats 4000000 in
theorem wk_X1_errorPosition (l : Launch) (hl0 : l.stackTraces = false) (G : Tgl) (fr : Nat)  (hfr : 7 ≤ fr) (l0 : Option Nat) (Q : Int32 → Tst → Prop) (X : String → Nat → Tst → Prop) (σ : Tst) (hw : w_X1_errorPosition l0 Q X σ) : tw_M l yX1_errorPosition (ws_ yX1_errorPosition cX1_errorPosition 1 (some .int)) fr (40 * fr) G σ [.inr l0] (tw_Qi G Q) X := by
  unfold w_X1_errorPosition at hw
  refine tw_of (ret := (some .int)) hl0 (by decide) (Nat.le_of_ble_eq_true rfl) (fun p e R s m args below meth c hRf hRl C hr hmn hnx hR hS ls hl => ?_)
  have hfr : 7 ≤ R.frames := by rw [hRf]; exact hfr
  have hRl : R.locals = 40 * R.frames := by rw [hRl, hRf]
  have hl : tw_l ls 1 [(0, .inr l0)] := hl
  refine tk_aload_n C hl 0 dX1_errorPosition_0 rfl ?_
  refine tk_gi C hR hw rfl in_X1 (by decide) q250 (fun _ h => h) dX1_errorPosition_1 (fun x1 hw => ?_)
  refine lv_iconst (v := (-1)) C.hx C.hb dX1_errorPosition_4 (by decide) ?_
  refine lv_icmp_eq (tgt := 12) C.hx C.hb dX1_errorPosition_5 (by decide) (fun c5 => ?_) (fun c5 => ?_)
  · replace hw := hw.1 c5
    refine lv_iconst (v := 0) C.hx C.hb dX1_errorPosition_12 (by decide) ?_
    exact wk_X1_errorPosition_b13 C hr hmn hnx hfr hRl _ _ σ _ _ _ hw hR hS (tk_sub hl [0] rfl)
  · replace hw := hw.2 c5
    refine lv_iconst (v := 1) C.hx C.hb dX1_errorPosition_8 (by decide) ?_
    refine lv_goto (tgt := 13) C.hx C.hb dX1_errorPosition_9 (by decide) ?_
    exact wk_X1_errorPosition_b13 C hr hmn hnx hfr hRl _ _ σ _ _ _ hw hR hS (tk_sub hl [0] rfl)
-- TreeDifferLaw.errorPosition(LTreeDiffer;[J)I
def w_X0_errorPosition_b11 (Q : Int32 → Tst → Prop) (X : String → Nat → Tst → Prop) (s0 : Option Nat) (σ : Tst) : Prop := Q 1 σ
def w_X0_errorPosition (l0 : Option Nat) (l1 : Option Nat) (Q : Int32 → Tst → Prop) (X : String → Nat → Tst → Prop) (σ : Tst) : Prop := w_rc σ l0 cX1 <| w_X1_errorPosition l0 (fun x1 σ => w_sl σ l1 0 (x1.toInt64) fun σ => Q 0 σ) (fun E q σ => w_if (E = "java/util/NoSuchElementException") (w_X0_errorPosition_b11 Q X (some q) σ) (False)) σ
set_option maxHeartbeats 4000000 in
theorem wk_X0_errorPosition_b11  (C : tw_C p l R s m args meth c G cX0_errorPosition 3 yX0_errorPosition.cls) (hr : meth.sig.returnType = (some .int)) (hmn : meth.name = yX0_errorPosition.name) (hnx : (c.exceptionTable.toList = tableOf [(0, 8, 11, 27)])) (hfr : 8 ≤ R.frames) (hRl : R.locals = 40 * R.frames) {Q : Int32 → Tst → Prop} {X : String → Nat → Tst → Prop}  (s0 : Option Nat) (σ : Tst) (H : Heap) (locs : List Loc) (ls : Array Slot) (hw : w_X0_errorPosition_b11 Q X s0 σ) (hR : tw_R G σ H) (hS : va_S (tw_A G) s.heap H locs) (hl : tw_l ls 3 []) : tw_W p l e R s m args below meth c σ H locs (tw_E below G (tw_Qi G Q) X args s R) (F0 m 11 ls [va_rf s0]) := by
  unfold w_X0_errorPosition_b11 at hw
  refine tk_astore_n (L' := [(2, .inr s0)]) C hl dX0_errorPosition_11 (by decide) rfl (fun ls hl => ?_)
  refine lv_iconst (v := 1) C.hx C.hb dX0_errorPosition_12 (by decide) ?_
  exact tw_iret C hR hS hr rfl dX0_errorPosition_13 hw
set_option maxHeartbeats 4000000 in
theorem wk_X0_errorPosition (l : Launch) (hl0 : l.stackTraces = false) (G : Tgl) (fr : Nat)  (hfr : 8 ≤ fr) (l0 : Option Nat) (l1 : Option Nat) (Q : Int32 → Tst → Prop) (X : String → Nat → Tst → Prop) (σ : Tst) (hw : w_X0_errorPosition l0 l1 Q X σ) : tw_M l yX0_errorPosition (wsW_ yX0_errorPosition cX0_errorPosition 3 (some .int) [(0, 8, 11, 27)]) fr (40 * fr) G σ [.inr l0, .inr l1] (tw_Qi G Q) X := by
  unfold w_X0_errorPosition at hw
  refine tw_ofW (ret := (some .int)) (hh := [(0, 8, 11, 27)]) hl0 (by decide) (Nat.le_of_ble_eq_true rfl) (fun p e R s m args below meth c hRf hRl C hr hmn hnx hR hS ls hl => ?_)
  have hfr : 8 ≤ R.frames := by rw [hRf]; exact hfr
  have hRl : R.locals = 40 * R.frames := by rw [hRl, hRf]
  have hl : tw_l ls 3 [(0, .inr l0), (1, .inr l1)] := hl
  refine tk_aload_n C hl 1 dX0_errorPosition_0 rfl ?_
  refine lv_iconst (v := 0) C.hx C.hb dX0_errorPosition_1 (by decide) ?_
  refine tk_aload_n C hl 0 dX0_errorPosition_2 rfl ?_
  obtain ⟨hv, hw⟩ := hw
  refine tw_cbi C hS (tk_runV (As := []) C hR hS (wk_X1_errorPosition l C.hst G (R.frames - 1) (by omega) _ _ _ σ hw) hv rfl q1565 q1566 q1567 q64 q1568 pd_X1_errorPosition ⟨by omega, by omega⟩ hl.1 rfl (tw_r8 [.inl 0, .inr l1] (Nat.le_of_ble_eq_true rfl)) dX0_errorPosition_3) (fun E q σ H locs hX hR hS hi => ?_) (fun x1 σ H locs hw hR hS => ?_)
  · by_cases cE0 : E = "java/util/NoSuchElementException"
    · replace hX := hX.1 cE0
      subst cE0
      refine tw_catch C hnx [] (0, 8, 11, 27) [] rfl (fun z hz => nomatch hz) rfl (by decide) q1564 q353 hi ?_
      exact wk_X0_errorPosition_b11 C hr hmn hnx hfr hRl _ σ _ _ _ hX hR hS (tk_sub hl [] rfl)
    replace hX := hX.2 cE0
    exact hX.elim
  refine lv_i2l (v := x1.toInt64) C.hx C.hb dX0_errorPosition_6 rfl ?_
  refine tk_sl C hR hS hw dX0_errorPosition_7 (fun σ H locs hw hR hS => ?_)
  refine lv_goto (tgt := 14) C.hx C.hb dX0_errorPosition_8 (by decide) ?_
  refine lv_iconst (v := 0) C.hx C.hb dX0_errorPosition_14 (by decide) ?_
  exact tw_iret C hR hS hr rfl dX0_errorPosition_15 hw
-- TreeDiffer.treeOf(I)LTreeDiffer$Tree;
def w_X1_treeOf (l0 : Option Nat) (l1 : Int32) (Q : Option Nat → Tst → Prop) (X : String → Nat → Tst → Prop) (σ : Tst) : Prop := w_X1_isBetween l1 0 2 (fun x1 σ => w_X1_requireIndex x1 (fun σ => w_gr σ l0 cX1 0 fun x3 => w_lr σ x3 l1 fun x4 => Q x4 σ) X σ) X σ
set_option maxHeartbeats 4000000 in
theorem wk_X1_treeOf (l : Launch) (hl0 : l.stackTraces = false) (G : Tgl) (fr : Nat)  (hfr : 7 ≤ fr) (l0 : Option Nat) (l1 : Int32) (Q : Option Nat → Tst → Prop) (X : String → Nat → Tst → Prop) (σ : Tst) (hw : w_X1_treeOf l0 l1 Q X σ) : tw_M l yX1_treeOf (ws_ yX1_treeOf cX1_treeOf 2 (some (.object "TreeDiffer$Tree"))) fr (40 * fr) G σ [.inr l0, .inl l1] (tw_Qq G Q) X := by
  unfold w_X1_treeOf at hw
  refine tw_of (ret := (some (.object "TreeDiffer$Tree"))) hl0 (by decide) (Nat.le_of_ble_eq_true rfl) (fun p e R s m args below meth c hRf hRl C hr hmn hnx hR hS ls hl => ?_)
  have hfr : 7 ≤ R.frames := by rw [hRf]; exact hfr
  have hRl : R.locals = 40 * R.frames := by rw [hRl, hRf]
  have hl : tw_l ls 2 [(0, .inr l0), (1, .inl l1)] := hl
  refine tk_iload_n C hl 1 dX1_treeOf_0 rfl ?_
  refine lv_iconst (v := 0) C.hx C.hb dX1_treeOf_1 (by decide) ?_
  refine lv_iconst (v := 2) C.hx C.hb dX1_treeOf_2 (by decide) ?_
  refine tw_cbi C hS (tw_runS (As := [.inl l1, .inl 0, .inl 2]) C hR hS (wk_X1_isBetween l C.hst G (R.frames - 1) (by omega) _ _ _ _ _ σ hw) q1416 q1417 q64 q1418 pd_X1_isBetween ⟨by omega, by omega⟩ hl.1 rfl (tw_r8 [] (Nat.le_of_ble_eq_true rfl)) dX1_treeOf_3) (fun E q σ H locs hX hR hS hi => tw_out C hR hS (fun x hx => (hnx x hx).elim) hi hX) (fun x1 σ H locs hw hR hS => ?_)
  refine tw_cbv C hS (tw_runS (As := [.inl x1]) C hR hS (wk_X1_requireIndex l C.hst G (R.frames - 1) (by omega) _ _ _ σ hw) q1419 q1420 q64 q1421 pd_X1_requireIndex ⟨by omega, by omega⟩ hl.1 rfl (tw_r8 [] (Nat.le_of_ble_eq_true rfl)) dX1_treeOf_6) (fun E q σ H locs hX hR hS hi => tw_out C hR hS (fun x hx => (hnx x hx).elim) hi hX) (fun σ H locs hw hR hS => ?_)
  refine tk_aload_n C hl 0 dX1_treeOf_9 rfl ?_
  refine tk_gr C hR hw rfl in_X1 (by decide) q246 (fun _ h => h) dX1_treeOf_10 (fun x3 hw => ?_)
  refine tk_iload_n C hl 1 dX1_treeOf_13 rfl ?_
  refine tk_lr C hR hw dX1_treeOf_14 (fun x4 hw => ?_)
  exact tw_aret C hR hS hr (Or.inl ⟨_, rfl⟩) dX1_treeOf_15 hw
-- TreeDiffer.writeTree(I)I
def w_X1_writeTree (l0 : Option Nat) (l1 : Int32) (Q : Int32 → Tst → Prop) (X : String → Nat → Tst → Prop) (σ : Tst) : Prop := w_rc σ l0 cX1 <| w_X1_treeOf l0 l1 (fun x1 σ => w_gr σ l0 cX1 2 fun x2 => w_rc σ x2 cJ1 <| w_J1_setLength x2 0 (fun σ => w_gr σ x1 cX2 0 fun x4 => w_gr σ l0 cX1 2 fun x5 => w_rc σ x4 cX3 <| w_X3_write 64 x4 x5 (fun σ => w_gr σ l0 cX1 2 fun x7 => w_rc σ x7 cJ1 <| w_J1_length x7 (fun x8 σ => Q x8 σ) X σ) X σ) X σ) X σ
set_option maxHeartbeats 4000000 in
theorem wk_X1_writeTree (l : Launch) (hl0 : l.stackTraces = false) (G : Tgl) (fr : Nat)  (hfr : 74 ≤ fr) (l0 : Option Nat) (l1 : Int32) (Q : Int32 → Tst → Prop) (X : String → Nat → Tst → Prop) (σ : Tst) (hw : w_X1_writeTree l0 l1 Q X σ) : tw_M l yX1_writeTree (ws_ yX1_writeTree cX1_writeTree 3 (some .int)) fr (40 * fr) G σ [.inr l0, .inl l1] (tw_Qi G Q) X := by
  unfold w_X1_writeTree at hw
  refine tw_of (ret := (some .int)) hl0 (by decide) (Nat.le_of_ble_eq_true rfl) (fun p e R s m args below meth c hRf hRl C hr hmn hnx hR hS ls hl => ?_)
  have hfr : 74 ≤ R.frames := by rw [hRf]; exact hfr
  have hRl : R.locals = 40 * R.frames := by rw [hRl, hRf]
  have hl : tw_l ls 3 [(0, .inr l0), (1, .inl l1)] := hl
  refine tk_aload_n C hl 0 dX1_writeTree_0 rfl ?_
  refine tk_iload_n C hl 1 dX1_writeTree_1 rfl ?_
  obtain ⟨hv, hw⟩ := hw
  refine tw_cbq C hS (tk_runV (As := [.inl l1]) C hR hS (wk_X1_treeOf l C.hst G (R.frames - 1) (by omega) _ _ _ _ σ hw) hv rfl q1581 q1583 qs16 q64 q1584 pd_X1_treeOf ⟨by omega, by omega⟩ hl.1 rfl (tw_r8 [] (Nat.le_of_ble_eq_true rfl)) dX1_writeTree_2) (fun E q σ H locs hX hR hS hi => tw_out C hR hS (fun x hx => (hnx x hx).elim) hi hX) (fun x1 σ H locs hw hR hS => ?_)
  refine tk_astore_n (L' := [(2, .inr x1), (0, .inr l0), (1, .inl l1)]) C hl dX1_writeTree_5 (by decide) rfl (fun ls hl => ?_)
  refine tk_aload_n C hl 1 dX1_writeTree_6 rfl ?_
  refine tk_gr C hR hw rfl in_X1 (by decide) q249 (fun _ h => h) dX1_writeTree_7 (fun x2 hw => ?_)
  refine lv_iconst (v := 0) C.hx C.hb dX1_writeTree_10 (by decide) ?_
  obtain ⟨hv, hw⟩ := hw
  refine tw_cbv C hS (tk_runV (As := [.inl 0]) C hR hS (wk_J1_setLength l C.hst G (R.frames - 1) (by omega) _ _ _ _ σ hw) hv rfl q1504 q1505 q1506 q66 q1507 pd_J1_setLength ⟨by omega, by omega⟩ hl.1 rfl (tw_r8 [] (Nat.le_of_ble_eq_true rfl)) dX1_writeTree_11) (fun E q σ H locs hX hR hS hi => tw_out C hR hS (fun x hx => (hnx x hx).elim) hi hX) (fun σ H locs hw hR hS => ?_)
  refine tk_aload_n C hl 0 dX1_writeTree_14 rfl ?_
  refine tk_grN C hR hw rfl in_X2 (by decide) q242 (fun _ h => h) dX1_writeTree_15 (fun x4 hw => ?_)
  refine tk_aload_n C hl 1 dX1_writeTree_18 rfl ?_
  refine tk_gr C hR hw rfl in_X1 (by decide) q249 (fun _ h => h) dX1_writeTree_19 (fun x5 hw => ?_)
  obtain ⟨hv, hw⟩ := hw
  refine tw_cbv C hS (tk_runV (As := [.inr x5]) C hR hS (wk_X3_write l C.hst G 64 (R.frames - 1) (by omega) _ _ _ _ σ hw) hv rfl q1585 q1586 q1587 q70 q1588 pd_X3_write ⟨by omega, by omega⟩ hl.1 rfl (tw_r8 [] (Nat.le_of_ble_eq_true rfl)) dX1_writeTree_22) (fun E q σ H locs hX hR hS hi => tw_out C hR hS (fun x hx => (hnx x hx).elim) hi hX) (fun σ H locs hw hR hS => ?_)
  refine tk_aload_n C hl 1 dX1_writeTree_25 rfl ?_
  refine tk_gr C hR hw rfl in_X1 (by decide) q249 (fun _ h => h) dX1_writeTree_26 (fun x7 hw => ?_)
  obtain ⟨hv, hw⟩ := hw
  refine tw_cbi C hS (tk_runV (As := []) C hR hS (wk_J1_length l C.hst G (R.frames - 1) (by omega) _ _ _ σ hw) hv rfl q1362 q863 q2546 q66 q864 pd_J1_length ⟨by omega, by omega⟩ hl.1 rfl (tw_r8 [] (Nat.le_of_ble_eq_true rfl)) dX1_writeTree_29) (fun E q σ H locs hX hR hS hi => tw_out C hR hS (fun x hx => (hnx x hx).elim) hi hX) (fun x8 σ H locs hw hR hS => ?_)
  exact tw_iret C hR hS hr rfl dX1_writeTree_32 hw
-- TreeDifferLaw.writeTree(LTreeDiffer;I[J)I
def w_X0_writeTree_b12 (Q : Int32 → Tst → Prop) (X : String → Nat → Tst → Prop) (s0 : Option Nat) (σ : Tst) : Prop := Q 1 σ
def w_X0_writeTree (l0 : Option Nat) (l1 : Int32) (l2 : Option Nat) (Q : Int32 → Tst → Prop) (X : String → Nat → Tst → Prop) (σ : Tst) : Prop := w_rc σ l0 cX1 <| w_X1_writeTree l0 l1 (fun x1 σ => w_sl σ l2 0 (x1.toInt64) fun σ => Q 0 σ) (fun E q σ => w_if (E = "java/lang/IndexOutOfBoundsException") (w_X0_writeTree_b12 Q X (some q) σ) (False)) σ
set_option maxHeartbeats 4000000 in
theorem wk_X0_writeTree_b12  (C : tw_C p l R s m args meth c G cX0_writeTree 4 yX0_writeTree.cls) (hr : meth.sig.returnType = (some .int)) (hmn : meth.name = yX0_writeTree.name) (hnx : (c.exceptionTable.toList = tableOf [(0, 9, 12, 19)])) (hfr : 75 ≤ R.frames) (hRl : R.locals = 40 * R.frames) {Q : Int32 → Tst → Prop} {X : String → Nat → Tst → Prop}  (s0 : Option Nat) (σ : Tst) (H : Heap) (locs : List Loc) (ls : Array Slot) (hw : w_X0_writeTree_b12 Q X s0 σ) (hR : tw_R G σ H) (hS : va_S (tw_A G) s.heap H locs) (hl : tw_l ls 4 []) : tw_W p l e R s m args below meth c σ H locs (tw_E below G (tw_Qi G Q) X args s R) (F0 m 12 ls [va_rf s0]) := by
  unfold w_X0_writeTree_b12 at hw
  refine tk_astore_n (L' := [(3, .inr s0)]) C hl dX0_writeTree_12 (by decide) rfl (fun ls hl => ?_)
  refine lv_iconst (v := 1) C.hx C.hb dX0_writeTree_13 (by decide) ?_
  exact tw_iret C hR hS hr rfl dX0_writeTree_14 hw
set_option maxHeartbeats 4000000 in
theorem wk_X0_writeTree (l : Launch) (hl0 : l.stackTraces = false) (G : Tgl) (fr : Nat)  (hfr : 75 ≤ fr) (l0 : Option Nat) (l1 : Int32) (l2 : Option Nat) (Q : Int32 → Tst → Prop) (X : String → Nat → Tst → Prop) (σ : Tst) (hw : w_X0_writeTree l0 l1 l2 Q X σ) : tw_M l yX0_writeTree (wsW_ yX0_writeTree cX0_writeTree 4 (some .int) [(0, 9, 12, 19)]) fr (40 * fr) G σ [.inr l0, .inl l1, .inr l2] (tw_Qi G Q) X := by
  unfold w_X0_writeTree at hw
  refine tw_ofW (ret := (some .int)) (hh := [(0, 9, 12, 19)]) hl0 (by decide) (Nat.le_of_ble_eq_true rfl) (fun p e R s m args below meth c hRf hRl C hr hmn hnx hR hS ls hl => ?_)
  have hfr : 75 ≤ R.frames := by rw [hRf]; exact hfr
  have hRl : R.locals = 40 * R.frames := by rw [hRl, hRf]
  have hl : tw_l ls 4 [(0, .inr l0), (1, .inl l1), (2, .inr l2)] := hl
  refine tk_aload_n C hl 2 dX0_writeTree_0 rfl ?_
  refine lv_iconst (v := 0) C.hx C.hb dX0_writeTree_1 (by decide) ?_
  refine tk_aload_n C hl 0 dX0_writeTree_2 rfl ?_
  refine tk_iload_n C hl 1 dX0_writeTree_3 rfl ?_
  obtain ⟨hv, hw⟩ := hw
  refine tw_cbi C hS (tk_runV (As := [.inl l1]) C hR hS (wk_X1_writeTree l C.hst G (R.frames - 1) (by omega) _ _ _ _ σ hw) hv rfl q1577 q1578 q1579 q64 q1580 pd_X1_writeTree ⟨by omega, by omega⟩ hl.1 rfl (tw_r8 [.inl 0, .inr l2] (Nat.le_of_ble_eq_true rfl)) dX0_writeTree_4) (fun E q σ H locs hX hR hS hi => ?_) (fun x1 σ H locs hw hR hS => ?_)
  · by_cases cE0 : E = "java/lang/IndexOutOfBoundsException"
    · replace hX := hX.1 cE0
      subst cE0
      refine tw_catch C hnx [] (0, 9, 12, 19) [] rfl (fun z hz => nomatch hz) rfl (by decide) q1394 q687 hi ?_
      exact wk_X0_writeTree_b12 C hr hmn hnx hfr hRl _ σ _ _ _ hX hR hS (tk_sub hl [] rfl)
    replace hX := hX.2 cE0
    exact hX.elim
  refine lv_i2l (v := x1.toInt64) C.hx C.hb dX0_writeTree_7 rfl ?_
  refine tk_sl C hR hS hw dX0_writeTree_8 (fun σ H locs hw hR hS => ?_)
  refine lv_goto (tgt := 15) C.hx C.hb dX0_writeTree_9 (by decide) ?_
  refine lv_iconst (v := 0) C.hx C.hb dX0_writeTree_15 (by decide) ?_
  exact tw_iret C hR hS hr rfl dX0_writeTree_16 hw
-- TreeDiffer.latest()LTreeDiffer$Script;
def w_X1_latest_b12 (Q : Option Nat → Tst → Prop) (X : String → Nat → Tst → Prop) (l0 : Option Nat) (s0 : Int32) (σ : Tst) : Prop := w_X1_requireState s0 (fun σ => w_gr σ l0 cX1 4 fun x2 => Q x2 σ) X σ
def w_X1_latest (l0 : Option Nat) (Q : Option Nat → Tst → Prop) (X : String → Nat → Tst → Prop) (σ : Tst) : Prop := w_gr σ l0 cX1 4 fun x1 => w_if (x1 = none) (w_X1_latest_b12 Q X l0 0 σ) (w_X1_latest_b12 Q X l0 1 σ)
set_option maxHeartbeats 4000000 in
theorem wk_X1_latest_b12  (C : tw_C p l R s m args meth c G cX1_latest 1 yX1_latest.cls) (hr : meth.sig.returnType = (some (.object "TreeDiffer$Script"))) (hmn : meth.name = yX1_latest.name) (hnx : (∀ x ∈ c.exceptionTable.toList, False)) (hfr : 7 ≤ R.frames) (hRl : R.locals = 40 * R.frames) {Q : Option Nat → Tst → Prop} {X : String → Nat → Tst → Prop}  (l0 : Option Nat) (s0 : Int32) (σ : Tst) (H : Heap) (locs : List Loc) (ls : Array Slot) (hw : w_X1_latest_b12 Q X l0 s0 σ) (hR : tw_R G σ H) (hS : va_S (tw_A G) s.heap H locs) (hl : tw_l ls 1 [(0, .inr l0)]) : tw_W p l e R s m args below meth c σ H locs (tw_E below G (tw_Qq G Q) X args s R) (F0 m 12 ls [.int s0]) := by
  unfold w_X1_latest_b12 at hw
  refine tw_cbv C hS (tw_runS (As := [.inl s0]) C hR hS (wk_X1_requireState l C.hst G (R.frames - 1) (by omega) _ _ _ σ hw) q1363 q1364 q64 q1365 pd_X1_requireState ⟨by omega, by omega⟩ hl.1 rfl (tw_r8 [] (Nat.le_of_ble_eq_true rfl)) dX1_latest_12) (fun E q σ H locs hX hR hS hi => tw_out C hR hS (fun x hx => (hnx x hx).elim) hi hX) (fun σ H locs hw hR hS => ?_)
  refine tk_aload_n C hl 0 dX1_latest_15 rfl ?_
  refine tk_gr C hR hw rfl in_X1 (by decide) q251 (fun _ h => h) dX1_latest_16 (fun x2 hw => ?_)
  exact tw_aret C hR hS hr (Or.inl ⟨_, rfl⟩) dX1_latest_19 hw
set_option maxHeartbeats 4000000 in
theorem wk_X1_latest (l : Launch) (hl0 : l.stackTraces = false) (G : Tgl) (fr : Nat)  (hfr : 7 ≤ fr) (l0 : Option Nat) (Q : Option Nat → Tst → Prop) (X : String → Nat → Tst → Prop) (σ : Tst) (hw : w_X1_latest l0 Q X σ) : tw_M l yX1_latest (ws_ yX1_latest cX1_latest 1 (some (.object "TreeDiffer$Script"))) fr (40 * fr) G σ [.inr l0] (tw_Qq G Q) X := by
  unfold w_X1_latest at hw
  refine tw_of (ret := (some (.object "TreeDiffer$Script"))) hl0 (by decide) (Nat.le_of_ble_eq_true rfl) (fun p e R s m args below meth c hRf hRl C hr hmn hnx hR hS ls hl => ?_)
  have hfr : 7 ≤ R.frames := by rw [hRf]; exact hfr
  have hRl : R.locals = 40 * R.frames := by rw [hRl, hRf]
  have hl : tw_l ls 1 [(0, .inr l0)] := hl
  refine tk_aload_n C hl 0 dX1_latest_0 rfl ?_
  refine tk_gr C hR hw rfl in_X1 (by decide) q251 (fun _ h => h) dX1_latest_1 (fun x1 hw => ?_)
  refine tw_ifnull (tgt := 11) C.hx C.hb dX1_latest_4 (by decide) (fun c4 => ?_) (fun c4 => ?_)
  · replace hw := hw.1 c4
    refine lv_iconst (v := 0) C.hx C.hb dX1_latest_11 (by decide) ?_
    exact wk_X1_latest_b12 C hr hmn hnx hfr hRl _ _ σ _ _ _ hw hR hS (tk_sub hl [0] rfl)
  · replace hw := hw.2 c4
    refine lv_iconst (v := 1) C.hx C.hb dX1_latest_7 (by decide) ?_
    refine lv_goto (tgt := 12) C.hx C.hb dX1_latest_8 (by decide) ?_
    exact wk_X1_latest_b12 C hr hmn hnx hfr hRl _ _ σ _ _ _ hw hR hS (tk_sub hl [0] rfl)
-- java/util/ArrayDeque.<init>()V
def w_J20_init (l0 : Option Nat) (Q : Tst → Prop) (X : String → Nat → Tst → Prop) (σ : Tst) : Prop := w_rf l0 <| w_J4_init l0 (fun σ => w_na σ 5 17 (.inr (.inr (.inr (.inr fun _ => none)))) fun q2 σ => w_p σ l0 cJ20 0 (.inr q2) fun σ => Q σ) X σ
set_option maxHeartbeats 4000000 in
theorem wk_J20_init (l : Launch) (hl0 : l.stackTraces = false) (G : Tgl) (fr : Nat)  (hfr : 2 ≤ fr) (l0 : Option Nat) (Q : Tst → Prop) (X : String → Nat → Tst → Prop) (σ : Tst) (hw : w_J20_init l0 Q X σ) : tw_M l yJ20_init (ws_ yJ20_init cJ20_init 1 none) fr (40 * fr) G σ [.inr l0] (tw_Qv G Q) X := by
  unfold w_J20_init at hw
  refine tw_of (ret := none) hl0 (by decide) (Nat.le_of_ble_eq_true rfl) (fun p e R s m args below meth c hRf hRl C hr hmn hnx hR hS ls hl => ?_)
  have hfr : 2 ≤ R.frames := by rw [hRf]; exact hfr
  have hRl : R.locals = 40 * R.frames := by rw [hRl, hRf]
  have hl : tw_l ls 1 [(0, .inr l0)] := hl
  refine tk_aload_n C hl 0 dJ20_init_0 rfl ?_
  obtain ⟨hv, hw⟩ := hw
  refine tw_cbv C hS (tk_runI (As := []) hv C hR hS (wk_J4_init l C.hst G (R.frames - 1) (by omega) _ _ _ σ hw) q958 q172 q71 q173 rfl pd_J4_init ⟨by omega, by omega⟩ hl.1 rfl (tw_r8 [] (Nat.le_of_ble_eq_true rfl)) dJ20_init_1) (fun E q σ H locs hX hR hS hi => tw_out C hR hS (fun x hx => (hnx x hx).elim) hi hX) (fun σ H locs hw hR hS => ?_)
  refine tk_aload_n C hl 0 dJ20_init_4 rfl ?_
  refine lv_bipush (v := 17) C.hx C.hb dJ20_init_5 (by decide) ?_
  refine tk_nr (t := 5) C hR hS hw q959 (by decide) rfl dJ20_init_7 (fun q2 σ H hw hR hS => ?_)
  refine tk_p (x := .inr q2) C hR hS hw (by decide) rfl in_J20 tyJ20 tyJ20_ok nmJ20 (by decide) q960 (fun _ h => h) rfl (tw_nrA _ _) dJ20_init_10 (fun σ H locs hw hR hS => ?_)
  exact tw_vret C hR hS hr dJ20_init_13 hw
-- java/util/ArrayDeque.inc(II)I
def w_J20_inc_b10 (Q : Int32 → Tst → Prop) (X : String → Nat → Tst → Prop) (l0 : Int32) (σ : Tst) : Prop := Q l0 σ
def w_J20_inc (l0 : Int32) (l1 : Int32) (Q : Int32 → Tst → Prop) (X : String → Nat → Tst → Prop) (σ : Tst) : Prop := w_if ((l0 + 1) < l1) (w_J20_inc_b10 Q X (l0 + 1) σ) (w_J20_inc_b10 Q X 0 σ)
set_option maxHeartbeats 4000000 in
theorem wk_J20_inc_b10  (C : tw_C p l R s m args meth c G cJ20_inc 2 yJ20_inc.cls) (hr : meth.sig.returnType = (some .int)) (hmn : meth.name = yJ20_inc.name) (hnx : (∀ x ∈ c.exceptionTable.toList, False)) (hfr : 1 ≤ R.frames) (hRl : R.locals = 40 * R.frames) {Q : Int32 → Tst → Prop} {X : String → Nat → Tst → Prop}  (l0 : Int32) (σ : Tst) (H : Heap) (locs : List Loc) (ls : Array Slot) (hw : w_J20_inc_b10 Q X l0 σ) (hR : tw_R G σ H) (hS : va_S (tw_A G) s.heap H locs) (hl : tw_l ls 2 [(0, .inl l0)]) : tw_W p l e R s m args below meth c σ H locs (tw_E below G (tw_Qi G Q) X args s R) (F0 m 10 ls []) := by
  unfold w_J20_inc_b10 at hw
  refine tk_iload_n C hl 0 dJ20_inc_10 rfl ?_
  exact tw_iret C hR hS hr rfl dJ20_inc_11 hw
set_option maxHeartbeats 4000000 in
theorem wk_J20_inc (l : Launch) (hl0 : l.stackTraces = false) (G : Tgl) (fr : Nat)  (hfr : 1 ≤ fr) (l0 : Int32) (l1 : Int32) (Q : Int32 → Tst → Prop) (X : String → Nat → Tst → Prop) (σ : Tst) (hw : w_J20_inc l0 l1 Q X σ) : tw_M l yJ20_inc (ws_ yJ20_inc cJ20_inc 2 (some .int)) fr (40 * fr) G σ [.inl l0, .inl l1] (tw_Qi G Q) X := by
  unfold w_J20_inc at hw
  refine tw_of (ret := (some .int)) hl0 (by decide) (Nat.le_of_ble_eq_true rfl) (fun p e R s m args below meth c hRf hRl C hr hmn hnx hR hS ls hl => ?_)
  have hfr : 1 ≤ R.frames := by rw [hRf]; exact hfr
  have hRl : R.locals = 40 * R.frames := by rw [hRl, hRf]
  have hl : tw_l ls 2 [(0, .inl l0), (1, .inl l1)] := hl
  refine tk_iinc (L' := [(0, .inl (l0 + 1)), (1, .inl l1)]) (y := (l0 + 1)) C hl 0 dJ20_inc_0 rfl rfl (by decide) rfl (fun ls hl => ?_)
  refine tk_iload_n C hl 0 dJ20_inc_3 rfl ?_
  refine tk_iload_n C hl 1 dJ20_inc_4 rfl ?_
  refine lv_icmp_lt (tgt := 10) C.hx C.hb dJ20_inc_5 (by decide) (fun c5 => ?_) (fun c5 => ?_)
  · replace hw := hw.1 c5
    exact wk_J20_inc_b10 C hr hmn hnx hfr hRl _ σ _ _ _ hw hR hS (tk_sub hl [0] rfl)
  · replace hw := hw.2 c5
    refine lv_iconst (v := 0) C.hx C.hb dJ20_inc_8 (by decide) ?_
    refine tk_istore_n (L' := [(0, .inl 0), (1, .inl l1)]) C hl dJ20_inc_9 (by decide) rfl (fun ls hl => ?_)
    exact wk_J20_inc_b10 C hr hmn hnx hfr hRl _ σ _ _ _ hw hR hS (tk_sub hl [0] rfl)
-- java/util/ArrayDeque.newCapacity(II)I
def w_J20_newCapacity_b61 (Q : Int32 → Tst → Prop) (X : String → Nat → Tst → Prop) (s0 : Int32) (σ : Tst) : Prop := Q s0 σ
def w_J20_newCapacity (l0 : Option Nat) (l1 : Int32) (l2 : Int32) (Q : Int32 → Tst → Prop) (X : String → Nat → Tst → Prop) (σ : Tst) : Prop := w_gr σ l0 cJ20 0 fun x1 => w_al σ x1 fun x2 => w_if (((x2 + l1) - 2147483639) ≤ 0) (w_if (l1 ≤ l2) (w_if (0 ≤ ((x2 + l2) - 2147483639)) (w_J20_newCapacity_b61 Q X 2147483639 σ) (w_J20_newCapacity_b61 Q X (x2 + l2) σ)) (Q (x2 + l1) σ)) (w_if (0 ≤ (x2 + l1)) (Q 2147483647 σ) (False))
set_option maxHeartbeats 4000000 in
theorem wk_J20_newCapacity_b61  (C : tw_C p l R s m args meth c G cJ20_newCapacity 5 yJ20_newCapacity.cls) (hr : meth.sig.returnType = (some .int)) (hmn : meth.name = yJ20_newCapacity.name) (hnx : (∀ x ∈ c.exceptionTable.toList, False)) (hfr : 1 ≤ R.frames) (hRl : R.locals = 40 * R.frames) {Q : Int32 → Tst → Prop} {X : String → Nat → Tst → Prop}  (s0 : Int32) (σ : Tst) (H : Heap) (locs : List Loc) (ls : Array Slot) (hw : w_J20_newCapacity_b61 Q X s0 σ) (hR : tw_R G σ H) (hS : va_S (tw_A G) s.heap H locs) (hl : tw_l ls 5 []) : tw_W p l e R s m args below meth c σ H locs (tw_E below G (tw_Qi G Q) X args s R) (F0 m 61 ls [.int s0]) := by
  unfold w_J20_newCapacity_b61 at hw
  exact tw_iret C hR hS hr rfl dJ20_newCapacity_61 hw
set_option maxHeartbeats 4000000 in
theorem wk_J20_newCapacity (l : Launch) (hl0 : l.stackTraces = false) (G : Tgl) (fr : Nat)  (hfr : 1 ≤ fr) (l0 : Option Nat) (l1 : Int32) (l2 : Int32) (Q : Int32 → Tst → Prop) (X : String → Nat → Tst → Prop) (σ : Tst) (hw : w_J20_newCapacity l0 l1 l2 Q X σ) : tw_M l yJ20_newCapacity (ws_ yJ20_newCapacity cJ20_newCapacity 5 (some .int)) fr (40 * fr) G σ [.inr l0, .inl l1, .inl l2] (tw_Qi G Q) X := by
  unfold w_J20_newCapacity at hw
  refine tw_of (ret := (some .int)) hl0 (by decide) (Nat.le_of_ble_eq_true rfl) (fun p e R s m args below meth c hRf hRl C hr hmn hnx hR hS ls hl => ?_)
  have hfr : 1 ≤ R.frames := by rw [hRf]; exact hfr
  have hRl : R.locals = 40 * R.frames := by rw [hRl, hRf]
  have hl : tw_l ls 5 [(0, .inr l0), (1, .inl l1), (2, .inl l2)] := hl
  refine tk_aload_n C hl 0 dJ20_newCapacity_0 rfl ?_
  refine tk_gr C hR hw rfl in_J20 (by decide) q960 (fun _ h => h) dJ20_newCapacity_1 (fun x1 hw => ?_)
  refine tk_al C hR hw dJ20_newCapacity_4 (fun x2 hw => ?_)
  refine tk_istore_n (L' := [(3, .inl x2), (0, .inr l0), (1, .inl l1), (2, .inl l2)]) C hl dJ20_newCapacity_5 (by decide) rfl (fun ls hl => ?_)
  refine tk_iload_n C hl 0 dJ20_newCapacity_6 rfl ?_
  refine tk_iload_n C hl 2 dJ20_newCapacity_7 rfl ?_
  refine lv_iadd C.hx C.hb dJ20_newCapacity_8 ?_
  refine tw_dup (x := .inl (x2 + l1)) C.hx C.hb dJ20_newCapacity_9 ?_
  refine tk_istore (L' := [(4, .inl (x2 + l1)), (3, .inl x2), (0, .inr l0), (1, .inl l1), (2, .inl l2)]) C hl dJ20_newCapacity_10 (by decide) rfl (fun ls hl => ?_)
  refine lv_ldc (v := 2147483639) C.hx C.hb C.ho (C.hts _ q483) dJ20_newCapacity_12 ?_
  refine lv_isub C.hx C.hb dJ20_newCapacity_14 ?_
  refine lv_if_le (tgt := 36) C.hx C.hb dJ20_newCapacity_15 (by decide) (fun c15 => ?_) (fun c15 => ?_)
  · replace hw := hw.1 c15
    refine tk_iload_n C hl 3 dJ20_newCapacity_36 rfl ?_
    refine tk_iload_n C hl 4 dJ20_newCapacity_37 rfl ?_
    refine lv_icmp_le (tgt := 44) C.hx C.hb dJ20_newCapacity_38 (by decide) (fun c38 => ?_) (fun c38 => ?_)
    · replace hw := hw.1 c38
      refine tk_iload_n C hl 1 dJ20_newCapacity_44 rfl ?_
      refine tk_iload_n C hl 4 dJ20_newCapacity_45 rfl ?_
      refine lv_iadd C.hx C.hb dJ20_newCapacity_46 ?_
      refine lv_ldc (v := 2147483639) C.hx C.hb C.ho (C.hts _ q483) dJ20_newCapacity_47 ?_
      refine lv_isub C.hx C.hb dJ20_newCapacity_49 ?_
      refine lv_if_ge (tgt := 59) C.hx C.hb dJ20_newCapacity_50 (by decide) (fun c50 => ?_) (fun c50 => ?_)
      · replace hw := hw.1 c50
        refine lv_ldc (v := 2147483639) C.hx C.hb C.ho (C.hts _ q483) dJ20_newCapacity_59 ?_
        exact wk_J20_newCapacity_b61 C hr hmn hnx hfr hRl _ σ _ _ _ hw hR hS (tk_sub hl [] rfl)
      · replace hw := hw.2 c50
        refine tk_iload_n C hl 1 dJ20_newCapacity_53 rfl ?_
        refine tk_iload_n C hl 4 dJ20_newCapacity_54 rfl ?_
        refine lv_iadd C.hx C.hb dJ20_newCapacity_55 ?_
        refine lv_goto (tgt := 61) C.hx C.hb dJ20_newCapacity_56 (by decide) ?_
        exact wk_J20_newCapacity_b61 C hr hmn hnx hfr hRl _ σ _ _ _ hw hR hS (tk_sub hl [] rfl)
    · replace hw := hw.2 c38
      refine tk_iload C hl 0 dJ20_newCapacity_41 rfl ?_
      exact tw_iret C hR hS hr rfl dJ20_newCapacity_43 hw
  · replace hw := hw.2 c15
    refine tk_iload C hl 0 dJ20_newCapacity_18 rfl ?_
    refine lv_if_ge (tgt := 33) C.hx C.hb dJ20_newCapacity_20 (by decide) (fun c20 => ?_) (fun c20 => ?_)
    · replace hw := hw.1 c20
      refine lv_ldc (v := 2147483647) C.hx C.hb C.ho (C.hts _ q512) dJ20_newCapacity_33 ?_
      exact tw_iret C hR hS hr rfl dJ20_newCapacity_35 hw
    · replace hw := hw.2 c20
      exact hw.elim
-- java/util/ArrayDeque.grow(I)V
def w_J20_grow_b164 (Q : Tst → Prop) (X : String → Nat → Tst → Prop) (σ : Tst) : Prop := Q σ
def w_J20_grow_b145 (Q : Tst → Prop) (X : String → Nat → Tst → Prop) : Nat → Option Nat → Int32 → Int32 → Tst → Prop
  | 0, _, _, _, _ => False
  | n + 1, l5, l7, l8, σ => w_if (l8 ≤ l7) (w_J20_grow_b164 Q X σ) (w_sr σ l5 l7 none fun σ => (w_J20_grow_b145 Q X n) l5 (l7 + 1) l8 σ)
def w_J20_grow_b96 (Q : Tst → Prop) (X : String → Nat → Tst → Prop) (l0 : Option Nat) (l2 : Int32) (l3 : Int32) (l5 : Option Nat) (σ : Tst) : Prop := w_gi σ l0 cJ20 1 fun x1 => w_gi σ l0 cJ20 1 fun x2 => w_gi σ l0 cJ20 1 fun x3 => w_cpr σ l5 x1 l5 (x2 + (l3 - l2)) (l2 - x3) fun σ => w_gi σ l0 cJ20 1 fun x4 => w_gi σ l0 cJ20 1 fun x5 => w_p σ l0 cJ20 1 (.inl (x5 + (l3 - l2))) fun σ => ∃ z, w_J20_grow_b145 Q X z l5 x4 (x5 + (l3 - l2)) σ
def w_J20_grow_b49 (Q : Tst → Prop) (X : String → Nat → Tst → Prop) (l0 : Option Nat) (l2 : Int32) (l3 : Int32) (σ : Tst) : Prop := w_gr σ l0 cJ20 0 fun x1 => w_J13_copyOf x1 l3 (fun x2 σ => w_p σ l0 cJ20 0 (.inr x2) fun σ => w_gi σ l0 cJ20 2 fun x3 => w_gi σ l0 cJ20 1 fun x4 => w_if (x3 < x4) (w_J20_grow_b96 Q X l0 l2 l3 x2 σ) (w_gi σ l0 cJ20 2 fun x5 => w_gi σ l0 cJ20 1 fun x6 => w_if (x5 = x6) (w_gi σ l0 cJ20 1 fun x7 => w_lr σ x2 x7 fun x8 => w_if (x8 = none) (w_J20_grow_b164 Q X σ) (w_J20_grow_b96 Q X l0 l2 l3 x2 σ)) (w_J20_grow_b164 Q X σ))) X σ
def w_J20_grow_b41 (Q : Tst → Prop) (X : String → Nat → Tst → Prop) (l0 : Option Nat) (l1 : Int32) (l2 : Int32) (l4 : Int32) (σ : Tst) : Prop := w_rc σ l0 cJ20 <| w_J20_newCapacity l0 l1 l4 (fun x1 σ => w_J20_grow_b49 Q X l0 l2 x1 σ) X σ
def w_J20_grow_b21 (Q : Tst → Prop) (X : String → Nat → Tst → Prop) (l0 : Option Nat) (l1 : Int32) (l2 : Int32) (s0 : Int32) (σ : Tst) : Prop := w_if (s0 < l1) (w_J20_grow_b41 Q X l0 l1 l2 s0 σ) (w_if (((l2 + s0) - 2147483639) ≤ 0) (w_J20_grow_b49 Q X l0 l2 (l2 + s0) σ) (w_J20_grow_b41 Q X l0 l1 l2 s0 σ))
def w_J20_grow (l0 : Option Nat) (l1 : Int32) (Q : Tst → Prop) (X : String → Nat → Tst → Prop) (σ : Tst) : Prop := w_gr σ l0 cJ20 0 fun x1 => w_al σ x1 fun x2 => w_if (64 ≤ x2) (w_J20_grow_b21 Q X l0 l1 x2 (x2 >>> (1 &&& 31)) σ) (w_J20_grow_b21 Q X l0 l1 x2 (x2 + 2) σ)
set_option maxHeartbeats 4000000 in
theorem wk_J20_grow_b164  (C : tw_C p l R s m args meth c G cJ20_grow 9 yJ20_grow.cls) (hr : meth.sig.returnType = none) (hmn : meth.name = yJ20_grow.name) (hnx : (∀ x ∈ c.exceptionTable.toList, False)) (hfr : 3 ≤ R.frames) (hRl : R.locals = 40 * R.frames) {Q : Tst → Prop} {X : String → Nat → Tst → Prop}   (σ : Tst) (H : Heap) (locs : List Loc) (ls : Array Slot) (hw : w_J20_grow_b164 Q X  σ) (hR : tw_R G σ H) (hS : va_S (tw_A G) s.heap H locs) (hl : tw_l ls 9 []) : tw_W p l e R s m args below meth c σ H locs (tw_E below G (tw_Qv G Q) X args s R) (F0 m 164 ls []) := by
  unfold w_J20_grow_b164 at hw
  exact tw_vret C hR hS hr dJ20_grow_164 hw
set_option maxHeartbeats 4000000 in
theorem wk_J20_grow_b145  (C : tw_C p l R s m args meth c G cJ20_grow 9 yJ20_grow.cls) (hr : meth.sig.returnType = none) (hmn : meth.name = yJ20_grow.name) (hnx : (∀ x ∈ c.exceptionTable.toList, False)) (hfr : 3 ≤ R.frames) (hRl : R.locals = 40 * R.frames) {Q : Tst → Prop} {X : String → Nat → Tst → Prop}  : ∀ (n : Nat) (l5 : Option Nat) (l7 : Int32) (l8 : Int32) (σ : Tst) (H : Heap) (locs : List Loc) (ls : Array Slot), w_J20_grow_b145 Q X n l5 l7 l8 σ → tw_R G σ H → va_S (tw_A G) s.heap H locs → tw_l ls 9 [(5, .inr l5), (7, .inl l7), (8, .inl l8)] → tw_W p l e R s m args below meth c σ H locs (tw_E below G (tw_Qv G Q) X args s R) (F0 m 145 ls []) := by
  intro n
  induction n with
  | zero => intro l5 l7 l8 σ H locs ls hw; exact False.elim hw
  | succ n hk145 =>
    intro l5 l7 l8 σ H locs ls hw hR hS hl
    rw [w_J20_grow_b145] at hw
    refine tk_iload C hl 1 dJ20_grow_145 rfl ?_
    refine tk_iload C hl 2 dJ20_grow_147 rfl ?_
    refine lv_icmp_ge (tgt := 164) C.hx C.hb dJ20_grow_149 (by decide) (fun c149 => ?_) (fun c149 => ?_)
    · replace hw := hw.1 c149
      exact wk_J20_grow_b164 C hr hmn hnx hfr hRl σ _ _ _ hw hR hS (tk_sub hl [] rfl)
    · replace hw := hw.2 c149
      refine tk_aload C hl 0 dJ20_grow_152 rfl ?_
      refine tk_iload C hl 1 dJ20_grow_154 rfl ?_
      refine lv_null C.hx C.hb dJ20_grow_156 ?_
      refine W.eq (g2 := F0 m 157 ls (va_rf none :: [.int l7, va_rf l5])) rfl ?_
      refine tk_sr C hR hS hw dJ20_grow_157 (fun σ H locs hw hR hS => ?_)
      refine tk_iinc (L' := [(7, .inl (l7 + 1)), (5, .inr l5), (8, .inl l8)]) (y := (l7 + 1)) C hl 1 dJ20_grow_158 rfl rfl (by decide) rfl (fun ls hl => ?_)
      refine lv_goto (tgt := 145) C.hx C.hb dJ20_grow_161 (by decide) ?_
      exact hk145 _ _ _ σ _ _ _ hw hR hS (tk_sub hl [1, 0, 2] rfl)
set_option maxHeartbeats 4000000 in
theorem wk_J20_grow_b96  (C : tw_C p l R s m args meth c G cJ20_grow 9 yJ20_grow.cls) (hr : meth.sig.returnType = none) (hmn : meth.name = yJ20_grow.name) (hnx : (∀ x ∈ c.exceptionTable.toList, False)) (hfr : 3 ≤ R.frames) (hRl : R.locals = 40 * R.frames) {Q : Tst → Prop} {X : String → Nat → Tst → Prop}  (l0 : Option Nat) (l2 : Int32) (l3 : Int32) (l5 : Option Nat) (σ : Tst) (H : Heap) (locs : List Loc) (ls : Array Slot) (hw : w_J20_grow_b96 Q X l0 l2 l3 l5 σ) (hR : tw_R G σ H) (hS : va_S (tw_A G) s.heap H locs) (hl : tw_l ls 9 [(0, .inr l0), (2, .inl l2), (3, .inl l3), (5, .inr l5)]) : tw_W p l e R s m args below meth c σ H locs (tw_E below G (tw_Qv G Q) X args s R) (F0 m 96 ls []) := by
  unfold w_J20_grow_b96 at hw
  refine tk_iload_n C hl 2 dJ20_grow_96 rfl ?_
  refine tk_iload_n C hl 1 dJ20_grow_97 rfl ?_
  refine lv_isub C.hx C.hb dJ20_grow_98 ?_
  refine tk_istore (L' := [(6, .inl (l3 - l2)), (0, .inr l0), (2, .inl l2), (3, .inl l3), (5, .inr l5)]) C hl dJ20_grow_99 (by decide) rfl (fun ls hl => ?_)
  refine tk_aload C hl 4 dJ20_grow_101 rfl ?_
  refine tk_aload_n C hl 1 dJ20_grow_103 rfl ?_
  refine tk_gi C hR hw rfl in_J20 (by decide) q961 (fun _ h => h) dJ20_grow_104 (fun x1 hw => ?_)
  refine tk_aload C hl 4 dJ20_grow_107 rfl ?_
  refine tk_aload_n C hl 1 dJ20_grow_109 rfl ?_
  refine tk_gi C hR hw rfl in_J20 (by decide) q961 (fun _ h => h) dJ20_grow_110 (fun x2 hw => ?_)
  refine tk_iload C hl 0 dJ20_grow_113 rfl ?_
  refine lv_iadd C.hx C.hb dJ20_grow_115 ?_
  refine tk_iload_n C hl 2 dJ20_grow_116 rfl ?_
  refine tk_aload_n C hl 1 dJ20_grow_117 rfl ?_
  refine tk_gi C hR hw rfl in_J20 (by decide) q961 (fun _ h => h) dJ20_grow_118 (fun x3 hw => ?_)
  refine lv_isub C.hx C.hb dJ20_grow_121 ?_
  refine tk_cpr C hR hS hw q565 q564 q563 q83 hl.1 (by omega) hRl (tw_r8 [] (Nat.le_of_ble_eq_true rfl)) dJ20_grow_122 (fun σ H locs hw hR hS => ?_)
  refine tk_aload_n C hl 1 dJ20_grow_125 rfl ?_
  refine tk_gi C hR hw rfl in_J20 (by decide) q961 (fun _ h => h) dJ20_grow_126 (fun x4 hw => ?_)
  refine tk_istore (L' := [(7, .inl x4), (6, .inl (l3 - l2)), (0, .inr l0), (2, .inl l2), (3, .inl l3), (5, .inr l5)]) C hl dJ20_grow_129 (by decide) rfl (fun ls hl => ?_)
  refine tk_aload_n C hl 2 dJ20_grow_131 rfl ?_
  refine tw_dup (x := .inr l0) C.hx C.hb dJ20_grow_132 ?_
  refine tk_gi C hR hw rfl in_J20 (by decide) q961 (fun _ h => h) dJ20_grow_133 (fun x5 hw => ?_)
  refine tk_iload C hl 1 dJ20_grow_136 rfl ?_
  refine lv_iadd C.hx C.hb dJ20_grow_138 ?_
  refine tw_dup_x1 (x := .inl (x5 + (l3 - l2))) (y := .inr l0) C.hx C.hb dJ20_grow_139 ?_
  refine tk_p (x := .inl (x5 + (l3 - l2))) C hR hS hw (by decide) rfl in_J20 tyJ20 tyJ20_ok nmJ20 (by decide) q961 (fun _ h => h) rfl (tw_ni _) dJ20_grow_140 (fun σ H locs hw hR hS => ?_)
  refine tk_istore (L' := [(8, .inl (x5 + (l3 - l2))), (7, .inl x4), (6, .inl (l3 - l2)), (0, .inr l0), (2, .inl l2), (3, .inl l3), (5, .inr l5)]) C hl dJ20_grow_143 (by decide) rfl (fun ls hl => ?_)
  obtain ⟨z, hw⟩ := hw
  exact wk_J20_grow_b145 C hr hmn hnx hfr hRl z _ _ _ σ _ _ _ hw hR hS (tk_sub hl [6, 1, 0] rfl)
set_option maxHeartbeats 4000000 in
theorem wk_J20_grow_b49  (C : tw_C p l R s m args meth c G cJ20_grow 9 yJ20_grow.cls) (hr : meth.sig.returnType = none) (hmn : meth.name = yJ20_grow.name) (hnx : (∀ x ∈ c.exceptionTable.toList, False)) (hfr : 3 ≤ R.frames) (hRl : R.locals = 40 * R.frames) {Q : Tst → Prop} {X : String → Nat → Tst → Prop}  (l0 : Option Nat) (l2 : Int32) (l3 : Int32) (σ : Tst) (H : Heap) (locs : List Loc) (ls : Array Slot) (hw : w_J20_grow_b49 Q X l0 l2 l3 σ) (hR : tw_R G σ H) (hS : va_S (tw_A G) s.heap H locs) (hl : tw_l ls 9 [(0, .inr l0), (2, .inl l2), (3, .inl l3)]) : tw_W p l e R s m args below meth c σ H locs (tw_E below G (tw_Qv G Q) X args s R) (F0 m 49 ls []) := by
  unfold w_J20_grow_b49 at hw
  refine tk_aload_n C hl 0 dJ20_grow_49 rfl ?_
  refine tk_aload_n C hl 0 dJ20_grow_50 rfl ?_
  refine tk_gr C hR hw rfl in_J20 (by decide) q960 (fun _ h => h) dJ20_grow_51 (fun x1 hw => ?_)
  refine tk_iload_n C hl 2 dJ20_grow_54 rfl ?_
  refine tw_cbq C hS (tw_runS (As := [.inr x1, .inl l3]) C hR hS (wk_J13_copyOf l C.hst G (R.frames - 1) (by omega) _ _ _ _ σ hw) q513 q514 q82 q515 pd_J13_copyOf ⟨by omega, by omega⟩ hl.1 rfl (tw_r8 [.inr l0] (Nat.le_of_ble_eq_true rfl)) dJ20_grow_55) (fun E q σ H locs hX hR hS hi => tw_out C hR hS (fun x hx => (hnx x hx).elim) hi hX) (fun x2 σ H locs hw hR hS => ?_)
  refine tw_dup_x1 (x := .inr x2) (y := .inr l0) C.hx C.hb dJ20_grow_58 ?_
  refine tk_p (x := .inr x2) C hR hS hw (by decide) rfl in_J20 tyJ20 tyJ20_ok nmJ20 (by decide) q960 (fun _ h => h) rfl (tw_nrA _ _) dJ20_grow_59 (fun σ H locs hw hR hS => ?_)
  refine tk_astore (L' := [(5, .inr x2), (0, .inr l0), (2, .inl l2), (3, .inl l3)]) C hl dJ20_grow_62 (by decide) rfl (fun ls hl => ?_)
  refine tk_aload_n C hl 1 dJ20_grow_64 rfl ?_
  refine tk_gi C hR hw rfl in_J20 (by decide) q962 (fun _ h => h) dJ20_grow_65 (fun x3 hw => ?_)
  refine tk_aload_n C hl 1 dJ20_grow_68 rfl ?_
  refine tk_gi C hR hw rfl in_J20 (by decide) q961 (fun _ h => h) dJ20_grow_69 (fun x4 hw => ?_)
  refine lv_icmp_lt (tgt := 96) C.hx C.hb dJ20_grow_72 (by decide) (fun c72 => ?_) (fun c72 => ?_)
  · replace hw := hw.1 c72
    exact wk_J20_grow_b96 C hr hmn hnx hfr hRl _ _ _ _ σ _ _ _ hw hR hS (tk_sub hl [1, 2, 3, 0] rfl)
  · replace hw := hw.2 c72
    refine tk_aload_n C hl 1 dJ20_grow_75 rfl ?_
    refine tk_gi C hR hw rfl in_J20 (by decide) q962 (fun _ h => h) dJ20_grow_76 (fun x5 hw => ?_)
    refine tk_aload_n C hl 1 dJ20_grow_79 rfl ?_
    refine tk_gi C hR hw rfl in_J20 (by decide) q961 (fun _ h => h) dJ20_grow_80 (fun x6 hw => ?_)
    refine lv_icmp_ne (tgt := 164) C.hx C.hb dJ20_grow_83 (by decide) (fun c83 => ?_) (fun c83 => ?_)
    · replace hw := hw.2 c83
      exact wk_J20_grow_b164 C hr hmn hnx hfr hRl σ _ _ _ hw hR hS (tk_sub hl [] rfl)
    · replace hw := hw.1 c83
      refine tk_aload C hl 0 dJ20_grow_86 rfl ?_
      refine tk_aload_n C hl 1 dJ20_grow_88 rfl ?_
      refine tk_gi C hR hw rfl in_J20 (by decide) q961 (fun _ h => h) dJ20_grow_89 (fun x7 hw => ?_)
      refine tk_lr C hR hw dJ20_grow_92 (fun x8 hw => ?_)
      refine tw_ifnull (tgt := 164) C.hx C.hb dJ20_grow_93 (by decide) (fun c93 => ?_) (fun c93 => ?_)
      · replace hw := hw.1 c93
        exact wk_J20_grow_b164 C hr hmn hnx hfr hRl σ _ _ _ hw hR hS (tk_sub hl [] rfl)
      · replace hw := hw.2 c93
        exact wk_J20_grow_b96 C hr hmn hnx hfr hRl _ _ _ _ σ _ _ _ hw hR hS (tk_sub hl [1, 2, 3, 0] rfl)
set_option maxHeartbeats 4000000 in
theorem wk_J20_grow_b41  (C : tw_C p l R s m args meth c G cJ20_grow 9 yJ20_grow.cls) (hr : meth.sig.returnType = none) (hmn : meth.name = yJ20_grow.name) (hnx : (∀ x ∈ c.exceptionTable.toList, False)) (hfr : 3 ≤ R.frames) (hRl : R.locals = 40 * R.frames) {Q : Tst → Prop} {X : String → Nat → Tst → Prop}  (l0 : Option Nat) (l1 : Int32) (l2 : Int32) (l4 : Int32) (σ : Tst) (H : Heap) (locs : List Loc) (ls : Array Slot) (hw : w_J20_grow_b41 Q X l0 l1 l2 l4 σ) (hR : tw_R G σ H) (hS : va_S (tw_A G) s.heap H locs) (hl : tw_l ls 9 [(0, .inr l0), (1, .inl l1), (2, .inl l2), (4, .inl l4)]) : tw_W p l e R s m args below meth c σ H locs (tw_E below G (tw_Qv G Q) X args s R) (F0 m 41 ls []) := by
  unfold w_J20_grow_b41 at hw
  refine tk_aload_n C hl 0 dJ20_grow_41 rfl ?_
  refine tk_iload_n C hl 1 dJ20_grow_42 rfl ?_
  refine tk_iload C hl 3 dJ20_grow_43 rfl ?_
  obtain ⟨hv, hw⟩ := hw
  refine tw_cbi C hS (tk_runV (As := [.inl l1, .inl l4]) C hR hS (wk_J20_newCapacity l C.hst G (R.frames - 1) (by omega) _ _ _ _ _ σ hw) hv rfl q484 q486 qs2 q92 q487 pd_J20_newCapacity ⟨by omega, by omega⟩ hl.1 rfl (tw_r8 [] (Nat.le_of_ble_eq_true rfl)) dJ20_grow_45) (fun E q σ H locs hX hR hS hi => tw_out C hR hS (fun x hx => (hnx x hx).elim) hi hX) (fun x1 σ H locs hw hR hS => ?_)
  refine tk_istore_n (L' := [(3, .inl x1), (0, .inr l0), (1, .inl l1), (2, .inl l2), (4, .inl l4)]) C hl dJ20_grow_48 (by decide) rfl (fun ls hl => ?_)
  exact wk_J20_grow_b49 C hr hmn hnx hfr hRl _ _ _ σ _ _ _ hw hR hS (tk_sub hl [1, 3, 0] rfl)
set_option maxHeartbeats 4000000 in
theorem wk_J20_grow_b21  (C : tw_C p l R s m args meth c G cJ20_grow 9 yJ20_grow.cls) (hr : meth.sig.returnType = none) (hmn : meth.name = yJ20_grow.name) (hnx : (∀ x ∈ c.exceptionTable.toList, False)) (hfr : 3 ≤ R.frames) (hRl : R.locals = 40 * R.frames) {Q : Tst → Prop} {X : String → Nat → Tst → Prop}  (l0 : Option Nat) (l1 : Int32) (l2 : Int32) (s0 : Int32) (σ : Tst) (H : Heap) (locs : List Loc) (ls : Array Slot) (hw : w_J20_grow_b21 Q X l0 l1 l2 s0 σ) (hR : tw_R G σ H) (hS : va_S (tw_A G) s.heap H locs) (hl : tw_l ls 9 [(0, .inr l0), (1, .inl l1), (2, .inl l2)]) : tw_W p l e R s m args below meth c σ H locs (tw_E below G (tw_Qv G Q) X args s R) (F0 m 21 ls [.int s0]) := by
  unfold w_J20_grow_b21 at hw
  refine tk_istore (L' := [(4, .inl s0), (0, .inr l0), (1, .inl l1), (2, .inl l2)]) C hl dJ20_grow_21 (by decide) rfl (fun ls hl => ?_)
  refine tk_iload C hl 0 dJ20_grow_23 rfl ?_
  refine tk_iload_n C hl 2 dJ20_grow_25 rfl ?_
  refine lv_icmp_lt (tgt := 41) C.hx C.hb dJ20_grow_26 (by decide) (fun c26 => ?_) (fun c26 => ?_)
  · replace hw := hw.1 c26
    exact wk_J20_grow_b41 C hr hmn hnx hfr hRl _ _ _ _ σ _ _ _ hw hR hS (tk_sub hl [1, 2, 3, 0] rfl)
  · replace hw := hw.2 c26
    refine tk_iload_n C hl 3 dJ20_grow_29 rfl ?_
    refine tk_iload C hl 0 dJ20_grow_30 rfl ?_
    refine lv_iadd C.hx C.hb dJ20_grow_32 ?_
    refine tw_dup (x := .inl (l2 + s0)) C.hx C.hb dJ20_grow_33 ?_
    refine tk_istore_n (L' := [(3, .inl (l2 + s0)), (4, .inl s0), (0, .inr l0), (1, .inl l1), (2, .inl l2)]) C hl dJ20_grow_34 (by decide) rfl (fun ls hl => ?_)
    refine lv_ldc (v := 2147483639) C.hx C.hb C.ho (C.hts _ q483) dJ20_grow_35 ?_
    refine lv_isub C.hx C.hb dJ20_grow_37 ?_
    refine lv_if_le (tgt := 49) C.hx C.hb dJ20_grow_38 (by decide) (fun c38 => ?_) (fun c38 => ?_)
    · replace hw := hw.1 c38
      exact wk_J20_grow_b49 C hr hmn hnx hfr hRl _ _ _ σ _ _ _ hw hR hS (tk_sub hl [2, 4, 0] rfl)
    · replace hw := hw.2 c38
      exact wk_J20_grow_b41 C hr hmn hnx hfr hRl _ _ _ _ σ _ _ _ hw hR hS (tk_sub hl [2, 3, 4, 1] rfl)
set_option maxHeartbeats 4000000 in
theorem wk_J20_grow (l : Launch) (hl0 : l.stackTraces = false) (G : Tgl) (fr : Nat)  (hfr : 3 ≤ fr) (l0 : Option Nat) (l1 : Int32) (Q : Tst → Prop) (X : String → Nat → Tst → Prop) (σ : Tst) (hw : w_J20_grow l0 l1 Q X σ) : tw_M l yJ20_grow (ws_ yJ20_grow cJ20_grow 9 none) fr (40 * fr) G σ [.inr l0, .inl l1] (tw_Qv G Q) X := by
  unfold w_J20_grow at hw
  refine tw_of (ret := none) hl0 (by decide) (Nat.le_of_ble_eq_true rfl) (fun p e R s m args below meth c hRf hRl C hr hmn hnx hR hS ls hl => ?_)
  have hfr : 3 ≤ R.frames := by rw [hRf]; exact hfr
  have hRl : R.locals = 40 * R.frames := by rw [hRl, hRf]
  have hl : tw_l ls 9 [(0, .inr l0), (1, .inl l1)] := hl
  refine tk_aload_n C hl 0 dJ20_grow_0 rfl ?_
  refine tk_gr C hR hw rfl in_J20 (by decide) q960 (fun _ h => h) dJ20_grow_1 (fun x1 hw => ?_)
  refine tk_al C hR hw dJ20_grow_4 (fun x2 hw => ?_)
  refine tk_istore_n (L' := [(2, .inl x2), (0, .inr l0), (1, .inl l1)]) C hl dJ20_grow_5 (by decide) rfl (fun ls hl => ?_)
  refine tk_iload_n C hl 0 dJ20_grow_6 rfl ?_
  refine lv_bipush (v := 64) C.hx C.hb dJ20_grow_7 (by decide) ?_
  refine lv_icmp_ge (tgt := 18) C.hx C.hb dJ20_grow_9 (by decide) (fun c9 => ?_) (fun c9 => ?_)
  · replace hw := hw.1 c9
    refine tk_iload_n C hl 0 dJ20_grow_18 rfl ?_
    refine lv_iconst (v := 1) C.hx C.hb dJ20_grow_19 (by decide) ?_
    refine lv_ishr C.hx C.hb dJ20_grow_20 ?_
    exact wk_J20_grow_b21 C hr hmn hnx hfr hRl _ _ _ _ σ _ _ _ hw hR hS (tk_sub hl [1, 2, 0] rfl)
  · replace hw := hw.2 c9
    refine tk_iload_n C hl 0 dJ20_grow_12 rfl ?_
    refine lv_iconst (v := 2) C.hx C.hb dJ20_grow_13 (by decide) ?_
    refine lv_iadd C.hx C.hb dJ20_grow_14 ?_
    refine lv_goto (tgt := 21) C.hx C.hb dJ20_grow_15 (by decide) ?_
    exact wk_J20_grow_b21 C hr hmn hnx hfr hRl _ _ _ _ σ _ _ _ hw hR hS (tk_sub hl [1, 2, 0] rfl)
-- java/util/ArrayDeque.addLast(Ljava/lang/Object;)V
def w_J20_addLast_b50 (Q : Tst → Prop) (X : String → Nat → Tst → Prop) (σ : Tst) : Prop := Q σ
def w_J20_addLast (l0 : Option Nat) (l1 : Option Nat) (Q : Tst → Prop) (X : String → Nat → Tst → Prop) (σ : Tst) : Prop := w_if (l1 = none) (False) (w_gr σ l0 cJ20 0 fun x1 => w_gi σ l0 cJ20 2 fun x2 => w_sr σ x1 x2 l1 fun σ => w_gi σ l0 cJ20 1 fun x3 => w_gi σ l0 cJ20 2 fun x4 => w_al σ x1 fun x5 => w_J20_inc x4 x5 (fun x6 σ => w_p σ l0 cJ20 2 (.inl x6) fun σ => w_if (x3 = x6) (w_rc σ l0 cJ20 <| w_J20_grow l0 1 (fun σ => w_J20_addLast_b50 Q X σ) X σ) (w_J20_addLast_b50 Q X σ)) X σ)
set_option maxHeartbeats 4000000 in
theorem wk_J20_addLast_b50  (C : tw_C p l R s m args meth c G cJ20_addLast 3 yJ20_addLast.cls) (hr : meth.sig.returnType = none) (hmn : meth.name = yJ20_addLast.name) (hnx : (∀ x ∈ c.exceptionTable.toList, False)) (hfr : 4 ≤ R.frames) (hRl : R.locals = 40 * R.frames) {Q : Tst → Prop} {X : String → Nat → Tst → Prop}   (σ : Tst) (H : Heap) (locs : List Loc) (ls : Array Slot) (hw : w_J20_addLast_b50 Q X  σ) (hR : tw_R G σ H) (hS : va_S (tw_A G) s.heap H locs) (hl : tw_l ls 3 []) : tw_W p l e R s m args below meth c σ H locs (tw_E below G (tw_Qv G Q) X args s R) (F0 m 50 ls []) := by
  unfold w_J20_addLast_b50 at hw
  exact tw_vret C hR hS hr dJ20_addLast_50 hw
set_option maxHeartbeats 4000000 in
theorem wk_J20_addLast (l : Launch) (hl0 : l.stackTraces = false) (G : Tgl) (fr : Nat)  (hfr : 4 ≤ fr) (l0 : Option Nat) (l1 : Option Nat) (Q : Tst → Prop) (X : String → Nat → Tst → Prop) (σ : Tst) (hw : w_J20_addLast l0 l1 Q X σ) : tw_M l yJ20_addLast (ws_ yJ20_addLast cJ20_addLast 3 none) fr (40 * fr) G σ [.inr l0, .inr l1] (tw_Qv G Q) X := by
  unfold w_J20_addLast at hw
  refine tw_of (ret := none) hl0 (by decide) (Nat.le_of_ble_eq_true rfl) (fun p e R s m args below meth c hRf hRl C hr hmn hnx hR hS ls hl => ?_)
  have hfr : 4 ≤ R.frames := by rw [hRf]; exact hfr
  have hRl : R.locals = 40 * R.frames := by rw [hRl, hRf]
  have hl : tw_l ls 3 [(0, .inr l0), (1, .inr l1)] := hl
  refine tk_aload_n C hl 1 dJ20_addLast_0 rfl ?_
  refine tw_ifnonnull (tgt := 12) C.hx C.hb dJ20_addLast_1 (by decide) (fun c1 => ?_) (fun c1 => ?_)
  · replace hw := hw.2 c1
    refine tk_aload_n C hl 0 dJ20_addLast_12 rfl ?_
    refine tk_gr C hR hw rfl in_J20 (by decide) q960 (fun _ h => h) dJ20_addLast_13 (fun x1 hw => ?_)
    refine tk_astore_n (L' := [(2, .inr x1), (0, .inr l0), (1, .inr l1)]) C hl dJ20_addLast_16 (by decide) rfl (fun ls hl => ?_)
    refine tk_aload_n C hl 0 dJ20_addLast_17 rfl ?_
    refine tk_aload_n C hl 1 dJ20_addLast_18 rfl ?_
    refine tk_gi C hR hw rfl in_J20 (by decide) q962 (fun _ h => h) dJ20_addLast_19 (fun x2 hw => ?_)
    refine tk_aload_n C hl 2 dJ20_addLast_22 rfl ?_
    refine tk_sr C hR hS hw dJ20_addLast_23 (fun σ H locs hw hR hS => ?_)
    refine tk_aload_n C hl 1 dJ20_addLast_24 rfl ?_
    refine tk_gi C hR hw rfl in_J20 (by decide) q961 (fun _ h => h) dJ20_addLast_25 (fun x3 hw => ?_)
    refine tk_aload_n C hl 1 dJ20_addLast_28 rfl ?_
    refine tk_aload_n C hl 1 dJ20_addLast_29 rfl ?_
    refine tk_gi C hR hw rfl in_J20 (by decide) q962 (fun _ h => h) dJ20_addLast_30 (fun x4 hw => ?_)
    refine tk_aload_n C hl 0 dJ20_addLast_33 rfl ?_
    refine tk_al C hR hw dJ20_addLast_34 (fun x5 hw => ?_)
    refine tw_cbi C hS (tw_runS (As := [.inl x4, .inl x5]) C hR hS (wk_J20_inc l C.hst G (R.frames - 1) (by omega) _ _ _ _ σ hw) q475 q476 q92 q477 pd_J20_inc ⟨by omega, by omega⟩ hl.1 rfl (tw_r8 [.inr l0, .inl x3] (Nat.le_of_ble_eq_true rfl)) dJ20_addLast_35) (fun E q σ H locs hX hR hS hi => tw_out C hR hS (fun x hx => (hnx x hx).elim) hi hX) (fun x6 σ H locs hw hR hS => ?_)
    refine tw_dup_x1 (x := .inl x6) (y := .inr l0) C.hx C.hb dJ20_addLast_38 ?_
    refine tk_p (x := .inl x6) C hR hS hw (by decide) rfl in_J20 tyJ20 tyJ20_ok nmJ20 (by decide) q962 (fun _ h => h) rfl (tw_ni _) dJ20_addLast_39 (fun σ H locs hw hR hS => ?_)
    refine lv_icmp_ne (tgt := 50) C.hx C.hb dJ20_addLast_42 (by decide) (fun c42 => ?_) (fun c42 => ?_)
    · replace hw := hw.2 c42
      exact wk_J20_addLast_b50 C hr hmn hnx hfr hRl σ _ _ _ hw hR hS (tk_sub hl [] rfl)
    · replace hw := hw.1 c42
      refine tk_aload_n C hl 1 dJ20_addLast_45 rfl ?_
      refine lv_iconst (v := 1) C.hx C.hb dJ20_addLast_46 (by decide) ?_
      obtain ⟨hv, hw⟩ := hw
      refine tw_cbv C hS (tk_runV (As := [.inl 1]) C hR hS (wk_J20_grow l C.hst G (R.frames - 1) (by omega) _ _ _ _ σ hw) hv rfl q478 q480 qs1 q92 q482 pd_J20_grow ⟨by omega, by omega⟩ hl.1 rfl (tw_r8 [] (Nat.le_of_ble_eq_true rfl)) dJ20_addLast_47) (fun E q σ H locs hX hR hS hi => tw_out C hR hS (fun x hx => (hnx x hx).elim) hi hX) (fun σ H locs hw hR hS => ?_)
      exact wk_J20_addLast_b50 C hr hmn hnx hfr hRl σ _ _ _ hw hR hS (tk_sub hl [] rfl)
  · replace hw := hw.1 c1
    exact hw.elim
-- TreeDiffer$Tree$1.<init>(LTreeDiffer$Tree;Ljava/util/ArrayDeque;)V
def w_X8_init (l0 : Option Nat) (l1 : Option Nat) (l2 : Option Nat) (Q : Tst → Prop) (X : String → Nat → Tst → Prop) (σ : Tst) : Prop := w_p σ l0 cX8 1 (.inr l1) fun σ => w_p σ l0 cX8 0 (.inr l2) fun σ => w_rf l0 <| Q σ
set_option maxHeartbeats 4000000 in
theorem wk_X8_init (l : Launch) (hl0 : l.stackTraces = false) (G : Tgl) (fr : Nat)  (hfr : 1 ≤ fr) (l0 : Option Nat) (l1 : Option Nat) (l2 : Option Nat) (Q : Tst → Prop) (X : String → Nat → Tst → Prop) (σ : Tst) (hw : w_X8_init l0 l1 l2 Q X σ) : tw_M l yX8_init (ws_ yX8_init cX8_init 3 none) fr (40 * fr) G σ [.inr l0, .inr l1, .inr l2] (tw_Qv G Q) X := by
  unfold w_X8_init at hw
  refine tw_of (ret := none) hl0 (by decide) (Nat.le_of_ble_eq_true rfl) (fun p e R s m args below meth c hRf hRl C hr hmn hnx hR hS ls hl => ?_)
  have hfr : 1 ≤ R.frames := by rw [hRf]; exact hfr
  have hRl : R.locals = 40 * R.frames := by rw [hRl, hRf]
  have hl : tw_l ls 3 [(0, .inr l0), (1, .inr l1), (2, .inr l2)] := hl
  refine tk_aload_n C hl 0 dX8_init_0 rfl ?_
  refine tk_aload_n C hl 1 dX8_init_1 rfl ?_
  refine tk_pF (x := .inr l1) C hR hS hw (Or.inl (by decide)) rfl in_X8 tyX8 tyX8_ok nmX8 (by decide) q978 (fun _ h => h) rfl hmn rfl (tw_nr _ _) dX8_init_2 (fun σ H locs hw hR hS => ?_)
  refine tk_aload_n C hl 0 dX8_init_5 rfl ?_
  refine tk_aload_n C hl 2 dX8_init_6 rfl ?_
  refine tk_pF (x := .inr l2) C hR hS hw (Or.inl (by decide)) rfl in_X8 tyX8 tyX8_ok nmX8 (by decide) q977 (fun _ h => h) rfl hmn rfl (tw_nr _ _) dX8_init_7 (fun σ H locs hw hR hS => ?_)
  refine tk_aload_n C hl 0 dX8_init_10 rfl ?_
  refine tk_obj C hw q976 q119 q120 hl.1 (tw_r8 [] (Nat.le_of_ble_eq_true rfl)) (by omega) (by omega) dX8_init_11 (fun hw => ?_)
  exact tw_vret C hR hS hr dX8_init_14 hw
-- TreeDiffer$Tree.iterator()Ljava/util/Iterator;
def w_X2_iterator (l0 : Option Nat) (Q : Option Nat → Tst → Prop) (X : String → Nat → Tst → Prop) (σ : Tst) : Prop := w_nw σ cJ20 3 [.inr none, .inl 0, .inl 0] fun q1 σ => w_rf q1 <| w_J20_init q1 (fun σ => w_gr σ l0 cX2 0 fun x3 => w_rc σ q1 cJ20 <| w_J20_addLast q1 x3 (fun σ => w_nw σ cX8 2 [.inr none, .inr none] fun q5 σ => w_rf q5 <| w_X8_init q5 l0 q1 (fun σ => Q q5 σ) X σ) X σ) X σ
set_option maxHeartbeats 4000000 in
theorem wk_X2_iterator (l : Launch) (hl0 : l.stackTraces = false) (G : Tgl) (fr : Nat)  (hfr : 5 ≤ fr) (l0 : Option Nat) (Q : Option Nat → Tst → Prop) (X : String → Nat → Tst → Prop) (σ : Tst) (hw : w_X2_iterator l0 Q X σ) : tw_M l yX2_iterator (ws_ yX2_iterator cX2_iterator 2 (some (.object "java/util/Iterator"))) fr (40 * fr) G σ [.inr l0] (tw_Qq G Q) X := by
  unfold w_X2_iterator at hw
  refine tw_of (ret := (some (.object "java/util/Iterator"))) hl0 (by decide) (Nat.le_of_ble_eq_true rfl) (fun p e R s m args below meth c hRf hRl C hr hmn hnx hR hS ls hl => ?_)
  have hfr : 5 ≤ R.frames := by rw [hRf]; exact hfr
  have hRl : R.locals = 40 * R.frames := by rw [hRl, hRf]
  have hl : tw_l ls 2 [(0, .inr l0)] := hl
  refine tk_nw C hR hS hw rfl in_J20 tyJ20 tyJ20_ok q954 q481 q92 (fun j hj => by rcases (show j = 0 ∨ j = 1 ∨ j = 2 by omega) with rfl | rfl | rfl <;> rfl) dX2_iterator_0 (fun q1 σ H hw hR hS => ?_)
  refine tw_dup (x := .inr q1) C.hx C.hb dX2_iterator_3 ?_
  obtain ⟨hv, hw⟩ := hw
  refine tw_cbv C hS (tk_runI (As := []) hv C hR hS (wk_J20_init l C.hst G (R.frames - 1) (by omega) _ _ _ σ hw) q955 q956 q92 q957 rfl pd_J20_init ⟨by omega, by omega⟩ hl.1 rfl (tw_r8 [.inr q1] (Nat.le_of_ble_eq_true rfl)) dX2_iterator_4) (fun E q σ H locs hX hR hS hi => tw_out C hR hS (fun x hx => (hnx x hx).elim) hi hX) (fun σ H locs hw hR hS => ?_)
  refine tk_astore_n (L' := [(1, .inr q1), (0, .inr l0)]) C hl dX2_iterator_7 (by decide) rfl (fun ls hl => ?_)
  refine tk_aload_n C hl 0 dX2_iterator_8 rfl ?_
  refine tk_aload_n C hl 1 dX2_iterator_9 rfl ?_
  refine tk_gr C hR hw rfl in_X2 (by decide) q239 (fun _ h => h) dX2_iterator_10 (fun x3 hw => ?_)
  obtain ⟨hv, hw⟩ := hw
  refine tw_cbv C hS (tk_runV (As := [.inr x3]) C hR hS (wk_J20_addLast l C.hst G (R.frames - 1) (by omega) _ _ _ _ σ hw) hv rfl q970 q472 q473 q92 q474 pd_J20_addLast ⟨by omega, by omega⟩ hl.1 rfl (tw_r8 [] (Nat.le_of_ble_eq_true rfl)) dX2_iterator_13) (fun E q σ H locs hX hR hS hi => tw_out C hR hS (fun x hx => (hnx x hx).elim) hi hX) (fun σ H locs hw hR hS => ?_)
  refine tk_nw C hR hS hw rfl in_X8 tyX8 tyX8_ok q971 q972 q98 (fun j hj => by rcases (show j = 0 ∨ j = 1 by omega) with rfl | rfl <;> rfl) dX2_iterator_16 (fun q5 σ H hw hR hS => ?_)
  refine tw_dup (x := .inr q5) C.hx C.hb dX2_iterator_19 ?_
  refine tk_aload_n C hl 1 dX2_iterator_20 rfl ?_
  refine tk_aload_n C hl 0 dX2_iterator_21 rfl ?_
  obtain ⟨hv, hw⟩ := hw
  refine tw_cbv C hS (tk_runI (As := [.inr l0, .inr q1]) hv C hR hS (wk_X8_init l C.hst G (R.frames - 1) (by omega) _ _ _ _ _ σ hw) q973 q974 q98 q975 rfl pd_X8_init ⟨by omega, by omega⟩ hl.1 rfl (tw_r8 [.inr q5] (Nat.le_of_ble_eq_true rfl)) dX2_iterator_22) (fun E q σ H locs hX hR hS hi => tw_out C hR hS (fun x hx => (hnx x hx).elim) hi hX) (fun σ H locs hw hR hS => ?_)
  exact tw_aret C hR hS hr (Or.inl ⟨_, rfl⟩) dX2_iterator_25 hw
-- java/util/ArrayDeque.isEmpty()Z
def w_J20_isEmpty_b16 (Q : Int32 → Tst → Prop) (X : String → Nat → Tst → Prop) (s0 : Int32) (σ : Tst) : Prop := narrow .boolean (.int s0) = .int s0 ∧ Q s0 σ
def w_J20_isEmpty (l0 : Option Nat) (Q : Int32 → Tst → Prop) (X : String → Nat → Tst → Prop) (σ : Tst) : Prop := w_gi σ l0 cJ20 1 fun x1 => w_gi σ l0 cJ20 2 fun x2 => w_if (x1 = x2) (w_J20_isEmpty_b16 Q X 1 σ) (w_J20_isEmpty_b16 Q X 0 σ)
set_option maxHeartbeats 4000000 in
theorem wk_J20_isEmpty_b16  (C : tw_C p l R s m args meth c G cJ20_isEmpty 1 yJ20_isEmpty.cls) (hr : meth.sig.returnType = (some .boolean)) (hmn : meth.name = yJ20_isEmpty.name) (hnx : (∀ x ∈ c.exceptionTable.toList, False)) (hfr : 1 ≤ R.frames) (hRl : R.locals = 40 * R.frames) {Q : Int32 → Tst → Prop} {X : String → Nat → Tst → Prop}  (s0 : Int32) (σ : Tst) (H : Heap) (locs : List Loc) (ls : Array Slot) (hw : w_J20_isEmpty_b16 Q X s0 σ) (hR : tw_R G σ H) (hS : va_S (tw_A G) s.heap H locs) (hl : tw_l ls 1 []) : tw_W p l e R s m args below meth c σ H locs (tw_E below G (tw_Qi G Q) X args s R) (F0 m 16 ls [.int s0]) := by
  unfold w_J20_isEmpty_b16 at hw
  obtain ⟨hok, hw⟩ := hw
  exact tw_iret C hR hS hr hok dJ20_isEmpty_16 hw
set_option maxHeartbeats 4000000 in
theorem wk_J20_isEmpty (l : Launch) (hl0 : l.stackTraces = false) (G : Tgl) (fr : Nat)  (hfr : 1 ≤ fr) (l0 : Option Nat) (Q : Int32 → Tst → Prop) (X : String → Nat → Tst → Prop) (σ : Tst) (hw : w_J20_isEmpty l0 Q X σ) : tw_M l yJ20_isEmpty (ws_ yJ20_isEmpty cJ20_isEmpty 1 (some .boolean)) fr (40 * fr) G σ [.inr l0] (tw_Qi G Q) X := by
  unfold w_J20_isEmpty at hw
  refine tw_of (ret := (some .boolean)) hl0 (by decide) (Nat.le_of_ble_eq_true rfl) (fun p e R s m args below meth c hRf hRl C hr hmn hnx hR hS ls hl => ?_)
  have hfr : 1 ≤ R.frames := by rw [hRf]; exact hfr
  have hRl : R.locals = 40 * R.frames := by rw [hRl, hRf]
  have hl : tw_l ls 1 [(0, .inr l0)] := hl
  refine tk_aload_n C hl 0 dJ20_isEmpty_0 rfl ?_
  refine tk_gi C hR hw rfl in_J20 (by decide) q961 (fun _ h => h) dJ20_isEmpty_1 (fun x1 hw => ?_)
  refine tk_aload_n C hl 0 dJ20_isEmpty_4 rfl ?_
  refine tk_gi C hR hw rfl in_J20 (by decide) q962 (fun _ h => h) dJ20_isEmpty_5 (fun x2 hw => ?_)
  refine lv_icmp_ne (tgt := 15) C.hx C.hb dJ20_isEmpty_8 (by decide) (fun c8 => ?_) (fun c8 => ?_)
  · replace hw := hw.2 c8
    refine lv_iconst (v := 0) C.hx C.hb dJ20_isEmpty_15 (by decide) ?_
    exact wk_J20_isEmpty_b16 C hr hmn hnx hfr hRl _ σ _ _ _ hw hR hS (tk_sub hl [] rfl)
  · replace hw := hw.1 c8
    refine lv_iconst (v := 1) C.hx C.hb dJ20_isEmpty_11 (by decide) ?_
    refine lv_goto (tgt := 16) C.hx C.hb dJ20_isEmpty_12 (by decide) ?_
    exact wk_J20_isEmpty_b16 C hr hmn hnx hfr hRl _ σ _ _ _ hw hR hS (tk_sub hl [] rfl)
-- TreeDiffer$Tree$1.hasNext()Z
def w_X8_hasNext_b15 (Q : Int32 → Tst → Prop) (X : String → Nat → Tst → Prop) (s0 : Int32) (σ : Tst) : Prop := narrow .boolean (.int s0) = .int s0 ∧ Q s0 σ
def w_X8_hasNext (l0 : Option Nat) (Q : Int32 → Tst → Prop) (X : String → Nat → Tst → Prop) (σ : Tst) : Prop := w_gr σ l0 cX8 0 fun x1 => w_rc σ x1 cJ20 <| w_J20_isEmpty x1 (fun x2 σ => w_if (x2 = 0) (w_X8_hasNext_b15 Q X 1 σ) (w_X8_hasNext_b15 Q X 0 σ)) X σ
set_option maxHeartbeats 4000000 in
theorem wk_X8_hasNext_b15  (C : tw_C p l R s m args meth c G cX8_hasNext 1 yX8_hasNext.cls) (hr : meth.sig.returnType = (some .boolean)) (hmn : meth.name = yX8_hasNext.name) (hnx : (∀ x ∈ c.exceptionTable.toList, False)) (hfr : 2 ≤ R.frames) (hRl : R.locals = 40 * R.frames) {Q : Int32 → Tst → Prop} {X : String → Nat → Tst → Prop}  (s0 : Int32) (σ : Tst) (H : Heap) (locs : List Loc) (ls : Array Slot) (hw : w_X8_hasNext_b15 Q X s0 σ) (hR : tw_R G σ H) (hS : va_S (tw_A G) s.heap H locs) (hl : tw_l ls 1 []) : tw_W p l e R s m args below meth c σ H locs (tw_E below G (tw_Qi G Q) X args s R) (F0 m 15 ls [.int s0]) := by
  unfold w_X8_hasNext_b15 at hw
  obtain ⟨hok, hw⟩ := hw
  exact tw_iret C hR hS hr hok dX8_hasNext_15 hw
set_option maxHeartbeats 4000000 in
theorem wk_X8_hasNext (l : Launch) (hl0 : l.stackTraces = false) (G : Tgl) (fr : Nat)  (hfr : 2 ≤ fr) (l0 : Option Nat) (Q : Int32 → Tst → Prop) (X : String → Nat → Tst → Prop) (σ : Tst) (hw : w_X8_hasNext l0 Q X σ) : tw_M l yX8_hasNext (ws_ yX8_hasNext cX8_hasNext 1 (some .boolean)) fr (40 * fr) G σ [.inr l0] (tw_Qi G Q) X := by
  unfold w_X8_hasNext at hw
  refine tw_of (ret := (some .boolean)) hl0 (by decide) (Nat.le_of_ble_eq_true rfl) (fun p e R s m args below meth c hRf hRl C hr hmn hnx hR hS ls hl => ?_)
  have hfr : 2 ≤ R.frames := by rw [hRf]; exact hfr
  have hRl : R.locals = 40 * R.frames := by rw [hRl, hRf]
  have hl : tw_l ls 1 [(0, .inr l0)] := hl
  refine tk_aload_n C hl 0 dX8_hasNext_0 rfl ?_
  refine tk_gr C hR hw rfl in_X8 (by decide) q977 (fun _ h => h) dX8_hasNext_1 (fun x1 hw => ?_)
  obtain ⟨hv, hw⟩ := hw
  refine tw_cbi C hS (tk_runV (As := []) C hR hS (wk_J20_isEmpty l C.hst G (R.frames - 1) (by omega) _ _ _ σ hw) hv rfl q328 q329 q330 q92 q331 pd_J20_isEmpty ⟨by omega, by omega⟩ hl.1 rfl (tw_r8 [] (Nat.le_of_ble_eq_true rfl)) dX8_hasNext_4) (fun E q σ H locs hX hR hS hi => tw_out C hR hS (fun x hx => (hnx x hx).elim) hi hX) (fun x2 σ H locs hw hR hS => ?_)
  refine lv_if_ne (tgt := 14) C.hx C.hb dX8_hasNext_7 (by decide) (fun c7 => ?_) (fun c7 => ?_)
  · replace hw := hw.2 c7
    refine lv_iconst (v := 0) C.hx C.hb dX8_hasNext_14 (by decide) ?_
    exact wk_X8_hasNext_b15 C hr hmn hnx hfr hRl _ σ _ _ _ hw hR hS (tk_sub hl [] rfl)
  · replace hw := hw.1 c7
    refine lv_iconst (v := 1) C.hx C.hb dX8_hasNext_10 (by decide) ?_
    refine lv_goto (tgt := 15) C.hx C.hb dX8_hasNext_11 (by decide) ?_
    exact wk_X8_hasNext_b15 C hr hmn hnx hfr hRl _ σ _ _ _ hw hR hS (tk_sub hl [] rfl)
-- java/util/ArrayDeque.dec(II)I
def w_J20_dec_b11 (Q : Int32 → Tst → Prop) (X : String → Nat → Tst → Prop) (l0 : Int32) (σ : Tst) : Prop := Q l0 σ
def w_J20_dec (l0 : Int32) (l1 : Int32) (Q : Int32 → Tst → Prop) (X : String → Nat → Tst → Prop) (σ : Tst) : Prop := w_if (0 ≤ (l0 + (-1))) (w_J20_dec_b11 Q X (l0 + (-1)) σ) (w_J20_dec_b11 Q X (l1 - 1) σ)
set_option maxHeartbeats 4000000 in
theorem wk_J20_dec_b11  (C : tw_C p l R s m args meth c G cJ20_dec 2 yJ20_dec.cls) (hr : meth.sig.returnType = (some .int)) (hmn : meth.name = yJ20_dec.name) (hnx : (∀ x ∈ c.exceptionTable.toList, False)) (hfr : 1 ≤ R.frames) (hRl : R.locals = 40 * R.frames) {Q : Int32 → Tst → Prop} {X : String → Nat → Tst → Prop}  (l0 : Int32) (σ : Tst) (H : Heap) (locs : List Loc) (ls : Array Slot) (hw : w_J20_dec_b11 Q X l0 σ) (hR : tw_R G σ H) (hS : va_S (tw_A G) s.heap H locs) (hl : tw_l ls 2 [(0, .inl l0)]) : tw_W p l e R s m args below meth c σ H locs (tw_E below G (tw_Qi G Q) X args s R) (F0 m 11 ls []) := by
  unfold w_J20_dec_b11 at hw
  refine tk_iload_n C hl 0 dJ20_dec_11 rfl ?_
  exact tw_iret C hR hS hr rfl dJ20_dec_12 hw
set_option maxHeartbeats 4000000 in
theorem wk_J20_dec (l : Launch) (hl0 : l.stackTraces = false) (G : Tgl) (fr : Nat)  (hfr : 1 ≤ fr) (l0 : Int32) (l1 : Int32) (Q : Int32 → Tst → Prop) (X : String → Nat → Tst → Prop) (σ : Tst) (hw : w_J20_dec l0 l1 Q X σ) : tw_M l yJ20_dec (ws_ yJ20_dec cJ20_dec 2 (some .int)) fr (40 * fr) G σ [.inl l0, .inl l1] (tw_Qi G Q) X := by
  unfold w_J20_dec at hw
  refine tw_of (ret := (some .int)) hl0 (by decide) (Nat.le_of_ble_eq_true rfl) (fun p e R s m args below meth c hRf hRl C hr hmn hnx hR hS ls hl => ?_)
  have hfr : 1 ≤ R.frames := by rw [hRf]; exact hfr
  have hRl : R.locals = 40 * R.frames := by rw [hRl, hRf]
  have hl : tw_l ls 2 [(0, .inl l0), (1, .inl l1)] := hl
  refine tk_iinc (L' := [(0, .inl (l0 + (-1))), (1, .inl l1)]) (y := (l0 + (-1))) C hl 0 dJ20_dec_0 rfl rfl (by decide) rfl (fun ls hl => ?_)
  refine tk_iload_n C hl 0 dJ20_dec_3 rfl ?_
  refine lv_if_ge (tgt := 11) C.hx C.hb dJ20_dec_4 (by decide) (fun c4 => ?_) (fun c4 => ?_)
  · replace hw := hw.1 c4
    exact wk_J20_dec_b11 C hr hmn hnx hfr hRl _ σ _ _ _ hw hR hS (tk_sub hl [0] rfl)
  · replace hw := hw.2 c4
    refine tk_iload_n C hl 1 dJ20_dec_7 rfl ?_
    refine lv_iconst (v := 1) C.hx C.hb dJ20_dec_8 (by decide) ?_
    refine lv_isub C.hx C.hb dJ20_dec_9 ?_
    refine tk_istore_n (L' := [(0, .inl (l1 - 1)), (1, .inl l1)]) C hl dJ20_dec_10 (by decide) rfl (fun ls hl => ?_)
    exact wk_J20_dec_b11 C hr hmn hnx hfr hRl _ σ _ _ _ hw hR hS (tk_sub hl [0] rfl)
-- java/util/ArrayDeque.elementAt([Ljava/lang/Object;I)Ljava/lang/Object;
def w_J20_elementAt (l0 : Option Nat) (l1 : Int32) (Q : Option Nat → Tst → Prop) (X : String → Nat → Tst → Prop) (σ : Tst) : Prop := w_lr σ l0 l1 fun x1 => Q x1 σ
set_option maxHeartbeats 4000000 in
theorem wk_J20_elementAt (l : Launch) (hl0 : l.stackTraces = false) (G : Tgl) (fr : Nat)  (hfr : 1 ≤ fr) (l0 : Option Nat) (l1 : Int32) (Q : Option Nat → Tst → Prop) (X : String → Nat → Tst → Prop) (σ : Tst) (hw : w_J20_elementAt l0 l1 Q X σ) : tw_M l yJ20_elementAt (ws_ yJ20_elementAt cJ20_elementAt 2 (some (.object "java/lang/Object"))) fr (40 * fr) G σ [.inr l0, .inl l1] (tw_Qq G Q) X := by
  unfold w_J20_elementAt at hw
  refine tw_of (ret := (some (.object "java/lang/Object"))) hl0 (by decide) (Nat.le_of_ble_eq_true rfl) (fun p e R s m args below meth c hRf hRl C hr hmn hnx hR hS ls hl => ?_)
  have hfr : 1 ≤ R.frames := by rw [hRf]; exact hfr
  have hRl : R.locals = 40 * R.frames := by rw [hRl, hRf]
  have hl : tw_l ls 2 [(0, .inr l0), (1, .inl l1)] := hl
  refine tk_aload_n C hl 0 dJ20_elementAt_0 rfl ?_
  refine tk_iload_n C hl 1 dJ20_elementAt_1 rfl ?_
  refine tk_lr C hR hw dJ20_elementAt_2 (fun x1 hw => ?_)
  exact tw_aret C hR hS hr (Or.inl ⟨_, rfl⟩) dJ20_elementAt_3 hw
-- java/util/ArrayDeque.pollLast()Ljava/lang/Object;
def w_J20_pollLast_b34 (Q : Option Nat → Tst → Prop) (X : String → Nat → Tst → Prop) (l3 : Option Nat) (σ : Tst) : Prop := Q l3 σ
def w_J20_pollLast (l0 : Option Nat) (Q : Option Nat → Tst → Prop) (X : String → Nat → Tst → Prop) (σ : Tst) : Prop := w_gr σ l0 cJ20 0 fun x1 => w_gi σ l0 cJ20 2 fun x2 => w_al σ x1 fun x3 => w_J20_dec x2 x3 (fun x4 σ => w_J20_elementAt x1 x4 (fun x5 σ => w_if (x5 = none) (w_J20_pollLast_b34 Q X x5 σ) (w_p σ l0 cJ20 2 (.inl x4) fun σ => w_sr σ x1 x4 none fun σ => w_J20_pollLast_b34 Q X x5 σ)) X σ) X σ
set_option maxHeartbeats 4000000 in
theorem wk_J20_pollLast_b34  (C : tw_C p l R s m args meth c G cJ20_pollLast 4 yJ20_pollLast.cls) (hr : meth.sig.returnType = (some (.object "java/lang/Object"))) (hmn : meth.name = yJ20_pollLast.name) (hnx : (∀ x ∈ c.exceptionTable.toList, False)) (hfr : 2 ≤ R.frames) (hRl : R.locals = 40 * R.frames) {Q : Option Nat → Tst → Prop} {X : String → Nat → Tst → Prop}  (l3 : Option Nat) (σ : Tst) (H : Heap) (locs : List Loc) (ls : Array Slot) (hw : w_J20_pollLast_b34 Q X l3 σ) (hR : tw_R G σ H) (hS : va_S (tw_A G) s.heap H locs) (hl : tw_l ls 4 [(3, .inr l3)]) : tw_W p l e R s m args below meth c σ H locs (tw_E below G (tw_Qq G Q) X args s R) (F0 m 34 ls []) := by
  unfold w_J20_pollLast_b34 at hw
  refine tk_aload_n C hl 0 dJ20_pollLast_34 rfl ?_
  exact tw_aret C hR hS hr (Or.inl ⟨_, rfl⟩) dJ20_pollLast_35 hw
set_option maxHeartbeats 4000000 in
theorem wk_J20_pollLast (l : Launch) (hl0 : l.stackTraces = false) (G : Tgl) (fr : Nat)  (hfr : 2 ≤ fr) (l0 : Option Nat) (Q : Option Nat → Tst → Prop) (X : String → Nat → Tst → Prop) (σ : Tst) (hw : w_J20_pollLast l0 Q X σ) : tw_M l yJ20_pollLast (ws_ yJ20_pollLast cJ20_pollLast 4 (some (.object "java/lang/Object"))) fr (40 * fr) G σ [.inr l0] (tw_Qq G Q) X := by
  unfold w_J20_pollLast at hw
  refine tw_of (ret := (some (.object "java/lang/Object"))) hl0 (by decide) (Nat.le_of_ble_eq_true rfl) (fun p e R s m args below meth c hRf hRl C hr hmn hnx hR hS ls hl => ?_)
  have hfr : 2 ≤ R.frames := by rw [hRf]; exact hfr
  have hRl : R.locals = 40 * R.frames := by rw [hRl, hRf]
  have hl : tw_l ls 4 [(0, .inr l0)] := hl
  refine tk_aload_n C hl 0 dJ20_pollLast_0 rfl ?_
  refine tk_gr C hR hw rfl in_J20 (by decide) q960 (fun _ h => h) dJ20_pollLast_1 (fun x1 hw => ?_)
  refine tw_dup (x := .inr x1) C.hx C.hb dJ20_pollLast_4 ?_
  refine tk_astore_n (L' := [(1, .inr x1), (0, .inr l0)]) C hl dJ20_pollLast_5 (by decide) rfl (fun ls hl => ?_)
  refine tk_aload_n C hl 1 dJ20_pollLast_6 rfl ?_
  refine tk_gi C hR hw rfl in_J20 (by decide) q962 (fun _ h => h) dJ20_pollLast_7 (fun x2 hw => ?_)
  refine tk_aload_n C hl 0 dJ20_pollLast_10 rfl ?_
  refine tk_al C hR hw dJ20_pollLast_11 (fun x3 hw => ?_)
  refine tw_cbi C hS (tw_runS (As := [.inl x2, .inl x3]) C hR hS (wk_J20_dec l C.hst G (R.frames - 1) (by omega) _ _ _ _ σ hw) q434 q435 q92 q436 pd_J20_dec ⟨by omega, by omega⟩ hl.1 rfl (tw_r8 [.inr x1] (Nat.le_of_ble_eq_true rfl)) dJ20_pollLast_12) (fun E q σ H locs hX hR hS hi => tw_out C hR hS (fun x hx => (hnx x hx).elim) hi hX) (fun x4 σ H locs hw hR hS => ?_)
  refine tw_dup (x := .inl x4) C.hx C.hb dJ20_pollLast_15 ?_
  refine tk_istore_n (L' := [(2, .inl x4), (1, .inr x1), (0, .inr l0)]) C hl dJ20_pollLast_16 (by decide) rfl (fun ls hl => ?_)
  refine tw_cbq C hS (tw_runS (As := [.inr x1, .inl x4]) C hR hS (wk_J20_elementAt l C.hst G (R.frames - 1) (by omega) _ _ _ _ σ hw) q437 q438 q92 q439 pd_J20_elementAt ⟨by omega, by omega⟩ hl.1 rfl (tw_r8 [] (Nat.le_of_ble_eq_true rfl)) dJ20_pollLast_17) (fun E q σ H locs hX hR hS hi => tw_out C hR hS (fun x hx => (hnx x hx).elim) hi hX) (fun x5 σ H locs hw hR hS => ?_)
  refine tk_astore_n (L' := [(3, .inr x5), (2, .inl x4), (1, .inr x1), (0, .inr l0)]) C hl dJ20_pollLast_20 (by decide) rfl (fun ls hl => ?_)
  refine tk_aload_n C hl 0 dJ20_pollLast_21 rfl ?_
  refine tw_ifnull (tgt := 34) C.hx C.hb dJ20_pollLast_22 (by decide) (fun c22 => ?_) (fun c22 => ?_)
  · replace hw := hw.1 c22
    exact wk_J20_pollLast_b34 C hr hmn hnx hfr hRl _ σ _ _ _ hw hR hS (tk_sub hl [0] rfl)
  · replace hw := hw.2 c22
    refine tk_aload_n C hl 2 dJ20_pollLast_25 rfl ?_
    refine tk_aload_n C hl 3 dJ20_pollLast_26 rfl ?_
    refine tk_iload_n C hl 1 dJ20_pollLast_27 rfl ?_
    refine tw_dup_x1 (x := .inl x4) (y := .inr l0) C.hx C.hb dJ20_pollLast_28 ?_
    refine tk_p (x := .inl x4) C hR hS hw (by decide) rfl in_J20 tyJ20 tyJ20_ok nmJ20 (by decide) q962 (fun _ h => h) rfl (tw_ni _) dJ20_pollLast_29 (fun σ H locs hw hR hS => ?_)
    refine lv_null C.hx C.hb dJ20_pollLast_32 ?_
    refine W.eq (g2 := F0 m 33 ls (va_rf none :: [.int x4, va_rf x1])) rfl ?_
    refine tk_sr C hR hS hw dJ20_pollLast_33 (fun σ H locs hw hR hS => ?_)
    exact wk_J20_pollLast_b34 C hr hmn hnx hfr hRl _ σ _ _ _ hw hR hS (tk_sub hl [0] rfl)
-- java/util/ArrayDeque.removeLast()Ljava/lang/Object;
def w_J20_removeLast (l0 : Option Nat) (Q : Option Nat → Tst → Prop) (X : String → Nat → Tst → Prop) (σ : Tst) : Prop := w_rc σ l0 cJ20 <| w_J20_pollLast l0 (fun x1 σ => w_if (x1 = none) (False) (Q x1 σ)) X σ
set_option maxHeartbeats 4000000 in
theorem wk_J20_removeLast (l : Launch) (hl0 : l.stackTraces = false) (G : Tgl) (fr : Nat)  (hfr : 3 ≤ fr) (l0 : Option Nat) (Q : Option Nat → Tst → Prop) (X : String → Nat → Tst → Prop) (σ : Tst) (hw : w_J20_removeLast l0 Q X σ) : tw_M l yJ20_removeLast (ws_ yJ20_removeLast cJ20_removeLast 2 (some (.object "java/lang/Object"))) fr (40 * fr) G σ [.inr l0] (tw_Qq G Q) X := by
  unfold w_J20_removeLast at hw
  refine tw_of (ret := (some (.object "java/lang/Object"))) hl0 (by decide) (Nat.le_of_ble_eq_true rfl) (fun p e R s m args below meth c hRf hRl C hr hmn hnx hR hS ls hl => ?_)
  have hfr : 3 ≤ R.frames := by rw [hRf]; exact hfr
  have hRl : R.locals = 40 * R.frames := by rw [hRl, hRf]
  have hl : tw_l ls 2 [(0, .inr l0)] := hl
  refine tk_aload_n C hl 0 dJ20_removeLast_0 rfl ?_
  obtain ⟨hv, hw⟩ := hw
  refine tw_cbq C hS (tk_runV (As := []) C hR hS (wk_J20_pollLast l C.hst G (R.frames - 1) (by omega) _ _ _ σ hw) hv rfl q430 q431 q432 q92 q433 pd_J20_pollLast ⟨by omega, by omega⟩ hl.1 rfl (tw_r8 [] (Nat.le_of_ble_eq_true rfl)) dJ20_removeLast_1) (fun E q σ H locs hX hR hS hi => tw_out C hR hS (fun x hx => (hnx x hx).elim) hi hX) (fun x1 σ H locs hw hR hS => ?_)
  refine tk_astore_n (L' := [(1, .inr x1), (0, .inr l0)]) C hl dJ20_removeLast_4 (by decide) rfl (fun ls hl => ?_)
  refine tk_aload_n C hl 0 dJ20_removeLast_5 rfl ?_
  refine tw_ifnonnull (tgt := 17) C.hx C.hb dJ20_removeLast_6 (by decide) (fun c6 => ?_) (fun c6 => ?_)
  · replace hw := hw.2 c6
    refine tk_aload_n C hl 0 dJ20_removeLast_17 rfl ?_
    exact tw_aret C hR hS hr (Or.inl ⟨_, rfl⟩) dJ20_removeLast_18 hw
  · replace hw := hw.1 c6
    exact hw.elim
-- TreeDiffer$Tree$1.next()LTreeDiffer$Node;
def w_X8_next_2_b41 (Q : Option Nat → Tst → Prop) (X : String → Nat → Tst → Prop) : Nat → Option Nat → Option Nat → Int32 → Tst → Prop
  | 0, _, _, _, _ => False
  | n + 1, l0, l1, l2, σ => w_if (l2 < 0) (Q l1 σ) (w_gr σ l0 cX8 0 fun x1 => w_gr σ l1 cX3 4 fun x2 => w_rc σ x2 cJ6 <| w_J6_get x2 l2 (fun x3 σ => w_cc σ x3 cX3 <| w_rc σ x1 cJ20 <| w_J20_addLast x1 x3 (fun σ => (w_X8_next_2_b41 Q X n) l0 l1 (l2 + (-1)) σ) X σ) X σ)
def w_X8_next_2 (l0 : Option Nat) (Q : Option Nat → Tst → Prop) (X : String → Nat → Tst → Prop) (σ : Tst) : Prop := w_gr σ l0 cX8 0 fun x1 => w_rc σ x1 cJ20 <| w_J20_isEmpty x1 (fun x2 σ => w_if (x2 = 0) (w_gr σ l0 cX8 0 fun x3 => w_rc σ x3 cJ20 <| w_J20_removeLast x3 (fun x4 σ => w_cc σ x4 cX3 <| w_gr σ x4 cX3 4 fun x5 => w_rc σ x5 cJ6 <| w_J6_size x5 (fun x6 σ => ∃ z, w_X8_next_2_b41 Q X z l0 x4 (x6 - 1) σ) X σ) X σ) (False)) X σ
set_option maxHeartbeats 4000000 in
theorem wk_X8_next_2_b41  (C : tw_C p l R s m args meth c G cX8_next_2 3 yX8_next_2.cls) (hr : meth.sig.returnType = (some (.object "TreeDiffer$Node"))) (hmn : meth.name = yX8_next_2.name) (hnx : (∀ x ∈ c.exceptionTable.toList, False)) (hfr : 5 ≤ R.frames) (hRl : R.locals = 40 * R.frames) {Q : Option Nat → Tst → Prop} {X : String → Nat → Tst → Prop}  : ∀ (n : Nat) (l0 : Option Nat) (l1 : Option Nat) (l2 : Int32) (σ : Tst) (H : Heap) (locs : List Loc) (ls : Array Slot), w_X8_next_2_b41 Q X n l0 l1 l2 σ → tw_R G σ H → va_S (tw_A G) s.heap H locs → tw_l ls 3 [(0, .inr l0), (1, .inr l1), (2, .inl l2)] → tw_W p l e R s m args below meth c σ H locs (tw_E below G (tw_Qq G Q) X args s R) (F0 m 41 ls []) := by
  intro n
  induction n with
  | zero => intro l0 l1 l2 σ H locs ls hw; exact False.elim hw
  | succ n hk41 =>
    intro l0 l1 l2 σ H locs ls hw hR hS hl
    rw [w_X8_next_2_b41] at hw
    refine tk_iload_n C hl 2 dX8_next_2_41 rfl ?_
    refine lv_if_lt (tgt := 71) C.hx C.hb dX8_next_2_42 (by decide) (fun c42 => ?_) (fun c42 => ?_)
    · replace hw := hw.1 c42
      refine tk_aload_n C hl 1 dX8_next_2_71 rfl ?_
      exact tw_aret C hR hS hr (Or.inl ⟨_, rfl⟩) dX8_next_2_72 hw
    · replace hw := hw.2 c42
      refine tk_aload_n C hl 0 dX8_next_2_45 rfl ?_
      refine tk_gr C hR hw rfl in_X8 (by decide) q977 (fun _ h => h) dX8_next_2_46 (fun x1 hw => ?_)
      refine tk_aload_n C hl 1 dX8_next_2_49 rfl ?_
      refine tk_grN C hR hw rfl in_X3 (by decide) q211 (fun _ h => h) dX8_next_2_50 (fun x2 hw => ?_)
      refine tk_iload_n C hl 2 dX8_next_2_53 rfl ?_
      obtain ⟨hv, hw⟩ := hw
      refine tw_cbq5 C hS (tk_runF (As := [.inl l2]) (x := ⟨"java/util/List", "get", "(I)Ljava/lang/Object;"⟩) C hR hS (wk_J6_get l C.hst G (R.frames - 1) (by omega) _ _ _ _ σ hw) hv rfl q453 q456 q458 q73 q460 (by decide +kernel) (show tw_pd ⟨"java/util/List", "get", "(I)Ljava/lang/Object;"⟩ 1 by decide +kernel) ⟨by omega, by omega⟩ hl.1 rfl (tw_r8 [.inr x1] (Nat.le_of_ble_eq_true rfl)) dX8_next_2_54) (fun E q σ H locs hX hR hS hi => tw_out C hR hS (fun x hx => (hnx x hx).elim) hi hX) (fun x3 σ H locs hw hR hS => ?_)
      refine tk_cc C hR hw rfl q442 (Or.inl rfl) dX8_next_2_59 (fun hw => ?_)
      obtain ⟨hv, hw⟩ := hw
      refine tw_cbv C hS (tk_runV (As := [.inr x3]) C hR hS (wk_J20_addLast l C.hst G (R.frames - 1) (by omega) _ _ _ _ σ hw) hv rfl q471 q472 q473 q92 q474 pd_J20_addLast ⟨by omega, by omega⟩ hl.1 rfl (tw_r8 [] (Nat.le_of_ble_eq_true rfl)) dX8_next_2_62) (fun E q σ H locs hX hR hS hi => tw_out C hR hS (fun x hx => (hnx x hx).elim) hi hX) (fun σ H locs hw hR hS => ?_)
      refine tk_iinc (L' := [(2, .inl (l2 + (-1))), (0, .inr l0), (1, .inr l1)]) (y := (l2 + (-1))) C hl 2 dX8_next_2_65 rfl rfl (by decide) rfl (fun ls hl => ?_)
      refine lv_goto (tgt := 41) C.hx C.hb dX8_next_2_68 (by decide) ?_
      exact hk41 _ _ _ σ _ _ _ hw hR hS (tk_sub hl [1, 2, 0] rfl)
set_option maxHeartbeats 4000000 in
theorem wk_X8_next_2 (l : Launch) (hl0 : l.stackTraces = false) (G : Tgl) (fr : Nat)  (hfr : 5 ≤ fr) (l0 : Option Nat) (Q : Option Nat → Tst → Prop) (X : String → Nat → Tst → Prop) (σ : Tst) (hw : w_X8_next_2 l0 Q X σ) : tw_M l yX8_next_2 (ws_ yX8_next_2 cX8_next_2 3 (some (.object "TreeDiffer$Node"))) fr (40 * fr) G σ [.inr l0] (tw_Qq G Q) X := by
  unfold w_X8_next_2 at hw
  refine tw_of (ret := (some (.object "TreeDiffer$Node"))) hl0 (by decide) (Nat.le_of_ble_eq_true rfl) (fun p e R s m args below meth c hRf hRl C hr hmn hnx hR hS ls hl => ?_)
  have hfr : 5 ≤ R.frames := by rw [hRf]; exact hfr
  have hRl : R.locals = 40 * R.frames := by rw [hRl, hRf]
  have hl : tw_l ls 3 [(0, .inr l0)] := hl
  refine tk_aload_n C hl 0 dX8_next_2_0 rfl ?_
  refine tk_gr C hR hw rfl in_X8 (by decide) q977 (fun _ h => h) dX8_next_2_1 (fun x1 hw => ?_)
  obtain ⟨hv, hw⟩ := hw
  refine tw_cbi C hS (tk_runV (As := []) C hR hS (wk_J20_isEmpty l C.hst G (R.frames - 1) (by omega) _ _ _ σ hw) hv rfl q328 q329 q330 q92 q331 pd_J20_isEmpty ⟨by omega, by omega⟩ hl.1 rfl (tw_r8 [] (Nat.le_of_ble_eq_true rfl)) dX8_next_2_4) (fun E q σ H locs hX hR hS hi => tw_out C hR hS (fun x hx => (hnx x hx).elim) hi hX) (fun x2 σ H locs hw hR hS => ?_)
  refine lv_if_eq (tgt := 18) C.hx C.hb dX8_next_2_7 (by decide) (fun c7 => ?_) (fun c7 => ?_)
  · replace hw := hw.1 c7
    refine tk_aload_n C hl 0 dX8_next_2_18 rfl ?_
    refine tk_gr C hR hw rfl in_X8 (by decide) q977 (fun _ h => h) dX8_next_2_19 (fun x3 hw => ?_)
    obtain ⟨hv, hw⟩ := hw
    refine tw_cbq C hS (tk_runV (As := []) C hR hS (wk_J20_removeLast l C.hst G (R.frames - 1) (by omega) _ _ _ σ hw) hv rfl q426 q427 q428 q92 q429 pd_J20_removeLast ⟨by omega, by omega⟩ hl.1 rfl (tw_r8 [] (Nat.le_of_ble_eq_true rfl)) dX8_next_2_22) (fun E q σ H locs hX hR hS hi => tw_out C hR hS (fun x hx => (hnx x hx).elim) hi hX) (fun x4 σ H locs hw hR hS => ?_)
    refine tk_cc C hR hw rfl q442 (Or.inl rfl) dX8_next_2_25 (fun hw => ?_)
    refine tk_astore_n (L' := [(1, .inr x4), (0, .inr l0)]) C hl dX8_next_2_28 (by decide) rfl (fun ls hl => ?_)
    refine tk_aload_n C hl 0 dX8_next_2_29 rfl ?_
    refine tk_grN C hR hw rfl in_X3 (by decide) q211 (fun _ h => h) dX8_next_2_30 (fun x5 hw => ?_)
    obtain ⟨hv, hw⟩ := hw
    refine tw_cbi5 C hS (tk_runF (As := []) (x := ⟨"java/util/List", "size", "()I"⟩) C hR hS (wk_J6_size l C.hst G (R.frames - 1) (by omega) _ _ _ σ hw) hv rfl q444 q447 q449 q73 q451 (by decide +kernel) (show tw_pd ⟨"java/util/List", "size", "()I"⟩ 0 by decide +kernel) ⟨by omega, by omega⟩ hl.1 rfl (tw_r8 [] (Nat.le_of_ble_eq_true rfl)) dX8_next_2_33) (fun E q σ H locs hX hR hS hi => tw_out C hR hS (fun x hx => (hnx x hx).elim) hi hX) (fun x6 σ H locs hw hR hS => ?_)
    refine lv_iconst (v := 1) C.hx C.hb dX8_next_2_38 (by decide) ?_
    refine lv_isub C.hx C.hb dX8_next_2_39 ?_
    refine tk_istore_n (L' := [(2, .inl (x6 - 1)), (1, .inr x4), (0, .inr l0)]) C hl dX8_next_2_40 (by decide) rfl (fun ls hl => ?_)
    obtain ⟨z, hw⟩ := hw
    exact wk_X8_next_2_b41 C hr hmn hnx hfr hRl z _ _ _ σ _ _ _ hw hR hS (tk_sub hl [2, 1, 0] rfl)
  · replace hw := hw.2 c7
    exact hw.elim
-- TreeDiffer$Tree$1.next()Ljava/lang/Object;
def w_X8_next (l0 : Option Nat) (Q : Option Nat → Tst → Prop) (X : String → Nat → Tst → Prop) (σ : Tst) : Prop := w_rc σ l0 cX8 <| w_X8_next_2 l0 (fun x1 σ => Q x1 σ) X σ
set_option maxHeartbeats 4000000 in
theorem wk_X8_next (l : Launch) (hl0 : l.stackTraces = false) (G : Tgl) (fr : Nat)  (hfr : 6 ≤ fr) (l0 : Option Nat) (Q : Option Nat → Tst → Prop) (X : String → Nat → Tst → Prop) (σ : Tst) (hw : w_X8_next l0 Q X σ) : tw_M l yX8_next (ws_ yX8_next cX8_next 1 (some (.object "java/lang/Object"))) fr (40 * fr) G σ [.inr l0] (tw_Qq G Q) X := by
  unfold w_X8_next at hw
  refine tw_of (ret := (some (.object "java/lang/Object"))) hl0 (by decide) (Nat.le_of_ble_eq_true rfl) (fun p e R s m args below meth c hRf hRl C hr hmn hnx hR hS ls hl => ?_)
  have hfr : 6 ≤ R.frames := by rw [hRf]; exact hfr
  have hRl : R.locals = 40 * R.frames := by rw [hRl, hRf]
  have hl : tw_l ls 1 [(0, .inr l0)] := hl
  refine tk_aload_n C hl 0 dX8_next_0 rfl ?_
  obtain ⟨hv, hw⟩ := hw
  refine tw_cbq C hS (tk_runV (As := []) C hR hS (wk_X8_next_2 l C.hst G (R.frames - 1) (by omega) _ _ _ σ hw) hv rfl q347 q348 q349 q98 q350 pd_X8_next_2 ⟨by omega, by omega⟩ hl.1 rfl (tw_r8 [] (Nat.le_of_ble_eq_true rfl)) dX8_next_1) (fun E q σ H locs hX hR hS hi => tw_out C hR hS (fun x hx => (hnx x hx).elim) hi hX) (fun x1 σ H locs hw hR hS => ?_)
  exact tw_aret C hR hS hr (Or.inl ⟨_, rfl⟩) dX8_next_4 hw
-- TreeDiffer$Tree.number(LTreeDiffer$Node;)I
def w_X2_number_b7 (Q : Int32 → Tst → Prop) (X : String → Nat → Tst → Prop) : Nat → Option Nat → Int32 → Option Nat → Tst → Prop
  | 0, _, _, _, _ => False
  | n + 1, l1, l2, l3, σ => w_rc σ l3 cX8 <| w_X8_hasNext l3 (fun x1 σ => w_if (x1 = 0) (Q (-1) σ) (w_rc σ l3 cX8 <| w_X8_next l3 (fun x2 σ => w_cc σ x2 cX3 <| w_if (x2 = l1) (Q l2 σ) ((w_X2_number_b7 Q X n) l1 (l2 + 1) l3 σ)) X σ)) X σ
def w_X2_number (l0 : Option Nat) (l1 : Option Nat) (Q : Int32 → Tst → Prop) (X : String → Nat → Tst → Prop) (σ : Tst) : Prop := w_rc σ l0 cX2 <| w_X2_iterator l0 (fun x1 σ => ∃ z, w_X2_number_b7 Q X z l1 0 x1 σ) X σ
set_option maxHeartbeats 4000000 in
theorem wk_X2_number_b7  (C : tw_C p l R s m args meth c G cX2_number 5 yX2_number.cls) (hr : meth.sig.returnType = (some .int)) (hmn : meth.name = yX2_number.name) (hnx : (∀ x ∈ c.exceptionTable.toList, False)) (hfr : 7 ≤ R.frames) (hRl : R.locals = 40 * R.frames) {Q : Int32 → Tst → Prop} {X : String → Nat → Tst → Prop}  : ∀ (n : Nat) (l1 : Option Nat) (l2 : Int32) (l3 : Option Nat) (σ : Tst) (H : Heap) (locs : List Loc) (ls : Array Slot), w_X2_number_b7 Q X n l1 l2 l3 σ → tw_R G σ H → va_S (tw_A G) s.heap H locs → tw_l ls 5 [(1, .inr l1), (2, .inl l2), (3, .inr l3)] → tw_W p l e R s m args below meth c σ H locs (tw_E below G (tw_Qi G Q) X args s R) (F0 m 7 ls []) := by
  intro n
  induction n with
  | zero => intro l1 l2 l3 σ H locs ls hw; exact False.elim hw
  | succ n hk7 =>
    intro l1 l2 l3 σ H locs ls hw hR hS hl
    rw [w_X2_number_b7] at hw
    refine tk_aload_n C hl 2 dX2_number_7 rfl ?_
    obtain ⟨hv, hw⟩ := hw
    refine tw_cbi5 C hS (tk_runF (As := []) (x := ⟨"java/util/Iterator", "hasNext", "()Z"⟩) C hR hS (wk_X8_hasNext l C.hst G (R.frames - 1) (by omega) _ _ _ σ hw) hv rfl q1622 q323 q325 q98 q327 (by decide +kernel) (show tw_pd ⟨"java/util/Iterator", "hasNext", "()Z"⟩ 0 by decide +kernel) ⟨by omega, by omega⟩ hl.1 rfl (tw_r8 [] (Nat.le_of_ble_eq_true rfl)) dX2_number_8) (fun E q σ H locs hX hR hS hi => tw_out C hR hS (fun x hx => (hnx x hx).elim) hi hX) (fun x1 σ H locs hw hR hS => ?_)
    refine lv_if_eq (tgt := 41) C.hx C.hb dX2_number_13 (by decide) (fun c13 => ?_) (fun c13 => ?_)
    · replace hw := hw.1 c13
      refine lv_iconst (v := (-1)) C.hx C.hb dX2_number_41 (by decide) ?_
      exact tw_iret C hR hS hr rfl dX2_number_42 hw
    · replace hw := hw.2 c13
      refine tk_aload_n C hl 2 dX2_number_16 rfl ?_
      obtain ⟨hv, hw⟩ := hw
      refine tw_cbq5 C hS (tk_runF (As := []) (x := ⟨"java/util/Iterator", "next", "()Ljava/lang/Object;"⟩) C hR hS (wk_X8_next l C.hst G (R.frames - 1) (by omega) _ _ _ σ hw) hv rfl q1624 q342 q344 q98 q346 (by decide +kernel) (show tw_pd ⟨"java/util/Iterator", "next", "()Ljava/lang/Object;"⟩ 0 by decide +kernel) ⟨by omega, by omega⟩ hl.1 rfl (tw_r8 [] (Nat.le_of_ble_eq_true rfl)) dX2_number_17) (fun E q σ H locs hX hR hS hi => tw_out C hR hS (fun x hx => (hnx x hx).elim) hi hX) (fun x2 σ H locs hw hR hS => ?_)
      refine tk_cc C hR hw rfl q1625 (Or.inl rfl) dX2_number_22 (fun hw => ?_)
      refine tk_astore (L' := [(4, .inr x2), (1, .inr l1), (2, .inl l2), (3, .inr l3)]) C hl dX2_number_25 (by decide) rfl (fun ls hl => ?_)
      refine tk_aload C hl 0 dX2_number_27 rfl ?_
      refine tk_aload_n C hl 1 dX2_number_29 rfl ?_
      refine lv_acmp_ne (tgt := 35) C.hx C.hb dX2_number_30 (by decide) (fun c30 => ?_) (fun c30 => ?_)
      · replace hw := hw.2 c30
        refine tk_iinc (L' := [(2, .inl (l2 + 1)), (4, .inr x2), (1, .inr l1), (3, .inr l3)]) (y := (l2 + 1)) C hl 2 dX2_number_35 rfl rfl (by decide) rfl (fun ls hl => ?_)
        refine lv_goto (tgt := 7) C.hx C.hb dX2_number_38 (by decide) ?_
        exact hk7 _ _ _ σ _ _ _ hw hR hS (tk_sub hl [2, 0, 3] rfl)
      · replace hw := hw.1 c30
        refine tk_iload_n C hl 2 dX2_number_33 rfl ?_
        exact tw_iret C hR hS hr rfl dX2_number_34 hw
set_option maxHeartbeats 4000000 in
theorem wk_X2_number (l : Launch) (hl0 : l.stackTraces = false) (G : Tgl) (fr : Nat)  (hfr : 7 ≤ fr) (l0 : Option Nat) (l1 : Option Nat) (Q : Int32 → Tst → Prop) (X : String → Nat → Tst → Prop) (σ : Tst) (hw : w_X2_number l0 l1 Q X σ) : tw_M l yX2_number (ws_ yX2_number cX2_number 5 (some .int)) fr (40 * fr) G σ [.inr l0, .inr l1] (tw_Qi G Q) X := by
  unfold w_X2_number at hw
  refine tw_of (ret := (some .int)) hl0 (by decide) (Nat.le_of_ble_eq_true rfl) (fun p e R s m args below meth c hRf hRl C hr hmn hnx hR hS ls hl => ?_)
  have hfr : 7 ≤ R.frames := by rw [hRf]; exact hfr
  have hRl : R.locals = 40 * R.frames := by rw [hRl, hRf]
  have hl : tw_l ls 5 [(0, .inr l0), (1, .inr l1)] := hl
  refine lv_iconst (v := 0) C.hx C.hb dX2_number_0 (by decide) ?_
  refine tk_istore_n (L' := [(2, .inl 0), (0, .inr l0), (1, .inr l1)]) C hl dX2_number_1 (by decide) rfl (fun ls hl => ?_)
  refine tk_aload_n C hl 1 dX2_number_2 rfl ?_
  obtain ⟨hv, hw⟩ := hw
  refine tw_cbq C hS (tk_runV (As := []) C hR hS (wk_X2_iterator l C.hst G (R.frames - 1) (by omega) _ _ _ σ hw) hv rfl q1620 q951 q952 q69 q953 pd_X2_iterator ⟨by omega, by omega⟩ hl.1 rfl (tw_r8 [] (Nat.le_of_ble_eq_true rfl)) dX2_number_3) (fun E q σ H locs hX hR hS hi => tw_out C hR hS (fun x hx => (hnx x hx).elim) hi hX) (fun x1 σ H locs hw hR hS => ?_)
  refine tk_astore_n (L' := [(3, .inr x1), (2, .inl 0), (0, .inr l0), (1, .inr l1)]) C hl dX2_number_6 (by decide) rfl (fun ls hl => ?_)
  obtain ⟨z, hw⟩ := hw
  exact wk_X2_number_b7 C hr hmn hnx hfr hRl z _ _ _ σ _ _ _ hw hR hS (tk_sub hl [3, 1, 0] rfl)
-- TreeDiffer$Script.nodeNumber(LTreeDiffer$Operation;)I
def w_X10_nodeNumber_b34 (Q : Int32 → Tst → Prop) (X : String → Nat → Tst → Prop) (s0 : Int32) (σ : Tst) : Prop := Q s0 σ
def w_X10_nodeNumber (l0 : Option Nat) (l1 : Option Nat) (Q : Int32 → Tst → Prop) (X : String → Nat → Tst → Prop) (σ : Tst) : Prop := w_gi σ l1 cX12 0 fun x1 => w_if (x1 = 105) (w_gr σ l0 cX10 1 fun x5 => w_gr σ l1 cX12 2 fun x6 => w_rc σ x5 cX2 <| w_X2_number x5 x6 (fun x7 σ => w_X10_nodeNumber_b34 Q X x7 σ) X σ) (w_gr σ l0 cX10 0 fun x2 => w_gr σ l1 cX12 1 fun x3 => w_rc σ x2 cX2 <| w_X2_number x2 x3 (fun x4 σ => w_X10_nodeNumber_b34 Q X x4 σ) X σ)
set_option maxHeartbeats 4000000 in
theorem wk_X10_nodeNumber_b34  (C : tw_C p l R s m args meth c G cX10_nodeNumber 2 yX10_nodeNumber.cls) (hr : meth.sig.returnType = (some .int)) (hmn : meth.name = yX10_nodeNumber.name) (hnx : (∀ x ∈ c.exceptionTable.toList, False)) (hfr : 8 ≤ R.frames) (hRl : R.locals = 40 * R.frames) {Q : Int32 → Tst → Prop} {X : String → Nat → Tst → Prop}  (s0 : Int32) (σ : Tst) (H : Heap) (locs : List Loc) (ls : Array Slot) (hw : w_X10_nodeNumber_b34 Q X s0 σ) (hR : tw_R G σ H) (hS : va_S (tw_A G) s.heap H locs) (hl : tw_l ls 2 []) : tw_W p l e R s m args below meth c σ H locs (tw_E below G (tw_Qi G Q) X args s R) (F0 m 34 ls [.int s0]) := by
  unfold w_X10_nodeNumber_b34 at hw
  exact tw_iret C hR hS hr rfl dX10_nodeNumber_34 hw
set_option maxHeartbeats 4000000 in
theorem wk_X10_nodeNumber (l : Launch) (hl0 : l.stackTraces = false) (G : Tgl) (fr : Nat)  (hfr : 8 ≤ fr) (l0 : Option Nat) (l1 : Option Nat) (Q : Int32 → Tst → Prop) (X : String → Nat → Tst → Prop) (σ : Tst) (hw : w_X10_nodeNumber l0 l1 Q X σ) : tw_M l yX10_nodeNumber (ws_ yX10_nodeNumber cX10_nodeNumber 2 (some .int)) fr (40 * fr) G σ [.inr l0, .inr l1] (tw_Qi G Q) X := by
  unfold w_X10_nodeNumber at hw
  refine tw_of (ret := (some .int)) hl0 (by decide) (Nat.le_of_ble_eq_true rfl) (fun p e R s m args below meth c hRf hRl C hr hmn hnx hR hS ls hl => ?_)
  have hfr : 8 ≤ R.frames := by rw [hRf]; exact hfr
  have hRl : R.locals = 40 * R.frames := by rw [hRl, hRf]
  have hl : tw_l ls 2 [(0, .inr l0), (1, .inr l1)] := hl
  refine tk_aload_n C hl 1 dX10_nodeNumber_0 rfl ?_
  refine tk_giN C hR hw rfl in_X12 (by decide) q1025 (fun _ h => h) dX10_nodeNumber_1 (fun x1 hw => ?_)
  refine lv_bipush (v := 105) C.hx C.hb dX10_nodeNumber_4 (by decide) ?_
  refine lv_icmp_ne (tgt := 23) C.hx C.hb dX10_nodeNumber_6 (by decide) (fun c6 => ?_) (fun c6 => ?_)
  · replace hw := hw.2 c6
    refine tk_aload_n C hl 0 dX10_nodeNumber_23 rfl ?_
    refine tk_gr C hR hw rfl in_X10 (by decide) q1891 (fun _ h => h) dX10_nodeNumber_24 (fun x2 hw => ?_)
    refine tk_aload_n C hl 1 dX10_nodeNumber_27 rfl ?_
    refine tk_grN C hR hw rfl in_X12 (by decide) q1029 (fun _ h => h) dX10_nodeNumber_28 (fun x3 hw => ?_)
    obtain ⟨hv, hw⟩ := hw
    refine tw_cbi C hS (tk_runV (As := [.inr x3]) C hR hS (wk_X2_number l C.hst G (R.frames - 1) (by omega) _ _ _ _ σ hw) hv rfl q1616 q1617 q1618 q69 q1619 pd_X2_number ⟨by omega, by omega⟩ hl.1 rfl (tw_r8 [] (Nat.le_of_ble_eq_true rfl)) dX10_nodeNumber_31) (fun E q σ H locs hX hR hS hi => tw_out C hR hS (fun x hx => (hnx x hx).elim) hi hX) (fun x4 σ H locs hw hR hS => ?_)
    exact wk_X10_nodeNumber_b34 C hr hmn hnx hfr hRl _ σ _ _ _ hw hR hS (tk_sub hl [] rfl)
  · replace hw := hw.1 c6
    refine tk_aload_n C hl 0 dX10_nodeNumber_9 rfl ?_
    refine tk_gr C hR hw rfl in_X10 (by decide) q1893 (fun _ h => h) dX10_nodeNumber_10 (fun x5 hw => ?_)
    refine tk_aload_n C hl 1 dX10_nodeNumber_13 rfl ?_
    refine tk_grN C hR hw rfl in_X12 (by decide) q1032 (fun _ h => h) dX10_nodeNumber_14 (fun x6 hw => ?_)
    obtain ⟨hv, hw⟩ := hw
    refine tw_cbi C hS (tk_runV (As := [.inr x6]) C hR hS (wk_X2_number l C.hst G (R.frames - 1) (by omega) _ _ _ _ σ hw) hv rfl q1616 q1617 q1618 q69 q1619 pd_X2_number ⟨by omega, by omega⟩ hl.1 rfl (tw_r8 [] (Nat.le_of_ble_eq_true rfl)) dX10_nodeNumber_17) (fun E q σ H locs hX hR hS hi => tw_out C hR hS (fun x hx => (hnx x hx).elim) hi hX) (fun x7 σ H locs hw hR hS => ?_)
    refine lv_goto (tgt := 34) C.hx C.hb dX10_nodeNumber_20 (by decide) ?_
    exact wk_X10_nodeNumber_b34 C hr hmn hnx hfr hRl _ σ _ _ _ hw hR hS (tk_sub hl [] rfl)
-- TreeDiffer.writeScript()I
def w_X1_writeScript_b23 (Q : Int32 → Tst → Prop) (X : String → Nat → Tst → Prop) : Nat → Option Nat → Option Nat → Option Nat → Tst → Prop
  | 0, _, _, _, _ => False
  | n + 1, l0, l1, l2, σ => w_rc σ l2 cJ18 <| w_J18_hasNext l2 (fun x1 σ => w_if (x1 = 0) (w_gr σ l0 cX1 2 fun x2 => w_rc σ x2 cJ1 <| w_J1_length x2 (fun x3 σ => Q x3 σ) X σ) (w_rc σ l2 cJ18 <| w_J18_next l2 (fun x4 σ => w_cc σ x4 cX12 <| w_gr σ l0 cX1 2 fun x5 => w_gi σ x4 cX12 0 fun x6 => w_rc σ x5 cJ1 <| w_J1_append_3 x5 x6 (fun x7 σ => w_rc σ l1 cX10 <| w_X10_nodeNumber l1 x4 (fun x8 σ => w_rc σ x7 cJ1 <| w_J1_append_2 x7 x8 (fun x9 σ => (w_X1_writeScript_b23 Q X n) l0 l1 l2 σ) X σ) X σ) X σ) X σ)) X σ
def w_X1_writeScript (l0 : Option Nat) (Q : Int32 → Tst → Prop) (X : String → Nat → Tst → Prop) (σ : Tst) : Prop := w_rc σ l0 cX1 <| w_X1_latest l0 (fun x1 σ => w_gr σ l0 cX1 2 fun x2 => w_rc σ x2 cJ1 <| w_J1_setLength x2 0 (fun σ => w_gr σ x1 cX10 2 fun x4 => w_rc σ x4 cJ6 <| w_J6_iterator x4 (fun x5 σ => ∃ z, w_X1_writeScript_b23 Q X z l0 x1 x5 σ) X σ) X σ) X σ
set_option maxHeartbeats 4000000 in
theorem wk_X1_writeScript_b23  (C : tw_C p l R s m args meth c G cX1_writeScript 4 yX1_writeScript.cls) (hr : meth.sig.returnType = (some .int)) (hmn : meth.name = yX1_writeScript.name) (hnx : (∀ x ∈ c.exceptionTable.toList, False)) (hfr : 9 ≤ R.frames) (hRl : R.locals = 40 * R.frames) {Q : Int32 → Tst → Prop} {X : String → Nat → Tst → Prop}  : ∀ (n : Nat) (l0 : Option Nat) (l1 : Option Nat) (l2 : Option Nat) (σ : Tst) (H : Heap) (locs : List Loc) (ls : Array Slot), w_X1_writeScript_b23 Q X n l0 l1 l2 σ → tw_R G σ H → va_S (tw_A G) s.heap H locs → tw_l ls 4 [(0, .inr l0), (1, .inr l1), (2, .inr l2)] → tw_W p l e R s m args below meth c σ H locs (tw_E below G (tw_Qi G Q) X args s R) (F0 m 23 ls []) := by
  intro n
  induction n with
  | zero => intro l0 l1 l2 σ H locs ls hw; exact False.elim hw
  | succ n hk23 =>
    intro l0 l1 l2 σ H locs ls hw hR hS hl
    rw [w_X1_writeScript_b23] at hw
    refine tk_aload_n C hl 2 dX1_writeScript_23 rfl ?_
    obtain ⟨hv, hw⟩ := hw
    refine tw_cbi5 C hS (tk_runF (As := []) (x := ⟨"java/util/Iterator", "hasNext", "()Z"⟩) C hR hS (wk_J18_hasNext l C.hst G (R.frames - 1) (by omega) _ _ _ σ hw) hv rfl q1608 q333 q335 q90 q337 (by decide +kernel) (show tw_pd ⟨"java/util/Iterator", "hasNext", "()Z"⟩ 0 by decide +kernel) ⟨by omega, by omega⟩ hl.1 rfl (tw_r8 [] (Nat.le_of_ble_eq_true rfl)) dX1_writeScript_24) (fun E q σ H locs hX hR hS hi => tw_out C hR hS (fun x hx => (hnx x hx).elim) hi hX) (fun x1 σ H locs hw hR hS => ?_)
    refine lv_if_eq (tgt := 65) C.hx C.hb dX1_writeScript_29 (by decide) (fun c29 => ?_) (fun c29 => ?_)
    · replace hw := hw.1 c29
      refine tk_aload_n C hl 0 dX1_writeScript_65 rfl ?_
      refine tk_gr C hR hw rfl in_X1 (by decide) q249 (fun _ h => h) dX1_writeScript_66 (fun x2 hw => ?_)
      obtain ⟨hv, hw⟩ := hw
      refine tw_cbi C hS (tk_runV (As := []) C hR hS (wk_J1_length l C.hst G (R.frames - 1) (by omega) _ _ _ σ hw) hv rfl q1362 q863 q2546 q66 q864 pd_J1_length ⟨by omega, by omega⟩ hl.1 rfl (tw_r8 [] (Nat.le_of_ble_eq_true rfl)) dX1_writeScript_69) (fun E q σ H locs hX hR hS hi => tw_out C hR hS (fun x hx => (hnx x hx).elim) hi hX) (fun x3 σ H locs hw hR hS => ?_)
      exact tw_iret C hR hS hr rfl dX1_writeScript_72 hw
    · replace hw := hw.2 c29
      refine tk_aload_n C hl 2 dX1_writeScript_32 rfl ?_
      obtain ⟨hv, hw⟩ := hw
      refine tw_cbq5 C hS (tk_runF (As := []) (x := ⟨"java/util/Iterator", "next", "()Ljava/lang/Object;"⟩) C hR hS (wk_J18_next l C.hst G (R.frames - 1) (by omega) _ _ _ σ hw) hv rfl q1610 q566 q568 q90 q570 (by decide +kernel) (show tw_pd ⟨"java/util/Iterator", "next", "()Ljava/lang/Object;"⟩ 0 by decide +kernel) ⟨by omega, by omega⟩ hl.1 rfl (tw_r8 [] (Nat.le_of_ble_eq_true rfl)) dX1_writeScript_33) (fun E q σ H locs hX hR hS hi => tw_out C hR hS (fun x hx => (hnx x hx).elim) hi hX) (fun x4 σ H locs hw hR hS => ?_)
      refine tk_cc C hR hw rfl q1611 (Or.inl rfl) dX1_writeScript_38 (fun hw => ?_)
      refine tk_astore_n (L' := [(3, .inr x4), (0, .inr l0), (1, .inr l1), (2, .inr l2)]) C hl dX1_writeScript_41 (by decide) rfl (fun ls hl => ?_)
      refine tk_aload_n C hl 1 dX1_writeScript_42 rfl ?_
      refine tk_gr C hR hw rfl in_X1 (by decide) q249 (fun _ h => h) dX1_writeScript_43 (fun x5 hw => ?_)
      refine tk_aload_n C hl 0 dX1_writeScript_46 rfl ?_
      refine tk_giN C hR hw rfl in_X12 (by decide) q1027 (fun _ h => h) dX1_writeScript_47 (fun x6 hw => ?_)
      obtain ⟨hv, hw⟩ := hw
      refine tw_cbq C hS (tk_runV (As := [.inl x6]) C hR hS (wk_J1_append_3 l C.hst G (R.frames - 1) (by omega) _ _ _ _ σ hw) hv rfl q1371 q1372 q1373 q66 q1374 pd_J1_append_3 ⟨by omega, by omega⟩ hl.1 rfl (tw_r8 [] (Nat.le_of_ble_eq_true rfl)) dX1_writeScript_50) (fun E q σ H locs hX hR hS hi => tw_out C hR hS (fun x hx => (hnx x hx).elim) hi hX) (fun x7 σ H locs hw hR hS => ?_)
      refine tk_aload_n C hl 2 dX1_writeScript_53 rfl ?_
      refine tk_aload_n C hl 0 dX1_writeScript_54 rfl ?_
      obtain ⟨hv, hw⟩ := hw
      refine tw_cbi C hS (tk_runV (As := [.inr x4]) C hR hS (wk_X10_nodeNumber l C.hst G (R.frames - 1) (by omega) _ _ _ _ σ hw) hv rfl q1612 q1613 q1614 q101 q1615 pd_X10_nodeNumber ⟨by omega, by omega⟩ hl.1 rfl (tw_r8 [.inr x7] (Nat.le_of_ble_eq_true rfl)) dX1_writeScript_55) (fun E q σ H locs hX hR hS hi => tw_out C hR hS (fun x hx => (hnx x hx).elim) hi hX) (fun x8 σ H locs hw hR hS => ?_)
      obtain ⟨hv, hw⟩ := hw
      refine tw_cbq C hS (tk_runV (As := [.inl x8]) C hR hS (wk_J1_append_2 l C.hst G (R.frames - 1) (by omega) _ _ _ _ σ hw) hv rfl q1626 q816 q817 q66 q818 pd_J1_append_2 ⟨by omega, by omega⟩ hl.1 rfl (tw_r8 [] (Nat.le_of_ble_eq_true rfl)) dX1_writeScript_58) (fun E q σ H locs hX hR hS hi => tw_out C hR hS (fun x hx => (hnx x hx).elim) hi hX) (fun x9 σ H locs hw hR hS => ?_)
      refine tw_pop (x := .inr x9) C.hx C.hb dX1_writeScript_61 ?_
      refine lv_goto (tgt := 23) C.hx C.hb dX1_writeScript_62 (by decide) ?_
      exact hk23 _ _ _ σ _ _ _ hw hR hS (tk_sub hl [1, 2, 3] rfl)
set_option maxHeartbeats 4000000 in
theorem wk_X1_writeScript (l : Launch) (hl0 : l.stackTraces = false) (G : Tgl) (fr : Nat)  (hfr : 9 ≤ fr) (l0 : Option Nat) (Q : Int32 → Tst → Prop) (X : String → Nat → Tst → Prop) (σ : Tst) (hw : w_X1_writeScript l0 Q X σ) : tw_M l yX1_writeScript (ws_ yX1_writeScript cX1_writeScript 4 (some .int)) fr (40 * fr) G σ [.inr l0] (tw_Qi G Q) X := by
  unfold w_X1_writeScript at hw
  refine tw_of (ret := (some .int)) hl0 (by decide) (Nat.le_of_ble_eq_true rfl) (fun p e R s m args below meth c hRf hRl C hr hmn hnx hR hS ls hl => ?_)
  have hfr : 9 ≤ R.frames := by rw [hRf]; exact hfr
  have hRl : R.locals = 40 * R.frames := by rw [hRl, hRf]
  have hl : tw_l ls 4 [(0, .inr l0)] := hl
  refine tk_aload_n C hl 0 dX1_writeScript_0 rfl ?_
  obtain ⟨hv, hw⟩ := hw
  refine tw_cbq C hS (tk_runV (As := []) C hR hS (wk_X1_latest l C.hst G (R.frames - 1) (by omega) _ _ _ σ hw) hv rfl q1601 q1603 qs17 q64 q1604 pd_X1_latest ⟨by omega, by omega⟩ hl.1 rfl (tw_r8 [] (Nat.le_of_ble_eq_true rfl)) dX1_writeScript_1) (fun E q σ H locs hX hR hS hi => tw_out C hR hS (fun x hx => (hnx x hx).elim) hi hX) (fun x1 σ H locs hw hR hS => ?_)
  refine tk_astore_n (L' := [(1, .inr x1), (0, .inr l0)]) C hl dX1_writeScript_4 (by decide) rfl (fun ls hl => ?_)
  refine tk_aload_n C hl 1 dX1_writeScript_5 rfl ?_
  refine tk_gr C hR hw rfl in_X1 (by decide) q249 (fun _ h => h) dX1_writeScript_6 (fun x2 hw => ?_)
  refine lv_iconst (v := 0) C.hx C.hb dX1_writeScript_9 (by decide) ?_
  obtain ⟨hv, hw⟩ := hw
  refine tw_cbv C hS (tk_runV (As := [.inl 0]) C hR hS (wk_J1_setLength l C.hst G (R.frames - 1) (by omega) _ _ _ _ σ hw) hv rfl q1504 q1505 q1506 q66 q1507 pd_J1_setLength ⟨by omega, by omega⟩ hl.1 rfl (tw_r8 [] (Nat.le_of_ble_eq_true rfl)) dX1_writeScript_10) (fun E q σ H locs hX hR hS hi => tw_out C hR hS (fun x hx => (hnx x hx).elim) hi hX) (fun σ H locs hw hR hS => ?_)
  refine tk_aload_n C hl 0 dX1_writeScript_13 rfl ?_
  refine tk_grN C hR hw rfl in_X10 (by decide) q1899 (fun _ h => h) dX1_writeScript_14 (fun x4 hw => ?_)
  obtain ⟨hv, hw⟩ := hw
  refine tw_cbq5 C hS (tk_runF (As := []) (x := ⟨"java/util/List", "iterator", "()Ljava/util/Iterator;"⟩) C hR hS (wk_J6_iterator l C.hst G (R.frames - 1) (by omega) _ _ _ σ hw) hv rfl q1606 q294 q296 q73 q298 (by decide +kernel) (show tw_pd ⟨"java/util/List", "iterator", "()Ljava/util/Iterator;"⟩ 0 by decide +kernel) ⟨by omega, by omega⟩ hl.1 rfl (tw_r8 [] (Nat.le_of_ble_eq_true rfl)) dX1_writeScript_17) (fun E q σ H locs hX hR hS hi => tw_out C hR hS (fun x hx => (hnx x hx).elim) hi hX) (fun x5 σ H locs hw hR hS => ?_)
  refine tk_astore_n (L' := [(2, .inr x5), (1, .inr x1), (0, .inr l0)]) C hl dX1_writeScript_22 (by decide) rfl (fun ls hl => ?_)
  obtain ⟨z, hw⟩ := hw
  exact wk_X1_writeScript_b23 C hr hmn hnx hfr hRl z _ _ _ σ _ _ _ hw hR hS (tk_sub hl [2, 1, 0] rfl)
-- TreeDifferLaw.writeScript(LTreeDiffer;[J)I
def w_X0_writeScript_b11 (Q : Int32 → Tst → Prop) (X : String → Nat → Tst → Prop) (s0 : Option Nat) (σ : Tst) : Prop := Q 1 σ
def w_X0_writeScript (l0 : Option Nat) (l1 : Option Nat) (Q : Int32 → Tst → Prop) (X : String → Nat → Tst → Prop) (σ : Tst) : Prop := w_rc σ l0 cX1 <| w_X1_writeScript l0 (fun x1 σ => w_sl σ l1 0 (x1.toInt64) fun σ => Q 0 σ) (fun E q σ => w_if (E = "java/lang/IllegalStateException") (w_X0_writeScript_b11 Q X (some q) σ) (False)) σ
set_option maxHeartbeats 4000000 in
theorem wk_X0_writeScript_b11  (C : tw_C p l R s m args meth c G cX0_writeScript 3 yX0_writeScript.cls) (hr : meth.sig.returnType = (some .int)) (hmn : meth.name = yX0_writeScript.name) (hnx : (c.exceptionTable.toList = tableOf [(0, 8, 11, 13)])) (hfr : 10 ≤ R.frames) (hRl : R.locals = 40 * R.frames) {Q : Int32 → Tst → Prop} {X : String → Nat → Tst → Prop}  (s0 : Option Nat) (σ : Tst) (H : Heap) (locs : List Loc) (ls : Array Slot) (hw : w_X0_writeScript_b11 Q X s0 σ) (hR : tw_R G σ H) (hS : va_S (tw_A G) s.heap H locs) (hl : tw_l ls 3 []) : tw_W p l e R s m args below meth c σ H locs (tw_E below G (tw_Qi G Q) X args s R) (F0 m 11 ls [va_rf s0]) := by
  unfold w_X0_writeScript_b11 at hw
  refine tk_astore_n (L' := [(2, .inr s0)]) C hl dX0_writeScript_11 (by decide) rfl (fun ls hl => ?_)
  refine lv_iconst (v := 1) C.hx C.hb dX0_writeScript_12 (by decide) ?_
  exact tw_iret C hR hS hr rfl dX0_writeScript_13 hw
set_option maxHeartbeats 4000000 in
theorem wk_X0_writeScript (l : Launch) (hl0 : l.stackTraces = false) (G : Tgl) (fr : Nat)  (hfr : 10 ≤ fr) (l0 : Option Nat) (l1 : Option Nat) (Q : Int32 → Tst → Prop) (X : String → Nat → Tst → Prop) (σ : Tst) (hw : w_X0_writeScript l0 l1 Q X σ) : tw_M l yX0_writeScript (wsW_ yX0_writeScript cX0_writeScript 3 (some .int) [(0, 8, 11, 13)]) fr (40 * fr) G σ [.inr l0, .inr l1] (tw_Qi G Q) X := by
  unfold w_X0_writeScript at hw
  refine tw_ofW (ret := (some .int)) (hh := [(0, 8, 11, 13)]) hl0 (by decide) (Nat.le_of_ble_eq_true rfl) (fun p e R s m args below meth c hRf hRl C hr hmn hnx hR hS ls hl => ?_)
  have hfr : 10 ≤ R.frames := by rw [hRf]; exact hfr
  have hRl : R.locals = 40 * R.frames := by rw [hRl, hRf]
  have hl : tw_l ls 3 [(0, .inr l0), (1, .inr l1)] := hl
  refine tk_aload_n C hl 1 dX0_writeScript_0 rfl ?_
  refine lv_iconst (v := 0) C.hx C.hb dX0_writeScript_1 (by decide) ?_
  refine tk_aload_n C hl 0 dX0_writeScript_2 rfl ?_
  obtain ⟨hv, hw⟩ := hw
  refine tw_cbi C hS (tk_runV (As := []) C hR hS (wk_X1_writeScript l C.hst G (R.frames - 1) (by omega) _ _ _ σ hw) hv rfl q1597 q1598 q1599 q64 q1600 pd_X1_writeScript ⟨by omega, by omega⟩ hl.1 rfl (tw_r8 [.inl 0, .inr l1] (Nat.le_of_ble_eq_true rfl)) dX0_writeScript_3) (fun E q σ H locs hX hR hS hi => ?_) (fun x1 σ H locs hw hR hS => ?_)
  · by_cases cE0 : E = "java/lang/IllegalStateException"
    · replace hX := hX.1 cE0
      subst cE0
      refine tw_catch C hnx [] (0, 8, 11, 13) [] rfl (fun z hz => nomatch hz) rfl (by decide) q1357 q490 hi ?_
      exact wk_X0_writeScript_b11 C hr hmn hnx hfr hRl _ σ _ _ _ hX hR hS (tk_sub hl [] rfl)
    replace hX := hX.2 cE0
    exact hX.elim
  refine lv_i2l (v := x1.toInt64) C.hx C.hb dX0_writeScript_6 rfl ?_
  refine tk_sl C hR hS hw dX0_writeScript_7 (fun σ H locs hw hR hS => ?_)
  refine lv_goto (tgt := 14) C.hx C.hb dX0_writeScript_8 (by decide) ?_
  refine lv_iconst (v := 0) C.hx C.hb dX0_writeScript_14 (by decide) ?_
  exact tw_iret C hR hS hr rfl dX0_writeScript_15 hw
-- TreeDiffer.charAt(I)C
def w_X1_charAt (l0 : Option Nat) (l1 : Int32) (Q : Int32 → Tst → Prop) (X : String → Nat → Tst → Prop) (σ : Tst) : Prop := w_gr σ l0 cX1 2 fun x1 => w_rc σ x1 cJ1 <| w_J1_length x1 (fun x2 σ => w_X1_isBetween l1 0 (x2 - 1) (fun x3 σ => w_X1_requireIndex x3 (fun σ => w_gr σ l0 cX1 2 fun x5 => w_rc σ x5 cJ1 <| w_J1_charAt x5 l1 (fun x6 σ => narrow .char (.int x6) = .int x6 ∧ Q x6 σ) X σ) X σ) X σ) X σ
set_option maxHeartbeats 4000000 in
theorem wk_X1_charAt (l : Launch) (hl0 : l.stackTraces = false) (G : Tgl) (fr : Nat)  (hfr : 7 ≤ fr) (l0 : Option Nat) (l1 : Int32) (Q : Int32 → Tst → Prop) (X : String → Nat → Tst → Prop) (σ : Tst) (hw : w_X1_charAt l0 l1 Q X σ) : tw_M l yX1_charAt (ws_ yX1_charAt cX1_charAt 2 (some .char)) fr (40 * fr) G σ [.inr l0, .inl l1] (tw_Qi G Q) X := by
  unfold w_X1_charAt at hw
  refine tw_of (ret := (some .char)) hl0 (by decide) (Nat.le_of_ble_eq_true rfl) (fun p e R s m args below meth c hRf hRl C hr hmn hnx hR hS ls hl => ?_)
  have hfr : 7 ≤ R.frames := by rw [hRf]; exact hfr
  have hRl : R.locals = 40 * R.frames := by rw [hRl, hRf]
  have hl : tw_l ls 2 [(0, .inr l0), (1, .inl l1)] := hl
  refine tk_iload_n C hl 1 dX1_charAt_0 rfl ?_
  refine lv_iconst (v := 0) C.hx C.hb dX1_charAt_1 (by decide) ?_
  refine tk_aload_n C hl 0 dX1_charAt_2 rfl ?_
  refine tk_gr C hR hw rfl in_X1 (by decide) q249 (fun _ h => h) dX1_charAt_3 (fun x1 hw => ?_)
  obtain ⟨hv, hw⟩ := hw
  refine tw_cbi C hS (tk_runV (As := []) C hR hS (wk_J1_length l C.hst G (R.frames - 1) (by omega) _ _ _ σ hw) hv rfl q1362 q863 q2546 q66 q864 pd_J1_length ⟨by omega, by omega⟩ hl.1 rfl (tw_r8 [.inl 0, .inl l1] (Nat.le_of_ble_eq_true rfl)) dX1_charAt_6) (fun E q σ H locs hX hR hS hi => tw_out C hR hS (fun x hx => (hnx x hx).elim) hi hX) (fun x2 σ H locs hw hR hS => ?_)
  refine lv_iconst (v := 1) C.hx C.hb dX1_charAt_9 (by decide) ?_
  refine lv_isub C.hx C.hb dX1_charAt_10 ?_
  refine tw_cbi C hS (tw_runS (As := [.inl l1, .inl 0, .inl (x2 - 1)]) C hR hS (wk_X1_isBetween l C.hst G (R.frames - 1) (by omega) _ _ _ _ _ σ hw) q1416 q1417 q64 q1418 pd_X1_isBetween ⟨by omega, by omega⟩ hl.1 rfl (tw_r8 [] (Nat.le_of_ble_eq_true rfl)) dX1_charAt_11) (fun E q σ H locs hX hR hS hi => tw_out C hR hS (fun x hx => (hnx x hx).elim) hi hX) (fun x3 σ H locs hw hR hS => ?_)
  refine tw_cbv C hS (tw_runS (As := [.inl x3]) C hR hS (wk_X1_requireIndex l C.hst G (R.frames - 1) (by omega) _ _ _ σ hw) q1419 q1420 q64 q1421 pd_X1_requireIndex ⟨by omega, by omega⟩ hl.1 rfl (tw_r8 [] (Nat.le_of_ble_eq_true rfl)) dX1_charAt_14) (fun E q σ H locs hX hR hS hi => tw_out C hR hS (fun x hx => (hnx x hx).elim) hi hX) (fun σ H locs hw hR hS => ?_)
  refine tk_aload_n C hl 0 dX1_charAt_17 rfl ?_
  refine tk_gr C hR hw rfl in_X1 (by decide) q249 (fun _ h => h) dX1_charAt_18 (fun x5 hw => ?_)
  refine tk_iload_n C hl 1 dX1_charAt_21 rfl ?_
  obtain ⟨hv, hw⟩ := hw
  refine tw_cbi C hS (tk_runV (As := [.inl l1]) C hR hS (wk_J1_charAt l C.hst G (R.frames - 1) (by omega) _ _ _ _ σ hw) hv rfl q1634 q1457 q1458 q66 q1459 pd_J1_charAt ⟨by omega, by omega⟩ hl.1 rfl (tw_r8 [] (Nat.le_of_ble_eq_true rfl)) dX1_charAt_22) (fun E q σ H locs hX hR hS hi => tw_out C hR hS (fun x hx => (hnx x hx).elim) hi hX) (fun x6 σ H locs hw hR hS => ?_)
  obtain ⟨hok, hw⟩ := hw
  exact tw_iret C hR hS hr hok dX1_charAt_25 hw
-- TreeDifferLaw.charAt(LTreeDiffer;I[J)I
def w_X0_charAt_b12 (Q : Int32 → Tst → Prop) (X : String → Nat → Tst → Prop) (s0 : Option Nat) (σ : Tst) : Prop := Q 1 σ
def w_X0_charAt (l0 : Option Nat) (l1 : Int32) (l2 : Option Nat) (Q : Int32 → Tst → Prop) (X : String → Nat → Tst → Prop) (σ : Tst) : Prop := w_rc σ l0 cX1 <| w_X1_charAt l0 l1 (fun x1 σ => w_sl σ l2 0 (x1.toInt64) fun σ => Q 0 σ) (fun E q σ => w_if (E = "java/lang/IndexOutOfBoundsException") (w_X0_charAt_b12 Q X (some q) σ) (False)) σ
set_option maxHeartbeats 4000000 in
theorem wk_X0_charAt_b12  (C : tw_C p l R s m args meth c G cX0_charAt 4 yX0_charAt.cls) (hr : meth.sig.returnType = (some .int)) (hmn : meth.name = yX0_charAt.name) (hnx : (c.exceptionTable.toList = tableOf [(0, 9, 12, 19)])) (hfr : 8 ≤ R.frames) (hRl : R.locals = 40 * R.frames) {Q : Int32 → Tst → Prop} {X : String → Nat → Tst → Prop}  (s0 : Option Nat) (σ : Tst) (H : Heap) (locs : List Loc) (ls : Array Slot) (hw : w_X0_charAt_b12 Q X s0 σ) (hR : tw_R G σ H) (hS : va_S (tw_A G) s.heap H locs) (hl : tw_l ls 4 []) : tw_W p l e R s m args below meth c σ H locs (tw_E below G (tw_Qi G Q) X args s R) (F0 m 12 ls [va_rf s0]) := by
  unfold w_X0_charAt_b12 at hw
  refine tk_astore_n (L' := [(3, .inr s0)]) C hl dX0_charAt_12 (by decide) rfl (fun ls hl => ?_)
  refine lv_iconst (v := 1) C.hx C.hb dX0_charAt_13 (by decide) ?_
  exact tw_iret C hR hS hr rfl dX0_charAt_14 hw
set_option maxHeartbeats 4000000 in
theorem wk_X0_charAt (l : Launch) (hl0 : l.stackTraces = false) (G : Tgl) (fr : Nat)  (hfr : 8 ≤ fr) (l0 : Option Nat) (l1 : Int32) (l2 : Option Nat) (Q : Int32 → Tst → Prop) (X : String → Nat → Tst → Prop) (σ : Tst) (hw : w_X0_charAt l0 l1 l2 Q X σ) : tw_M l yX0_charAt (wsW_ yX0_charAt cX0_charAt 4 (some .int) [(0, 9, 12, 19)]) fr (40 * fr) G σ [.inr l0, .inl l1, .inr l2] (tw_Qi G Q) X := by
  unfold w_X0_charAt at hw
  refine tw_ofW (ret := (some .int)) (hh := [(0, 9, 12, 19)]) hl0 (by decide) (Nat.le_of_ble_eq_true rfl) (fun p e R s m args below meth c hRf hRl C hr hmn hnx hR hS ls hl => ?_)
  have hfr : 8 ≤ R.frames := by rw [hRf]; exact hfr
  have hRl : R.locals = 40 * R.frames := by rw [hRl, hRf]
  have hl : tw_l ls 4 [(0, .inr l0), (1, .inl l1), (2, .inr l2)] := hl
  refine tk_aload_n C hl 2 dX0_charAt_0 rfl ?_
  refine lv_iconst (v := 0) C.hx C.hb dX0_charAt_1 (by decide) ?_
  refine tk_aload_n C hl 0 dX0_charAt_2 rfl ?_
  refine tk_iload_n C hl 1 dX0_charAt_3 rfl ?_
  obtain ⟨hv, hw⟩ := hw
  refine tw_cbi C hS (tk_runV (As := [.inl l1]) C hR hS (wk_X1_charAt l C.hst G (R.frames - 1) (by omega) _ _ _ _ σ hw) hv rfl q1630 q1631 q1632 q64 q1633 pd_X1_charAt ⟨by omega, by omega⟩ hl.1 rfl (tw_r8 [.inl 0, .inr l2] (Nat.le_of_ble_eq_true rfl)) dX0_charAt_4) (fun E q σ H locs hX hR hS hi => ?_) (fun x1 σ H locs hw hR hS => ?_)
  · by_cases cE0 : E = "java/lang/IndexOutOfBoundsException"
    · replace hX := hX.1 cE0
      subst cE0
      refine tw_catch C hnx [] (0, 9, 12, 19) [] rfl (fun z hz => nomatch hz) rfl (by decide) q1394 q687 hi ?_
      exact wk_X0_charAt_b12 C hr hmn hnx hfr hRl _ σ _ _ _ hX hR hS (tk_sub hl [] rfl)
    replace hX := hX.2 cE0
    exact hX.elim
  refine lv_i2l (v := x1.toInt64) C.hx C.hb dX0_charAt_7 rfl ?_
  refine tk_sl C hR hS hw dX0_charAt_8 (fun σ H locs hw hR hS => ?_)
  refine lv_goto (tgt := 15) C.hx C.hb dX0_charAt_9 (by decide) ?_
  refine lv_iconst (v := 0) C.hx C.hb dX0_charAt_15 (by decide) ?_
  exact tw_iret C hR hS hr rfl dX0_charAt_16 hw
-- TreeDiffer$Tree.node(I)LTreeDiffer$Node;
def w_X2_node_b7 (Q : Option Nat → Tst → Prop) (X : String → Nat → Tst → Prop) : Nat → Int32 → Int32 → Option Nat → Tst → Prop
  | 0, _, _, _, _ => False
  | n + 1, l1, l2, l3, σ => w_rc σ l3 cX8 <| w_X8_hasNext l3 (fun x1 σ => w_if (x1 = 0) (w_nw σ cJ16 6 [.inr none, .inr none, .inr none, .inr none, .inr none, .inl 0] fun q2 σ => w_rf q2 <| w_J16_init_2 q2 (fun σ => w_th σ q2 X) X σ) (w_rc σ l3 cX8 <| w_X8_next l3 (fun x4 σ => w_cc σ x4 cX3 <| w_if (l2 = l1) (Q x4 σ) ((w_X2_node_b7 Q X n) l1 (l2 + 1) l3 σ)) X σ)) X σ
def w_X2_node (l0 : Option Nat) (l1 : Int32) (Q : Option Nat → Tst → Prop) (X : String → Nat → Tst → Prop) (σ : Tst) : Prop := w_rc σ l0 cX2 <| w_X2_iterator l0 (fun x1 σ => ∃ z, w_X2_node_b7 Q X z l1 0 x1 σ) X σ
set_option maxHeartbeats 4000000 in
theorem wk_X2_node_b7  (C : tw_C p l R s m args meth c G cX2_node 5 yX2_node.cls) (hr : meth.sig.returnType = (some (.object "TreeDiffer$Node"))) (hmn : meth.name = yX2_node.name) (hnx : (∀ x ∈ c.exceptionTable.toList, False)) (hfr : 7 ≤ R.frames) (hRl : R.locals = 40 * R.frames) {Q : Option Nat → Tst → Prop} {X : String → Nat → Tst → Prop}  : ∀ (n : Nat) (l1 : Int32) (l2 : Int32) (l3 : Option Nat) (σ : Tst) (H : Heap) (locs : List Loc) (ls : Array Slot), w_X2_node_b7 Q X n l1 l2 l3 σ → tw_R G σ H → va_S (tw_A G) s.heap H locs → tw_l ls 5 [(1, .inl l1), (2, .inl l2), (3, .inr l3)] → tw_W p l e R s m args below meth c σ H locs (tw_E below G (tw_Qq G Q) X args s R) (F0 m 7 ls []) := by
  intro n
  induction n with
  | zero => intro l1 l2 l3 σ H locs ls hw; exact False.elim hw
  | succ n hk7 =>
    intro l1 l2 l3 σ H locs ls hw hR hS hl
    rw [w_X2_node_b7] at hw
    refine tk_aload_n C hl 2 dX2_node_7 rfl ?_
    obtain ⟨hv, hw⟩ := hw
    refine tw_cbi5 C hS (tk_runF (As := []) (x := ⟨"java/util/Iterator", "hasNext", "()Z"⟩) C hR hS (wk_X8_hasNext l C.hst G (R.frames - 1) (by omega) _ _ _ σ hw) hv rfl q1622 q323 q325 q98 q327 (by decide +kernel) (show tw_pd ⟨"java/util/Iterator", "hasNext", "()Z"⟩ 0 by decide +kernel) ⟨by omega, by omega⟩ hl.1 rfl (tw_r8 [] (Nat.le_of_ble_eq_true rfl)) dX2_node_8) (fun E q σ H locs hX hR hS hi => tw_out C hR hS (fun x hx => (hnx x hx).elim) hi hX) (fun x1 σ H locs hw hR hS => ?_)
    refine lv_if_eq (tgt := 41) C.hx C.hb dX2_node_13 (by decide) (fun c13 => ?_) (fun c13 => ?_)
    · replace hw := hw.1 c13
      refine tk_nw C hR hS hw rfl in_J16 tyJ16 tyJ16_ok q1646 q686 q86 (fun j hj => by rcases (show j = 0 ∨ j = 1 ∨ j = 2 ∨ j = 3 ∨ j = 4 ∨ j = 5 by omega) with rfl | rfl | rfl | rfl | rfl | rfl <;> rfl) dX2_node_41 (fun q2 σ H hw hR hS => ?_)
      refine tw_dup (x := .inr q2) C.hx C.hb dX2_node_44 ?_
      obtain ⟨hv, hw⟩ := hw
      refine tw_cbv C hS (tk_runI (As := []) hv C hR hS (wk_J16_init_2 l C.hst G (R.frames - 1) (by omega) _ _ _ σ hw) q1647 q1424 q86 q1425 rfl pd_J16_init_2 ⟨by omega, by omega⟩ hl.1 rfl (tw_r8 [.inr q2] (Nat.le_of_ble_eq_true rfl)) dX2_node_45) (fun E q σ H locs hX hR hS hi => tw_out C hR hS (fun x hx => (hnx x hx).elim) hi hX) (fun σ H locs hw hR hS => ?_)
      exact tk_th C hR hS hw (fun x hx => (hnx x hx).elim) dX2_node_48
    · replace hw := hw.2 c13
      refine tk_aload_n C hl 2 dX2_node_16 rfl ?_
      obtain ⟨hv, hw⟩ := hw
      refine tw_cbq5 C hS (tk_runF (As := []) (x := ⟨"java/util/Iterator", "next", "()Ljava/lang/Object;"⟩) C hR hS (wk_X8_next l C.hst G (R.frames - 1) (by omega) _ _ _ σ hw) hv rfl q1624 q342 q344 q98 q346 (by decide +kernel) (show tw_pd ⟨"java/util/Iterator", "next", "()Ljava/lang/Object;"⟩ 0 by decide +kernel) ⟨by omega, by omega⟩ hl.1 rfl (tw_r8 [] (Nat.le_of_ble_eq_true rfl)) dX2_node_17) (fun E q σ H locs hX hR hS hi => tw_out C hR hS (fun x hx => (hnx x hx).elim) hi hX) (fun x4 σ H locs hw hR hS => ?_)
      refine tk_cc C hR hw rfl q1625 (Or.inl rfl) dX2_node_22 (fun hw => ?_)
      refine tk_astore (L' := [(4, .inr x4), (1, .inl l1), (2, .inl l2), (3, .inr l3)]) C hl dX2_node_25 (by decide) rfl (fun ls hl => ?_)
      refine tk_iload_n C hl 2 dX2_node_27 rfl ?_
      refine tk_iload_n C hl 1 dX2_node_28 rfl ?_
      refine lv_icmp_ne (tgt := 35) C.hx C.hb dX2_node_29 (by decide) (fun c29 => ?_) (fun c29 => ?_)
      · replace hw := hw.2 c29
        refine tk_iinc (L' := [(2, .inl (l2 + 1)), (4, .inr x4), (1, .inl l1), (3, .inr l3)]) (y := (l2 + 1)) C hl 2 dX2_node_35 rfl rfl (by decide) rfl (fun ls hl => ?_)
        refine lv_goto (tgt := 7) C.hx C.hb dX2_node_38 (by decide) ?_
        exact hk7 _ _ _ σ _ _ _ hw hR hS (tk_sub hl [2, 0, 3] rfl)
      · replace hw := hw.1 c29
        refine tk_aload C hl 0 dX2_node_32 rfl ?_
        exact tw_aret C hR hS hr (Or.inl ⟨_, rfl⟩) dX2_node_34 hw
set_option maxHeartbeats 4000000 in
theorem wk_X2_node (l : Launch) (hl0 : l.stackTraces = false) (G : Tgl) (fr : Nat)  (hfr : 7 ≤ fr) (l0 : Option Nat) (l1 : Int32) (Q : Option Nat → Tst → Prop) (X : String → Nat → Tst → Prop) (σ : Tst) (hw : w_X2_node l0 l1 Q X σ) : tw_M l yX2_node (ws_ yX2_node cX2_node 5 (some (.object "TreeDiffer$Node"))) fr (40 * fr) G σ [.inr l0, .inl l1] (tw_Qq G Q) X := by
  unfold w_X2_node at hw
  refine tw_of (ret := (some (.object "TreeDiffer$Node"))) hl0 (by decide) (Nat.le_of_ble_eq_true rfl) (fun p e R s m args below meth c hRf hRl C hr hmn hnx hR hS ls hl => ?_)
  have hfr : 7 ≤ R.frames := by rw [hRf]; exact hfr
  have hRl : R.locals = 40 * R.frames := by rw [hRl, hRf]
  have hl : tw_l ls 5 [(0, .inr l0), (1, .inl l1)] := hl
  refine lv_iconst (v := 0) C.hx C.hb dX2_node_0 (by decide) ?_
  refine tk_istore_n (L' := [(2, .inl 0), (0, .inr l0), (1, .inl l1)]) C hl dX2_node_1 (by decide) rfl (fun ls hl => ?_)
  refine tk_aload_n C hl 1 dX2_node_2 rfl ?_
  obtain ⟨hv, hw⟩ := hw
  refine tw_cbq C hS (tk_runV (As := []) C hR hS (wk_X2_iterator l C.hst G (R.frames - 1) (by omega) _ _ _ σ hw) hv rfl q1620 q951 q952 q69 q953 pd_X2_iterator ⟨by omega, by omega⟩ hl.1 rfl (tw_r8 [] (Nat.le_of_ble_eq_true rfl)) dX2_node_3) (fun E q σ H locs hX hR hS hi => tw_out C hR hS (fun x hx => (hnx x hx).elim) hi hX) (fun x1 σ H locs hw hR hS => ?_)
  refine tk_astore_n (L' := [(3, .inr x1), (2, .inl 0), (0, .inr l0), (1, .inl l1)]) C hl dX2_node_6 (by decide) rfl (fun ls hl => ?_)
  obtain ⟨z, hw⟩ := hw
  exact wk_X2_node_b7 C hr hmn hnx hfr hRl z _ _ _ σ _ _ _ hw hR hS (tk_sub hl [3, 1, 0] rfl)
-- TreeDiffer.requireArgument(Z)V
def w_X1_requireArgument (l0 : Int32) (Q : Tst → Prop) (X : String → Nat → Tst → Prop) (σ : Tst) : Prop := w_if (l0 = 0) (w_nw σ cJ23 6 [.inr none, .inr none, .inr none, .inr none, .inr none, .inl 0] fun q1 σ => w_rf q1 <| w_J23_init_3 q1 (fun σ => w_th σ q1 X) X σ) (Q σ)
set_option maxHeartbeats 4000000 in
theorem wk_X1_requireArgument (l : Launch) (hl0 : l.stackTraces = false) (G : Tgl) (fr : Nat)  (hfr : 6 ≤ fr) (l0 : Int32) (Q : Tst → Prop) (X : String → Nat → Tst → Prop) (σ : Tst) (hw : w_X1_requireArgument l0 Q X σ) : tw_M l yX1_requireArgument (ws_ yX1_requireArgument cX1_requireArgument 1 none) fr (40 * fr) G σ [.inl l0] (tw_Qv G Q) X := by
  unfold w_X1_requireArgument at hw
  refine tw_of (ret := none) hl0 (by decide) (Nat.le_of_ble_eq_true rfl) (fun p e R s m args below meth c hRf hRl C hr hmn hnx hR hS ls hl => ?_)
  have hfr : 6 ≤ R.frames := by rw [hRf]; exact hfr
  have hRl : R.locals = 40 * R.frames := by rw [hRl, hRf]
  have hl : tw_l ls 1 [(0, .inl l0)] := hl
  refine tk_iload_n C hl 0 dX1_requireArgument_0 rfl ?_
  refine lv_if_ne (tgt := 12) C.hx C.hb dX1_requireArgument_1 (by decide) (fun c1 => ?_) (fun c1 => ?_)
  · replace hw := hw.2 c1
    exact tw_vret C hR hS hr dX1_requireArgument_12 hw
  · replace hw := hw.1 c1
    refine tk_nw C hR hS hw rfl in_J23 tyJ23 tyJ23_ok q1556 q878 q96 (fun j hj => by rcases (show j = 0 ∨ j = 1 ∨ j = 2 ∨ j = 3 ∨ j = 4 ∨ j = 5 by omega) with rfl | rfl | rfl | rfl | rfl | rfl <;> rfl) dX1_requireArgument_4 (fun q1 σ H hw hR hS => ?_)
    refine tw_dup (x := .inr q1) C.hx C.hb dX1_requireArgument_7 ?_
    obtain ⟨hv, hw⟩ := hw
    refine tw_cbv C hS (tk_runI (As := []) hv C hR hS (wk_J23_init_3 l C.hst G (R.frames - 1) (by omega) _ _ _ σ hw) q1557 q1558 q96 q1559 rfl pd_J23_init_3 ⟨by omega, by omega⟩ hl.1 rfl (tw_r8 [.inr q1] (Nat.le_of_ble_eq_true rfl)) dX1_requireArgument_8) (fun E q σ H locs hX hR hS hi => tw_out C hR hS (fun x hx => (hnx x hx).elim) hi hX) (fun σ H locs hw hR hS => ?_)
    exact tk_th C hR hS hw (fun x hx => (hnx x hx).elim) dX1_requireArgument_11
-- TreeDiffer.addNode(IIIC)I
def w_X1_addNode_b59 (Q : Int32 → Tst → Prop) (X : String → Nat → Tst → Prop) (l3 : Int32) (l4 : Int32) (l5 : Option Nat) (l6 : Option Nat) (s0 : Int32) (σ : Tst) : Prop := w_X1_requireState s0 (fun σ => w_nw σ cX3 7 [.inl 0, .inl 0, .inl 0, .inr none, .inr none, .inr none, .inr none] fun q2 σ => w_rf q2 <| w_X3_init q2 l4 (fun σ => w_rc σ l6 cX3 <| w_X3_add l6 l3 q2 (fun σ => w_rc σ l5 cX2 <| w_X2_number l5 q2 (fun x5 σ => Q x5 σ) X σ) X σ) X σ) X σ
def w_X1_addNode (l0 : Option Nat) (l1 : Int32) (l2 : Int32) (l3 : Int32) (l4 : Int32) (Q : Int32 → Tst → Prop) (X : String → Nat → Tst → Prop) (σ : Tst) : Prop := w_rc σ l0 cX1 <| w_X1_treeOf l0 l1 (fun x1 σ => w_rc σ x1 cX2 <| w_X2_node x1 l2 (fun x2 σ => w_gr σ x2 cX3 4 fun x3 => w_rc σ x3 cJ6 <| w_J6_size x3 (fun x4 σ => w_X1_isBetween l3 0 x4 (fun x5 σ => w_X1_requireIndex x5 (fun σ => w_X1_isLetter l4 (fun x7 σ => w_X1_requireArgument x7 (fun σ => w_gr σ x1 cX2 0 fun x9 => w_rc σ x9 cX3 <| w_X3_size 64 x9 (fun x10 σ => w_if (20 ≤ x10) (w_X1_addNode_b59 Q X l3 l4 x1 x2 0 σ) (w_X1_addNode_b59 Q X l3 l4 x1 x2 1 σ)) X σ) X σ) X σ) X σ) X σ) X σ) X σ) X σ
set_option maxHeartbeats 4000000 in
theorem wk_X1_addNode_b59  (C : tw_C p l R s m args meth c G cX1_addNode 8 yX1_addNode.cls) (hr : meth.sig.returnType = (some .int)) (hmn : meth.name = yX1_addNode.name) (hnx : (∀ x ∈ c.exceptionTable.toList, False)) (hfr : 68 ≤ R.frames) (hRl : R.locals = 40 * R.frames) {Q : Int32 → Tst → Prop} {X : String → Nat → Tst → Prop}  (l3 : Int32) (l4 : Int32) (l5 : Option Nat) (l6 : Option Nat) (s0 : Int32) (σ : Tst) (H : Heap) (locs : List Loc) (ls : Array Slot) (hw : w_X1_addNode_b59 Q X l3 l4 l5 l6 s0 σ) (hR : tw_R G σ H) (hS : va_S (tw_A G) s.heap H locs) (hl : tw_l ls 8 [(3, .inl l3), (4, .inl l4), (5, .inr l5), (6, .inr l6)]) : tw_W p l e R s m args below meth c σ H locs (tw_E below G (tw_Qi G Q) X args s R) (F0 m 59 ls [.int s0]) := by
  unfold w_X1_addNode_b59 at hw
  refine tw_cbv C hS (tw_runS (As := [.inl s0]) C hR hS (wk_X1_requireState l C.hst G (R.frames - 1) (by omega) _ _ _ σ hw) q1363 q1364 q64 q1365 pd_X1_requireState ⟨by omega, by omega⟩ hl.1 rfl (tw_r8 [] (Nat.le_of_ble_eq_true rfl)) dX1_addNode_59) (fun E q σ H locs hX hR hS hi => tw_out C hR hS (fun x hx => (hnx x hx).elim) hi hX) (fun σ H locs hw hR hS => ?_)
  refine tk_nw C hR hS hw rfl in_X3 tyX3 tyX3_ok q157 q158 q70 (fun j hj => by rcases (show j = 0 ∨ j = 1 ∨ j = 2 ∨ j = 3 ∨ j = 4 ∨ j = 5 ∨ j = 6 by omega) with rfl | rfl | rfl | rfl | rfl | rfl | rfl <;> rfl) dX1_addNode_62 (fun q2 σ H hw hR hS => ?_)
  refine tw_dup (x := .inr q2) C.hx C.hb dX1_addNode_65 ?_
  refine tk_iload C hl 1 dX1_addNode_66 rfl ?_
  obtain ⟨hv, hw⟩ := hw
  refine tw_cbv C hS (tk_runI (As := [.inl l4]) hv C hR hS (wk_X3_init l C.hst G (R.frames - 1) (by omega) _ _ _ _ σ hw) q159 q160 q70 q161 rfl pd_X3_init ⟨by omega, by omega⟩ hl.1 rfl (tw_r8 [.inr q2] (Nat.le_of_ble_eq_true rfl)) dX1_addNode_68) (fun E q σ H locs hX hR hS hi => tw_out C hR hS (fun x hx => (hnx x hx).elim) hi hX) (fun σ H locs hw hR hS => ?_)
  refine tk_astore (L' := [(7, .inr q2), (3, .inl l3), (4, .inl l4), (5, .inr l5), (6, .inr l6)]) C hl dX1_addNode_71 (by decide) rfl (fun ls hl => ?_)
  refine tk_aload C hl 4 dX1_addNode_73 rfl ?_
  refine tk_iload_n C hl 1 dX1_addNode_75 rfl ?_
  refine tk_aload C hl 0 dX1_addNode_76 rfl ?_
  obtain ⟨hv, hw⟩ := hw
  refine tw_cbv C hS (tk_runV (As := [.inl l3, .inr q2]) C hR hS (wk_X3_add l C.hst G (R.frames - 1) (by omega) _ _ _ _ _ σ hw) hv rfl q1652 q669 q670 q70 q671 pd_X3_add ⟨by omega, by omega⟩ hl.1 rfl (tw_r8 [] (Nat.le_of_ble_eq_true rfl)) dX1_addNode_78) (fun E q σ H locs hX hR hS hi => tw_out C hR hS (fun x hx => (hnx x hx).elim) hi hX) (fun σ H locs hw hR hS => ?_)
  refine tk_aload C hl 3 dX1_addNode_81 rfl ?_
  refine tk_aload C hl 0 dX1_addNode_83 rfl ?_
  obtain ⟨hv, hw⟩ := hw
  refine tw_cbi C hS (tk_runV (As := [.inr q2]) C hR hS (wk_X2_number l C.hst G (R.frames - 1) (by omega) _ _ _ _ σ hw) hv rfl q1653 q1617 q1618 q69 q1619 pd_X2_number ⟨by omega, by omega⟩ hl.1 rfl (tw_r8 [] (Nat.le_of_ble_eq_true rfl)) dX1_addNode_85) (fun E q σ H locs hX hR hS hi => tw_out C hR hS (fun x hx => (hnx x hx).elim) hi hX) (fun x5 σ H locs hw hR hS => ?_)
  exact tw_iret C hR hS hr rfl dX1_addNode_88 hw
set_option maxHeartbeats 4000000 in
theorem wk_X1_addNode (l : Launch) (hl0 : l.stackTraces = false) (G : Tgl) (fr : Nat)  (hfr : 68 ≤ fr) (l0 : Option Nat) (l1 : Int32) (l2 : Int32) (l3 : Int32) (l4 : Int32) (Q : Int32 → Tst → Prop) (X : String → Nat → Tst → Prop) (σ : Tst) (hw : w_X1_addNode l0 l1 l2 l3 l4 Q X σ) : tw_M l yX1_addNode (ws_ yX1_addNode cX1_addNode 8 (some .int)) fr (40 * fr) G σ [.inr l0, .inl l1, .inl l2, .inl l3, .inl l4] (tw_Qi G Q) X := by
  unfold w_X1_addNode at hw
  refine tw_of (ret := (some .int)) hl0 (by decide) (Nat.le_of_ble_eq_true rfl) (fun p e R s m args below meth c hRf hRl C hr hmn hnx hR hS ls hl => ?_)
  have hfr : 68 ≤ R.frames := by rw [hRf]; exact hfr
  have hRl : R.locals = 40 * R.frames := by rw [hRl, hRf]
  have hl : tw_l ls 8 [(0, .inr l0), (1, .inl l1), (2, .inl l2), (3, .inl l3), (4, .inl l4)] := hl
  refine tk_aload_n C hl 0 dX1_addNode_0 rfl ?_
  refine tk_iload_n C hl 1 dX1_addNode_1 rfl ?_
  obtain ⟨hv, hw⟩ := hw
  refine tw_cbq C hS (tk_runV (As := [.inl l1]) C hR hS (wk_X1_treeOf l C.hst G (R.frames - 1) (by omega) _ _ _ _ σ hw) hv rfl q1581 q1583 qs16 q64 q1584 pd_X1_treeOf ⟨by omega, by omega⟩ hl.1 rfl (tw_r8 [] (Nat.le_of_ble_eq_true rfl)) dX1_addNode_2) (fun E q σ H locs hX hR hS hi => tw_out C hR hS (fun x hx => (hnx x hx).elim) hi hX) (fun x1 σ H locs hw hR hS => ?_)
  refine tk_astore (L' := [(5, .inr x1), (0, .inr l0), (1, .inl l1), (2, .inl l2), (3, .inl l3), (4, .inl l4)]) C hl dX1_addNode_5 (by decide) rfl (fun ls hl => ?_)
  refine tk_aload C hl 0 dX1_addNode_7 rfl ?_
  refine tk_iload_n C hl 3 dX1_addNode_9 rfl ?_
  obtain ⟨hv, hw⟩ := hw
  refine tw_cbq C hS (tk_runV (As := [.inl l2]) C hR hS (wk_X2_node l C.hst G (R.frames - 1) (by omega) _ _ _ _ σ hw) hv rfl q1642 q1643 q1644 q69 q1645 pd_X2_node ⟨by omega, by omega⟩ hl.1 rfl (tw_r8 [] (Nat.le_of_ble_eq_true rfl)) dX1_addNode_10) (fun E q σ H locs hX hR hS hi => tw_out C hR hS (fun x hx => (hnx x hx).elim) hi hX) (fun x2 σ H locs hw hR hS => ?_)
  refine tk_astore (L' := [(6, .inr x2), (5, .inr x1), (0, .inr l0), (1, .inl l1), (2, .inl l2), (3, .inl l3), (4, .inl l4)]) C hl dX1_addNode_13 (by decide) rfl (fun ls hl => ?_)
  refine tk_iload_n C hl 5 dX1_addNode_15 rfl ?_
  refine lv_iconst (v := 0) C.hx C.hb dX1_addNode_16 (by decide) ?_
  refine tk_aload C hl 0 dX1_addNode_17 rfl ?_
  refine tk_grN C hR hw rfl in_X3 (by decide) q214 (fun _ h => h) dX1_addNode_19 (fun x3 hw => ?_)
  obtain ⟨hv, hw⟩ := hw
  refine tw_cbi5 C hS (tk_runF (As := []) (x := ⟨"java/util/List", "size", "()I"⟩) C hR hS (wk_J6_size l C.hst G (R.frames - 1) (by omega) _ _ _ σ hw) hv rfl q648 q447 q449 q73 q451 (by decide +kernel) (show tw_pd ⟨"java/util/List", "size", "()I"⟩ 0 by decide +kernel) ⟨by omega, by omega⟩ hl.1 rfl (tw_r8 [.inl 0, .inl l3] (Nat.le_of_ble_eq_true rfl)) dX1_addNode_22) (fun E q σ H locs hX hR hS hi => tw_out C hR hS (fun x hx => (hnx x hx).elim) hi hX) (fun x4 σ H locs hw hR hS => ?_)
  refine tw_cbi C hS (tw_runS (As := [.inl l3, .inl 0, .inl x4]) C hR hS (wk_X1_isBetween l C.hst G (R.frames - 1) (by omega) _ _ _ _ _ σ hw) q1416 q1417 q64 q1418 pd_X1_isBetween ⟨by omega, by omega⟩ hl.1 rfl (tw_r8 [] (Nat.le_of_ble_eq_true rfl)) dX1_addNode_27) (fun E q σ H locs hX hR hS hi => tw_out C hR hS (fun x hx => (hnx x hx).elim) hi hX) (fun x5 σ H locs hw hR hS => ?_)
  refine tw_cbv C hS (tw_runS (As := [.inl x5]) C hR hS (wk_X1_requireIndex l C.hst G (R.frames - 1) (by omega) _ _ _ σ hw) q1419 q1420 q64 q1421 pd_X1_requireIndex ⟨by omega, by omega⟩ hl.1 rfl (tw_r8 [] (Nat.le_of_ble_eq_true rfl)) dX1_addNode_30) (fun E q σ H locs hX hR hS hi => tw_out C hR hS (fun x hx => (hnx x hx).elim) hi hX) (fun σ H locs hw hR hS => ?_)
  refine tk_iload C hl 6 dX1_addNode_33 rfl ?_
  refine tw_cbi C hS (tw_runS (As := [.inl l4]) C hR hS (wk_X1_isLetter l C.hst G (R.frames - 1) (by omega) _ _ _ σ hw) q1648 q1467 q64 q1468 pd_X1_isLetter ⟨by omega, by omega⟩ hl.1 rfl (tw_r8 [] (Nat.le_of_ble_eq_true rfl)) dX1_addNode_35) (fun E q σ H locs hX hR hS hi => tw_out C hR hS (fun x hx => (hnx x hx).elim) hi hX) (fun x7 σ H locs hw hR hS => ?_)
  refine tw_cbv C hS (tw_runS (As := [.inl x7]) C hR hS (wk_X1_requireArgument l C.hst G (R.frames - 1) (by omega) _ _ _ σ hw) q1649 q1650 q64 q1651 pd_X1_requireArgument ⟨by omega, by omega⟩ hl.1 rfl (tw_r8 [] (Nat.le_of_ble_eq_true rfl)) dX1_addNode_38) (fun E q σ H locs hX hR hS hi => tw_out C hR hS (fun x hx => (hnx x hx).elim) hi hX) (fun σ H locs hw hR hS => ?_)
  refine tk_aload C hl 1 dX1_addNode_41 rfl ?_
  refine tk_grN C hR hw rfl in_X2 (by decide) q242 (fun _ h => h) dX1_addNode_43 (fun x9 hw => ?_)
  obtain ⟨hv, hw⟩ := hw
  refine tw_cbi C hS (tk_runV (As := []) C hR hS (wk_X3_size l C.hst G 64 (R.frames - 1) (by omega) _ _ _ σ hw) hv rfl q286 q287 q288 q70 q289 pd_X3_size ⟨by omega, by omega⟩ hl.1 rfl (tw_r8 [] (Nat.le_of_ble_eq_true rfl)) dX1_addNode_46) (fun E q σ H locs hX hR hS hi => tw_out C hR hS (fun x hx => (hnx x hx).elim) hi hX) (fun x10 σ H locs hw hR hS => ?_)
  refine lv_bipush (v := 20) C.hx C.hb dX1_addNode_49 (by decide) ?_
  refine lv_icmp_ge (tgt := 58) C.hx C.hb dX1_addNode_51 (by decide) (fun c51 => ?_) (fun c51 => ?_)
  · replace hw := hw.1 c51
    refine lv_iconst (v := 0) C.hx C.hb dX1_addNode_58 (by decide) ?_
    exact wk_X1_addNode_b59 C hr hmn hnx hfr hRl _ _ _ _ _ σ _ _ _ hw hR hS (tk_sub hl [5, 6, 1, 0] rfl)
  · replace hw := hw.2 c51
    refine lv_iconst (v := 1) C.hx C.hb dX1_addNode_54 (by decide) ?_
    refine lv_goto (tgt := 59) C.hx C.hb dX1_addNode_55 (by decide) ?_
    exact wk_X1_addNode_b59 C hr hmn hnx hfr hRl _ _ _ _ _ σ _ _ _ hw hR hS (tk_sub hl [5, 6, 1, 0] rfl)
-- TreeDifferLaw.addNode(LTreeDiffer;IIIC[J)I
def w_X0_addNode_b17 (Q : Int32 → Tst → Prop) (X : String → Nat → Tst → Prop) (s0 : Option Nat) (σ : Tst) : Prop := Q 1 σ
def w_X0_addNode_b21 (Q : Int32 → Tst → Prop) (X : String → Nat → Tst → Prop) (s0 : Option Nat) (σ : Tst) : Prop := Q 2 σ
def w_X0_addNode_b25 (Q : Int32 → Tst → Prop) (X : String → Nat → Tst → Prop) (s0 : Option Nat) (σ : Tst) : Prop := Q 3 σ
def w_X0_addNode (l0 : Option Nat) (l1 : Int32) (l2 : Int32) (l3 : Int32) (l4 : Int32) (l5 : Option Nat) (Q : Int32 → Tst → Prop) (X : String → Nat → Tst → Prop) (σ : Tst) : Prop := w_rc σ l0 cX1 <| w_X1_addNode l0 l1 l2 l3 l4 (fun x1 σ => w_sl σ l5 0 (x1.toInt64) fun σ => Q 0 σ) (fun E q σ => w_if (E = "java/lang/IndexOutOfBoundsException") (w_X0_addNode_b17 Q X (some q) σ) (w_if (E = "java/lang/IllegalArgumentException") (w_X0_addNode_b21 Q X (some q) σ) (w_if (E = "java/lang/IllegalStateException") (w_X0_addNode_b25 Q X (some q) σ) (False)))) σ
set_option maxHeartbeats 4000000 in
theorem wk_X0_addNode_b17  (C : tw_C p l R s m args meth c G cX0_addNode 7 yX0_addNode.cls) (hr : meth.sig.returnType = (some .int)) (hmn : meth.name = yX0_addNode.name) (hnx : (c.exceptionTable.toList = tableOf [(0, 14, 17, 19), (0, 14, 21, 21), (0, 14, 25, 13)])) (hfr : 69 ≤ R.frames) (hRl : R.locals = 40 * R.frames) {Q : Int32 → Tst → Prop} {X : String → Nat → Tst → Prop}  (s0 : Option Nat) (σ : Tst) (H : Heap) (locs : List Loc) (ls : Array Slot) (hw : w_X0_addNode_b17 Q X s0 σ) (hR : tw_R G σ H) (hS : va_S (tw_A G) s.heap H locs) (hl : tw_l ls 7 []) : tw_W p l e R s m args below meth c σ H locs (tw_E below G (tw_Qi G Q) X args s R) (F0 m 17 ls [va_rf s0]) := by
  unfold w_X0_addNode_b17 at hw
  refine tk_astore (L' := [(6, .inr s0)]) C hl dX0_addNode_17 (by decide) rfl (fun ls hl => ?_)
  refine lv_iconst (v := 1) C.hx C.hb dX0_addNode_19 (by decide) ?_
  exact tw_iret C hR hS hr rfl dX0_addNode_20 hw
set_option maxHeartbeats 4000000 in
theorem wk_X0_addNode_b21  (C : tw_C p l R s m args meth c G cX0_addNode 7 yX0_addNode.cls) (hr : meth.sig.returnType = (some .int)) (hmn : meth.name = yX0_addNode.name) (hnx : (c.exceptionTable.toList = tableOf [(0, 14, 17, 19), (0, 14, 21, 21), (0, 14, 25, 13)])) (hfr : 69 ≤ R.frames) (hRl : R.locals = 40 * R.frames) {Q : Int32 → Tst → Prop} {X : String → Nat → Tst → Prop}  (s0 : Option Nat) (σ : Tst) (H : Heap) (locs : List Loc) (ls : Array Slot) (hw : w_X0_addNode_b21 Q X s0 σ) (hR : tw_R G σ H) (hS : va_S (tw_A G) s.heap H locs) (hl : tw_l ls 7 []) : tw_W p l e R s m args below meth c σ H locs (tw_E below G (tw_Qi G Q) X args s R) (F0 m 21 ls [va_rf s0]) := by
  unfold w_X0_addNode_b21 at hw
  refine tk_astore (L' := [(6, .inr s0)]) C hl dX0_addNode_21 (by decide) rfl (fun ls hl => ?_)
  refine lv_iconst (v := 2) C.hx C.hb dX0_addNode_23 (by decide) ?_
  exact tw_iret C hR hS hr rfl dX0_addNode_24 hw
set_option maxHeartbeats 4000000 in
theorem wk_X0_addNode_b25  (C : tw_C p l R s m args meth c G cX0_addNode 7 yX0_addNode.cls) (hr : meth.sig.returnType = (some .int)) (hmn : meth.name = yX0_addNode.name) (hnx : (c.exceptionTable.toList = tableOf [(0, 14, 17, 19), (0, 14, 21, 21), (0, 14, 25, 13)])) (hfr : 69 ≤ R.frames) (hRl : R.locals = 40 * R.frames) {Q : Int32 → Tst → Prop} {X : String → Nat → Tst → Prop}  (s0 : Option Nat) (σ : Tst) (H : Heap) (locs : List Loc) (ls : Array Slot) (hw : w_X0_addNode_b25 Q X s0 σ) (hR : tw_R G σ H) (hS : va_S (tw_A G) s.heap H locs) (hl : tw_l ls 7 []) : tw_W p l e R s m args below meth c σ H locs (tw_E below G (tw_Qi G Q) X args s R) (F0 m 25 ls [va_rf s0]) := by
  unfold w_X0_addNode_b25 at hw
  refine tk_astore (L' := [(6, .inr s0)]) C hl dX0_addNode_25 (by decide) rfl (fun ls hl => ?_)
  refine lv_iconst (v := 3) C.hx C.hb dX0_addNode_27 (by decide) ?_
  exact tw_iret C hR hS hr rfl dX0_addNode_28 hw
set_option maxHeartbeats 4000000 in
theorem wk_X0_addNode (l : Launch) (hl0 : l.stackTraces = false) (G : Tgl) (fr : Nat)  (hfr : 69 ≤ fr) (l0 : Option Nat) (l1 : Int32) (l2 : Int32) (l3 : Int32) (l4 : Int32) (l5 : Option Nat) (Q : Int32 → Tst → Prop) (X : String → Nat → Tst → Prop) (σ : Tst) (hw : w_X0_addNode l0 l1 l2 l3 l4 l5 Q X σ) : tw_M l yX0_addNode (wsW_ yX0_addNode cX0_addNode 7 (some .int) [(0, 14, 17, 19), (0, 14, 21, 21), (0, 14, 25, 13)]) fr (40 * fr) G σ [.inr l0, .inl l1, .inl l2, .inl l3, .inl l4, .inr l5] (tw_Qi G Q) X := by
  unfold w_X0_addNode at hw
  refine tw_ofW (ret := (some .int)) (hh := [(0, 14, 17, 19), (0, 14, 21, 21), (0, 14, 25, 13)]) hl0 (by decide) (Nat.le_of_ble_eq_true rfl) (fun p e R s m args below meth c hRf hRl C hr hmn hnx hR hS ls hl => ?_)
  have hfr : 69 ≤ R.frames := by rw [hRf]; exact hfr
  have hRl : R.locals = 40 * R.frames := by rw [hRl, hRf]
  have hl : tw_l ls 7 [(0, .inr l0), (1, .inl l1), (2, .inl l2), (3, .inl l3), (4, .inl l4), (5, .inr l5)] := hl
  refine tk_aload C hl 5 dX0_addNode_0 rfl ?_
  refine lv_iconst (v := 0) C.hx C.hb dX0_addNode_2 (by decide) ?_
  refine tk_aload_n C hl 0 dX0_addNode_3 rfl ?_
  refine tk_iload_n C hl 1 dX0_addNode_4 rfl ?_
  refine tk_iload_n C hl 2 dX0_addNode_5 rfl ?_
  refine tk_iload_n C hl 3 dX0_addNode_6 rfl ?_
  refine tk_iload C hl 4 dX0_addNode_7 rfl ?_
  obtain ⟨hv, hw⟩ := hw
  refine tw_cbi C hS (tk_runV (As := [.inl l1, .inl l2, .inl l3, .inl l4]) C hR hS (wk_X1_addNode l C.hst G (R.frames - 1) (by omega) _ _ _ _ _ _ _ σ hw) hv rfl q1638 q1639 q1640 q64 q1641 pd_X1_addNode ⟨by omega, by omega⟩ hl.1 rfl (tw_r8 [.inl 0, .inr l5] (Nat.le_of_ble_eq_true rfl)) dX0_addNode_9) (fun E q σ H locs hX hR hS hi => ?_) (fun x1 σ H locs hw hR hS => ?_)
  · by_cases cE0 : E = "java/lang/IndexOutOfBoundsException"
    · replace hX := hX.1 cE0
      subst cE0
      refine tw_catch C hnx [] (0, 14, 17, 19) [(0, 14, 21, 21), (0, 14, 25, 13)] rfl (fun z hz => nomatch hz) rfl (by decide) q1394 q687 hi ?_
      exact wk_X0_addNode_b17 C hr hmn hnx hfr hRl _ σ _ _ _ hX hR hS (tk_sub hl [] rfl)
    replace hX := hX.2 cE0
    by_cases cE1 : E = "java/lang/IllegalArgumentException"
    · replace hX := hX.1 cE1
      subst cE1
      refine tw_catch C hnx [(0, 14, 17, 19)] (0, 14, 21, 21) [(0, 14, 25, 13)] rfl (fun z hz => by simp only [List.mem_cons, List.not_mem_nil, or_false] at hz; rcases hz with rfl; exact Or.inr ⟨by decide, _, q1394, by decide +kernel⟩) rfl (by decide) q1410 q879 hi ?_
      exact wk_X0_addNode_b21 C hr hmn hnx hfr hRl _ σ _ _ _ hX hR hS (tk_sub hl [] rfl)
    replace hX := hX.2 cE1
    by_cases cE2 : E = "java/lang/IllegalStateException"
    · replace hX := hX.1 cE2
      subst cE2
      refine tw_catch C hnx [(0, 14, 17, 19), (0, 14, 21, 21)] (0, 14, 25, 13) [] rfl (fun z hz => by simp only [List.mem_cons, List.not_mem_nil, or_false] at hz; rcases hz with rfl | rfl <;> first | exact Or.inr ⟨by decide, _, q1394, by decide +kernel⟩ | exact Or.inr ⟨by decide, _, q1410, by decide +kernel⟩) rfl (by decide) q1357 q490 hi ?_
      exact wk_X0_addNode_b25 C hr hmn hnx hfr hRl _ σ _ _ _ hX hR hS (tk_sub hl [] rfl)
    replace hX := hX.2 cE2
    exact hX.elim
  refine lv_i2l (v := x1.toInt64) C.hx C.hb dX0_addNode_12 rfl ?_
  refine tk_sl C hR hS hw dX0_addNode_13 (fun σ H locs hw hR hS => ?_)
  refine lv_goto (tgt := 29) C.hx C.hb dX0_addNode_14 (by decide) ?_
  refine lv_iconst (v := 0) C.hx C.hb dX0_addNode_29 (by decide) ?_
  exact tw_iret C hR hS hr rfl dX0_addNode_30 hw
-- java/lang/UnsupportedOperationException.<init>()V
def w_J25_init (l0 : Option Nat) (Q : Tst → Prop) (X : String → Nat → Tst → Prop) (σ : Tst) : Prop := w_rf l0 <| w_J9_init l0 (fun σ => Q σ) X σ
set_option maxHeartbeats 4000000 in
theorem wk_J25_init (l : Launch) (hl0 : l.stackTraces = false) (G : Tgl) (fr : Nat)  (hfr : 5 ≤ fr) (l0 : Option Nat) (Q : Tst → Prop) (X : String → Nat → Tst → Prop) (σ : Tst) (hw : w_J25_init l0 Q X σ) : tw_M l yJ25_init (ws_ yJ25_init cJ25_init 1 none) fr (40 * fr) G σ [.inr l0] (tw_Qv G Q) X := by
  unfold w_J25_init at hw
  refine tw_of (ret := none) hl0 (by decide) (Nat.le_of_ble_eq_true rfl) (fun p e R s m args below meth c hRf hRl C hr hmn hnx hR hS ls hl => ?_)
  have hfr : 5 ≤ R.frames := by rw [hRf]; exact hfr
  have hRl : R.locals = 40 * R.frames := by rw [hRl, hRf]
  have hl : tw_l ls 1 [(0, .inr l0)] := hl
  refine tk_aload_n C hl 0 dJ25_init_0 rfl ?_
  obtain ⟨hv, hw⟩ := hw
  refine tw_cbv C hS (tk_runI (As := []) hv C hR hS (wk_J9_init l C.hst G (R.frames - 1) (by omega) _ _ _ σ hw) q1677 q407 q78 q408 rfl pd_J9_init ⟨by omega, by omega⟩ hl.1 rfl (tw_r8 [] (Nat.le_of_ble_eq_true rfl)) dJ25_init_1) (fun E q σ H locs hX hR hS hi => tw_out C hR hS (fun x hx => (hnx x hx).elim) hi hX) (fun σ H locs hw hR hS => ?_)
  exact tw_vret C hR hS hr dJ25_init_4 hw
-- TreeDiffer.requireSupport(Z)V
def w_X1_requireSupport (l0 : Int32) (Q : Tst → Prop) (X : String → Nat → Tst → Prop) (σ : Tst) : Prop := w_if (l0 = 0) (w_nw σ cJ25 6 [.inr none, .inr none, .inr none, .inr none, .inr none, .inl 0] fun q1 σ => w_rf q1 <| w_J25_init q1 (fun σ => w_th σ q1 X) X σ) (Q σ)
set_option maxHeartbeats 4000000 in
theorem wk_X1_requireSupport (l : Launch) (hl0 : l.stackTraces = false) (G : Tgl) (fr : Nat)  (hfr : 6 ≤ fr) (l0 : Int32) (Q : Tst → Prop) (X : String → Nat → Tst → Prop) (σ : Tst) (hw : w_X1_requireSupport l0 Q X σ) : tw_M l yX1_requireSupport (ws_ yX1_requireSupport cX1_requireSupport 1 none) fr (40 * fr) G σ [.inl l0] (tw_Qv G Q) X := by
  unfold w_X1_requireSupport at hw
  refine tw_of (ret := none) hl0 (by decide) (Nat.le_of_ble_eq_true rfl) (fun p e R s m args below meth c hRf hRl C hr hmn hnx hR hS ls hl => ?_)
  have hfr : 6 ≤ R.frames := by rw [hRf]; exact hfr
  have hRl : R.locals = 40 * R.frames := by rw [hRl, hRf]
  have hl : tw_l ls 1 [(0, .inl l0)] := hl
  refine tk_iload_n C hl 0 dX1_requireSupport_0 rfl ?_
  refine lv_if_ne (tgt := 12) C.hx C.hb dX1_requireSupport_1 (by decide) (fun c1 => ?_) (fun c1 => ?_)
  · replace hw := hw.2 c1
    exact tw_vret C hR hS hr dX1_requireSupport_12 hw
  · replace hw := hw.1 c1
    refine tk_nw C hR hS hw rfl in_J25 tyJ25 tyJ25_ok q1665 q1666 q99 (fun j hj => by rcases (show j = 0 ∨ j = 1 ∨ j = 2 ∨ j = 3 ∨ j = 4 ∨ j = 5 by omega) with rfl | rfl | rfl | rfl | rfl | rfl <;> rfl) dX1_requireSupport_4 (fun q1 σ H hw hR hS => ?_)
    refine tw_dup (x := .inr q1) C.hx C.hb dX1_requireSupport_7 ?_
    obtain ⟨hv, hw⟩ := hw
    refine tw_cbv C hS (tk_runI (As := []) hv C hR hS (wk_J25_init l C.hst G (R.frames - 1) (by omega) _ _ _ σ hw) q1674 q1675 q99 q1676 rfl pd_J25_init ⟨by omega, by omega⟩ hl.1 rfl (tw_r8 [.inr q1] (Nat.le_of_ble_eq_true rfl)) dX1_requireSupport_8) (fun E q σ H locs hX hR hS hi => tw_out C hR hS (fun x hx => (hnx x hx).elim) hi hX) (fun σ H locs hw hR hS => ?_)
    exact tk_th C hR hS hw (fun x hx => (hnx x hx).elim) dX1_requireSupport_11
-- TreeDiffer.removeNode(II)I
def w_X1_removeNode_b27 (Q : Int32 → Tst → Prop) (X : String → Nat → Tst → Prop) (l3 : Option Nat) (l4 : Option Nat) (s0 : Int32) (σ : Tst) : Prop := w_X1_requireSupport s0 (fun σ => w_rc σ l4 cX3 <| w_X3_detach l4 (fun σ => w_gr σ l3 cX2 0 fun x3 => w_rc σ x3 cX3 <| w_X3_size 64 x3 (fun x4 σ => Q x4 σ) X σ) X σ) X σ
def w_X1_removeNode (l0 : Option Nat) (l1 : Int32) (l2 : Int32) (Q : Int32 → Tst → Prop) (X : String → Nat → Tst → Prop) (σ : Tst) : Prop := w_rc σ l0 cX1 <| w_X1_treeOf l0 l1 (fun x1 σ => w_rc σ x1 cX2 <| w_X2_node x1 l2 (fun x2 σ => w_gr σ x1 cX2 0 fun x3 => w_if (x2 = x3) (w_X1_removeNode_b27 Q X x1 x2 0 σ) (w_X1_removeNode_b27 Q X x1 x2 1 σ)) X σ) X σ
set_option maxHeartbeats 4000000 in
theorem wk_X1_removeNode_b27  (C : tw_C p l R s m args meth c G cX1_removeNode 5 yX1_removeNode.cls) (hr : meth.sig.returnType = (some .int)) (hmn : meth.name = yX1_removeNode.name) (hnx : (∀ x ∈ c.exceptionTable.toList, False)) (hfr : 68 ≤ R.frames) (hRl : R.locals = 40 * R.frames) {Q : Int32 → Tst → Prop} {X : String → Nat → Tst → Prop}  (l3 : Option Nat) (l4 : Option Nat) (s0 : Int32) (σ : Tst) (H : Heap) (locs : List Loc) (ls : Array Slot) (hw : w_X1_removeNode_b27 Q X l3 l4 s0 σ) (hR : tw_R G σ H) (hS : va_S (tw_A G) s.heap H locs) (hl : tw_l ls 5 [(3, .inr l3), (4, .inr l4)]) : tw_W p l e R s m args below meth c σ H locs (tw_E below G (tw_Qi G Q) X args s R) (F0 m 27 ls [.int s0]) := by
  unfold w_X1_removeNode_b27 at hw
  refine tw_cbv C hS (tw_runS (As := [.inl s0]) C hR hS (wk_X1_requireSupport l C.hst G (R.frames - 1) (by omega) _ _ _ σ hw) q1662 q1663 q64 q1664 pd_X1_requireSupport ⟨by omega, by omega⟩ hl.1 rfl (tw_r8 [] (Nat.le_of_ble_eq_true rfl)) dX1_removeNode_27) (fun E q σ H locs hX hR hS hi => tw_out C hR hS (fun x hx => (hnx x hx).elim) hi hX) (fun σ H locs hw hR hS => ?_)
  refine tk_aload C hl 1 dX1_removeNode_30 rfl ?_
  obtain ⟨hv, hw⟩ := hw
  refine tw_cbv C hS (tk_runV (As := []) C hR hS (wk_X3_detach l C.hst G (R.frames - 1) (by omega) _ _ _ σ hw) hv rfl q1680 q1130 q1131 q70 q1132 pd_X3_detach ⟨by omega, by omega⟩ hl.1 rfl (tw_r8 [] (Nat.le_of_ble_eq_true rfl)) dX1_removeNode_32) (fun E q σ H locs hX hR hS hi => tw_out C hR hS (fun x hx => (hnx x hx).elim) hi hX) (fun σ H locs hw hR hS => ?_)
  refine tk_aload_n C hl 0 dX1_removeNode_35 rfl ?_
  refine tk_grN C hR hw rfl in_X2 (by decide) q242 (fun _ h => h) dX1_removeNode_36 (fun x3 hw => ?_)
  obtain ⟨hv, hw⟩ := hw
  refine tw_cbi C hS (tk_runV (As := []) C hR hS (wk_X3_size l C.hst G 64 (R.frames - 1) (by omega) _ _ _ σ hw) hv rfl q286 q287 q288 q70 q289 pd_X3_size ⟨by omega, by omega⟩ hl.1 rfl (tw_r8 [] (Nat.le_of_ble_eq_true rfl)) dX1_removeNode_39) (fun E q σ H locs hX hR hS hi => tw_out C hR hS (fun x hx => (hnx x hx).elim) hi hX) (fun x4 σ H locs hw hR hS => ?_)
  exact tw_iret C hR hS hr rfl dX1_removeNode_42 hw
set_option maxHeartbeats 4000000 in
theorem wk_X1_removeNode (l : Launch) (hl0 : l.stackTraces = false) (G : Tgl) (fr : Nat)  (hfr : 68 ≤ fr) (l0 : Option Nat) (l1 : Int32) (l2 : Int32) (Q : Int32 → Tst → Prop) (X : String → Nat → Tst → Prop) (σ : Tst) (hw : w_X1_removeNode l0 l1 l2 Q X σ) : tw_M l yX1_removeNode (ws_ yX1_removeNode cX1_removeNode 5 (some .int)) fr (40 * fr) G σ [.inr l0, .inl l1, .inl l2] (tw_Qi G Q) X := by
  unfold w_X1_removeNode at hw
  refine tw_of (ret := (some .int)) hl0 (by decide) (Nat.le_of_ble_eq_true rfl) (fun p e R s m args below meth c hRf hRl C hr hmn hnx hR hS ls hl => ?_)
  have hfr : 68 ≤ R.frames := by rw [hRf]; exact hfr
  have hRl : R.locals = 40 * R.frames := by rw [hRl, hRf]
  have hl : tw_l ls 5 [(0, .inr l0), (1, .inl l1), (2, .inl l2)] := hl
  refine tk_aload_n C hl 0 dX1_removeNode_0 rfl ?_
  refine tk_iload_n C hl 1 dX1_removeNode_1 rfl ?_
  obtain ⟨hv, hw⟩ := hw
  refine tw_cbq C hS (tk_runV (As := [.inl l1]) C hR hS (wk_X1_treeOf l C.hst G (R.frames - 1) (by omega) _ _ _ _ σ hw) hv rfl q1581 q1583 qs16 q64 q1584 pd_X1_treeOf ⟨by omega, by omega⟩ hl.1 rfl (tw_r8 [] (Nat.le_of_ble_eq_true rfl)) dX1_removeNode_2) (fun E q σ H locs hX hR hS hi => tw_out C hR hS (fun x hx => (hnx x hx).elim) hi hX) (fun x1 σ H locs hw hR hS => ?_)
  refine tk_astore_n (L' := [(3, .inr x1), (0, .inr l0), (1, .inl l1), (2, .inl l2)]) C hl dX1_removeNode_5 (by decide) rfl (fun ls hl => ?_)
  refine tk_aload_n C hl 0 dX1_removeNode_6 rfl ?_
  refine tk_iload_n C hl 3 dX1_removeNode_7 rfl ?_
  obtain ⟨hv, hw⟩ := hw
  refine tw_cbq C hS (tk_runV (As := [.inl l2]) C hR hS (wk_X2_node l C.hst G (R.frames - 1) (by omega) _ _ _ _ σ hw) hv rfl q1642 q1643 q1644 q69 q1645 pd_X2_node ⟨by omega, by omega⟩ hl.1 rfl (tw_r8 [] (Nat.le_of_ble_eq_true rfl)) dX1_removeNode_8) (fun E q σ H locs hX hR hS hi => tw_out C hR hS (fun x hx => (hnx x hx).elim) hi hX) (fun x2 σ H locs hw hR hS => ?_)
  refine tk_astore (L' := [(4, .inr x2), (3, .inr x1), (0, .inr l0), (1, .inl l1), (2, .inl l2)]) C hl dX1_removeNode_11 (by decide) rfl (fun ls hl => ?_)
  refine tk_aload C hl 0 dX1_removeNode_13 rfl ?_
  refine tk_aload_n C hl 1 dX1_removeNode_15 rfl ?_
  refine tk_grN C hR hw rfl in_X2 (by decide) q242 (fun _ h => h) dX1_removeNode_16 (fun x3 hw => ?_)
  refine lv_acmp_eq (tgt := 26) C.hx C.hb dX1_removeNode_19 (by decide) (fun c19 => ?_) (fun c19 => ?_)
  · replace hw := hw.1 c19
    refine lv_iconst (v := 0) C.hx C.hb dX1_removeNode_26 (by decide) ?_
    exact wk_X1_removeNode_b27 C hr hmn hnx hfr hRl _ _ _ σ _ _ _ hw hR hS (tk_sub hl [1, 0] rfl)
  · replace hw := hw.2 c19
    refine lv_iconst (v := 1) C.hx C.hb dX1_removeNode_22 (by decide) ?_
    refine lv_goto (tgt := 27) C.hx C.hb dX1_removeNode_23 (by decide) ?_
    exact wk_X1_removeNode_b27 C hr hmn hnx hfr hRl _ _ _ σ _ _ _ hw hR hS (tk_sub hl [1, 0] rfl)
end GW27
