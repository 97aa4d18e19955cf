set_option maxRecDepth 100000
section GW30
variable {p : Program} {l : Launch} {e : Env} {R : Room} {s : State} {m : MethodId} {args : Array Value} {below : List Frame} {meth : Method} {c : Code} {H : Heap} {locs : List Loc} {G : Tgl}
-- TreeDiffer.partner(I)I
def w_X1_partner_b24 (Q : Int32 → Tst → Prop) (X : String → Nat → Tst → Prop) (l0 : Option Nat) (l2 : Option Nat) (s0 : Int32) (σ : Tst) : Prop := w_X1_requireElement s0 (fun σ => w_gr σ l0 cX1 4 fun x2 => w_gr σ x2 cX10 1 fun x3 => w_rc σ x3 cX2 <| w_X2_number x3 l2 (fun x4 σ => Q x4 σ) X σ) X σ
def w_X1_partner (l0 : Option Nat) (l1 : Int32) (Q : Int32 → Tst → Prop) (X : String → Nat → Tst → Prop) (σ : Tst) : Prop := w_rc σ l0 cX1 <| w_X1_latest l0 (fun x1 σ => w_gr σ x1 cX10 0 fun x2 => w_rc σ x2 cX2 <| w_X2_node x2 l1 (fun x3 σ => w_gr σ x3 cX3 5 fun x4 => w_if (x4 = none) (w_X1_partner_b24 Q X l0 x4 0 σ) (w_X1_partner_b24 Q X l0 x4 1 σ)) X σ) X σ
set_option maxHeartbeats 4000000 in
theorem wk_X1_partner_b24  (C : tw_C p l R s m args meth c G cX1_partner 3 yX1_partner.cls) (hr : meth.sig.returnType = (some .int)) (hmn : meth.name = yX1_partner.name) (hnx : (∀ x ∈ c.exceptionTable.toList, False)) (hfr : 8 ≤ R.frames) (hRl : R.locals = 40 * R.frames) {Q : Int32 → Tst → Prop} {X : String → Nat → Tst → Prop}  (l0 : Option Nat) (l2 : Option Nat) (s0 : Int32) (σ : Tst) (H : Heap) (locs : List Loc) (ls : Array Slot) (hw : w_X1_partner_b24 Q X l0 l2 s0 σ) (hR : tw_R G σ H) (hS : va_S (tw_A G) s.heap H locs) (hl : tw_l ls 3 [(0, .inr l0), (2, .inr l2)]) : tw_W p l e R s m args below meth c σ H locs (tw_E below G (tw_Qi G Q) X args s R) (F0 m 24 ls [.int s0]) := by
  unfold w_X1_partner_b24 at hw
  refine tw_cbv C hS (tw_runS (As := [.inl s0]) C hR hS (wk_X1_requireElement l C.hst G (R.frames - 1) (by omega) _ _ _ σ hw) q1569 q1570 q64 q1571 pd_X1_requireElement ⟨by omega, by omega⟩ hl.1 rfl (tw_r8 [] (Nat.le_of_ble_eq_true rfl)) dX1_partner_24) (fun E q σ H locs hX hR hS hi => tw_out C hR hS (fun x hx => (hnx x hx).elim) hi hX) (fun σ H locs hw hR hS => ?_)
  refine tk_aload_n C hl 0 dX1_partner_27 rfl ?_
  refine tk_gr C hR hw rfl in_X1 (by decide) q251 (fun _ h => h) dX1_partner_28 (fun x2 hw => ?_)
  refine tk_grN C hR hw rfl in_X10 (by decide) q1895 (fun _ h => h) dX1_partner_31 (fun x3 hw => ?_)
  refine tk_aload_n C hl 1 dX1_partner_34 rfl ?_
  obtain ⟨hv, hw⟩ := hw
  refine tw_cbi C hS (tk_runV (As := [.inr l2]) C hR hS (wk_X2_number l C.hst G (R.frames - 1) (by omega) _ _ _ _ σ hw) hv rfl q1653 q1617 q1618 q69 q1619 pd_X2_number ⟨by omega, by omega⟩ hl.1 rfl (tw_r8 [] (Nat.le_of_ble_eq_true rfl)) dX1_partner_35) (fun E q σ H locs hX hR hS hi => tw_out C hR hS (fun x hx => (hnx x hx).elim) hi hX) (fun x4 σ H locs hw hR hS => ?_)
  exact tw_iret C hR hS hr rfl dX1_partner_38 hw
set_option maxHeartbeats 4000000 in
theorem wk_X1_partner (l : Launch) (hl0 : l.stackTraces = false) (G : Tgl) (fr : Nat)  (hfr : 8 ≤ fr) (l0 : Option Nat) (l1 : Int32) (Q : Int32 → Tst → Prop) (X : String → Nat → Tst → Prop) (σ : Tst) (hw : w_X1_partner l0 l1 Q X σ) : tw_M l yX1_partner (ws_ yX1_partner cX1_partner 3 (some .int)) fr (40 * fr) G σ [.inr l0, .inl l1] (tw_Qi G Q) X := by
  unfold w_X1_partner at hw
  refine tw_of (ret := (some .int)) hl0 (by decide) (Nat.le_of_ble_eq_true rfl) (fun p e R s m args below meth c hRf hRl C hr hmn hnx hR hS ls hl => ?_)
  have hfr : 8 ≤ R.frames := by rw [hRf]; exact hfr
  have hRl : R.locals = 40 * R.frames := by rw [hRl, hRf]
  have hl : tw_l ls 3 [(0, .inr l0), (1, .inl l1)] := hl
  refine tk_aload_n C hl 0 dX1_partner_0 rfl ?_
  obtain ⟨hv, hw⟩ := hw
  refine tw_cbq C hS (tk_runV (As := []) C hR hS (wk_X1_latest l C.hst G (R.frames - 1) (by omega) _ _ _ σ hw) hv rfl q1601 q1603 qs17 q64 q1604 pd_X1_latest ⟨by omega, by omega⟩ hl.1 rfl (tw_r8 [] (Nat.le_of_ble_eq_true rfl)) dX1_partner_1) (fun E q σ H locs hX hR hS hi => tw_out C hR hS (fun x hx => (hnx x hx).elim) hi hX) (fun x1 σ H locs hw hR hS => ?_)
  refine tk_grN C hR hw rfl in_X10 (by decide) q1892 (fun _ h => h) dX1_partner_4 (fun x2 hw => ?_)
  refine tk_iload_n C hl 1 dX1_partner_7 rfl ?_
  obtain ⟨hv, hw⟩ := hw
  refine tw_cbq C hS (tk_runV (As := [.inl l1]) C hR hS (wk_X2_node l C.hst G (R.frames - 1) (by omega) _ _ _ _ σ hw) hv rfl q1642 q1643 q1644 q69 q1645 pd_X2_node ⟨by omega, by omega⟩ hl.1 rfl (tw_r8 [] (Nat.le_of_ble_eq_true rfl)) dX1_partner_8) (fun E q σ H locs hX hR hS hi => tw_out C hR hS (fun x hx => (hnx x hx).elim) hi hX) (fun x3 σ H locs hw hR hS => ?_)
  refine tk_grN C hR hw rfl in_X3 (by decide) q217 (fun _ h => h) dX1_partner_11 (fun x4 hw => ?_)
  refine tk_astore_n (L' := [(2, .inr x4), (0, .inr l0), (1, .inl l1)]) C hl dX1_partner_14 (by decide) rfl (fun ls hl => ?_)
  refine tk_aload_n C hl 0 dX1_partner_15 rfl ?_
  refine tw_ifnull (tgt := 23) C.hx C.hb dX1_partner_16 (by decide) (fun c16 => ?_) (fun c16 => ?_)
  · replace hw := hw.1 c16
    refine lv_iconst (v := 0) C.hx C.hb dX1_partner_23 (by decide) ?_
    exact wk_X1_partner_b24 C hr hmn hnx hfr hRl _ _ _ σ _ _ _ hw hR hS (tk_sub hl [1, 0] rfl)
  · replace hw := hw.2 c16
    refine lv_iconst (v := 1) C.hx C.hb dX1_partner_19 (by decide) ?_
    refine lv_goto (tgt := 24) C.hx C.hb dX1_partner_20 (by decide) ?_
    exact wk_X1_partner_b24 C hr hmn hnx hfr hRl _ _ _ σ _ _ _ hw hR hS (tk_sub hl [1, 0] rfl)
-- TreeDifferLaw.partner(LTreeDiffer;I[J)I
def w_X0_partner_b12 (Q : Int32 → Tst → Prop) (X : String → Nat → Tst → Prop) (s0 : Option Nat) (σ : Tst) : Prop := Q 1 σ
def w_X0_partner_b15 (Q : Int32 → Tst → Prop) (X : String → Nat → Tst → Prop) (s0 : Option Nat) (σ : Tst) : Prop := Q 2 σ
def w_X0_partner_b18 (Q : Int32 → Tst → Prop) (X : String → Nat → Tst → Prop) (s0 : Option Nat) (σ : Tst) : Prop := Q 3 σ
def w_X0_partner (l0 : Option Nat) (l1 : Int32) (l2 : Option Nat) (Q : Int32 → Tst → Prop) (X : String → Nat → Tst → Prop) (σ : Tst) : Prop := w_rc σ l0 cX1 <| w_X1_partner l0 l1 (fun x1 σ => w_sl σ l2 0 (x1.toInt64) fun σ => Q 0 σ) (fun E q σ => w_if (E = "java/lang/IllegalStateException") (w_X0_partner_b12 Q X (some q) σ) (w_if (E = "java/lang/IndexOutOfBoundsException") (w_X0_partner_b15 Q X (some q) σ) (w_if (E = "java/util/NoSuchElementException") (w_X0_partner_b18 Q X (some q) σ) (False)))) σ
set_option maxHeartbeats 4000000 in
theorem wk_X0_partner_b12  (C : tw_C p l R s m args meth c G cX0_partner 4 yX0_partner.cls) (hr : meth.sig.returnType = (some .int)) (hmn : meth.name = yX0_partner.name) (hnx : (c.exceptionTable.toList = tableOf [(0, 9, 12, 13), (0, 9, 15, 19), (0, 9, 18, 27)])) (hfr : 9 ≤ R.frames) (hRl : R.locals = 40 * R.frames) {Q : Int32 → Tst → Prop} {X : String → Nat → Tst → Prop}  (s0 : Option Nat) (σ : Tst) (H : Heap) (locs : List Loc) (ls : Array Slot) (hw : w_X0_partner_b12 Q X s0 σ) (hR : tw_R G σ H) (hS : va_S (tw_A G) s.heap H locs) (hl : tw_l ls 4 []) : tw_W p l e R s m args below meth c σ H locs (tw_E below G (tw_Qi G Q) X args s R) (F0 m 12 ls [va_rf s0]) := by
  unfold w_X0_partner_b12 at hw
  refine tk_astore_n (L' := [(3, .inr s0)]) C hl dX0_partner_12 (by decide) rfl (fun ls hl => ?_)
  refine lv_iconst (v := 1) C.hx C.hb dX0_partner_13 (by decide) ?_
  exact tw_iret C hR hS hr rfl dX0_partner_14 hw
set_option maxHeartbeats 4000000 in
theorem wk_X0_partner_b15  (C : tw_C p l R s m args meth c G cX0_partner 4 yX0_partner.cls) (hr : meth.sig.returnType = (some .int)) (hmn : meth.name = yX0_partner.name) (hnx : (c.exceptionTable.toList = tableOf [(0, 9, 12, 13), (0, 9, 15, 19), (0, 9, 18, 27)])) (hfr : 9 ≤ R.frames) (hRl : R.locals = 40 * R.frames) {Q : Int32 → Tst → Prop} {X : String → Nat → Tst → Prop}  (s0 : Option Nat) (σ : Tst) (H : Heap) (locs : List Loc) (ls : Array Slot) (hw : w_X0_partner_b15 Q X s0 σ) (hR : tw_R G σ H) (hS : va_S (tw_A G) s.heap H locs) (hl : tw_l ls 4 []) : tw_W p l e R s m args below meth c σ H locs (tw_E below G (tw_Qi G Q) X args s R) (F0 m 15 ls [va_rf s0]) := by
  unfold w_X0_partner_b15 at hw
  refine tk_astore_n (L' := [(3, .inr s0)]) C hl dX0_partner_15 (by decide) rfl (fun ls hl => ?_)
  refine lv_iconst (v := 2) C.hx C.hb dX0_partner_16 (by decide) ?_
  exact tw_iret C hR hS hr rfl dX0_partner_17 hw
set_option maxHeartbeats 4000000 in
theorem wk_X0_partner_b18  (C : tw_C p l R s m args meth c G cX0_partner 4 yX0_partner.cls) (hr : meth.sig.returnType = (some .int)) (hmn : meth.name = yX0_partner.name) (hnx : (c.exceptionTable.toList = tableOf [(0, 9, 12, 13), (0, 9, 15, 19), (0, 9, 18, 27)])) (hfr : 9 ≤ R.frames) (hRl : R.locals = 40 * R.frames) {Q : Int32 → Tst → Prop} {X : String → Nat → Tst → Prop}  (s0 : Option Nat) (σ : Tst) (H : Heap) (locs : List Loc) (ls : Array Slot) (hw : w_X0_partner_b18 Q X s0 σ) (hR : tw_R G σ H) (hS : va_S (tw_A G) s.heap H locs) (hl : tw_l ls 4 []) : tw_W p l e R s m args below meth c σ H locs (tw_E below G (tw_Qi G Q) X args s R) (F0 m 18 ls [va_rf s0]) := by
  unfold w_X0_partner_b18 at hw
  refine tk_astore_n (L' := [(3, .inr s0)]) C hl dX0_partner_18 (by decide) rfl (fun ls hl => ?_)
  refine lv_iconst (v := 3) C.hx C.hb dX0_partner_19 (by decide) ?_
  exact tw_iret C hR hS hr rfl dX0_partner_20 hw
set_option maxHeartbeats 4000000 in
theorem wk_X0_partner (l : Launch) (hl0 : l.stackTraces = false) (G : Tgl) (fr : Nat)  (hfr : 9 ≤ fr) (l0 : Option Nat) (l1 : Int32) (l2 : Option Nat) (Q : Int32 → Tst → Prop) (X : String → Nat → Tst → Prop) (σ : Tst) (hw : w_X0_partner l0 l1 l2 Q X σ) : tw_M l yX0_partner (wsW_ yX0_partner cX0_partner 4 (some .int) [(0, 9, 12, 13), (0, 9, 15, 19), (0, 9, 18, 27)]) fr (40 * fr) G σ [.inr l0, .inl l1, .inr l2] (tw_Qi G Q) X := by
  unfold w_X0_partner at hw
  refine tw_ofW (ret := (some .int)) (hh := [(0, 9, 12, 13), (0, 9, 15, 19), (0, 9, 18, 27)]) hl0 (by decide) (Nat.le_of_ble_eq_true rfl) (fun p e R s m args below meth c hRf hRl C hr hmn hnx hR hS ls hl => ?_)
  have hfr : 9 ≤ R.frames := by rw [hRf]; exact hfr
  have hRl : R.locals = 40 * R.frames := by rw [hRl, hRf]
  have hl : tw_l ls 4 [(0, .inr l0), (1, .inl l1), (2, .inr l2)] := hl
  refine tk_aload_n C hl 2 dX0_partner_0 rfl ?_
  refine lv_iconst (v := 0) C.hx C.hb dX0_partner_1 (by decide) ?_
  refine tk_aload_n C hl 0 dX0_partner_2 rfl ?_
  refine tk_iload_n C hl 1 dX0_partner_3 rfl ?_
  obtain ⟨hv, hw⟩ := hw
  refine tw_cbi C hS (tk_runV (As := [.inl l1]) C hR hS (wk_X1_partner l C.hst G (R.frames - 1) (by omega) _ _ _ _ σ hw) hv rfl q1942 q1943 q1944 q64 q1945 pd_X1_partner ⟨by omega, by omega⟩ hl.1 rfl (tw_r8 [.inl 0, .inr l2] (Nat.le_of_ble_eq_true rfl)) dX0_partner_4) (fun E q σ H locs hX hR hS hi => ?_) (fun x1 σ H locs hw hR hS => ?_)
  · by_cases cE0 : E = "java/lang/IllegalStateException"
    · replace hX := hX.1 cE0
      subst cE0
      refine tw_catch C hnx [] (0, 9, 12, 13) [(0, 9, 15, 19), (0, 9, 18, 27)] rfl (fun z hz => nomatch hz) rfl (by decide) q1357 q490 hi ?_
      exact wk_X0_partner_b12 C hr hmn hnx hfr hRl _ σ _ _ _ hX hR hS (tk_sub hl [] rfl)
    replace hX := hX.2 cE0
    by_cases cE1 : E = "java/lang/IndexOutOfBoundsException"
    · replace hX := hX.1 cE1
      subst cE1
      refine tw_catch C hnx [(0, 9, 12, 13)] (0, 9, 15, 19) [(0, 9, 18, 27)] rfl (fun z hz => by simp only [List.mem_cons, List.not_mem_nil, or_false] at hz; rcases hz with rfl; exact Or.inr ⟨by decide, _, q1357, by decide +kernel⟩) rfl (by decide) q1394 q687 hi ?_
      exact wk_X0_partner_b15 C hr hmn hnx hfr hRl _ σ _ _ _ hX hR hS (tk_sub hl [] rfl)
    replace hX := hX.2 cE1
    by_cases cE2 : E = "java/util/NoSuchElementException"
    · replace hX := hX.1 cE2
      subst cE2
      refine tw_catch C hnx [(0, 9, 12, 13), (0, 9, 15, 19)] (0, 9, 18, 27) [] rfl (fun z hz => by simp only [List.mem_cons, List.not_mem_nil, or_false] at hz; rcases hz with rfl | rfl <;> first | exact Or.inr ⟨by decide, _, q1357, by decide +kernel⟩ | exact Or.inr ⟨by decide, _, q1394, by decide +kernel⟩) rfl (by decide) q1564 q353 hi ?_
      exact wk_X0_partner_b18 C hr hmn hnx hfr hRl _ σ _ _ _ hX hR hS (tk_sub hl [] rfl)
    replace hX := hX.2 cE2
    exact hX.elim
  refine lv_i2l (v := x1.toInt64) C.hx C.hb dX0_partner_7 rfl ?_
  refine tk_sl C hR hS hw dX0_partner_8 (fun σ H locs hw hR hS => ?_)
  refine lv_goto (tgt := 21) C.hx C.hb dX0_partner_9 (by decide) ?_
  refine lv_iconst (v := 0) C.hx C.hb dX0_partner_21 (by decide) ?_
  exact tw_iret C hR hS hr rfl dX0_partner_22 hw
-- TreeDiffer.moves()I
def w_X1_moves_b49 (k15 : Int32 → Option Nat → Tst → Prop) (Q : Int32 → Tst → Prop) (X : String → Nat → Tst → Prop) (l2 : Option Nat) (s0 : Int32) (s1 : Int32) (σ : Tst) : Prop := k15 (s0 + s1) l2 σ
def w_X1_moves_b15 (Q : Int32 → Tst → Prop) (X : String → Nat → Tst → Prop) : Nat → Int32 → Option Nat → Tst → Prop
  | 0, _, _, _ => False
  | n + 1, l1, l2, σ => w_rc σ l2 cJ18 <| w_J18_hasNext l2 (fun x1 σ => w_if (x1 = 0) (Q l1 σ) (w_rc σ l2 cJ18 <| w_J18_next l2 (fun x2 σ => w_cc σ x2 cX12 <| w_gi σ x2 cX12 0 fun x3 => w_if (x3 = 109) (w_X1_moves_b49 (w_X1_moves_b15 Q X n) Q X l2 l1 1 σ) (w_X1_moves_b49 (w_X1_moves_b15 Q X n) Q X l2 l1 0 σ)) X σ)) X σ
def w_X1_moves (l0 : Option Nat) (Q : Int32 → Tst → Prop) (X : String → Nat → Tst → Prop) (σ : Tst) : Prop := w_rc σ l0 cX1 <| w_X1_latest l0 (fun x1 σ => w_gr σ x1 cX10 2 fun x2 => w_rc σ x2 cJ6 <| w_J6_iterator x2 (fun x3 σ => ∃ z, w_X1_moves_b15 Q X z 0 x3 σ) X σ) X σ
set_option maxHeartbeats 4000000 in
theorem wk_X1_moves_b49  (C : tw_C p l R s m args meth c G cX1_moves 4 yX1_moves.cls) (hr : meth.sig.returnType = (some .int)) (hmn : meth.name = yX1_moves.name) (hnx : (∀ x ∈ c.exceptionTable.toList, False)) (hfr : 8 ≤ R.frames) (hRl : R.locals = 40 * R.frames) {Q : Int32 → Tst → Prop} {X : String → Nat → Tst → Prop}  {k15 : Int32 → Option Nat → Tst → Prop} (hk15 : ∀ (l1 : Int32) (l2 : Option Nat) (σ : Tst) (H : Heap) (locs : List Loc) (ls : Array Slot), k15 l1 l2 σ → tw_R G σ H → va_S (tw_A G) s.heap H locs → tw_l ls 4 [(1, .inl l1), (2, .inr l2)] → tw_W p l e R s m args below meth c σ H locs (tw_E below G (tw_Qi G Q) X args s R) (F0 m 15 ls [])) (l2 : Option Nat) (s0 : Int32) (s1 : Int32) (σ : Tst) (H : Heap) (locs : List Loc) (ls : Array Slot) (hw : w_X1_moves_b49 k15 Q X l2 s0 s1 σ) (hR : tw_R G σ H) (hS : va_S (tw_A G) s.heap H locs) (hl : tw_l ls 4 [(2, .inr l2)]) : tw_W p l e R s m args below meth c σ H locs (tw_E below G (tw_Qi G Q) X args s R) (F0 m 49 ls [.int s1, .int s0]) := by
  unfold w_X1_moves_b49 at hw
  refine lv_iadd C.hx C.hb dX1_moves_49 ?_
  refine tk_istore_n (L' := [(1, .inl (s0 + s1)), (2, .inr l2)]) C hl dX1_moves_50 (by decide) rfl (fun ls hl => ?_)
  refine lv_goto (tgt := 15) C.hx C.hb dX1_moves_51 (by decide) ?_
  exact hk15 _ _ σ _ _ _ hw hR hS (tk_sub hl [0, 1] rfl)
set_option maxHeartbeats 4000000 in
theorem wk_X1_moves_b15  (C : tw_C p l R s m args meth c G cX1_moves 4 yX1_moves.cls) (hr : meth.sig.returnType = (some .int)) (hmn : meth.name = yX1_moves.name) (hnx : (∀ x ∈ c.exceptionTable.toList, False)) (hfr : 8 ≤ R.frames) (hRl : R.locals = 40 * R.frames) {Q : Int32 → Tst → Prop} {X : String → Nat → Tst → Prop}  : ∀ (n : Nat) (l1 : Int32) (l2 : Option Nat) (σ : Tst) (H : Heap) (locs : List Loc) (ls : Array Slot), w_X1_moves_b15 Q X n l1 l2 σ → tw_R G σ H → va_S (tw_A G) s.heap H locs → tw_l ls 4 [(1, .inl l1), (2, .inr l2)] → tw_W p l e R s m args below meth c σ H locs (tw_E below G (tw_Qi G Q) X args s R) (F0 m 15 ls []) := by
  intro n
  induction n with
  | zero => intro l1 l2 σ H locs ls hw; exact False.elim hw
  | succ n hk15 =>
    intro l1 l2 σ H locs ls hw hR hS hl
    rw [w_X1_moves_b15] at hw
    refine tk_aload_n C hl 1 dX1_moves_15 rfl ?_
    obtain ⟨hv, hw⟩ := hw
    refine tw_cbi5 C hS (tk_runF (As := []) (x := ⟨"java/util/Iterator", "hasNext", "()Z"⟩) C hR hS (wk_J18_hasNext l C.hst G (R.frames - 1) (by omega) _ _ _ σ hw) hv rfl q1608 q333 q335 q90 q337 (by decide +kernel) (show tw_pd ⟨"java/util/Iterator", "hasNext", "()Z"⟩ 0 by decide +kernel) ⟨by omega, by omega⟩ hl.1 rfl (tw_r8 [] (Nat.le_of_ble_eq_true rfl)) dX1_moves_16) (fun E q σ H locs hX hR hS hi => tw_out C hR hS (fun x hx => (hnx x hx).elim) hi hX) (fun x1 σ H locs hw hR hS => ?_)
    refine lv_if_eq (tgt := 54) C.hx C.hb dX1_moves_21 (by decide) (fun c21 => ?_) (fun c21 => ?_)
    · replace hw := hw.1 c21
      refine tk_iload_n C hl 0 dX1_moves_54 rfl ?_
      exact tw_iret C hR hS hr rfl dX1_moves_55 hw
    · replace hw := hw.2 c21
      refine tk_aload_n C hl 1 dX1_moves_24 rfl ?_
      obtain ⟨hv, hw⟩ := hw
      refine tw_cbq5 C hS (tk_runF (As := []) (x := ⟨"java/util/Iterator", "next", "()Ljava/lang/Object;"⟩) C hR hS (wk_J18_next l C.hst G (R.frames - 1) (by omega) _ _ _ σ hw) hv rfl q1610 q566 q568 q90 q570 (by decide +kernel) (show tw_pd ⟨"java/util/Iterator", "next", "()Ljava/lang/Object;"⟩ 0 by decide +kernel) ⟨by omega, by omega⟩ hl.1 rfl (tw_r8 [] (Nat.le_of_ble_eq_true rfl)) dX1_moves_25) (fun E q σ H locs hX hR hS hi => tw_out C hR hS (fun x hx => (hnx x hx).elim) hi hX) (fun x2 σ H locs hw hR hS => ?_)
      refine tk_cc C hR hw rfl q1611 (Or.inl rfl) dX1_moves_30 (fun hw => ?_)
      refine tk_astore_n (L' := [(3, .inr x2), (1, .inl l1), (2, .inr l2)]) C hl dX1_moves_33 (by decide) rfl (fun ls hl => ?_)
      refine tk_iload_n C hl 1 dX1_moves_34 rfl ?_
      refine tk_aload_n C hl 0 dX1_moves_35 rfl ?_
      refine tk_giN C hR hw rfl in_X12 (by decide) q1027 (fun _ h => h) dX1_moves_36 (fun x3 hw => ?_)
      refine lv_bipush (v := 109) C.hx C.hb dX1_moves_39 (by decide) ?_
      refine lv_icmp_ne (tgt := 48) C.hx C.hb dX1_moves_41 (by decide) (fun c41 => ?_) (fun c41 => ?_)
      · replace hw := hw.2 c41
        refine lv_iconst (v := 0) C.hx C.hb dX1_moves_48 (by decide) ?_
        exact wk_X1_moves_b49 C hr hmn hnx hfr hRl hk15 _ _ _ σ _ _ _ hw hR hS (tk_sub hl [2] rfl)
      · replace hw := hw.1 c41
        refine lv_iconst (v := 1) C.hx C.hb dX1_moves_44 (by decide) ?_
        refine lv_goto (tgt := 49) C.hx C.hb dX1_moves_45 (by decide) ?_
        exact wk_X1_moves_b49 C hr hmn hnx hfr hRl hk15 _ _ _ σ _ _ _ hw hR hS (tk_sub hl [2] rfl)
set_option maxHeartbeats 4000000 in
theorem wk_X1_moves (l : Launch) (hl0 : l.stackTraces = false) (G : Tgl) (fr : Nat)  (hfr : 8 ≤ fr) (l0 : Option Nat) (Q : Int32 → Tst → Prop) (X : String → Nat → Tst → Prop) (σ : Tst) (hw : w_X1_moves l0 Q X σ) : tw_M l yX1_moves (ws_ yX1_moves cX1_moves 4 (some .int)) fr (40 * fr) G σ [.inr l0] (tw_Qi G Q) X := by
  unfold w_X1_moves at hw
  refine tw_of (ret := (some .int)) hl0 (by decide) (Nat.le_of_ble_eq_true rfl) (fun p e R s m args below meth c hRf hRl C hr hmn hnx hR hS ls hl => ?_)
  have hfr : 8 ≤ R.frames := by rw [hRf]; exact hfr
  have hRl : R.locals = 40 * R.frames := by rw [hRl, hRf]
  have hl : tw_l ls 4 [(0, .inr l0)] := hl
  refine lv_iconst (v := 0) C.hx C.hb dX1_moves_0 (by decide) ?_
  refine tk_istore_n (L' := [(1, .inl 0), (0, .inr l0)]) C hl dX1_moves_1 (by decide) rfl (fun ls hl => ?_)
  refine tk_aload_n C hl 1 dX1_moves_2 rfl ?_
  obtain ⟨hv, hw⟩ := hw
  refine tw_cbq C hS (tk_runV (As := []) C hR hS (wk_X1_latest l C.hst G (R.frames - 1) (by omega) _ _ _ σ hw) hv rfl q1601 q1603 qs17 q64 q1604 pd_X1_latest ⟨by omega, by omega⟩ hl.1 rfl (tw_r8 [] (Nat.le_of_ble_eq_true rfl)) dX1_moves_3) (fun E q σ H locs hX hR hS hi => tw_out C hR hS (fun x hx => (hnx x hx).elim) hi hX) (fun x1 σ H locs hw hR hS => ?_)
  refine tk_grN C hR hw rfl in_X10 (by decide) q1899 (fun _ h => h) dX1_moves_6 (fun x2 hw => ?_)
  obtain ⟨hv, hw⟩ := hw
  refine tw_cbq5 C hS (tk_runF (As := []) (x := ⟨"java/util/List", "iterator", "()Ljava/util/Iterator;"⟩) C hR hS (wk_J6_iterator l C.hst G (R.frames - 1) (by omega) _ _ _ σ hw) hv rfl q1606 q294 q296 q73 q298 (by decide +kernel) (show tw_pd ⟨"java/util/List", "iterator", "()Ljava/util/Iterator;"⟩ 0 by decide +kernel) ⟨by omega, by omega⟩ hl.1 rfl (tw_r8 [] (Nat.le_of_ble_eq_true rfl)) dX1_moves_9) (fun E q σ H locs hX hR hS hi => tw_out C hR hS (fun x hx => (hnx x hx).elim) hi hX) (fun x3 σ H locs hw hR hS => ?_)
  refine tk_astore_n (L' := [(2, .inr x3), (1, .inl 0), (0, .inr l0)]) C hl dX1_moves_14 (by decide) rfl (fun ls hl => ?_)
  obtain ⟨z, hw⟩ := hw
  exact wk_X1_moves_b15 C hr hmn hnx hfr hRl z _ _ σ _ _ _ hw hR hS (tk_sub hl [1, 0] rfl)
-- TreeDifferLaw.moves(LTreeDiffer;[J)I
def w_X0_moves_b11 (Q : Int32 → Tst → Prop) (X : String → Nat → Tst → Prop) (s0 : Option Nat) (σ : Tst) : Prop := Q 1 σ
def w_X0_moves (l0 : Option Nat) (l1 : Option Nat) (Q : Int32 → Tst → Prop) (X : String → Nat → Tst → Prop) (σ : Tst) : Prop := w_rc σ l0 cX1 <| w_X1_moves l0 (fun x1 σ => w_sl σ l1 0 (x1.toInt64) fun σ => Q 0 σ) (fun E q σ => w_if (E = "java/lang/IllegalStateException") (w_X0_moves_b11 Q X (some q) σ) (False)) σ
set_option maxHeartbeats 4000000 in
theorem wk_X0_moves_b11  (C : tw_C p l R s m args meth c G cX0_moves 3 yX0_moves.cls) (hr : meth.sig.returnType = (some .int)) (hmn : meth.name = yX0_moves.name) (hnx : (c.exceptionTable.toList = tableOf [(0, 8, 11, 13)])) (hfr : 9 ≤ R.frames) (hRl : R.locals = 40 * R.frames) {Q : Int32 → Tst → Prop} {X : String → Nat → Tst → Prop}  (s0 : Option Nat) (σ : Tst) (H : Heap) (locs : List Loc) (ls : Array Slot) (hw : w_X0_moves_b11 Q X s0 σ) (hR : tw_R G σ H) (hS : va_S (tw_A G) s.heap H locs) (hl : tw_l ls 3 []) : tw_W p l e R s m args below meth c σ H locs (tw_E below G (tw_Qi G Q) X args s R) (F0 m 11 ls [va_rf s0]) := by
  unfold w_X0_moves_b11 at hw
  refine tk_astore_n (L' := [(2, .inr s0)]) C hl dX0_moves_11 (by decide) rfl (fun ls hl => ?_)
  refine lv_iconst (v := 1) C.hx C.hb dX0_moves_12 (by decide) ?_
  exact tw_iret C hR hS hr rfl dX0_moves_13 hw
set_option maxHeartbeats 4000000 in
theorem wk_X0_moves (l : Launch) (hl0 : l.stackTraces = false) (G : Tgl) (fr : Nat)  (hfr : 9 ≤ fr) (l0 : Option Nat) (l1 : Option Nat) (Q : Int32 → Tst → Prop) (X : String → Nat → Tst → Prop) (σ : Tst) (hw : w_X0_moves l0 l1 Q X σ) : tw_M l yX0_moves (wsW_ yX0_moves cX0_moves 3 (some .int) [(0, 8, 11, 13)]) fr (40 * fr) G σ [.inr l0, .inr l1] (tw_Qi G Q) X := by
  unfold w_X0_moves at hw
  refine tw_ofW (ret := (some .int)) (hh := [(0, 8, 11, 13)]) hl0 (by decide) (Nat.le_of_ble_eq_true rfl) (fun p e R s m args below meth c hRf hRl C hr hmn hnx hR hS ls hl => ?_)
  have hfr : 9 ≤ R.frames := by rw [hRf]; exact hfr
  have hRl : R.locals = 40 * R.frames := by rw [hRl, hRf]
  have hl : tw_l ls 3 [(0, .inr l0), (1, .inr l1)] := hl
  refine tk_aload_n C hl 1 dX0_moves_0 rfl ?_
  refine lv_iconst (v := 0) C.hx C.hb dX0_moves_1 (by decide) ?_
  refine tk_aload_n C hl 0 dX0_moves_2 rfl ?_
  obtain ⟨hv, hw⟩ := hw
  refine tw_cbi C hS (tk_runV (As := []) C hR hS (wk_X1_moves l C.hst G (R.frames - 1) (by omega) _ _ _ σ hw) hv rfl q1949 q1950 q1951 q64 q1952 pd_X1_moves ⟨by omega, by omega⟩ hl.1 rfl (tw_r8 [.inl 0, .inr l1] (Nat.le_of_ble_eq_true rfl)) dX0_moves_3) (fun E q σ H locs hX hR hS hi => ?_) (fun x1 σ H locs hw hR hS => ?_)
  · by_cases cE0 : E = "java/lang/IllegalStateException"
    · replace hX := hX.1 cE0
      subst cE0
      refine tw_catch C hnx [] (0, 8, 11, 13) [] rfl (fun z hz => nomatch hz) rfl (by decide) q1357 q490 hi ?_
      exact wk_X0_moves_b11 C hr hmn hnx hfr hRl _ σ _ _ _ hX hR hS (tk_sub hl [] rfl)
    replace hX := hX.2 cE0
    exact hX.elim
  refine lv_i2l (v := x1.toInt64) C.hx C.hb dX0_moves_6 rfl ?_
  refine tk_sl C hR hS hw dX0_moves_7 (fun σ H locs hw hR hS => ?_)
  refine lv_goto (tgt := 14) C.hx C.hb dX0_moves_8 (by decide) ?_
  refine lv_iconst (v := 0) C.hx C.hb dX0_moves_14 (by decide) ?_
  exact tw_iret C hR hS hr rfl dX0_moves_15 hw
-- TreeDiffer$Operation.cost()I
def w_X12_cost (l0 : Option Nat) (Q : Int32 → Tst → Prop) (X : String → Nat → Tst → Prop) (σ : Tst) : Prop := w_gi σ l0 cX12 0 fun x1 => w_if (x1 = 100) (w_gr σ l0 cX12 1 fun x2 => w_rc σ x2 cX3 <| w_X3_size 64 x2 (fun x3 σ => Q (2 * x3) σ) X σ) (w_if (x1 = 108) (Q 3 σ) (w_if (x1 = 109) (Q 1 σ) (w_if (x1 = 118) (Q 1 σ) (w_gr σ l0 cX12 2 fun x4 => w_rc σ x4 cX3 <| w_X3_size 64 x4 (fun x5 σ => Q (2 * x5) σ) X σ))))
set_option maxHeartbeats 4000000 in
theorem wk_X12_cost (l : Launch) (hl0 : l.stackTraces = false) (G : Tgl) (fr : Nat)  (hfr : 68 ≤ fr) (l0 : Option Nat) (Q : Int32 → Tst → Prop) (X : String → Nat → Tst → Prop) (σ : Tst) (hw : w_X12_cost l0 Q X σ) : tw_M l yX12_cost (ws_ yX12_cost cX12_cost 1 (some .int)) fr (40 * fr) G σ [.inr l0] (tw_Qi G Q) X := by
  unfold w_X12_cost at hw
  refine tw_of (ret := (some .int)) hl0 (by decide) (Nat.le_of_ble_eq_true rfl) (fun p e R s m args below meth c hRf hRl C hr hmn hnx hR hS ls hl => ?_)
  have hfr : 68 ≤ R.frames := by rw [hRf]; exact hfr
  have hRl : R.locals = 40 * R.frames := by rw [hRl, hRf]
  have hl : tw_l ls 1 [(0, .inr l0)] := hl
  refine tk_aload_n C hl 0 dX12_cost_0 rfl ?_
  refine tk_gi C hR hw rfl in_X12 (by decide) q1024 (fun _ h => h) dX12_cost_1 (fun x1 hw => ?_)
  by_cases c4_0 : x1 = 100
  · replace hw := hw.1 c4_0
    refine lv_lookup (tgt := 54) (off := 50) C.hx C.hb dX12_cost_4 (by decide) ((by rw [c4_0]; rfl)) (by decide) ?_
    refine lv_iconst (v := 2) C.hx C.hb dX12_cost_54 (by decide) ?_
    refine tk_aload_n C hl 0 dX12_cost_55 rfl ?_
    refine tk_gr C hR hw rfl in_X12 (by decide) q1028 (fun _ h => h) dX12_cost_56 (fun x2 hw => ?_)
    obtain ⟨hv, hw⟩ := hw
    refine tw_cbi C hS (tk_runV (As := []) C hR hS (wk_X3_size l C.hst G 64 (R.frames - 1) (by omega) _ _ _ σ hw) hv rfl q1353 q287 q288 q70 q289 pd_X3_size ⟨by omega, by omega⟩ hl.1 rfl (tw_r8 [.inl 2] (Nat.le_of_ble_eq_true rfl)) dX12_cost_59) (fun E q σ H locs hX hR hS hi => tw_out C hR hS (fun x hx => (hnx x hx).elim) hi hX) (fun x3 σ H locs hw hR hS => ?_)
    refine lv_imul C.hx C.hb dX12_cost_62 ?_
    exact tw_iret C hR hS hr rfl dX12_cost_63 hw
  replace hw := hw.2 c4_0
  by_cases c4_1 : x1 = 108
  · replace hw := hw.1 c4_1
    refine lv_lookup (tgt := 48) (off := 44) C.hx C.hb dX12_cost_4 (by decide) ((lv_osw c4_0 rfl).trans <| (by rw [c4_1]; rfl)) (by decide) ?_
    refine lv_iconst (v := 3) C.hx C.hb dX12_cost_48 (by decide) ?_
    exact tw_iret C hR hS hr rfl dX12_cost_49 hw
  replace hw := hw.2 c4_1
  by_cases c4_2 : x1 = 109
  · replace hw := hw.1 c4_2
    refine lv_lookup (tgt := 52) (off := 48) C.hx C.hb dX12_cost_4 (by decide) ((lv_osw c4_0 rfl).trans <| (lv_osw c4_1 rfl).trans <| (by rw [c4_2]; rfl)) (by decide) ?_
    refine lv_iconst (v := 1) C.hx C.hb dX12_cost_52 (by decide) ?_
    exact tw_iret C hR hS hr rfl dX12_cost_53 hw
  replace hw := hw.2 c4_2
  by_cases c4_3 : x1 = 118
  · replace hw := hw.1 c4_3
    refine lv_lookup (tgt := 50) (off := 46) C.hx C.hb dX12_cost_4 (by decide) ((lv_osw c4_0 rfl).trans <| (lv_osw c4_1 rfl).trans <| (lv_osw c4_2 rfl).trans <| (by rw [c4_3]; rfl)) (by decide) ?_
    refine lv_iconst (v := 1) C.hx C.hb dX12_cost_50 (by decide) ?_
    exact tw_iret C hR hS hr rfl dX12_cost_51 hw
  replace hw := hw.2 c4_3
  refine lv_lookup (tgt := 64) (off := 60) C.hx C.hb dX12_cost_4 (by decide) ((lv_osw c4_0 rfl).trans <| (lv_osw c4_1 rfl).trans <| (lv_osw c4_2 rfl).trans <| (lv_osw c4_3 rfl).trans <| rfl) (by decide) ?_
  refine lv_iconst (v := 2) C.hx C.hb dX12_cost_64 (by decide) ?_
  refine tk_aload_n C hl 0 dX12_cost_65 rfl ?_
  refine tk_gr C hR hw rfl in_X12 (by decide) q1031 (fun _ h => h) dX12_cost_66 (fun x4 hw => ?_)
  obtain ⟨hv, hw⟩ := hw
  refine tw_cbi C hS (tk_runV (As := []) C hR hS (wk_X3_size l C.hst G 64 (R.frames - 1) (by omega) _ _ _ σ hw) hv rfl q1353 q287 q288 q70 q289 pd_X3_size ⟨by omega, by omega⟩ hl.1 rfl (tw_r8 [.inl 2] (Nat.le_of_ble_eq_true rfl)) dX12_cost_69) (fun E q σ H locs hX hR hS hi => tw_out C hR hS (fun x hx => (hnx x hx).elim) hi hX) (fun x5 σ H locs hw hR hS => ?_)
  refine lv_imul C.hx C.hb dX12_cost_72 ?_
  exact tw_iret C hR hS hr rfl dX12_cost_73 hw
-- TreeDiffer$Script.cost()I
def w_X10_cost_b12 (Q : Int32 → Tst → Prop) (X : String → Nat → Tst → Prop) : Nat → Int32 → Option Nat → Tst → Prop
  | 0, _, _, _ => False
  | n + 1, l1, l2, σ => w_rc σ l2 cJ18 <| w_J18_hasNext l2 (fun x1 σ => w_if (x1 = 0) (Q l1 σ) (w_rc σ l2 cJ18 <| w_J18_next l2 (fun x2 σ => w_cc σ x2 cX12 <| w_rc σ x2 cX12 <| w_X12_cost x2 (fun x3 σ => (w_X10_cost_b12 Q X n) (l1 + x3) l2 σ) X σ) X σ)) X σ
def w_X10_cost (l0 : Option Nat) (Q : Int32 → Tst → Prop) (X : String → Nat → Tst → Prop) (σ : Tst) : Prop := w_gr σ l0 cX10 2 fun x1 => w_rc σ x1 cJ6 <| w_J6_iterator x1 (fun x2 σ => ∃ z, w_X10_cost_b12 Q X z 0 x2 σ) X σ
set_option maxHeartbeats 4000000 in
theorem wk_X10_cost_b12  (C : tw_C p l R s m args meth c G cX10_cost 4 yX10_cost.cls) (hr : meth.sig.returnType = (some .int)) (hmn : meth.name = yX10_cost.name) (hnx : (∀ x ∈ c.exceptionTable.toList, False)) (hfr : 69 ≤ R.frames) (hRl : R.locals = 40 * R.frames) {Q : Int32 → Tst → Prop} {X : String → Nat → Tst → Prop}  : ∀ (n : Nat) (l1 : Int32) (l2 : Option Nat) (σ : Tst) (H : Heap) (locs : List Loc) (ls : Array Slot), w_X10_cost_b12 Q X n l1 l2 σ → tw_R G σ H → va_S (tw_A G) s.heap H locs → tw_l ls 4 [(1, .inl l1), (2, .inr l2)] → tw_W p l e R s m args below meth c σ H locs (tw_E below G (tw_Qi G Q) X args s R) (F0 m 12 ls []) := by
  intro n
  induction n with
  | zero => intro l1 l2 σ H locs ls hw; exact False.elim hw
  | succ n hk12 =>
    intro l1 l2 σ H locs ls hw hR hS hl
    rw [w_X10_cost_b12] at hw
    refine tk_aload_n C hl 1 dX10_cost_12 rfl ?_
    obtain ⟨hv, hw⟩ := hw
    refine tw_cbi5 C hS (tk_runF (As := []) (x := ⟨"java/util/Iterator", "hasNext", "()Z"⟩) C hR hS (wk_J18_hasNext l C.hst G (R.frames - 1) (by omega) _ _ _ σ hw) hv rfl q1345 q333 q335 q90 q337 (by decide +kernel) (show tw_pd ⟨"java/util/Iterator", "hasNext", "()Z"⟩ 0 by decide +kernel) ⟨by omega, by omega⟩ hl.1 rfl (tw_r8 [] (Nat.le_of_ble_eq_true rfl)) dX10_cost_13) (fun E q σ H locs hX hR hS hi => tw_out C hR hS (fun x hx => (hnx x hx).elim) hi hX) (fun x1 σ H locs hw hR hS => ?_)
    refine lv_if_eq (tgt := 41) C.hx C.hb dX10_cost_18 (by decide) (fun c18 => ?_) (fun c18 => ?_)
    · replace hw := hw.1 c18
      refine tk_iload_n C hl 0 dX10_cost_41 rfl ?_
      exact tw_iret C hR hS hr rfl dX10_cost_42 hw
    · replace hw := hw.2 c18
      refine tk_aload_n C hl 1 dX10_cost_21 rfl ?_
      obtain ⟨hv, hw⟩ := hw
      refine tw_cbq5 C hS (tk_runF (As := []) (x := ⟨"java/util/Iterator", "next", "()Ljava/lang/Object;"⟩) C hR hS (wk_J18_next l C.hst G (R.frames - 1) (by omega) _ _ _ σ hw) hv rfl q1347 q566 q568 q90 q570 (by decide +kernel) (show tw_pd ⟨"java/util/Iterator", "next", "()Ljava/lang/Object;"⟩ 0 by decide +kernel) ⟨by omega, by omega⟩ hl.1 rfl (tw_r8 [] (Nat.le_of_ble_eq_true rfl)) dX10_cost_22) (fun E q σ H locs hX hR hS hi => tw_out C hR hS (fun x hx => (hnx x hx).elim) hi hX) (fun x2 σ H locs hw hR hS => ?_)
      refine tk_cc C hR hw rfl q1348 (Or.inl rfl) dX10_cost_27 (fun hw => ?_)
      refine tk_astore_n (L' := [(3, .inr x2), (1, .inl l1), (2, .inr l2)]) C hl dX10_cost_30 (by decide) rfl (fun ls hl => ?_)
      refine tk_iload_n C hl 1 dX10_cost_31 rfl ?_
      refine tk_aload_n C hl 0 dX10_cost_32 rfl ?_
      obtain ⟨hv, hw⟩ := hw
      refine tw_cbi C hS (tk_runV (As := []) C hR hS (wk_X12_cost l C.hst G (R.frames - 1) (by omega) _ _ _ σ hw) hv rfl q1349 q1350 q1351 q103 q1352 pd_X12_cost ⟨by omega, by omega⟩ hl.1 rfl (tw_r8 [.inl l1] (Nat.le_of_ble_eq_true rfl)) dX10_cost_33) (fun E q σ H locs hX hR hS hi => tw_out C hR hS (fun x hx => (hnx x hx).elim) hi hX) (fun x3 σ H locs hw hR hS => ?_)
      refine lv_iadd C.hx C.hb dX10_cost_36 ?_
      refine tk_istore_n (L' := [(1, .inl (l1 + x3)), (3, .inr x2), (2, .inr l2)]) C hl dX10_cost_37 (by decide) rfl (fun ls hl => ?_)
      refine lv_goto (tgt := 12) C.hx C.hb dX10_cost_38 (by decide) ?_
      exact hk12 _ _ σ _ _ _ hw hR hS (tk_sub hl [0, 2] rfl)
set_option maxHeartbeats 4000000 in
theorem wk_X10_cost (l : Launch) (hl0 : l.stackTraces = false) (G : Tgl) (fr : Nat)  (hfr : 69 ≤ fr) (l0 : Option Nat) (Q : Int32 → Tst → Prop) (X : String → Nat → Tst → Prop) (σ : Tst) (hw : w_X10_cost l0 Q X σ) : tw_M l yX10_cost (ws_ yX10_cost cX10_cost 4 (some .int)) fr (40 * fr) G σ [.inr l0] (tw_Qi G Q) X := by
  unfold w_X10_cost at hw
  refine tw_of (ret := (some .int)) hl0 (by decide) (Nat.le_of_ble_eq_true rfl) (fun p e R s m args below meth c hRf hRl C hr hmn hnx hR hS ls hl => ?_)
  have hfr : 69 ≤ R.frames := by rw [hRf]; exact hfr
  have hRl : R.locals = 40 * R.frames := by rw [hRl, hRf]
  have hl : tw_l ls 4 [(0, .inr l0)] := hl
  refine lv_iconst (v := 0) C.hx C.hb dX10_cost_0 (by decide) ?_
  refine tk_istore_n (L' := [(1, .inl 0), (0, .inr l0)]) C hl dX10_cost_1 (by decide) rfl (fun ls hl => ?_)
  refine tk_aload_n C hl 1 dX10_cost_2 rfl ?_
  refine tk_gr C hR hw rfl in_X10 (by decide) q1896 (fun _ h => h) dX10_cost_3 (fun x1 hw => ?_)
  obtain ⟨hv, hw⟩ := hw
  refine tw_cbq5 C hS (tk_runF (As := []) (x := ⟨"java/util/List", "iterator", "()Ljava/util/Iterator;"⟩) C hR hS (wk_J6_iterator l C.hst G (R.frames - 1) (by omega) _ _ _ σ hw) hv rfl q1343 q294 q296 q73 q298 (by decide +kernel) (show tw_pd ⟨"java/util/List", "iterator", "()Ljava/util/Iterator;"⟩ 0 by decide +kernel) ⟨by omega, by omega⟩ hl.1 rfl (tw_r8 [] (Nat.le_of_ble_eq_true rfl)) dX10_cost_6) (fun E q σ H locs hX hR hS hi => tw_out C hR hS (fun x hx => (hnx x hx).elim) hi hX) (fun x2 σ H locs hw hR hS => ?_)
  refine tk_astore_n (L' := [(2, .inr x2), (1, .inl 0), (0, .inr l0)]) C hl dX10_cost_11 (by decide) rfl (fun ls hl => ?_)
  obtain ⟨z, hw⟩ := hw
  exact wk_X10_cost_b12 C hr hmn hnx hfr hRl z _ _ σ _ _ _ hw hR hS (tk_sub hl [1, 0] rfl)
-- TreeDiffer.scriptCost()I
def w_X1_scriptCost (l0 : Option Nat) (Q : Int32 → Tst → Prop) (X : String → Nat → Tst → Prop) (σ : Tst) : Prop := w_rc σ l0 cX1 <| w_X1_latest l0 (fun x1 σ => w_rc σ x1 cX10 <| w_X10_cost x1 (fun x2 σ => Q x2 σ) X σ) X σ
set_option maxHeartbeats 4000000 in
theorem wk_X1_scriptCost (l : Launch) (hl0 : l.stackTraces = false) (G : Tgl) (fr : Nat)  (hfr : 70 ≤ fr) (l0 : Option Nat) (Q : Int32 → Tst → Prop) (X : String → Nat → Tst → Prop) (σ : Tst) (hw : w_X1_scriptCost l0 Q X σ) : tw_M l yX1_scriptCost (ws_ yX1_scriptCost cX1_scriptCost 1 (some .int)) fr (40 * fr) G σ [.inr l0] (tw_Qi G Q) X := by
  unfold w_X1_scriptCost at hw
  refine tw_of (ret := (some .int)) hl0 (by decide) (Nat.le_of_ble_eq_true rfl) (fun p e R s m args below meth c hRf hRl C hr hmn hnx hR hS ls hl => ?_)
  have hfr : 70 ≤ R.frames := by rw [hRf]; exact hfr
  have hRl : R.locals = 40 * R.frames := by rw [hRl, hRf]
  have hl : tw_l ls 1 [(0, .inr l0)] := hl
  refine tk_aload_n C hl 0 dX1_scriptCost_0 rfl ?_
  obtain ⟨hv, hw⟩ := hw
  refine tw_cbq C hS (tk_runV (As := []) C hR hS (wk_X1_latest l C.hst G (R.frames - 1) (by omega) _ _ _ σ hw) hv rfl q1601 q1603 qs17 q64 q1604 pd_X1_latest ⟨by omega, by omega⟩ hl.1 rfl (tw_r8 [] (Nat.le_of_ble_eq_true rfl)) dX1_scriptCost_1) (fun E q σ H locs hX hR hS hi => tw_out C hR hS (fun x hx => (hnx x hx).elim) hi hX) (fun x1 σ H locs hw hR hS => ?_)
  obtain ⟨hv, hw⟩ := hw
  refine tw_cbi C hS (tk_runV (As := []) C hR hS (wk_X10_cost l C.hst G (R.frames - 1) (by omega) _ _ _ σ hw) hv rfl q1338 q1339 q1340 q101 q1341 pd_X10_cost ⟨by omega, by omega⟩ hl.1 rfl (tw_r8 [] (Nat.le_of_ble_eq_true rfl)) dX1_scriptCost_4) (fun E q σ H locs hX hR hS hi => tw_out C hR hS (fun x hx => (hnx x hx).elim) hi hX) (fun x2 σ H locs hw hR hS => ?_)
  exact tw_iret C hR hS hr rfl dX1_scriptCost_7 hw
-- TreeDifferLaw.scriptCost(LTreeDiffer;[J)I
def w_X0_scriptCost_b11 (Q : Int32 → Tst → Prop) (X : String → Nat → Tst → Prop) (s0 : Option Nat) (σ : Tst) : Prop := Q 1 σ
def w_X0_scriptCost (l0 : Option Nat) (l1 : Option Nat) (Q : Int32 → Tst → Prop) (X : String → Nat → Tst → Prop) (σ : Tst) : Prop := w_rc σ l0 cX1 <| w_X1_scriptCost l0 (fun x1 σ => w_sl σ l1 0 (x1.toInt64) fun σ => Q 0 σ) (fun E q σ => w_if (E = "java/lang/IllegalStateException") (w_X0_scriptCost_b11 Q X (some q) σ) (False)) σ
set_option maxHeartbeats 4000000 in
theorem wk_X0_scriptCost_b11  (C : tw_C p l R s m args meth c G cX0_scriptCost 3 yX0_scriptCost.cls) (hr : meth.sig.returnType = (some .int)) (hmn : meth.name = yX0_scriptCost.name) (hnx : (c.exceptionTable.toList = tableOf [(0, 8, 11, 13)])) (hfr : 71 ≤ R.frames) (hRl : R.locals = 40 * R.frames) {Q : Int32 → Tst → Prop} {X : String → Nat → Tst → Prop}  (s0 : Option Nat) (σ : Tst) (H : Heap) (locs : List Loc) (ls : Array Slot) (hw : w_X0_scriptCost_b11 Q X s0 σ) (hR : tw_R G σ H) (hS : va_S (tw_A G) s.heap H locs) (hl : tw_l ls 3 []) : tw_W p l e R s m args below meth c σ H locs (tw_E below G (tw_Qi G Q) X args s R) (F0 m 11 ls [va_rf s0]) := by
  unfold w_X0_scriptCost_b11 at hw
  refine tk_astore_n (L' := [(2, .inr s0)]) C hl dX0_scriptCost_11 (by decide) rfl (fun ls hl => ?_)
  refine lv_iconst (v := 1) C.hx C.hb dX0_scriptCost_12 (by decide) ?_
  exact tw_iret C hR hS hr rfl dX0_scriptCost_13 hw
set_option maxHeartbeats 4000000 in
theorem wk_X0_scriptCost (l : Launch) (hl0 : l.stackTraces = false) (G : Tgl) (fr : Nat)  (hfr : 71 ≤ fr) (l0 : Option Nat) (l1 : Option Nat) (Q : Int32 → Tst → Prop) (X : String → Nat → Tst → Prop) (σ : Tst) (hw : w_X0_scriptCost l0 l1 Q X σ) : tw_M l yX0_scriptCost (wsW_ yX0_scriptCost cX0_scriptCost 3 (some .int) [(0, 8, 11, 13)]) fr (40 * fr) G σ [.inr l0, .inr l1] (tw_Qi G Q) X := by
  unfold w_X0_scriptCost at hw
  refine tw_ofW (ret := (some .int)) (hh := [(0, 8, 11, 13)]) hl0 (by decide) (Nat.le_of_ble_eq_true rfl) (fun p e R s m args below meth c hRf hRl C hr hmn hnx hR hS ls hl => ?_)
  have hfr : 71 ≤ R.frames := by rw [hRf]; exact hfr
  have hRl : R.locals = 40 * R.frames := by rw [hRl, hRf]
  have hl : tw_l ls 3 [(0, .inr l0), (1, .inr l1)] := hl
  refine tk_aload_n C hl 1 dX0_scriptCost_0 rfl ?_
  refine lv_iconst (v := 0) C.hx C.hb dX0_scriptCost_1 (by decide) ?_
  refine tk_aload_n C hl 0 dX0_scriptCost_2 rfl ?_
  obtain ⟨hv, hw⟩ := hw
  refine tw_cbi C hS (tk_runV (As := []) C hR hS (wk_X1_scriptCost l C.hst G (R.frames - 1) (by omega) _ _ _ σ hw) hv rfl q1956 q1957 q1958 q64 q1959 pd_X1_scriptCost ⟨by omega, by omega⟩ hl.1 rfl (tw_r8 [.inl 0, .inr l1] (Nat.le_of_ble_eq_true rfl)) dX0_scriptCost_3) (fun E q σ H locs hX hR hS hi => ?_) (fun x1 σ H locs hw hR hS => ?_)
  · by_cases cE0 : E = "java/lang/IllegalStateException"
    · replace hX := hX.1 cE0
      subst cE0
      refine tw_catch C hnx [] (0, 8, 11, 13) [] rfl (fun z hz => nomatch hz) rfl (by decide) q1357 q490 hi ?_
      exact wk_X0_scriptCost_b11 C hr hmn hnx hfr hRl _ σ _ _ _ hX hR hS (tk_sub hl [] rfl)
    replace hX := hX.2 cE0
    exact hX.elim
  refine lv_i2l (v := x1.toInt64) C.hx C.hb dX0_scriptCost_6 rfl ?_
  refine tk_sl C hR hS hw dX0_scriptCost_7 (fun σ H locs hw hR hS => ?_)
  refine lv_goto (tgt := 14) C.hx C.hb dX0_scriptCost_8 (by decide) ?_
  refine lv_iconst (v := 0) C.hx C.hb dX0_scriptCost_14 (by decide) ?_
  exact tw_iret C hR hS hr rfl dX0_scriptCost_15 hw
-- TreeDiffer$Patch$1.<init>(LTreeDiffer$Patch;)V
def w_X14_init (l0 : Option Nat) (l1 : Option Nat) (Q : Tst → Prop) (X : String → Nat → Tst → Prop) (σ : Tst) : Prop := w_p σ l0 cX14 0 (.inr l1) fun σ => w_rf l0 <| Q σ
set_option maxHeartbeats 4000000 in
theorem wk_X14_init (l : Launch) (hl0 : l.stackTraces = false) (G : Tgl) (fr : Nat)  (hfr : 1 ≤ fr) (l0 : Option Nat) (l1 : Option Nat) (Q : Tst → Prop) (X : String → Nat → Tst → Prop) (σ : Tst) (hw : w_X14_init l0 l1 Q X σ) : tw_M l yX14_init (ws_ yX14_init cX14_init 2 none) fr (40 * fr) G σ [.inr l0, .inr l1] (tw_Qv G Q) X := by
  unfold w_X14_init at hw
  refine tw_of (ret := none) hl0 (by decide) (Nat.le_of_ble_eq_true rfl) (fun p e R s m args below meth c hRf hRl C hr hmn hnx hR hS ls hl => ?_)
  have hfr : 1 ≤ R.frames := by rw [hRf]; exact hfr
  have hRl : R.locals = 40 * R.frames := by rw [hRl, hRf]
  have hl : tw_l ls 2 [(0, .inr l0), (1, .inr l1)] := hl
  refine tk_aload_n C hl 0 dX14_init_0 rfl ?_
  refine tk_aload_n C hl 1 dX14_init_1 rfl ?_
  refine tk_pF (x := .inr l1) C hR hS hw (Or.inl (by decide)) rfl in_X14 tyX14 tyX14_ok nmX14 (by decide) q995 (fun _ h => h) rfl hmn rfl (tw_nr _ _) dX14_init_2 (fun σ H locs hw hR hS => ?_)
  refine tk_aload_n C hl 0 dX14_init_5 rfl ?_
  refine tk_obj C hw q994 q119 q120 hl.1 (tw_r8 [] (Nat.le_of_ble_eq_true rfl)) (by omega) (by omega) dX14_init_6 (fun hw => ?_)
  exact tw_vret C hR hS hr dX14_init_9 hw
-- TreeDiffer$Patch$1.pair(LTreeDiffer$Node;LTreeDiffer$Node;)V
def w_X14_pair (l0 : Option Nat) (l1 : Option Nat) (l2 : Option Nat) (Q : Tst → Prop) (X : String → Nat → Tst → Prop) (σ : Tst) : Prop := w_p σ l1 cX3 6 (.inr l2) fun σ => Q σ
set_option maxHeartbeats 4000000 in
theorem wk_X14_pair (l : Launch) (hl0 : l.stackTraces = false) (G : Tgl) (fr : Nat)  (hfr : 1 ≤ fr) (l0 : Option Nat) (l1 : Option Nat) (l2 : Option Nat) (Q : Tst → Prop) (X : String → Nat → Tst → Prop) (σ : Tst) (hw : w_X14_pair l0 l1 l2 Q X σ) : tw_M l yX14_pair (ws_ yX14_pair cX14_pair 3 none) fr (40 * fr) G σ [.inr l0, .inr l1, .inr l2] (tw_Qv G Q) X := by
  unfold w_X14_pair at hw
  refine tw_of (ret := none) hl0 (by decide) (Nat.le_of_ble_eq_true rfl) (fun p e R s m args below meth c hRf hRl C hr hmn hnx hR hS ls hl => ?_)
  have hfr : 1 ≤ R.frames := by rw [hRf]; exact hfr
  have hRl : R.locals = 40 * R.frames := by rw [hRl, hRf]
  have hl : tw_l ls 3 [(0, .inr l0), (1, .inr l1), (2, .inr l2)] := hl
  refine tk_aload_n C hl 1 dX14_pair_0 rfl ?_
  refine tk_aload_n C hl 2 dX14_pair_1 rfl ?_
  refine tk_pN (x := .inr l2) C hR hS hw (by decide) rfl in_X3 tyX3 tyX3_ok nmX3 (by decide) q219 (fun _ h => h) rfl (tw_nr _ _) dX14_pair_2 (fun σ H locs hw hR hS => ?_)
  exact tw_vret C hR hS hr dX14_pair_5 hw
-- TreeDiffer$Patch$1.deletion(LTreeDiffer$Node;)V
def w_X14_deletion (l0 : Option Nat) (l1 : Option Nat) (Q : Tst → Prop) (X : String → Nat → Tst → Prop) (σ : Tst) : Prop := Q σ
set_option maxHeartbeats 4000000 in
theorem wk_X14_deletion (l : Launch) (hl0 : l.stackTraces = false) (G : Tgl) (fr : Nat)  (hfr : 1 ≤ fr) (l0 : Option Nat) (l1 : Option Nat) (Q : Tst → Prop) (X : String → Nat → Tst → Prop) (σ : Tst) (hw : w_X14_deletion l0 l1 Q X σ) : tw_M l yX14_deletion (ws_ yX14_deletion cX14_deletion 2 none) fr (40 * fr) G σ [.inr l0, .inr l1] (tw_Qv G Q) X := by
  unfold w_X14_deletion at hw
  refine tw_of (ret := none) hl0 (by decide) (Nat.le_of_ble_eq_true rfl) (fun p e R s m args below meth c hRf hRl C hr hmn hnx hR hS ls hl => ?_)
  have hfr : 1 ≤ R.frames := by rw [hRf]; exact hfr
  have hRl : R.locals = 40 * R.frames := by rw [hRl, hRf]
  have hl : tw_l ls 2 [(0, .inr l0), (1, .inr l1)] := hl
  exact tw_vret C hR hS hr dX14_deletion_0 hw
-- TreeDiffer$Patch$1.insertion(LTreeDiffer$Node;)V
def w_X14_insertion (l0 : Option Nat) (l1 : Option Nat) (Q : Tst → Prop) (X : String → Nat → Tst → Prop) (σ : Tst) : Prop := Q σ
set_option maxHeartbeats 4000000 in
theorem wk_X14_insertion (l : Launch) (hl0 : l.stackTraces = false) (G : Tgl) (fr : Nat)  (hfr : 1 ≤ fr) (l0 : Option Nat) (l1 : Option Nat) (Q : Tst → Prop) (X : String → Nat → Tst → Prop) (σ : Tst) (hw : w_X14_insertion l0 l1 Q X σ) : tw_M l yX14_insertion (ws_ yX14_insertion cX14_insertion 2 none) fr (40 * fr) G σ [.inr l0, .inr l1] (tw_Qv G Q) X := by
  unfold w_X14_insertion at hw
  refine tw_of (ret := none) hl0 (by decide) (Nat.le_of_ble_eq_true rfl) (fun p e R s m args below meth c hRf hRl C hr hmn hnx hR hS ls hl => ?_)
  have hfr : 1 ≤ R.frames := by rw [hRf]; exact hfr
  have hRl : R.locals = 40 * R.frames := by rw [hRl, hRf]
  have hl : tw_l ls 2 [(0, .inr l0), (1, .inr l1)] := hl
  exact tw_vret C hR hS hr dX14_insertion_0 hw
-- TreeDiffer.visit(LTreeDiffer$Node;LTreeDiffer$Node;LTreeDiffer$Visitor;)V
def w_X1_visitP_b182 (rf_X1_visitP : (Option Nat) → (Option Nat) → (Option Nat) → (Tst → Prop) → (String → Nat → Tst → Prop) → Tst → Prop) (k24 : Option Nat → Option Nat → Option Nat → Option Nat → Int32 → Int32 → Tst → Prop) (Q : Tst → Prop) (X : String → Nat → Tst → Prop) (l0 : Option Nat) (l1 : Option Nat) (l2 : Option Nat) (l3 : Option Nat) (l4 : Int32) (l5 : Int32) (σ : Tst) : Prop := w_gr σ l1 cX3 4 fun x1 => w_rc σ x1 cJ6 <| w_J6_get x1 l5 (fun x2 σ => w_cc σ x2 cX3 <| w_rc σ l2 cX14 <| w_X14_insertion l2 x2 (fun σ => k24 l0 l1 l2 l3 l4 (l5 + 1) σ) X σ) X σ
def w_X1_visitP_b123 (rf_X1_visitP : (Option Nat) → (Option Nat) → (Option Nat) → (Tst → Prop) → (String → Nat → Tst → Prop) → Tst → Prop) (k24 : Option Nat → Option Nat → Option Nat → Option Nat → Int32 → Int32 → Tst → Prop) (Q : Tst → Prop) (X : String → Nat → Tst → Prop) (l0 : Option Nat) (l1 : Option Nat) (l2 : Option Nat) (l3 : Option Nat) (l4 : Int32) (l5 : Int32) (σ : Tst) : Prop := w_gr σ l0 cX3 4 fun x1 => w_rc σ x1 cJ6 <| w_J6_size x1 (fun x2 σ => w_if (x2 ≤ l4) (w_X1_visitP_b182 rf_X1_visitP k24 Q X l0 l1 l2 l3 l4 l5 σ) (w_rc σ l3 cX9 <| w_X9_byDeletion l3 l4 l5 (fun x3 σ => w_rc σ l3 cX9 <| w_X9_at l3 l4 l5 (fun x4 σ => w_if (x3 = x4) (w_gr σ l0 cX3 4 fun x5 => w_rc σ x5 cJ6 <| w_J6_get x5 l4 (fun x6 σ => w_cc σ x6 cX3 <| w_rc σ l2 cX14 <| w_X14_deletion l2 x6 (fun σ => k24 l0 l1 l2 l3 (l4 + 1) l5 σ) X σ) X σ) (w_X1_visitP_b182 rf_X1_visitP k24 Q X l0 l1 l2 l3 l4 l5 σ)) X σ) X σ)) X σ
def w_X1_visitP_b52 (rf_X1_visitP : (Option Nat) → (Option Nat) → (Option Nat) → (Tst → Prop) → (String → Nat → Tst → Prop) → Tst → Prop) (k24 : Option Nat → Option Nat → Option Nat → Option Nat → Int32 → Int32 → Tst → Prop) (Q : Tst → Prop) (X : String → Nat → Tst → Prop) (l0 : Option Nat) (l1 : Option Nat) (l2 : Option Nat) (l3 : Option Nat) (l4 : Int32) (l5 : Int32) (σ : Tst) : Prop := w_rc σ l3 cX9 <| w_X9_canPair l3 l4 l5 (fun x1 σ => w_if (x1 = 0) (w_X1_visitP_b123 rf_X1_visitP k24 Q X l0 l1 l2 l3 l4 l5 σ) (w_rc σ l3 cX9 <| w_X9_byPair (w_X1_cost 64) l3 l4 l5 (fun x2 σ => w_rc σ l3 cX9 <| w_X9_at l3 l4 l5 (fun x3 σ => w_if (x2 = x3) (w_gr σ l0 cX3 4 fun x4 => w_rc σ x4 cJ6 <| w_J6_get x4 l4 (fun x5 σ => w_cc σ x5 cX3 <| w_gr σ l1 cX3 4 fun x6 => w_rc σ x6 cJ6 <| w_J6_get x6 l5 (fun x7 σ => w_cc σ x7 cX3 <| rf_X1_visitP x5 x7 l2 (fun σ => k24 l0 l1 l2 l3 (l4 + 1) (l5 + 1) σ) X σ) X σ) X σ) (w_X1_visitP_b123 rf_X1_visitP k24 Q X l0 l1 l2 l3 l4 l5 σ)) X σ) X σ)) X σ
def w_X1_visitP_b24 (rf_X1_visitP : (Option Nat) → (Option Nat) → (Option Nat) → (Tst → Prop) → (String → Nat → Tst → Prop) → Tst → Prop) (Q : Tst → Prop) (X : String → Nat → Tst → Prop) : Nat → Option Nat → Option Nat → Option Nat → Option Nat → Int32 → Int32 → Tst → Prop
  | 0, _, _, _, _, _, _, _ => False
  | n + 1, l0, l1, l2, l3, l4, l5, σ => w_gr σ l0 cX3 4 fun x1 => w_rc σ x1 cJ6 <| w_J6_size x1 (fun x2 σ => w_if (l4 < x2) (w_X1_visitP_b52 rf_X1_visitP (w_X1_visitP_b24 rf_X1_visitP Q X n) Q X l0 l1 l2 l3 l4 l5 σ) (w_gr σ l1 cX3 4 fun x3 => w_rc σ x3 cJ6 <| w_J6_size x3 (fun x4 σ => w_if (x4 ≤ l5) (Q σ) (w_X1_visitP_b52 rf_X1_visitP (w_X1_visitP_b24 rf_X1_visitP Q X n) Q X l0 l1 l2 l3 l4 l5 σ)) X σ)) X σ
def w_X1_visitP : Nat → Option Nat → Option Nat → Option Nat → (Tst → Prop) → (String → Nat → Tst → Prop) → Tst → Prop
  | 0, _, _, _, _, _, _ => False
  | d + 1, l0, l1, l2, Q, X, σ => w_rc σ l2 cX14 <| w_X14_pair l2 l0 l1 (fun σ => w_nw σ cX9 4 [.inr none, .inr none, .inl 0, .inr none] fun q2 σ => w_rf q2 <| w_X9_init (w_X1_cost 64) q2 l0 l1 (fun σ => ∃ z, w_X1_visitP_b24 (w_X1_visitP d) Q X z l0 l1 l2 q2 0 0 σ) X σ) X σ
set_option maxHeartbeats 4000000 in
theorem wk_X1_visitP_b182 {rf_X1_visitP : (Option Nat) → (Option Nat) → (Option Nat) → (Tst → Prop) → (String → Nat → Tst → Prop) → Tst → Prop} {frf_X1_visitP : Nat}  (C : tw_C p l R s m args meth c G cX1_visit 6 yX1_visit.cls) (hr : meth.sig.returnType = none) (hmn : meth.name = yX1_visit.name) (hnx : (∀ x ∈ c.exceptionTable.toList, False)) (hfr : 331 ≤ R.frames ∧ frf_X1_visitP + 1 ≤ R.frames) (hRl : R.locals = 40 * R.frames) {Q : Tst → Prop} {X : String → Nat → Tst → Prop} (hrf_X1_visitP : ∀ fr : Nat, frf_X1_visitP ≤ fr → ∀ (a0 : Option Nat) (a1 : Option Nat) (a2 : Option Nat) (Q : Tst → Prop) (X : String → Nat → Tst → Prop) (σ : Tst), rf_X1_visitP a0 a1 a2 Q X σ → tw_M l yX1_visit (ws_ yX1_visit cX1_visit 6 none) fr (40 * fr) G σ [.inr a0, .inr a1, .inr a2] (tw_Qv G Q) X) {k24 : Option Nat → Option Nat → Option Nat → Option Nat → Int32 → Int32 → Tst → Prop} (hk24 : ∀ (l0 : Option Nat) (l1 : Option Nat) (l2 : Option Nat) (l3 : Option Nat) (l4 : Int32) (l5 : Int32) (σ : Tst) (H : Heap) (locs : List Loc) (ls : Array Slot), k24 l0 l1 l2 l3 l4 l5 σ → tw_R G σ H → va_S (tw_A G) s.heap H locs → tw_l ls 6 [(0, .inr l0), (1, .inr l1), (2, .inr l2), (3, .inr l3), (4, .inl l4), (5, .inl l5)] → tw_W p l e R s m args below meth c σ H locs (tw_E below G (tw_Qv G Q) X args s R) (F0 m 24 ls [])) (l0 : Option Nat) (l1 : Option Nat) (l2 : Option Nat) (l3 : Option Nat) (l4 : Int32) (l5 : Int32) (σ : Tst) (H : Heap) (locs : List Loc) (ls : Array Slot) (hw : w_X1_visitP_b182 rf_X1_visitP k24 Q X l0 l1 l2 l3 l4 l5 σ) (hR : tw_R G σ H) (hS : va_S (tw_A G) s.heap H locs) (hl : tw_l ls 6 [(0, .inr l0), (1, .inr l1), (2, .inr l2), (3, .inr l3), (4, .inl l4), (5, .inl l5)]) : tw_W p l e R s m args below meth c σ H locs (tw_E below G (tw_Qv G Q) X args s R) (F0 m 182 ls []) := by
  unfold w_X1_visitP_b182 at hw
  refine tk_aload_n C hl 2 dX1_visit_182 rfl ?_
  refine tk_aload_n C hl 1 dX1_visit_183 rfl ?_
  refine tk_grN C hR hw rfl in_X3 (by decide) q214 (fun _ h => h) dX1_visit_184 (fun x1 hw => ?_)
  refine tk_iload C hl 5 dX1_visit_187 rfl ?_
  obtain ⟨hv, hw⟩ := hw
  refine tw_cbq5 C hS (tk_runF (As := [.inl l5]) (x := ⟨"java/util/List", "get", "(I)Ljava/lang/Object;"⟩) C hR hS (wk_J6_get l C.hst G (R.frames - 1) (by omega) _ _ _ _ σ hw) hv rfl q650 q456 q458 q73 q460 (by decide +kernel) (show tw_pd ⟨"java/util/List", "get", "(I)Ljava/lang/Object;"⟩ 1 by decide +kernel) ⟨by omega, by omega⟩ hl.1 rfl (tw_r8 [.inr l2] (Nat.le_of_ble_eq_true rfl)) dX1_visit_189) (fun E q σ H locs hX hR hS hi => tw_out C hR hS (fun x hx => (hnx x hx).elim) hi hX) (fun x2 σ H locs hw hR hS => ?_)
  refine tk_cc C hR hw rfl q157 (Or.inl rfl) dX1_visit_194 (fun hw => ?_)
  obtain ⟨hv, hw⟩ := hw
  refine tw_cbv5 C hS (tk_runF (As := [.inr x2]) (x := ⟨"TreeDiffer$Visitor", "insertion", "(LTreeDiffer$Node;)V"⟩) C hR hS (wk_X14_insertion l C.hst G (R.frames - 1) (by omega) _ _ _ _ σ hw) hv rfl q1074 q1077 q1079 q106 q1081 (by decide +kernel) (show tw_pd ⟨"TreeDiffer$Visitor", "insertion", "(LTreeDiffer$Node;)V"⟩ 1 by decide +kernel) ⟨by omega, by omega⟩ hl.1 rfl (tw_r8 [] (Nat.le_of_ble_eq_true rfl)) dX1_visit_197) (fun E q σ H locs hX hR hS hi => tw_out C hR hS (fun x hx => (hnx x hx).elim) hi hX) (fun σ H locs hw hR hS => ?_)
  refine tk_iinc (L' := [(5, .inl (l5 + 1)), (0, .inr l0), (1, .inr l1), (2, .inr l2), (3, .inr l3), (4, .inl l4)]) (y := (l5 + 1)) C hl 5 dX1_visit_202 rfl rfl (by decide) rfl (fun ls hl => ?_)
  refine lv_goto (tgt := 24) C.hx C.hb dX1_visit_205 (by decide) ?_
  exact hk24 _ _ _ _ _ _ σ _ _ _ hw hR hS (tk_sub hl [1, 2, 3, 4, 5, 0] rfl)
set_option maxHeartbeats 4000000 in
theorem wk_X1_visitP_b123 {rf_X1_visitP : (Option Nat) → (Option Nat) → (Option Nat) → (Tst → Prop) → (String → Nat → Tst → Prop) → Tst → Prop} {frf_X1_visitP : Nat}  (C : tw_C p l R s m args meth c G cX1_visit 6 yX1_visit.cls) (hr : meth.sig.returnType = none) (hmn : meth.name = yX1_visit.name) (hnx : (∀ x ∈ c.exceptionTable.toList, False)) (hfr : 331 ≤ R.frames ∧ frf_X1_visitP + 1 ≤ R.frames) (hRl : R.locals = 40 * R.frames) {Q : Tst → Prop} {X : String → Nat → Tst → Prop} (hrf_X1_visitP : ∀ fr : Nat, frf_X1_visitP ≤ fr → ∀ (a0 : Option Nat) (a1 : Option Nat) (a2 : Option Nat) (Q : Tst → Prop) (X : String → Nat → Tst → Prop) (σ : Tst), rf_X1_visitP a0 a1 a2 Q X σ → tw_M l yX1_visit (ws_ yX1_visit cX1_visit 6 none) fr (40 * fr) G σ [.inr a0, .inr a1, .inr a2] (tw_Qv G Q) X) {k24 : Option Nat → Option Nat → Option Nat → Option Nat → Int32 → Int32 → Tst → Prop} (hk24 : ∀ (l0 : Option Nat) (l1 : Option Nat) (l2 : Option Nat) (l3 : Option Nat) (l4 : Int32) (l5 : Int32) (σ : Tst) (H : Heap) (locs : List Loc) (ls : Array Slot), k24 l0 l1 l2 l3 l4 l5 σ → tw_R G σ H → va_S (tw_A G) s.heap H locs → tw_l ls 6 [(0, .inr l0), (1, .inr l1), (2, .inr l2), (3, .inr l3), (4, .inl l4), (5, .inl l5)] → tw_W p l e R s m args below meth c σ H locs (tw_E below G (tw_Qv G Q) X args s R) (F0 m 24 ls [])) (l0 : Option Nat) (l1 : Option Nat) (l2 : Option Nat) (l3 : Option Nat) (l4 : Int32) (l5 : Int32) (σ : Tst) (H : Heap) (locs : List Loc) (ls : Array Slot) (hw : w_X1_visitP_b123 rf_X1_visitP k24 Q X l0 l1 l2 l3 l4 l5 σ) (hR : tw_R G σ H) (hS : va_S (tw_A G) s.heap H locs) (hl : tw_l ls 6 [(0, .inr l0), (1, .inr l1), (2, .inr l2), (3, .inr l3), (4, .inl l4), (5, .inl l5)]) : tw_W p l e R s m args below meth c σ H locs (tw_E below G (tw_Qv G Q) X args s R) (F0 m 123 ls []) := by
  unfold w_X1_visitP_b123 at hw
  refine tk_iload C hl 4 dX1_visit_123 rfl ?_
  refine tk_aload_n C hl 0 dX1_visit_125 rfl ?_
  refine tk_grN C hR hw rfl in_X3 (by decide) q214 (fun _ h => h) dX1_visit_126 (fun x1 hw => ?_)
  obtain ⟨hv, hw⟩ := hw
  refine tw_cbi5 C hS (tk_runF (As := []) (x := ⟨"java/util/List", "size", "()I"⟩) C hR hS (wk_J6_size l C.hst G (R.frames - 1) (by omega) _ _ _ σ hw) hv rfl q648 q447 q449 q73 q451 (by decide +kernel) (show tw_pd ⟨"java/util/List", "size", "()I"⟩ 0 by decide +kernel) ⟨by omega, by omega⟩ hl.1 rfl (tw_r8 [.inl l4] (Nat.le_of_ble_eq_true rfl)) dX1_visit_129) (fun E q σ H locs hX hR hS hi => tw_out C hR hS (fun x hx => (hnx x hx).elim) hi hX) (fun x2 σ H locs hw hR hS => ?_)
  refine lv_icmp_ge (tgt := 182) C.hx C.hb dX1_visit_134 (by decide) (fun c134 => ?_) (fun c134 => ?_)
  · replace hw := hw.1 c134
    exact wk_X1_visitP_b182 C hr hmn hnx hfr hRl hrf_X1_visitP hk24 _ _ _ _ _ _ σ _ _ _ hw hR hS (tk_sub hl [0, 1, 2, 3, 4, 5] rfl)
  · replace hw := hw.2 c134
    refine tk_aload_n C hl 3 dX1_visit_137 rfl ?_
    refine tk_iload C hl 4 dX1_visit_138 rfl ?_
    refine tk_iload C hl 5 dX1_visit_140 rfl ?_
    obtain ⟨hv, hw⟩ := hw
    refine tw_cbi C hS (tk_runV (As := [.inl l4, .inl l5]) C hR hS (wk_X9_byDeletion l C.hst G (R.frames - 1) (by omega) _ _ _ _ _ σ hw) hv rfl q1058 q604 q605 q100 q606 pd_X9_byDeletion ⟨by omega, by omega⟩ hl.1 rfl (tw_r8 [] (Nat.le_of_ble_eq_true rfl)) dX1_visit_142) (fun E q σ H locs hX hR hS hi => tw_out C hR hS (fun x hx => (hnx x hx).elim) hi hX) (fun x3 σ H locs hw hR hS => ?_)
    refine tk_aload_n C hl 3 dX1_visit_145 rfl ?_
    refine tk_iload C hl 4 dX1_visit_146 rfl ?_
    refine tk_iload C hl 5 dX1_visit_148 rfl ?_
    obtain ⟨hv, hw⟩ := hw
    refine tw_cbi C hS (tk_runV (As := [.inl l4, .inl l5]) C hR hS (wk_X9_at l C.hst G (R.frames - 1) (by omega) _ _ _ _ _ σ hw) hv rfl q631 q600 q601 q100 q602 pd_X9_at ⟨by omega, by omega⟩ hl.1 rfl (tw_r8 [.inl x3] (Nat.le_of_ble_eq_true rfl)) dX1_visit_150) (fun E q σ H locs hX hR hS hi => tw_out C hR hS (fun x hx => (hnx x hx).elim) hi hX) (fun x4 σ H locs hw hR hS => ?_)
    refine lv_icmp_ne (tgt := 182) C.hx C.hb dX1_visit_153 (by decide) (fun c153 => ?_) (fun c153 => ?_)
    · replace hw := hw.2 c153
      exact wk_X1_visitP_b182 C hr hmn hnx hfr hRl hrf_X1_visitP hk24 _ _ _ _ _ _ σ _ _ _ hw hR hS (tk_sub hl [0, 1, 2, 3, 4, 5] rfl)
    · replace hw := hw.1 c153
      refine tk_aload_n C hl 2 dX1_visit_156 rfl ?_
      refine tk_aload_n C hl 0 dX1_visit_157 rfl ?_
      refine tk_grN C hR hw rfl in_X3 (by decide) q214 (fun _ h => h) dX1_visit_158 (fun x5 hw => ?_)
      refine tk_iload C hl 4 dX1_visit_161 rfl ?_
      obtain ⟨hv, hw⟩ := hw
      refine tw_cbq5 C hS (tk_runF (As := [.inl l4]) (x := ⟨"java/util/List", "get", "(I)Ljava/lang/Object;"⟩) C hR hS (wk_J6_get l C.hst G (R.frames - 1) (by omega) _ _ _ _ σ hw) hv rfl q650 q456 q458 q73 q460 (by decide +kernel) (show tw_pd ⟨"java/util/List", "get", "(I)Ljava/lang/Object;"⟩ 1 by decide +kernel) ⟨by omega, by omega⟩ hl.1 rfl (tw_r8 [.inr l2] (Nat.le_of_ble_eq_true rfl)) dX1_visit_163) (fun E q σ H locs hX hR hS hi => tw_out C hR hS (fun x hx => (hnx x hx).elim) hi hX) (fun x6 σ H locs hw hR hS => ?_)
      refine tk_cc C hR hw rfl q157 (Or.inl rfl) dX1_visit_168 (fun hw => ?_)
      obtain ⟨hv, hw⟩ := hw
      refine tw_cbv5 C hS (tk_runF (As := [.inr x6]) (x := ⟨"TreeDiffer$Visitor", "deletion", "(LTreeDiffer$Node;)V"⟩) C hR hS (wk_X14_deletion l C.hst G (R.frames - 1) (by omega) _ _ _ _ σ hw) hv rfl q1060 q1063 q1065 q106 q1067 (by decide +kernel) (show tw_pd ⟨"TreeDiffer$Visitor", "deletion", "(LTreeDiffer$Node;)V"⟩ 1 by decide +kernel) ⟨by omega, by omega⟩ hl.1 rfl (tw_r8 [] (Nat.le_of_ble_eq_true rfl)) dX1_visit_171) (fun E q σ H locs hX hR hS hi => tw_out C hR hS (fun x hx => (hnx x hx).elim) hi hX) (fun σ H locs hw hR hS => ?_)
      refine tk_iinc (L' := [(4, .inl (l4 + 1)), (0, .inr l0), (1, .inr l1), (2, .inr l2), (3, .inr l3), (5, .inl l5)]) (y := (l4 + 1)) C hl 4 dX1_visit_176 rfl rfl (by decide) rfl (fun ls hl => ?_)
      refine lv_goto (tgt := 24) C.hx C.hb dX1_visit_179 (by decide) ?_
      exact hk24 _ _ _ _ _ _ σ _ _ _ hw hR hS (tk_sub hl [1, 2, 3, 4, 0, 5] rfl)
set_option maxHeartbeats 4000000 in
theorem wk_X1_visitP_b52 {rf_X1_visitP : (Option Nat) → (Option Nat) → (Option Nat) → (Tst → Prop) → (String → Nat → Tst → Prop) → Tst → Prop} {frf_X1_visitP : Nat}  (C : tw_C p l R s m args meth c G cX1_visit 6 yX1_visit.cls) (hr : meth.sig.returnType = none) (hmn : meth.name = yX1_visit.name) (hnx : (∀ x ∈ c.exceptionTable.toList, False)) (hfr : 331 ≤ R.frames ∧ frf_X1_visitP + 1 ≤ R.frames) (hRl : R.locals = 40 * R.frames) {Q : Tst → Prop} {X : String → Nat → Tst → Prop} (hrf_X1_visitP : ∀ fr : Nat, frf_X1_visitP ≤ fr → ∀ (a0 : Option Nat) (a1 : Option Nat) (a2 : Option Nat) (Q : Tst → Prop) (X : String → Nat → Tst → Prop) (σ : Tst), rf_X1_visitP a0 a1 a2 Q X σ → tw_M l yX1_visit (ws_ yX1_visit cX1_visit 6 none) fr (40 * fr) G σ [.inr a0, .inr a1, .inr a2] (tw_Qv G Q) X) {k24 : Option Nat → Option Nat → Option Nat → Option Nat → Int32 → Int32 → Tst → Prop} (hk24 : ∀ (l0 : Option Nat) (l1 : Option Nat) (l2 : Option Nat) (l3 : Option Nat) (l4 : Int32) (l5 : Int32) (σ : Tst) (H : Heap) (locs : List Loc) (ls : Array Slot), k24 l0 l1 l2 l3 l4 l5 σ → tw_R G σ H → va_S (tw_A G) s.heap H locs → tw_l ls 6 [(0, .inr l0), (1, .inr l1), (2, .inr l2), (3, .inr l3), (4, .inl l4), (5, .inl l5)] → tw_W p l e R s m args below meth c σ H locs (tw_E below G (tw_Qv G Q) X args s R) (F0 m 24 ls [])) (l0 : Option Nat) (l1 : Option Nat) (l2 : Option Nat) (l3 : Option Nat) (l4 : Int32) (l5 : Int32) (σ : Tst) (H : Heap) (locs : List Loc) (ls : Array Slot) (hw : w_X1_visitP_b52 rf_X1_visitP k24 Q X l0 l1 l2 l3 l4 l5 σ) (hR : tw_R G σ H) (hS : va_S (tw_A G) s.heap H locs) (hl : tw_l ls 6 [(0, .inr l0), (1, .inr l1), (2, .inr l2), (3, .inr l3), (4, .inl l4), (5, .inl l5)]) : tw_W p l e R s m args below meth c σ H locs (tw_E below G (tw_Qv G Q) X args s R) (F0 m 52 ls []) := by
  unfold w_X1_visitP_b52 at hw
  refine tk_aload_n C hl 3 dX1_visit_52 rfl ?_
  refine tk_iload C hl 4 dX1_visit_53 rfl ?_
  refine tk_iload C hl 5 dX1_visit_55 rfl ?_
  obtain ⟨hv, hw⟩ := hw
  refine tw_cbi C hS (tk_runV (As := [.inl l4, .inl l5]) C hR hS (wk_X9_canPair l C.hst G (R.frames - 1) (by omega) _ _ _ _ _ σ hw) hv rfl q1055 q609 q610 q100 q611 pd_X9_canPair ⟨by omega, by omega⟩ hl.1 rfl (tw_r8 [] (Nat.le_of_ble_eq_true rfl)) dX1_visit_57) (fun E q σ H locs hX hR hS hi => tw_out C hR hS (fun x hx => (hnx x hx).elim) hi hX) (fun x1 σ H locs hw hR hS => ?_)
  refine lv_if_eq (tgt := 123) C.hx C.hb dX1_visit_60 (by decide) (fun c60 => ?_) (fun c60 => ?_)
  · replace hw := hw.1 c60
    exact wk_X1_visitP_b123 C hr hmn hnx hfr hRl hrf_X1_visitP hk24 _ _ _ _ _ _ σ _ _ _ hw hR hS (tk_sub hl [0, 1, 2, 3, 4, 5] rfl)
  · replace hw := hw.2 c60
    refine tk_aload_n C hl 3 dX1_visit_63 rfl ?_
    refine tk_iload C hl 4 dX1_visit_64 rfl ?_
    refine tk_iload C hl 5 dX1_visit_66 rfl ?_
    obtain ⟨hv, hw⟩ := hw
    refine tw_cbi C hS (tk_runV (As := [.inl l4, .inl l5]) C hR hS (wk_X9_byPair l C.hst G (R.frames - 1) (wk_X1_cost l C.hst G 64) (by omega) _ _ _ _ _ σ hw) hv rfl q1056 q613 q614 q100 q615 pd_X9_byPair ⟨by omega, by omega⟩ hl.1 rfl (tw_r8 [] (Nat.le_of_ble_eq_true rfl)) dX1_visit_68) (fun E q σ H locs hX hR hS hi => tw_out C hR hS (fun x hx => (hnx x hx).elim) hi hX) (fun x2 σ H locs hw hR hS => ?_)
    refine tk_aload_n C hl 3 dX1_visit_71 rfl ?_
    refine tk_iload C hl 4 dX1_visit_72 rfl ?_
    refine tk_iload C hl 5 dX1_visit_74 rfl ?_
    obtain ⟨hv, hw⟩ := hw
    refine tw_cbi C hS (tk_runV (As := [.inl l4, .inl l5]) C hR hS (wk_X9_at l C.hst G (R.frames - 1) (by omega) _ _ _ _ _ σ hw) hv rfl q631 q600 q601 q100 q602 pd_X9_at ⟨by omega, by omega⟩ hl.1 rfl (tw_r8 [.inl x2] (Nat.le_of_ble_eq_true rfl)) dX1_visit_76) (fun E q σ H locs hX hR hS hi => tw_out C hR hS (fun x hx => (hnx x hx).elim) hi hX) (fun x3 σ H locs hw hR hS => ?_)
    refine lv_icmp_ne (tgt := 123) C.hx C.hb dX1_visit_79 (by decide) (fun c79 => ?_) (fun c79 => ?_)
    · replace hw := hw.2 c79
      exact wk_X1_visitP_b123 C hr hmn hnx hfr hRl hrf_X1_visitP hk24 _ _ _ _ _ _ σ _ _ _ hw hR hS (tk_sub hl [0, 1, 2, 3, 4, 5] rfl)
    · replace hw := hw.1 c79
      refine tk_aload_n C hl 0 dX1_visit_82 rfl ?_
      refine tk_grN C hR hw rfl in_X3 (by decide) q214 (fun _ h => h) dX1_visit_83 (fun x4 hw => ?_)
      refine tk_iload C hl 4 dX1_visit_86 rfl ?_
      obtain ⟨hv, hw⟩ := hw
      refine tw_cbq5 C hS (tk_runF (As := [.inl l4]) (x := ⟨"java/util/List", "get", "(I)Ljava/lang/Object;"⟩) C hR hS (wk_J6_get l C.hst G (R.frames - 1) (by omega) _ _ _ _ σ hw) hv rfl q650 q456 q458 q73 q460 (by decide +kernel) (show tw_pd ⟨"java/util/List", "get", "(I)Ljava/lang/Object;"⟩ 1 by decide +kernel) ⟨by omega, by omega⟩ hl.1 rfl (tw_r8 [] (Nat.le_of_ble_eq_true rfl)) dX1_visit_88) (fun E q σ H locs hX hR hS hi => tw_out C hR hS (fun x hx => (hnx x hx).elim) hi hX) (fun x5 σ H locs hw hR hS => ?_)
      refine tk_cc C hR hw rfl q157 (Or.inl rfl) dX1_visit_93 (fun hw => ?_)
      refine tk_aload_n C hl 1 dX1_visit_96 rfl ?_
      refine tk_grN C hR hw rfl in_X3 (by decide) q214 (fun _ h => h) dX1_visit_97 (fun x6 hw => ?_)
      refine tk_iload C hl 5 dX1_visit_100 rfl ?_
      obtain ⟨hv, hw⟩ := hw
      refine tw_cbq5 C hS (tk_runF (As := [.inl l5]) (x := ⟨"java/util/List", "get", "(I)Ljava/lang/Object;"⟩) C hR hS (wk_J6_get l C.hst G (R.frames - 1) (by omega) _ _ _ _ σ hw) hv rfl q650 q456 q458 q73 q460 (by decide +kernel) (show tw_pd ⟨"java/util/List", "get", "(I)Ljava/lang/Object;"⟩ 1 by decide +kernel) ⟨by omega, by omega⟩ hl.1 rfl (tw_r8 [.inr x5] (Nat.le_of_ble_eq_true rfl)) dX1_visit_102) (fun E q σ H locs hX hR hS hi => tw_out C hR hS (fun x hx => (hnx x hx).elim) hi hX) (fun x7 σ H locs hw hR hS => ?_)
      refine tk_cc C hR hw rfl q157 (Or.inl rfl) dX1_visit_107 (fun hw => ?_)
      refine tk_aload_n C hl 2 dX1_visit_110 rfl ?_
      refine tw_cbv C hS (tw_runS (As := [.inr x5, .inr x7, .inr l2]) C hR hS (hrf_X1_visitP (R.frames - 1) (by omega) _ _ _ _ _ σ hw) q1057 q1000 q64 q1001 pd_X1_visit ⟨by omega, by omega⟩ hl.1 rfl (tw_r8 [] (Nat.le_of_ble_eq_true rfl)) dX1_visit_111) (fun E q σ H locs hX hR hS hi => tw_out C hR hS (fun x hx => (hnx x hx).elim) hi hX) (fun σ H locs hw hR hS => ?_)
      refine tk_iinc (L' := [(4, .inl (l4 + 1)), (0, .inr l0), (1, .inr l1), (2, .inr l2), (3, .inr l3), (5, .inl l5)]) (y := (l4 + 1)) C hl 4 dX1_visit_114 rfl rfl (by decide) rfl (fun ls hl => ?_)
      refine tk_iinc (L' := [(5, .inl (l5 + 1)), (4, .inl (l4 + 1)), (0, .inr l0), (1, .inr l1), (2, .inr l2), (3, .inr l3)]) (y := (l5 + 1)) C hl 5 dX1_visit_117 rfl rfl (by decide) rfl (fun ls hl => ?_)
      refine lv_goto (tgt := 24) C.hx C.hb dX1_visit_120 (by decide) ?_
      exact hk24 _ _ _ _ _ _ σ _ _ _ hw hR hS (tk_sub hl [2, 3, 4, 5, 1, 0] rfl)
set_option maxHeartbeats 4000000 in
theorem wk_X1_visitP_b24 {rf_X1_visitP : (Option Nat) → (Option Nat) → (Option Nat) → (Tst → Prop) → (String → Nat → Tst → Prop) → Tst → Prop} {frf_X1_visitP : Nat}  (C : tw_C p l R s m args meth c G cX1_visit 6 yX1_visit.cls) (hr : meth.sig.returnType = none) (hmn : meth.name = yX1_visit.name) (hnx : (∀ x ∈ c.exceptionTable.toList, False)) (hfr : 331 ≤ R.frames ∧ frf_X1_visitP + 1 ≤ R.frames) (hRl : R.locals = 40 * R.frames) {Q : Tst → Prop} {X : String → Nat → Tst → Prop} (hrf_X1_visitP : ∀ fr : Nat, frf_X1_visitP ≤ fr → ∀ (a0 : Option Nat) (a1 : Option Nat) (a2 : Option Nat) (Q : Tst → Prop) (X : String → Nat → Tst → Prop) (σ : Tst), rf_X1_visitP a0 a1 a2 Q X σ → tw_M l yX1_visit (ws_ yX1_visit cX1_visit 6 none) fr (40 * fr) G σ [.inr a0, .inr a1, .inr a2] (tw_Qv G Q) X) : ∀ (n : Nat) (l0 : Option Nat) (l1 : Option Nat) (l2 : Option Nat) (l3 : Option Nat) (l4 : Int32) (l5 : Int32) (σ : Tst) (H : Heap) (locs : List Loc) (ls : Array Slot), w_X1_visitP_b24 rf_X1_visitP Q X n l0 l1 l2 l3 l4 l5 σ → tw_R G σ H → va_S (tw_A G) s.heap H locs → tw_l ls 6 [(0, .inr l0), (1, .inr l1), (2, .inr l2), (3, .inr l3), (4, .inl l4), (5, .inl l5)] → tw_W p l e R s m args below meth c σ H locs (tw_E below G (tw_Qv G Q) X args s R) (F0 m 24 ls []) := by
  intro n
  induction n with
  | zero => intro l0 l1 l2 l3 l4 l5 σ H locs ls hw; exact False.elim hw
  | succ n hk24 =>
    intro l0 l1 l2 l3 l4 l5 σ H locs ls hw hR hS hl
    rw [w_X1_visitP_b24] at hw
    refine tk_iload C hl 4 dX1_visit_24 rfl ?_
    refine tk_aload_n C hl 0 dX1_visit_26 rfl ?_
    refine tk_grN C hR hw rfl in_X3 (by decide) q214 (fun _ h => h) dX1_visit_27 (fun x1 hw => ?_)
    obtain ⟨hv, hw⟩ := hw
    refine tw_cbi5 C hS (tk_runF (As := []) (x := ⟨"java/util/List", "size", "()I"⟩) C hR hS (wk_J6_size l C.hst G (R.frames - 1) (by omega) _ _ _ σ hw) hv rfl q648 q447 q449 q73 q451 (by decide +kernel) (show tw_pd ⟨"java/util/List", "size", "()I"⟩ 0 by decide +kernel) ⟨by omega, by omega⟩ hl.1 rfl (tw_r8 [.inl l4] (Nat.le_of_ble_eq_true rfl)) dX1_visit_30) (fun E q σ H locs hX hR hS hi => tw_out C hR hS (fun x hx => (hnx x hx).elim) hi hX) (fun x2 σ H locs hw hR hS => ?_)
    refine lv_icmp_lt (tgt := 52) C.hx C.hb dX1_visit_35 (by decide) (fun c35 => ?_) (fun c35 => ?_)
    · replace hw := hw.1 c35
      exact wk_X1_visitP_b52 C hr hmn hnx hfr hRl hrf_X1_visitP hk24 _ _ _ _ _ _ σ _ _ _ hw hR hS (tk_sub hl [0, 1, 2, 3, 4, 5] rfl)
    · replace hw := hw.2 c35
      refine tk_iload C hl 5 dX1_visit_38 rfl ?_
      refine tk_aload_n C hl 1 dX1_visit_40 rfl ?_
      refine tk_grN C hR hw rfl in_X3 (by decide) q214 (fun _ h => h) dX1_visit_41 (fun x3 hw => ?_)
      obtain ⟨hv, hw⟩ := hw
      refine tw_cbi5 C hS (tk_runF (As := []) (x := ⟨"java/util/List", "size", "()I"⟩) C hR hS (wk_J6_size l C.hst G (R.frames - 1) (by omega) _ _ _ σ hw) hv rfl q648 q447 q449 q73 q451 (by decide +kernel) (show tw_pd ⟨"java/util/List", "size", "()I"⟩ 0 by decide +kernel) ⟨by omega, by omega⟩ hl.1 rfl (tw_r8 [.inl l5] (Nat.le_of_ble_eq_true rfl)) dX1_visit_44) (fun E q σ H locs hX hR hS hi => tw_out C hR hS (fun x hx => (hnx x hx).elim) hi hX) (fun x4 σ H locs hw hR hS => ?_)
      refine lv_icmp_ge (tgt := 208) C.hx C.hb dX1_visit_49 (by decide) (fun c49 => ?_) (fun c49 => ?_)
      · replace hw := hw.1 c49
        exact tw_vret C hR hS hr dX1_visit_208 hw
      · replace hw := hw.2 c49
        exact wk_X1_visitP_b52 C hr hmn hnx hfr hRl hrf_X1_visitP hk24 _ _ _ _ _ _ σ _ _ _ hw hR hS (tk_sub hl [0, 1, 2, 3, 4, 5] rfl)
set_option maxHeartbeats 4000000 in
theorem wk_X1_visitP (l : Launch) (hl0 : l.stackTraces = false) (G : Tgl)  : ∀ (d fr : Nat), 331 + 1 * d ≤ fr → ∀ (l0 : Option Nat) (l1 : Option Nat) (l2 : Option Nat) (Q : Tst → Prop) (X : String → Nat → Tst → Prop) (σ : Tst), w_X1_visitP d l0 l1 l2 Q X σ → tw_M l yX1_visit (ws_ yX1_visit cX1_visit 6 none) fr (40 * fr) G σ [.inr l0, .inr l1, .inr l2] (tw_Qv G Q) X := by
  intro d
  induction d with
  | zero => intro fr hfr l0 l1 l2 Q X σ hw; exact False.elim hw
  | succ d ih =>
    intro fr hfr l0 l1 l2 Q X σ hw
    have hrf_X1_visitP := fun (fr : Nat) (h : 331 + 1 * d ≤ fr) => ih fr (by omega)
    rw [w_X1_visitP] at hw
    generalize hg : w_X1_visitP d = rf_X1_visitP at hw hrf_X1_visitP
    clear hg ih
    obtain ⟨frf_X1_visitP, hfrf_X1_visitP⟩ : ∃ f, f = 331 + 1 * d := ⟨_, rfl⟩
    rw [← hfrf_X1_visitP] at hrf_X1_visitP
    have hfr : 331 ≤ fr ∧ frf_X1_visitP + 1 ≤ fr := by refine ⟨?_, ?_⟩ <;> omega
    refine tw_of (ret := none) hl0 (by decide) (Nat.le_of_ble_eq_true rfl) (fun p e R s m args below meth c hRf hRl C hr hmn hnx hR hS ls hl => ?_)
    have hfr : 331 ≤ R.frames ∧ frf_X1_visitP + 1 ≤ R.frames := by rw [hRf]; exact hfr
    have hRl : R.locals = 40 * R.frames := by rw [hRl, hRf]
    have hl : tw_l ls 6 [(0, .inr l0), (1, .inr l1), (2, .inr l2)] := hl
    refine tk_aload_n C hl 2 dX1_visit_0 rfl ?_
    refine tk_aload_n C hl 0 dX1_visit_1 rfl ?_
    refine tk_aload_n C hl 1 dX1_visit_2 rfl ?_
    obtain ⟨hv, hw⟩ := hw
    refine tw_cbv5 C hS (tk_runF (As := [.inr l0, .inr l1]) (x := ⟨"TreeDiffer$Visitor", "pair", "(LTreeDiffer$Node;LTreeDiffer$Node;)V"⟩) C hR hS (wk_X14_pair l C.hst G (R.frames - 1) (by omega) _ _ _ _ _ σ hw) hv rfl q1003 q1007 q1009 q106 q1011 (by decide +kernel) (show tw_pd ⟨"TreeDiffer$Visitor", "pair", "(LTreeDiffer$Node;LTreeDiffer$Node;)V"⟩ 2 by decide +kernel) ⟨by omega, by omega⟩ hl.1 rfl (tw_r8 [] (Nat.le_of_ble_eq_true rfl)) dX1_visit_3) (fun E q σ H locs hX hR hS hi => tw_out C hR hS (fun x hx => (hnx x hx).elim) hi hX) (fun σ H locs hw hR hS => ?_)
    refine tk_nw C hR hS hw rfl in_X9 tyX9 tyX9_ok q579 q580 q100 (fun j hj => by rcases (show j = 0 ∨ j = 1 ∨ j = 2 ∨ j = 3 by omega) with rfl | rfl | rfl | rfl <;> rfl) dX1_visit_8 (fun q2 σ H hw hR hS => ?_)
    refine tw_dup (x := .inr q2) C.hx C.hb dX1_visit_11 ?_
    refine tk_aload_n C hl 0 dX1_visit_12 rfl ?_
    refine tk_aload_n C hl 1 dX1_visit_13 rfl ?_
    obtain ⟨hv, hw⟩ := hw
    refine tw_cbv C hS (tk_runI (As := [.inr l0, .inr l1]) hv C hR hS (wk_X9_init l C.hst G (R.frames - 1) (wk_X1_cost l C.hst G 64) (by omega) _ _ _ _ _ σ hw) q581 q582 q100 q583 rfl pd_X9_init ⟨by omega, by omega⟩ hl.1 rfl (tw_r8 [.inr q2] (Nat.le_of_ble_eq_true rfl)) dX1_visit_14) (fun E q σ H locs hX hR hS hi => tw_out C hR hS (fun x hx => (hnx x hx).elim) hi hX) (fun σ H locs hw hR hS => ?_)
    refine tk_astore_n (L' := [(3, .inr q2), (0, .inr l0), (1, .inr l1), (2, .inr l2)]) C hl dX1_visit_17 (by decide) rfl (fun ls hl => ?_)
    refine lv_iconst (v := 0) C.hx C.hb dX1_visit_18 (by decide) ?_
    refine tk_istore (L' := [(4, .inl 0), (3, .inr q2), (0, .inr l0), (1, .inr l1), (2, .inr l2)]) C hl dX1_visit_19 (by decide) rfl (fun ls hl => ?_)
    refine lv_iconst (v := 0) C.hx C.hb dX1_visit_21 (by decide) ?_
    refine tk_istore (L' := [(5, .inl 0), (4, .inl 0), (3, .inr q2), (0, .inr l0), (1, .inr l1), (2, .inr l2)]) C hl dX1_visit_22 (by decide) rfl (fun ls hl => ?_)
    obtain ⟨z, hw⟩ := hw
    exact wk_X1_visitP_b24 C hr hmn hnx hfr hRl hrf_X1_visitP z _ _ _ _ _ _ σ _ _ _ hw hR hS (tk_sub hl [3, 4, 5, 2, 1, 0] rfl)
-- TreeDiffer$Patch.<init>(LTreeDiffer$Script;LTreeDiffer$Tree;)V
def w_X13_init_b59 (Q : Tst → Prop) (X : String → Nat → Tst → Prop) : Nat → Option Nat → Option Nat → Option Nat → Option Nat → Tst → Prop
  | 0, _, _, _, _, _ => False
  | n + 1, l0, l1, l2, l3, σ => w_rc σ l3 cX8 <| w_X8_hasNext l3 (fun x1 σ => w_if (x1 = 0) (w_gr σ l1 cX10 0 fun x2 => w_gr σ x2 cX2 0 fun x3 => w_gr σ l2 cX2 0 fun x4 => w_nw σ cX14 1 [.inr none] fun q5 σ => w_rf q5 <| w_X14_init q5 l0 (fun σ => w_X1_visitP 64 x3 x4 q5 (fun σ => Q σ) X σ) X σ) (w_rc σ l3 cX8 <| w_X8_next l3 (fun x8 σ => w_cc σ x8 cX3 <| w_p σ x8 cX3 6 (.inr none) fun σ => (w_X13_init_b59 Q X n) l0 l1 l2 l3 σ) X σ)) X σ
def w_X13_init_b22 (Q : Tst → Prop) (X : String → Nat → Tst → Prop) : Nat → Option Nat → Option Nat → Option Nat → Option Nat → Tst → Prop
  | 0, _, _, _, _, _ => False
  | n + 1, l0, l1, l2, l3, σ => w_rc σ l3 cX8 <| w_X8_hasNext l3 (fun x1 σ => w_if (x1 = 0) (w_gr σ l1 cX10 1 fun x2 => w_rc σ x2 cX2 <| w_X2_iterator x2 (fun x3 σ => ∃ z, w_X13_init_b59 Q X z l0 l1 l2 x3 σ) X σ) (w_rc σ l3 cX8 <| w_X8_next l3 (fun x4 σ => w_cc σ x4 cX3 <| w_p σ x4 cX3 6 (.inr none) fun σ => (w_X13_init_b22 Q X n) l0 l1 l2 l3 σ) X σ)) X σ
def w_X13_init (l0 : Option Nat) (l1 : Option Nat) (l2 : Option Nat) (Q : Tst → Prop) (X : String → Nat → Tst → Prop) (σ : Tst) : Prop := w_rf l0 <| w_p σ l0 cX13 0 (.inr l1) fun σ => w_p σ l0 cX13 1 (.inr l2) fun σ => w_gr σ l1 cX10 0 fun x1 => w_rc σ x1 cX2 <| w_X2_iterator x1 (fun x2 σ => ∃ z, w_X13_init_b22 Q X z l0 l1 l2 x2 σ) X σ
set_option maxHeartbeats 4000000 in
theorem wk_X13_init_b59  (C : tw_C p l R s m args meth c G cX13_init 5 yX13_init.cls) (hr : meth.sig.returnType = none) (hmn : meth.name = yX13_init.name) (hnx : (∀ x ∈ c.exceptionTable.toList, False)) (hfr : 396 ≤ R.frames) (hRl : R.locals = 40 * R.frames) {Q : Tst → Prop} {X : String → Nat → Tst → Prop}  : ∀ (n : Nat) (l0 : Option Nat) (l1 : Option Nat) (l2 : Option Nat) (l3 : Option Nat) (σ : Tst) (H : Heap) (locs : List Loc) (ls : Array Slot), w_X13_init_b59 Q X n l0 l1 l2 l3 σ → tw_R G σ H → va_S (tw_A G) s.heap H locs → tw_l ls 5 [(0, .inr l0), (1, .inr l1), (2, .inr l2), (3, .inr l3)] → tw_W p l e R s m args below meth c σ H locs (tw_E below G (tw_Qv G Q) X args s R) (F0 m 59 ls []) := by
  intro n
  induction n with
  | zero => intro l0 l1 l2 l3 σ H locs ls hw; exact False.elim hw
  | succ n hk59 =>
    intro l0 l1 l2 l3 σ H locs ls hw hR hS hl
    rw [w_X13_init_b59] at hw
    refine tk_aload_n C hl 3 dX13_init_59 rfl ?_
    obtain ⟨hv, hw⟩ := hw
    refine tw_cbi5 C hS (tk_runF (As := []) (x := ⟨"java/util/Iterator", "hasNext", "()Z"⟩) C hR hS (wk_X8_hasNext l C.hst G (R.frames - 1) (by omega) _ _ _ σ hw) hv rfl q985 q323 q325 q98 q327 (by decide +kernel) (show tw_pd ⟨"java/util/Iterator", "hasNext", "()Z"⟩ 0 by decide +kernel) ⟨by omega, by omega⟩ hl.1 rfl (tw_r8 [] (Nat.le_of_ble_eq_true rfl)) dX13_init_60) (fun E q σ H locs hX hR hS hi => tw_out C hR hS (fun x hx => (hnx x hx).elim) hi hX) (fun x1 σ H locs hw hR hS => ?_)
    refine lv_if_eq (tgt := 88) C.hx C.hb dX13_init_65 (by decide) (fun c65 => ?_) (fun c65 => ?_)
    · replace hw := hw.1 c65
      refine tk_aload_n C hl 1 dX13_init_88 rfl ?_
      refine tk_grN C hR hw rfl in_X10 (by decide) q1890 (fun _ h => h) dX13_init_89 (fun x2 hw => ?_)
      refine tk_grN C hR hw rfl in_X2 (by decide) q241 (fun _ h => h) dX13_init_92 (fun x3 hw => ?_)
      refine tk_aload_n C hl 2 dX13_init_95 rfl ?_
      refine tk_grN C hR hw rfl in_X2 (by decide) q241 (fun _ h => h) dX13_init_96 (fun x4 hw => ?_)
      refine tk_nw C hR hS hw rfl in_X14 tyX14 tyX14_ok q989 q990 q106 (fun j hj => by rcases (show j = 0 by omega) with rfl; rfl) dX13_init_99 (fun q5 σ H hw hR hS => ?_)
      refine tw_dup (x := .inr q5) C.hx C.hb dX13_init_102 ?_
      refine tk_aload_n C hl 0 dX13_init_103 rfl ?_
      obtain ⟨hv, hw⟩ := hw
      refine tw_cbv C hS (tk_runI (As := [.inr l0]) hv C hR hS (wk_X14_init l C.hst G (R.frames - 1) (by omega) _ _ _ _ σ hw) q991 q992 q106 q993 rfl pd_X14_init ⟨by omega, by omega⟩ hl.1 rfl (tw_r8 [.inr q5, .inr x4, .inr x3] (Nat.le_of_ble_eq_true rfl)) dX13_init_104) (fun E q σ H locs hX hR hS hi => tw_out C hR hS (fun x hx => (hnx x hx).elim) hi hX) (fun σ H locs hw hR hS => ?_)
      refine tw_cbv C hS (tw_runSN (As := [.inr x3, .inr x4, .inr q5]) C hR hS (wk_X1_visitP l C.hst G 64 (R.frames - 1) (by omega) _ _ _ _ _ σ hw) q999 q1000 q64 q1001 pd_X1_visit ⟨by omega, by omega⟩ hl.1 rfl (tw_r8 [] (Nat.le_of_ble_eq_true rfl)) dX13_init_107) (fun E q σ H locs hX hR hS hi => tw_out C hR hS (fun x hx => (hnx x hx).elim) hi hX) (fun σ H locs hw hR hS => ?_)
      exact tw_vret C hR hS hr dX13_init_110 hw
    · replace hw := hw.2 c65
      refine tk_aload_n C hl 3 dX13_init_68 rfl ?_
      obtain ⟨hv, hw⟩ := hw
      refine tw_cbq5 C hS (tk_runF (As := []) (x := ⟨"java/util/Iterator", "next", "()Ljava/lang/Object;"⟩) C hR hS (wk_X8_next l C.hst G (R.frames - 1) (by omega) _ _ _ σ hw) hv rfl q987 q342 q344 q98 q346 (by decide +kernel) (show tw_pd ⟨"java/util/Iterator", "next", "()Ljava/lang/Object;"⟩ 0 by decide +kernel) ⟨by omega, by omega⟩ hl.1 rfl (tw_r8 [] (Nat.le_of_ble_eq_true rfl)) dX13_init_69) (fun E q σ H locs hX hR hS hi => tw_out C hR hS (fun x hx => (hnx x hx).elim) hi hX) (fun x8 σ H locs hw hR hS => ?_)
      refine tk_cc C hR hw rfl q988 (Or.inl rfl) dX13_init_74 (fun hw => ?_)
      refine tk_astore (L' := [(4, .inr x8), (0, .inr l0), (1, .inr l1), (2, .inr l2), (3, .inr l3)]) C hl dX13_init_77 (by decide) rfl (fun ls hl => ?_)
      refine tk_aload C hl 0 dX13_init_79 rfl ?_
      refine lv_null C.hx C.hb dX13_init_81 ?_
      refine W.eq (g2 := F0 m 82 ls (va_rf none :: [va_rf x8])) rfl ?_
      refine tk_pN (x := .inr none) C hR hS hw (by decide) rfl in_X3 tyX3 tyX3_ok nmX3 (by decide) q218 (fun _ h => h) rfl (tw_nr _ _) dX13_init_82 (fun σ H locs hw hR hS => ?_)
      refine lv_goto (tgt := 59) C.hx C.hb dX13_init_85 (by decide) ?_
      exact hk59 _ _ _ _ σ _ _ _ hw hR hS (tk_sub hl [1, 2, 3, 4] rfl)
set_option maxHeartbeats 4000000 in
theorem wk_X13_init_b22  (C : tw_C p l R s m args meth c G cX13_init 5 yX13_init.cls) (hr : meth.sig.returnType = none) (hmn : meth.name = yX13_init.name) (hnx : (∀ x ∈ c.exceptionTable.toList, False)) (hfr : 396 ≤ R.frames) (hRl : R.locals = 40 * R.frames) {Q : Tst → Prop} {X : String → Nat → Tst → Prop}  : ∀ (n : Nat) (l0 : Option Nat) (l1 : Option Nat) (l2 : Option Nat) (l3 : Option Nat) (σ : Tst) (H : Heap) (locs : List Loc) (ls : Array Slot), w_X13_init_b22 Q X n l0 l1 l2 l3 σ → tw_R G σ H → va_S (tw_A G) s.heap H locs → tw_l ls 5 [(0, .inr l0), (1, .inr l1), (2, .inr l2), (3, .inr l3)] → tw_W p l e R s m args below meth c σ H locs (tw_E below G (tw_Qv G Q) X args s R) (F0 m 22 ls []) := by
  intro n
  induction n with
  | zero => intro l0 l1 l2 l3 σ H locs ls hw; exact False.elim hw
  | succ n hk22 =>
    intro l0 l1 l2 l3 σ H locs ls hw hR hS hl
    rw [w_X13_init_b22] at hw
    refine tk_aload_n C hl 3 dX13_init_22 rfl ?_
    obtain ⟨hv, hw⟩ := hw
    refine tw_cbi5 C hS (tk_runF (As := []) (x := ⟨"java/util/Iterator", "hasNext", "()Z"⟩) C hR hS (wk_X8_hasNext l C.hst G (R.frames - 1) (by omega) _ _ _ σ hw) hv rfl q985 q323 q325 q98 q327 (by decide +kernel) (show tw_pd ⟨"java/util/Iterator", "hasNext", "()Z"⟩ 0 by decide +kernel) ⟨by omega, by omega⟩ hl.1 rfl (tw_r8 [] (Nat.le_of_ble_eq_true rfl)) dX13_init_23) (fun E q σ H locs hX hR hS hi => tw_out C hR hS (fun x hx => (hnx x hx).elim) hi hX) (fun x1 σ H locs hw hR hS => ?_)
    refine lv_if_eq (tgt := 51) C.hx C.hb dX13_init_28 (by decide) (fun c28 => ?_) (fun c28 => ?_)
    · replace hw := hw.1 c28
      refine tk_aload_n C hl 1 dX13_init_51 rfl ?_
      refine tk_grN C hR hw rfl in_X10 (by decide) q1894 (fun _ h => h) dX13_init_52 (fun x2 hw => ?_)
      obtain ⟨hv, hw⟩ := hw
      refine tw_cbq C hS (tk_runV (As := []) C hR hS (wk_X2_iterator l C.hst G (R.frames - 1) (by omega) _ _ _ σ hw) hv rfl q950 q951 q952 q69 q953 pd_X2_iterator ⟨by omega, by omega⟩ hl.1 rfl (tw_r8 [] (Nat.le_of_ble_eq_true rfl)) dX13_init_55) (fun E q σ H locs hX hR hS hi => tw_out C hR hS (fun x hx => (hnx x hx).elim) hi hX) (fun x3 σ H locs hw hR hS => ?_)
      refine tk_astore_n (L' := [(3, .inr x3), (0, .inr l0), (1, .inr l1), (2, .inr l2)]) C hl dX13_init_58 (by decide) rfl (fun ls hl => ?_)
      obtain ⟨z, hw⟩ := hw
      exact wk_X13_init_b59 C hr hmn hnx hfr hRl z _ _ _ _ σ _ _ _ hw hR hS (tk_sub hl [1, 2, 3, 0] rfl)
    · replace hw := hw.2 c28
      refine tk_aload_n C hl 3 dX13_init_31 rfl ?_
      obtain ⟨hv, hw⟩ := hw
      refine tw_cbq5 C hS (tk_runF (As := []) (x := ⟨"java/util/Iterator", "next", "()Ljava/lang/Object;"⟩) C hR hS (wk_X8_next l C.hst G (R.frames - 1) (by omega) _ _ _ σ hw) hv rfl q987 q342 q344 q98 q346 (by decide +kernel) (show tw_pd ⟨"java/util/Iterator", "next", "()Ljava/lang/Object;"⟩ 0 by decide +kernel) ⟨by omega, by omega⟩ hl.1 rfl (tw_r8 [] (Nat.le_of_ble_eq_true rfl)) dX13_init_32) (fun E q σ H locs hX hR hS hi => tw_out C hR hS (fun x hx => (hnx x hx).elim) hi hX) (fun x4 σ H locs hw hR hS => ?_)
      refine tk_cc C hR hw rfl q988 (Or.inl rfl) dX13_init_37 (fun hw => ?_)
      refine tk_astore (L' := [(4, .inr x4), (0, .inr l0), (1, .inr l1), (2, .inr l2), (3, .inr l3)]) C hl dX13_init_40 (by decide) rfl (fun ls hl => ?_)
      refine tk_aload C hl 0 dX13_init_42 rfl ?_
      refine lv_null C.hx C.hb dX13_init_44 ?_
      refine W.eq (g2 := F0 m 45 ls (va_rf none :: [va_rf x4])) rfl ?_
      refine tk_pN (x := .inr none) C hR hS hw (by decide) rfl in_X3 tyX3 tyX3_ok nmX3 (by decide) q218 (fun _ h => h) rfl (tw_nr _ _) dX13_init_45 (fun σ H locs hw hR hS => ?_)
      refine lv_goto (tgt := 22) C.hx C.hb dX13_init_48 (by decide) ?_
      exact hk22 _ _ _ _ σ _ _ _ hw hR hS (tk_sub hl [1, 2, 3, 4] rfl)
set_option maxHeartbeats 4000000 in
theorem wk_X13_init (l : Launch) (hl0 : l.stackTraces = false) (G : Tgl) (fr : Nat)  (hfr : 396 ≤ fr) (l0 : Option Nat) (l1 : Option Nat) (l2 : Option Nat) (Q : Tst → Prop) (X : String → Nat → Tst → Prop) (σ : Tst) (hw : w_X13_init l0 l1 l2 Q X σ) : tw_M l yX13_init (ws_ yX13_init cX13_init 5 none) fr (40 * fr) G σ [.inr l0, .inr l1, .inr l2] (tw_Qv G Q) X := by
  unfold w_X13_init at hw
  refine tw_of (ret := none) hl0 (by decide) (Nat.le_of_ble_eq_true rfl) (fun p e R s m args below meth c hRf hRl C hr hmn hnx hR hS ls hl => ?_)
  have hfr : 396 ≤ R.frames := by rw [hRf]; exact hfr
  have hRl : R.locals = 40 * R.frames := by rw [hRl, hRf]
  have hl : tw_l ls 5 [(0, .inr l0), (1, .inr l1), (2, .inr l2)] := hl
  refine tk_aload_n C hl 0 dX13_init_0 rfl ?_
  refine tk_obj C hw q949 q119 q120 hl.1 (tw_r8 [] (Nat.le_of_ble_eq_true rfl)) (by omega) (by omega) dX13_init_1 (fun hw => ?_)
  refine tk_aload_n C hl 0 dX13_init_4 rfl ?_
  refine tk_aload_n C hl 1 dX13_init_5 rfl ?_
  refine tk_pF (x := .inr l1) C hR hS hw (Or.inl (by decide)) rfl in_X13 tyX13 tyX13_ok nmX13 (by decide) q1087 (fun _ h => h) rfl hmn rfl (tw_nr _ _) dX13_init_6 (fun σ H locs hw hR hS => ?_)
  refine tk_aload_n C hl 0 dX13_init_9 rfl ?_
  refine tk_aload_n C hl 2 dX13_init_10 rfl ?_
  refine tk_pF (x := .inr l2) C hR hS hw (Or.inl (by decide)) rfl in_X13 tyX13 tyX13_ok nmX13 (by decide) q1088 (fun _ h => h) rfl hmn rfl (tw_nr _ _) dX13_init_11 (fun σ H locs hw hR hS => ?_)
  refine tk_aload_n C hl 1 dX13_init_14 rfl ?_
  refine tk_grN C hR hw rfl in_X10 (by decide) q1890 (fun _ h => h) dX13_init_15 (fun x1 hw => ?_)
  obtain ⟨hv, hw⟩ := hw
  refine tw_cbq C hS (tk_runV (As := []) C hR hS (wk_X2_iterator l C.hst G (R.frames - 1) (by omega) _ _ _ σ hw) hv rfl q950 q951 q952 q69 q953 pd_X2_iterator ⟨by omega, by omega⟩ hl.1 rfl (tw_r8 [] (Nat.le_of_ble_eq_true rfl)) dX13_init_18) (fun E q σ H locs hX hR hS hi => tw_out C hR hS (fun x hx => (hnx x hx).elim) hi hX) (fun x2 σ H locs hw hR hS => ?_)
  refine tk_astore_n (L' := [(3, .inr x2), (0, .inr l0), (1, .inr l1), (2, .inr l2)]) C hl dX13_init_21 (by decide) rfl (fun ls hl => ?_)
  obtain ⟨z, hw⟩ := hw
  exact wk_X13_init_b22 C hr hmn hnx hfr hRl z _ _ _ _ σ _ _ _ hw hR hS (tk_sub hl [1, 2, 3, 0] rfl)
-- TreeDiffer$Changed.<init>()V
def w_X15_init (l0 : Option Nat) (Q : Tst → Prop) (X : String → Nat → Tst → Prop) (σ : Tst) : Prop := w_rf l0 <| w_J8_init l0 (fun σ => Q σ) X σ
set_option maxHeartbeats 4000000 in
theorem wk_X15_init (l : Launch) (hl0 : l.stackTraces = false) (G : Tgl) (fr : Nat)  (hfr : 4 ≤ fr) (l0 : Option Nat) (Q : Tst → Prop) (X : String → Nat → Tst → Prop) (σ : Tst) (hw : w_X15_init l0 Q X σ) : tw_M l yX15_init (ws_ yX15_init cX15_init 1 none) fr (40 * fr) G σ [.inr l0] (tw_Qv G Q) X := by
  unfold w_X15_init at hw
  refine tw_of (ret := none) hl0 (by decide) (Nat.le_of_ble_eq_true rfl) (fun p e R s m args below meth c hRf hRl C hr hmn hnx hR hS ls hl => ?_)
  have hfr : 4 ≤ R.frames := by rw [hRf]; exact hfr
  have hRl : R.locals = 40 * R.frames := by rw [hRl, hRf]
  have hl : tw_l ls 1 [(0, .inr l0)] := hl
  refine tk_aload_n C hl 0 dX15_init_0 rfl ?_
  obtain ⟨hv, hw⟩ := hw
  refine tw_cbv C hS (tk_runI (As := []) hv C hR hS (wk_J8_init l C.hst G (R.frames - 1) (by omega) _ _ _ σ hw) q1126 q410 q77 q411 rfl pd_J8_init ⟨by omega, by omega⟩ hl.1 rfl (tw_r8 [] (Nat.le_of_ble_eq_true rfl)) dX15_init_1) (fun E q σ H locs hX hR hS hi => tw_out C hR hS (fun x hx => (hnx x hx).elim) hi hX) (fun σ H locs hw hR hS => ?_)
  exact tw_vret C hR hS hr dX15_init_4 hw
-- TreeDiffer$Patch.delete(LTreeDiffer$Node;)V
def w_X13_delete_b34 (Q : Tst → Prop) (X : String → Nat → Tst → Prop) (σ : Tst) : Prop := Q σ
def w_X13_delete (l0 : Option Nat) (Q : Tst → Prop) (X : String → Nat → Tst → Prop) (σ : Tst) : Prop := w_gr σ l0 cX3 6 fun x1 => w_if (x1 = none) (w_X13_delete_b34 Q X σ) (w_gr σ l0 cX3 6 fun x2 => w_rc σ x2 cX3 <| w_X3_isLike 64 x2 l0 0 (fun x3 σ => w_if (x3 = 0) (w_nw σ cX15 6 [.inr none, .inr none, .inr none, .inr none, .inr none, .inl 0] fun q6 σ => w_rf q6 <| w_X15_init q6 (fun σ => w_th σ q6 X) X σ) (w_gr σ l0 cX3 6 fun x4 => w_rc σ x4 cX3 <| w_X3_detach x4 (fun σ => w_X13_delete_b34 Q X σ) X σ)) X σ)
set_option maxHeartbeats 4000000 in
theorem wk_X13_delete_b34  (C : tw_C p l R s m args meth c G cX13_delete 1 yX13_delete.cls) (hr : meth.sig.returnType = none) (hmn : meth.name = yX13_delete.name) (hnx : (∀ x ∈ c.exceptionTable.toList, False)) (hfr : 69 ≤ R.frames) (hRl : R.locals = 40 * R.frames) {Q : Tst → Prop} {X : String → Nat → Tst → Prop}   (σ : Tst) (H : Heap) (locs : List Loc) (ls : Array Slot) (hw : w_X13_delete_b34 Q X  σ) (hR : tw_R G σ H) (hS : va_S (tw_A G) s.heap H locs) (hl : tw_l ls 1 []) : tw_W p l e R s m args below meth c σ H locs (tw_E below G (tw_Qv G Q) X args s R) (F0 m 34 ls []) := by
  unfold w_X13_delete_b34 at hw
  exact tw_vret C hR hS hr dX13_delete_34 hw
set_option maxHeartbeats 4000000 in
theorem wk_X13_delete (l : Launch) (hl0 : l.stackTraces = false) (G : Tgl) (fr : Nat)  (hfr : 69 ≤ fr) (l0 : Option Nat) (Q : Tst → Prop) (X : String → Nat → Tst → Prop) (σ : Tst) (hw : w_X13_delete l0 Q X σ) : tw_M l yX13_delete (ws_ yX13_delete cX13_delete 1 none) fr (40 * fr) G σ [.inr l0] (tw_Qv G Q) X := by
  unfold w_X13_delete at hw
  refine tw_of (ret := none) hl0 (by decide) (Nat.le_of_ble_eq_true rfl) (fun p e R s m args below meth c hRf hRl C hr hmn hnx hR hS ls hl => ?_)
  have hfr : 69 ≤ R.frames := by rw [hRf]; exact hfr
  have hRl : R.locals = 40 * R.frames := by rw [hRl, hRf]
  have hl : tw_l ls 1 [(0, .inr l0)] := hl
  refine tk_aload_n C hl 0 dX13_delete_0 rfl ?_
  refine tk_grN C hR hw rfl in_X3 (by decide) q218 (fun _ h => h) dX13_delete_1 (fun x1 hw => ?_)
  refine tw_ifnull (tgt := 34) C.hx C.hb dX13_delete_4 (by decide) (fun c4 => ?_) (fun c4 => ?_)
  · replace hw := hw.1 c4
    exact wk_X13_delete_b34 C hr hmn hnx hfr hRl σ _ _ _ hw hR hS (tk_sub hl [] rfl)
  · replace hw := hw.2 c4
    refine tk_aload_n C hl 0 dX13_delete_7 rfl ?_
    refine tk_grN C hR hw rfl in_X3 (by decide) q218 (fun _ h => h) dX13_delete_8 (fun x2 hw => ?_)
    refine tk_aload_n C hl 0 dX13_delete_11 rfl ?_
    refine lv_iconst (v := 0) C.hx C.hb dX13_delete_12 (by decide) ?_
    obtain ⟨hv, hw⟩ := hw
    refine tw_cbi C hS (tk_runV (As := [.inr l0, .inl 0]) C hR hS (wk_X3_isLike l C.hst G 64 (R.frames - 1) (by omega) _ _ _ _ _ σ hw) hv rfl q1114 q633 q634 q70 q635 pd_X3_isLike ⟨by omega, by omega⟩ hl.1 rfl (tw_r8 [] (Nat.le_of_ble_eq_true rfl)) dX13_delete_13) (fun E q σ H locs hX hR hS hi => tw_out C hR hS (fun x hx => (hnx x hx).elim) hi hX) (fun x3 σ H locs hw hR hS => ?_)
    refine lv_if_ne (tgt := 27) C.hx C.hb dX13_delete_16 (by decide) (fun c16 => ?_) (fun c16 => ?_)
    · replace hw := hw.2 c16
      refine tk_aload_n C hl 0 dX13_delete_27 rfl ?_
      refine tk_grN C hR hw rfl in_X3 (by decide) q218 (fun _ h => h) dX13_delete_28 (fun x4 hw => ?_)
      obtain ⟨hv, hw⟩ := hw
      refine tw_cbv C hS (tk_runV (As := []) C hR hS (wk_X3_detach l C.hst G (R.frames - 1) (by omega) _ _ _ σ hw) hv rfl q1129 q1130 q1131 q70 q1132 pd_X3_detach ⟨by omega, by omega⟩ hl.1 rfl (tw_r8 [] (Nat.le_of_ble_eq_true rfl)) dX13_delete_31) (fun E q σ H locs hX hR hS hi => tw_out C hR hS (fun x hx => (hnx x hx).elim) hi hX) (fun σ H locs hw hR hS => ?_)
      exact wk_X13_delete_b34 C hr hmn hnx hfr hRl σ _ _ _ hw hR hS (tk_sub hl [] rfl)
    · replace hw := hw.1 c16
      refine tk_nw C hR hS hw rfl in_X15 tyX15 tyX15_ok q1099 q1115 q107 (fun j hj => by rcases (show j = 0 ∨ j = 1 ∨ j = 2 ∨ j = 3 ∨ j = 4 ∨ j = 5 by omega) with rfl | rfl | rfl | rfl | rfl | rfl <;> rfl) dX13_delete_19 (fun q6 σ H hw hR hS => ?_)
      refine tw_dup (x := .inr q6) C.hx C.hb dX13_delete_22 ?_
      obtain ⟨hv, hw⟩ := hw
      refine tw_cbv C hS (tk_runIN (As := []) hv C hR hS (wk_X15_init l C.hst G (R.frames - 1) (by omega) _ _ _ σ hw) q1123 q1124 q107 q1125 rfl pd_X15_init ⟨by omega, by omega⟩ hl.1 rfl (tw_r8 [.inr q6] (Nat.le_of_ble_eq_true rfl)) dX13_delete_23) (fun E q σ H locs hX hR hS hi => tw_out C hR hS (fun x hx => (hnx x hx).elim) hi hX) (fun σ H locs hw hR hS => ?_)
      exact tk_th C hR hS hw (fun x hx => (hnx x hx).elim) dX13_delete_26
-- TreeDiffer$Missing.<init>()V
def w_X16_init (l0 : Option Nat) (Q : Tst → Prop) (X : String → Nat → Tst → Prop) (σ : Tst) : Prop := w_rf l0 <| w_J8_init l0 (fun σ => Q σ) X σ
set_option maxHeartbeats 4000000 in
theorem wk_X16_init (l : Launch) (hl0 : l.stackTraces = false) (G : Tgl) (fr : Nat)  (hfr : 4 ≤ fr) (l0 : Option Nat) (Q : Tst → Prop) (X : String → Nat → Tst → Prop) (σ : Tst) (hw : w_X16_init l0 Q X σ) : tw_M l yX16_init (ws_ yX16_init cX16_init 1 none) fr (40 * fr) G σ [.inr l0] (tw_Qv G Q) X := by
  unfold w_X16_init at hw
  refine tw_of (ret := none) hl0 (by decide) (Nat.le_of_ble_eq_true rfl) (fun p e R s m args below meth c hRf hRl C hr hmn hnx hR hS ls hl => ?_)
  have hfr : 4 ≤ R.frames := by rw [hRf]; exact hfr
  have hRl : R.locals = 40 * R.frames := by rw [hRl, hRf]
  have hl : tw_l ls 1 [(0, .inr l0)] := hl
  refine tk_aload_n C hl 0 dX16_init_0 rfl ?_
  obtain ⟨hv, hw⟩ := hw
  refine tw_cbv C hS (tk_runI (As := []) hv C hR hS (wk_J8_init l C.hst G (R.frames - 1) (by omega) _ _ _ σ hw) q1164 q410 q77 q411 rfl pd_J8_init ⟨by omega, by omega⟩ hl.1 rfl (tw_r8 [] (Nat.le_of_ble_eq_true rfl)) dX16_init_1) (fun E q σ H locs hX hR hS hi => tw_out C hR hS (fun x hx => (hnx x hx).elim) hi hX) (fun σ H locs hw hR hS => ?_)
  exact tw_vret C hR hS hr dX16_init_4 hw
-- TreeDiffer$Patch.require(LTreeDiffer$Node;)LTreeDiffer$Node;
def w_X13_require (l0 : Option Nat) (Q : Option Nat → Tst → Prop) (X : String → Nat → Tst → Prop) (σ : Tst) : Prop := w_if (l0 = none) (w_nw σ cX16 6 [.inr none, .inr none, .inr none, .inr none, .inr none, .inl 0] fun q1 σ => w_rf q1 <| w_X16_init q1 (fun σ => w_th σ q1 X) X σ) (Q l0 σ)
set_option maxHeartbeats 4000000 in
theorem wk_X13_require (l : Launch) (hl0 : l.stackTraces = false) (G : Tgl) (fr : Nat)  (hfr : 5 ≤ fr) (l0 : Option Nat) (Q : Option Nat → Tst → Prop) (X : String → Nat → Tst → Prop) (σ : Tst) (hw : w_X13_require l0 Q X σ) : tw_M l yX13_require (ws_ yX13_require cX13_require 1 (some (.object "TreeDiffer$Node"))) fr (40 * fr) G σ [.inr l0] (tw_Qq G Q) X := by
  unfold w_X13_require at hw
  refine tw_of (ret := (some (.object "TreeDiffer$Node"))) hl0 (by decide) (Nat.le_of_ble_eq_true rfl) (fun p e R s m args below meth c hRf hRl C hr hmn hnx hR hS ls hl => ?_)
  have hfr : 5 ≤ R.frames := by rw [hRf]; exact hfr
  have hRl : R.locals = 40 * R.frames := by rw [hRl, hRf]
  have hl : tw_l ls 1 [(0, .inr l0)] := hl
  refine tk_aload_n C hl 0 dX13_require_0 rfl ?_
  refine tw_ifnonnull (tgt := 12) C.hx C.hb dX13_require_1 (by decide) (fun c1 => ?_) (fun c1 => ?_)
  · replace hw := hw.2 c1
    refine tk_aload_n C hl 0 dX13_require_12 rfl ?_
    exact tw_aret C hR hS hr (Or.inl ⟨_, rfl⟩) dX13_require_13 hw
  · replace hw := hw.1 c1
    refine tk_nw C hR hS hw rfl in_X16 tyX16 tyX16_ok q1098 q1153 q108 (fun j hj => by rcases (show j = 0 ∨ j = 1 ∨ j = 2 ∨ j = 3 ∨ j = 4 ∨ j = 5 by omega) with rfl | rfl | rfl | rfl | rfl | rfl <;> rfl) dX13_require_4 (fun q1 σ H hw hR hS => ?_)
    refine tw_dup (x := .inr q1) C.hx C.hb dX13_require_7 ?_
    obtain ⟨hv, hw⟩ := hw
    refine tw_cbv C hS (tk_runIN (As := []) hv C hR hS (wk_X16_init l C.hst G (R.frames - 1) (by omega) _ _ _ σ hw) q1161 q1162 q108 q1163 rfl pd_X16_init ⟨by omega, by omega⟩ hl.1 rfl (tw_r8 [.inr q1] (Nat.le_of_ble_eq_true rfl)) dX13_require_8) (fun E q σ H locs hX hR hS hi => tw_out C hR hS (fun x hx => (hnx x hx).elim) hi hX) (fun σ H locs hw hR hS => ?_)
    exact tk_th C hR hS hw (fun x hx => (hnx x hx).elim) dX13_require_11
-- TreeDiffer$Clash.<init>()V
def w_X17_init (l0 : Option Nat) (Q : Tst → Prop) (X : String → Nat → Tst → Prop) (σ : Tst) : Prop := w_rf l0 <| w_J8_init l0 (fun σ => Q σ) X σ
set_option maxHeartbeats 4000000 in
theorem wk_X17_init (l : Launch) (hl0 : l.stackTraces = false) (G : Tgl) (fr : Nat)  (hfr : 4 ≤ fr) (l0 : Option Nat) (Q : Tst → Prop) (X : String → Nat → Tst → Prop) (σ : Tst) (hw : w_X17_init l0 Q X σ) : tw_M l yX17_init (ws_ yX17_init cX17_init 1 none) fr (40 * fr) G σ [.inr l0] (tw_Qv G Q) X := by
  unfold w_X17_init at hw
  refine tw_of (ret := none) hl0 (by decide) (Nat.le_of_ble_eq_true rfl) (fun p e R s m args below meth c hRf hRl C hr hmn hnx hR hS ls hl => ?_)
  have hfr : 4 ≤ R.frames := by rw [hRf]; exact hfr
  have hRl : R.locals = 40 * R.frames := by rw [hRl, hRf]
  have hl : tw_l ls 1 [(0, .inr l0)] := hl
  refine tk_aload_n C hl 0 dX17_init_0 rfl ?_
  obtain ⟨hv, hw⟩ := hw
  refine tw_cbv C hS (tk_runI (As := []) hv C hR hS (wk_J8_init l C.hst G (R.frames - 1) (by omega) _ _ _ σ hw) q1186 q410 q77 q411 rfl pd_J8_init ⟨by omega, by omega⟩ hl.1 rfl (tw_r8 [] (Nat.le_of_ble_eq_true rfl)) dX17_init_1) (fun E q σ H locs hX hR hS hi => tw_out C hR hS (fun x hx => (hnx x hx).elim) hi hX) (fun σ H locs hw hR hS => ?_)
  exact tw_vret C hR hS hr dX17_init_4 hw
-- TreeDiffer$Full.<init>()V
def w_X18_init (l0 : Option Nat) (Q : Tst → Prop) (X : String → Nat → Tst → Prop) (σ : Tst) : Prop := w_rf l0 <| w_J8_init l0 (fun σ => Q σ) X σ
set_option maxHeartbeats 4000000 in
theorem wk_X18_init (l : Launch) (hl0 : l.stackTraces = false) (G : Tgl) (fr : Nat)  (hfr : 4 ≤ fr) (l0 : Option Nat) (Q : Tst → Prop) (X : String → Nat → Tst → Prop) (σ : Tst) (hw : w_X18_init l0 Q X σ) : tw_M l yX18_init (ws_ yX18_init cX18_init 1 none) fr (40 * fr) G σ [.inr l0] (tw_Qv G Q) X := by
  unfold w_X18_init at hw
  refine tw_of (ret := none) hl0 (by decide) (Nat.le_of_ble_eq_true rfl) (fun p e R s m args below meth c hRf hRl C hr hmn hnx hR hS ls hl => ?_)
  have hfr : 4 ≤ R.frames := by rw [hRf]; exact hfr
  have hRl : R.locals = 40 * R.frames := by rw [hRl, hRf]
  have hl : tw_l ls 1 [(0, .inr l0)] := hl
  refine tk_aload_n C hl 0 dX18_init_0 rfl ?_
  obtain ⟨hv, hw⟩ := hw
  refine tw_cbv C hS (tk_runI (As := []) hv C hR hS (wk_J8_init l C.hst G (R.frames - 1) (by omega) _ _ _ σ hw) q1201 q410 q77 q411 rfl pd_J8_init ⟨by omega, by omega⟩ hl.1 rfl (tw_r8 [] (Nat.le_of_ble_eq_true rfl)) dX18_init_1) (fun E q σ H locs hX hR hS hi => tw_out C hR hS (fun x hx => (hnx x hx).elim) hi hX) (fun σ H locs hw hR hS => ?_)
  exact tw_vret C hR hS hr dX18_init_4 hw
-- TreeDiffer$Patch.put(LTreeDiffer$Node;LTreeDiffer$Node;)V
def w_X13_put_b163 (Q : Tst → Prop) (X : String → Nat → Tst → Prop) (l1 : Option Nat) (l2 : Option Nat) (l3 : Option Nat) (l4 : Int32) (σ : Tst) : Prop := w_rc σ l3 cX3 <| w_X3_add l3 l4 l2 (fun σ => w_p σ l1 cX3 6 (.inr l2) fun σ => Q σ) X σ
def w_X13_put_b155 (k83 : Option Nat → Option Nat → Option Nat → Int32 → Int32 → Tst → Prop) (Q : Tst → Prop) (X : String → Nat → Tst → Prop) (l1 : Option Nat) (l2 : Option Nat) (l3 : Option Nat) (l5 : Int32) (s0 : Int32) (σ : Tst) : Prop := k83 l1 l2 l3 s0 (l5 + (-1)) σ
def w_X13_put_b136 (k83 : Option Nat → Option Nat → Option Nat → Int32 → Int32 → Tst → Prop) (Q : Tst → Prop) (X : String → Nat → Tst → Prop) (l1 : Option Nat) (l2 : Option Nat) (l3 : Option Nat) (l5 : Int32) (s0 : Option Nat) (σ : Tst) : Prop := w_if (s0 = none) (w_X13_put_b155 k83 Q X l1 l2 l3 l5 0 σ) (w_rc σ l3 cX3 <| w_X3_place l3 s0 (fun x1 σ => w_X13_put_b155 k83 Q X l1 l2 l3 l5 (x1 + 1) σ) X σ)
def w_X13_put_b83 (Q : Tst → Prop) (X : String → Nat → Tst → Prop) : Nat → Option Nat → Option Nat → Option Nat → Int32 → Int32 → Tst → Prop
  | 0, _, _, _, _, _, _ => False
  | n + 1, l1, l2, l3, l4, l5, σ => w_if (l5 < 0) (w_X13_put_b163 Q X l1 l2 l3 l4 σ) (w_if (l4 = 0) (w_gr σ l1 cX3 3 fun x1 => w_gr σ x1 cX3 4 fun x2 => w_rc σ x2 cJ6 <| w_J6_get x2 l5 (fun x3 σ => w_cc σ x3 cX3 <| w_gr σ x3 cX3 5 fun x4 => w_if (x4 = none) (w_gr σ x3 cX3 6 fun x7 => w_X13_put_b136 (w_X13_put_b83 Q X n) Q X l1 l2 l3 l5 x7 σ) (w_gr σ x3 cX3 5 fun x5 => w_gr σ x5 cX3 6 fun x6 => w_X13_put_b136 (w_X13_put_b83 Q X n) Q X l1 l2 l3 l5 x6 σ)) X σ) (w_X13_put_b163 Q X l1 l2 l3 l4 σ))
def w_X13_put_b40 (Q : Tst → Prop) (X : String → Nat → Tst → Prop) (l0 : Option Nat) (l1 : Option Nat) (l2 : Option Nat) (l3 : Option Nat) (σ : Tst) : Prop := w_gr σ l0 cX13 1 fun x1 => w_gr σ x1 cX2 0 fun x2 => w_rc σ x2 cX3 <| w_X3_size 64 x2 (fun x3 σ => w_rc σ l2 cX3 <| w_X3_size 64 l2 (fun x4 σ => w_if ((x3 + x4) ≤ 20) (w_gr σ l1 cX3 3 fun x5 => w_rc σ x5 cX3 <| w_X3_place x5 l1 (fun x6 σ => ∃ z, w_X13_put_b83 Q X z l1 l2 l3 0 (x6 - 1) σ) X σ) (w_nw σ cX18 6 [.inr none, .inr none, .inr none, .inr none, .inr none, .inl 0] fun q7 σ => w_rf q7 <| w_X18_init q7 (fun σ => w_th σ q7 X) X σ)) X σ) X σ
def w_X13_put (l0 : Option Nat) (l1 : Option Nat) (l2 : Option Nat) (Q : Tst → Prop) (X : String → Nat → Tst → Prop) (σ : Tst) : Prop := w_gr σ l1 cX3 3 fun x1 => w_gr σ x1 cX3 5 fun x2 => w_gr σ x2 cX3 6 fun x3 => w_X13_require x3 (fun x4 σ => w_gi σ l2 cX3 1 fun x5 => w_if (x5 = 0) (w_X13_put_b40 Q X l0 l1 l2 x4 σ) (w_gi σ l2 cX3 1 fun x6 => w_rc σ x4 cX3 <| w_X3_hasChildWithKey x4 x6 (fun x7 σ => w_if (x7 = 0) (w_X13_put_b40 Q X l0 l1 l2 x4 σ) (w_nw σ cX17 6 [.inr none, .inr none, .inr none, .inr none, .inr none, .inl 0] fun q8 σ => w_rf q8 <| w_X17_init q8 (fun σ => w_th σ q8 X) X σ)) X σ)) X σ
set_option maxHeartbeats 4000000 in
theorem wk_X13_put_b163  (C : tw_C p l R s m args meth c G cX13_put 8 yX13_put.cls) (hr : meth.sig.returnType = none) (hmn : meth.name = yX13_put.name) (hnx : (∀ x ∈ c.exceptionTable.toList, False)) (hfr : 68 ≤ R.frames) (hRl : R.locals = 40 * R.frames) {Q : Tst → Prop} {X : String → Nat → Tst → Prop}  (l1 : Option Nat) (l2 : Option Nat) (l3 : Option Nat) (l4 : Int32) (σ : Tst) (H : Heap) (locs : List Loc) (ls : Array Slot) (hw : w_X13_put_b163 Q X l1 l2 l3 l4 σ) (hR : tw_R G σ H) (hS : va_S (tw_A G) s.heap H locs) (hl : tw_l ls 8 [(1, .inr l1), (2, .inr l2), (3, .inr l3), (4, .inl l4)]) : tw_W p l e R s m args below meth c σ H locs (tw_E below G (tw_Qv G Q) X args s R) (F0 m 163 ls []) := by
  unfold w_X13_put_b163 at hw
  refine tk_aload_n C hl 2 dX13_put_163 rfl ?_
  refine tk_iload C hl 3 dX13_put_164 rfl ?_
  refine tk_aload_n C hl 1 dX13_put_166 rfl ?_
  obtain ⟨hv, hw⟩ := hw
  refine tw_cbv C hS (tk_runV (As := [.inl l4, .inr l2]) C hR hS (wk_X3_add l C.hst G (R.frames - 1) (by omega) _ _ _ _ _ σ hw) hv rfl q1205 q669 q670 q70 q671 pd_X3_add ⟨by omega, by omega⟩ hl.1 rfl (tw_r8 [] (Nat.le_of_ble_eq_true rfl)) dX13_put_167) (fun E q σ H locs hX hR hS hi => tw_out C hR hS (fun x hx => (hnx x hx).elim) hi hX) (fun σ H locs hw hR hS => ?_)
  refine tk_aload_n C hl 0 dX13_put_170 rfl ?_
  refine tk_aload_n C hl 1 dX13_put_171 rfl ?_
  refine tk_pN (x := .inr l2) C hR hS hw (by decide) rfl in_X3 tyX3 tyX3_ok nmX3 (by decide) q218 (fun _ h => h) rfl (tw_nr _ _) dX13_put_172 (fun σ H locs hw hR hS => ?_)
  exact tw_vret C hR hS hr dX13_put_175 hw
set_option maxHeartbeats 4000000 in
theorem wk_X13_put_b155  (C : tw_C p l R s m args meth c G cX13_put 8 yX13_put.cls) (hr : meth.sig.returnType = none) (hmn : meth.name = yX13_put.name) (hnx : (∀ x ∈ c.exceptionTable.toList, False)) (hfr : 68 ≤ R.frames) (hRl : R.locals = 40 * R.frames) {Q : Tst → Prop} {X : String → Nat → Tst → Prop}  {k83 : Option Nat → Option Nat → Option Nat → Int32 → Int32 → Tst → Prop} (hk83 : ∀ (l1 : Option Nat) (l2 : Option Nat) (l3 : Option Nat) (l4 : Int32) (l5 : Int32) (σ : Tst) (H : Heap) (locs : List Loc) (ls : Array Slot), k83 l1 l2 l3 l4 l5 σ → tw_R G σ H → va_S (tw_A G) s.heap H locs → tw_l ls 8 [(1, .inr l1), (2, .inr l2), (3, .inr l3), (4, .inl l4), (5, .inl l5)] → tw_W p l e R s m args below meth c σ H locs (tw_E below G (tw_Qv G Q) X args s R) (F0 m 83 ls [])) (l1 : Option Nat) (l2 : Option Nat) (l3 : Option Nat) (l5 : Int32) (s0 : Int32) (σ : Tst) (H : Heap) (locs : List Loc) (ls : Array Slot) (hw : w_X13_put_b155 k83 Q X l1 l2 l3 l5 s0 σ) (hR : tw_R G σ H) (hS : va_S (tw_A G) s.heap H locs) (hl : tw_l ls 8 [(1, .inr l1), (2, .inr l2), (3, .inr l3), (5, .inl l5)]) : tw_W p l e R s m args below meth c σ H locs (tw_E below G (tw_Qv G Q) X args s R) (F0 m 155 ls [.int s0]) := by
  unfold w_X13_put_b155 at hw
  refine tk_istore (L' := [(4, .inl s0), (1, .inr l1), (2, .inr l2), (3, .inr l3), (5, .inl l5)]) C hl dX13_put_155 (by decide) rfl (fun ls hl => ?_)
  refine tk_iinc (L' := [(5, .inl (l5 + (-1))), (4, .inl s0), (1, .inr l1), (2, .inr l2), (3, .inr l3)]) (y := (l5 + (-1))) C hl 4 dX13_put_157 rfl rfl (by decide) rfl (fun ls hl => ?_)
  refine lv_goto (tgt := 83) C.hx C.hb dX13_put_160 (by decide) ?_
  exact hk83 _ _ _ _ _ σ _ _ _ hw hR hS (tk_sub hl [2, 3, 4, 1, 0] rfl)
set_option maxHeartbeats 4000000 in
theorem wk_X13_put_b136  (C : tw_C p l R s m args meth c G cX13_put 8 yX13_put.cls) (hr : meth.sig.returnType = none) (hmn : meth.name = yX13_put.name) (hnx : (∀ x ∈ c.exceptionTable.toList, False)) (hfr : 68 ≤ R.frames) (hRl : R.locals = 40 * R.frames) {Q : Tst → Prop} {X : String → Nat → Tst → Prop}  {k83 : Option Nat → Option Nat → Option Nat → Int32 → Int32 → Tst → Prop} (hk83 : ∀ (l1 : Option Nat) (l2 : Option Nat) (l3 : Option Nat) (l4 : Int32) (l5 : Int32) (σ : Tst) (H : Heap) (locs : List Loc) (ls : Array Slot), k83 l1 l2 l3 l4 l5 σ → tw_R G σ H → va_S (tw_A G) s.heap H locs → tw_l ls 8 [(1, .inr l1), (2, .inr l2), (3, .inr l3), (4, .inl l4), (5, .inl l5)] → tw_W p l e R s m args below meth c σ H locs (tw_E below G (tw_Qv G Q) X args s R) (F0 m 83 ls [])) (l1 : Option Nat) (l2 : Option Nat) (l3 : Option Nat) (l5 : Int32) (s0 : Option Nat) (σ : Tst) (H : Heap) (locs : List Loc) (ls : Array Slot) (hw : w_X13_put_b136 k83 Q X l1 l2 l3 l5 s0 σ) (hR : tw_R G σ H) (hS : va_S (tw_A G) s.heap H locs) (hl : tw_l ls 8 [(1, .inr l1), (2, .inr l2), (3, .inr l3), (5, .inl l5)]) : tw_W p l e R s m args below meth c σ H locs (tw_E below G (tw_Qv G Q) X args s R) (F0 m 136 ls [va_rf s0]) := by
  unfold w_X13_put_b136 at hw
  refine tk_astore (L' := [(7, .inr s0), (1, .inr l1), (2, .inr l2), (3, .inr l3), (5, .inl l5)]) C hl dX13_put_136 (by decide) rfl (fun ls hl => ?_)
  refine tk_aload C hl 0 dX13_put_138 rfl ?_
  refine tw_ifnonnull (tgt := 147) C.hx C.hb dX13_put_140 (by decide) (fun c140 => ?_) (fun c140 => ?_)
  · replace hw := hw.2 c140
    refine tk_aload_n C hl 3 dX13_put_147 rfl ?_
    refine tk_aload C hl 0 dX13_put_148 rfl ?_
    obtain ⟨hv, hw⟩ := hw
    refine tw_cbi C hS (tk_runV (As := [.inr s0]) C hR hS (wk_X3_place l C.hst G (R.frames - 1) (by omega) _ _ _ _ σ hw) hv rfl q1204 q1134 q1135 q70 q1136 pd_X3_place ⟨by omega, by omega⟩ hl.1 rfl (tw_r8 [] (Nat.le_of_ble_eq_true rfl)) dX13_put_150) (fun E q σ H locs hX hR hS hi => tw_out C hR hS (fun x hx => (hnx x hx).elim) hi hX) (fun x1 σ H locs hw hR hS => ?_)
    refine lv_iconst (v := 1) C.hx C.hb dX13_put_153 (by decide) ?_
    refine lv_iadd C.hx C.hb dX13_put_154 ?_
    exact wk_X13_put_b155 C hr hmn hnx hfr hRl hk83 _ _ _ _ _ σ _ _ _ hw hR hS (tk_sub hl [1, 2, 3, 4] rfl)
  · replace hw := hw.1 c140
    refine lv_iconst (v := 0) C.hx C.hb dX13_put_143 (by decide) ?_
    refine lv_goto (tgt := 155) C.hx C.hb dX13_put_144 (by decide) ?_
    exact wk_X13_put_b155 C hr hmn hnx hfr hRl hk83 _ _ _ _ _ σ _ _ _ hw hR hS (tk_sub hl [1, 2, 3, 4] rfl)
set_option maxHeartbeats 4000000 in
theorem wk_X13_put_b83  (C : tw_C p l R s m args meth c G cX13_put 8 yX13_put.cls) (hr : meth.sig.returnType = none) (hmn : meth.name = yX13_put.name) (hnx : (∀ x ∈ c.exceptionTable.toList, False)) (hfr : 68 ≤ R.frames) (hRl : R.locals = 40 * R.frames) {Q : Tst → Prop} {X : String → Nat → Tst → Prop}  : ∀ (n : Nat) (l1 : Option Nat) (l2 : Option Nat) (l3 : Option Nat) (l4 : Int32) (l5 : Int32) (σ : Tst) (H : Heap) (locs : List Loc) (ls : Array Slot), w_X13_put_b83 Q X n l1 l2 l3 l4 l5 σ → tw_R G σ H → va_S (tw_A G) s.heap H locs → tw_l ls 8 [(1, .inr l1), (2, .inr l2), (3, .inr l3), (4, .inl l4), (5, .inl l5)] → tw_W p l e R s m args below meth c σ H locs (tw_E below G (tw_Qv G Q) X args s R) (F0 m 83 ls []) := by
  intro n
  induction n with
  | zero => intro l1 l2 l3 l4 l5 σ H locs ls hw; exact False.elim hw
  | succ n hk83 =>
    intro l1 l2 l3 l4 l5 σ H locs ls hw hR hS hl
    rw [w_X13_put_b83] at hw
    refine tk_iload C hl 4 dX13_put_83 rfl ?_
    refine lv_if_lt (tgt := 163) C.hx C.hb dX13_put_85 (by decide) (fun c85 => ?_) (fun c85 => ?_)
    · replace hw := hw.1 c85
      exact wk_X13_put_b163 C hr hmn hnx hfr hRl _ _ _ _ σ _ _ _ hw hR hS (tk_sub hl [0, 1, 2, 3] rfl)
    · replace hw := hw.2 c85
      refine tk_iload C hl 3 dX13_put_88 rfl ?_
      refine lv_if_ne (tgt := 163) C.hx C.hb dX13_put_90 (by decide) (fun c90 => ?_) (fun c90 => ?_)
      · replace hw := hw.2 c90
        exact wk_X13_put_b163 C hr hmn hnx hfr hRl _ _ _ _ σ _ _ _ hw hR hS (tk_sub hl [0, 1, 2, 3] rfl)
      · replace hw := hw.1 c90
        refine tk_aload_n C hl 0 dX13_put_93 rfl ?_
        refine tk_grN C hR hw rfl in_X3 (by decide) q207 (fun _ h => h) dX13_put_94 (fun x1 hw => ?_)
        refine tk_grN C hR hw rfl in_X3 (by decide) q213 (fun _ h => h) dX13_put_97 (fun x2 hw => ?_)
        refine tk_iload C hl 4 dX13_put_100 rfl ?_
        obtain ⟨hv, hw⟩ := hw
        refine tw_cbq5 C hS (tk_runF (As := [.inl l5]) (x := ⟨"java/util/List", "get", "(I)Ljava/lang/Object;"⟩) C hR hS (wk_J6_get l C.hst G (R.frames - 1) (by omega) _ _ _ _ σ hw) hv rfl q1105 q456 q458 q73 q460 (by decide +kernel) (show tw_pd ⟨"java/util/List", "get", "(I)Ljava/lang/Object;"⟩ 1 by decide +kernel) ⟨by omega, by omega⟩ hl.1 rfl (tw_r8 [] (Nat.le_of_ble_eq_true rfl)) dX13_put_102) (fun E q σ H locs hX hR hS hi => tw_out C hR hS (fun x hx => (hnx x hx).elim) hi hX) (fun x3 σ H locs hw hR hS => ?_)
        refine tk_cc C hR hw rfl q988 (Or.inl rfl) dX13_put_107 (fun hw => ?_)
        refine tk_astore (L' := [(6, .inr x3), (1, .inr l1), (2, .inr l2), (3, .inr l3), (4, .inl l4), (5, .inl l5)]) C hl dX13_put_110 (by decide) rfl (fun ls hl => ?_)
        refine tk_aload C hl 0 dX13_put_112 rfl ?_
        refine tk_grN C hR hw rfl in_X3 (by decide) q216 (fun _ h => h) dX13_put_114 (fun x4 hw => ?_)
        refine tw_ifnonnull (tgt := 128) C.hx C.hb dX13_put_117 (by decide) (fun c117 => ?_) (fun c117 => ?_)
        · replace hw := hw.2 c117
          refine tk_aload C hl 0 dX13_put_128 rfl ?_
          refine tk_grN C hR hw rfl in_X3 (by decide) q216 (fun _ h => h) dX13_put_130 (fun x5 hw => ?_)
          refine tk_grN C hR hw rfl in_X3 (by decide) q218 (fun _ h => h) dX13_put_133 (fun x6 hw => ?_)
          exact wk_X13_put_b136 C hr hmn hnx hfr hRl hk83 _ _ _ _ _ σ _ _ _ hw hR hS (tk_sub hl [1, 2, 3, 5] rfl)
        · replace hw := hw.1 c117
          refine tk_aload C hl 0 dX13_put_120 rfl ?_
          refine tk_grN C hR hw rfl in_X3 (by decide) q218 (fun _ h => h) dX13_put_122 (fun x7 hw => ?_)
          refine lv_goto (tgt := 136) C.hx C.hb dX13_put_125 (by decide) ?_
          exact wk_X13_put_b136 C hr hmn hnx hfr hRl hk83 _ _ _ _ _ σ _ _ _ hw hR hS (tk_sub hl [1, 2, 3, 5] rfl)
set_option maxHeartbeats 4000000 in
theorem wk_X13_put_b40  (C : tw_C p l R s m args meth c G cX13_put 8 yX13_put.cls) (hr : meth.sig.returnType = none) (hmn : meth.name = yX13_put.name) (hnx : (∀ x ∈ c.exceptionTable.toList, False)) (hfr : 68 ≤ R.frames) (hRl : R.locals = 40 * R.frames) {Q : Tst → Prop} {X : String → Nat → Tst → Prop}  (l0 : Option Nat) (l1 : Option Nat) (l2 : Option Nat) (l3 : Option Nat) (σ : Tst) (H : Heap) (locs : List Loc) (ls : Array Slot) (hw : w_X13_put_b40 Q X l0 l1 l2 l3 σ) (hR : tw_R G σ H) (hS : va_S (tw_A G) s.heap H locs) (hl : tw_l ls 8 [(0, .inr l0), (1, .inr l1), (2, .inr l2), (3, .inr l3)]) : tw_W p l e R s m args below meth c σ H locs (tw_E below G (tw_Qv G Q) X args s R) (F0 m 40 ls []) := by
  unfold w_X13_put_b40 at hw
  refine tk_aload_n C hl 0 dX13_put_40 rfl ?_
  refine tk_gr C hR hw rfl in_X13 (by decide) q1088 (fun _ h => h) dX13_put_41 (fun x1 hw => ?_)
  refine tk_grN C hR hw rfl in_X2 (by decide) q241 (fun _ h => h) dX13_put_44 (fun x2 hw => ?_)
  obtain ⟨hv, hw⟩ := hw
  refine tw_cbi C hS (tk_runV (As := []) C hR hS (wk_X3_size l C.hst G 64 (R.frames - 1) (by omega) _ _ _ σ hw) hv rfl q1189 q287 q288 q70 q289 pd_X3_size ⟨by omega, by omega⟩ hl.1 rfl (tw_r8 [] (Nat.le_of_ble_eq_true rfl)) dX13_put_47) (fun E q σ H locs hX hR hS hi => tw_out C hR hS (fun x hx => (hnx x hx).elim) hi hX) (fun x3 σ H locs hw hR hS => ?_)
  refine tk_aload_n C hl 2 dX13_put_50 rfl ?_
  obtain ⟨hv, hw⟩ := hw
  refine tw_cbi C hS (tk_runV (As := []) C hR hS (wk_X3_size l C.hst G 64 (R.frames - 1) (by omega) _ _ _ σ hw) hv rfl q1189 q287 q288 q70 q289 pd_X3_size ⟨by omega, by omega⟩ hl.1 rfl (tw_r8 [.inl x3] (Nat.le_of_ble_eq_true rfl)) dX13_put_51) (fun E q σ H locs hX hR hS hi => tw_out C hR hS (fun x hx => (hnx x hx).elim) hi hX) (fun x4 σ H locs hw hR hS => ?_)
  refine lv_iadd C.hx C.hb dX13_put_54 ?_
  refine lv_bipush (v := 20) C.hx C.hb dX13_put_55 (by decide) ?_
  refine lv_icmp_le (tgt := 68) C.hx C.hb dX13_put_57 (by decide) (fun c57 => ?_) (fun c57 => ?_)
  · replace hw := hw.1 c57
    refine lv_iconst (v := 0) C.hx C.hb dX13_put_68 (by decide) ?_
    refine tk_istore (L' := [(4, .inl 0), (0, .inr l0), (1, .inr l1), (2, .inr l2), (3, .inr l3)]) C hl dX13_put_69 (by decide) rfl (fun ls hl => ?_)
    refine tk_aload_n C hl 2 dX13_put_71 rfl ?_
    refine tk_grN C hR hw rfl in_X3 (by decide) q207 (fun _ h => h) dX13_put_72 (fun x5 hw => ?_)
    refine tk_aload_n C hl 2 dX13_put_75 rfl ?_
    obtain ⟨hv, hw⟩ := hw
    refine tw_cbi C hS (tk_runV (As := [.inr l1]) C hR hS (wk_X3_place l C.hst G (R.frames - 1) (by omega) _ _ _ _ σ hw) hv rfl q1204 q1134 q1135 q70 q1136 pd_X3_place ⟨by omega, by omega⟩ hl.1 rfl (tw_r8 [] (Nat.le_of_ble_eq_true rfl)) dX13_put_76) (fun E q σ H locs hX hR hS hi => tw_out C hR hS (fun x hx => (hnx x hx).elim) hi hX) (fun x6 σ H locs hw hR hS => ?_)
    refine lv_iconst (v := 1) C.hx C.hb dX13_put_79 (by decide) ?_
    refine lv_isub C.hx C.hb dX13_put_80 ?_
    refine tk_istore (L' := [(5, .inl (x6 - 1)), (4, .inl 0), (0, .inr l0), (1, .inr l1), (2, .inr l2), (3, .inr l3)]) C hl dX13_put_81 (by decide) rfl (fun ls hl => ?_)
    obtain ⟨z, hw⟩ := hw
    exact wk_X13_put_b83 C hr hmn hnx hfr hRl z _ _ _ _ _ σ _ _ _ hw hR hS (tk_sub hl [3, 4, 5, 1, 0] rfl)
  · replace hw := hw.2 c57
    refine tk_nw C hR hS hw rfl in_X18 tyX18 tyX18_ok q1101 q1190 q110 (fun j hj => by rcases (show j = 0 ∨ j = 1 ∨ j = 2 ∨ j = 3 ∨ j = 4 ∨ j = 5 by omega) with rfl | rfl | rfl | rfl | rfl | rfl <;> rfl) dX13_put_60 (fun q7 σ H hw hR hS => ?_)
    refine tw_dup (x := .inr q7) C.hx C.hb dX13_put_63 ?_
    obtain ⟨hv, hw⟩ := hw
    refine tw_cbv C hS (tk_runIN (As := []) hv C hR hS (wk_X18_init l C.hst G (R.frames - 1) (by omega) _ _ _ σ hw) q1198 q1199 q110 q1200 rfl pd_X18_init ⟨by omega, by omega⟩ hl.1 rfl (tw_r8 [.inr q7] (Nat.le_of_ble_eq_true rfl)) dX13_put_64) (fun E q σ H locs hX hR hS hi => tw_out C hR hS (fun x hx => (hnx x hx).elim) hi hX) (fun σ H locs hw hR hS => ?_)
    exact tk_th C hR hS hw (fun x hx => (hnx x hx).elim) dX13_put_67
set_option maxHeartbeats 4000000 in
theorem wk_X13_put (l : Launch) (hl0 : l.stackTraces = false) (G : Tgl) (fr : Nat)  (hfr : 68 ≤ fr) (l0 : Option Nat) (l1 : Option Nat) (l2 : Option Nat) (Q : Tst → Prop) (X : String → Nat → Tst → Prop) (σ : Tst) (hw : w_X13_put l0 l1 l2 Q X σ) : tw_M l yX13_put (ws_ yX13_put cX13_put 8 none) fr (40 * fr) G σ [.inr l0, .inr l1, .inr l2] (tw_Qv G Q) X := by
  unfold w_X13_put at hw
  refine tw_of (ret := none) hl0 (by decide) (Nat.le_of_ble_eq_true rfl) (fun p e R s m args below meth c hRf hRl C hr hmn hnx hR hS ls hl => ?_)
  have hfr : 68 ≤ R.frames := by rw [hRf]; exact hfr
  have hRl : R.locals = 40 * R.frames := by rw [hRl, hRf]
  have hl : tw_l ls 8 [(0, .inr l0), (1, .inr l1), (2, .inr l2)] := hl
  refine tk_aload_n C hl 1 dX13_put_0 rfl ?_
  refine tk_grN C hR hw rfl in_X3 (by decide) q207 (fun _ h => h) dX13_put_1 (fun x1 hw => ?_)
  refine tk_grN C hR hw rfl in_X3 (by decide) q216 (fun _ h => h) dX13_put_4 (fun x2 hw => ?_)
  refine tk_grN C hR hw rfl in_X3 (by decide) q218 (fun _ h => h) dX13_put_7 (fun x3 hw => ?_)
  refine tw_cbq C hS (tw_runS (As := [.inr x3]) C hR hS (wk_X13_require l C.hst G (R.frames - 1) (by omega) _ _ _ σ hw) q1150 q1151 q105 q1152 pd_X13_require ⟨by omega, by omega⟩ hl.1 rfl (tw_r8 [] (Nat.le_of_ble_eq_true rfl)) dX13_put_10) (fun E q σ H locs hX hR hS hi => tw_out C hR hS (fun x hx => (hnx x hx).elim) hi hX) (fun x4 σ H locs hw hR hS => ?_)
  refine tk_astore_n (L' := [(3, .inr x4), (0, .inr l0), (1, .inr l1), (2, .inr l2)]) C hl dX13_put_13 (by decide) rfl (fun ls hl => ?_)
  refine tk_aload_n C hl 3 dX13_put_14 rfl ?_
  refine tk_giN C hR hw rfl in_X3 (by decide) q199 (fun _ h => h) dX13_put_15 (fun x5 hw => ?_)
  refine lv_if_eq (tgt := 40) C.hx C.hb dX13_put_18 (by decide) (fun c18 => ?_) (fun c18 => ?_)
  · replace hw := hw.1 c18
    exact wk_X13_put_b40 C hr hmn hnx hfr hRl _ _ _ _ σ _ _ _ hw hR hS (tk_sub hl [1, 2, 3, 0] rfl)
  · replace hw := hw.2 c18
    refine tk_aload_n C hl 0 dX13_put_21 rfl ?_
    refine tk_aload_n C hl 3 dX13_put_22 rfl ?_
    refine tk_giN C hR hw rfl in_X3 (by decide) q199 (fun _ h => h) dX13_put_23 (fun x6 hw => ?_)
    obtain ⟨hv, hw⟩ := hw
    refine tw_cbi C hS (tk_runV (As := [.inl x6]) C hR hS (wk_X3_hasChildWithKey l C.hst G (R.frames - 1) (by omega) _ _ _ _ σ hw) hv rfl q1171 q1172 q1173 q70 q1174 pd_X3_hasChildWithKey ⟨by omega, by omega⟩ hl.1 rfl (tw_r8 [] (Nat.le_of_ble_eq_true rfl)) dX13_put_26) (fun E q σ H locs hX hR hS hi => tw_out C hR hS (fun x hx => (hnx x hx).elim) hi hX) (fun x7 σ H locs hw hR hS => ?_)
    refine lv_if_eq (tgt := 40) C.hx C.hb dX13_put_29 (by decide) (fun c29 => ?_) (fun c29 => ?_)
    · replace hw := hw.1 c29
      exact wk_X13_put_b40 C hr hmn hnx hfr hRl _ _ _ _ σ _ _ _ hw hR hS (tk_sub hl [1, 2, 3, 0] rfl)
    · replace hw := hw.2 c29
      refine tk_nw C hR hS hw rfl in_X17 tyX17 tyX17_ok q1100 q1175 q109 (fun j hj => by rcases (show j = 0 ∨ j = 1 ∨ j = 2 ∨ j = 3 ∨ j = 4 ∨ j = 5 by omega) with rfl | rfl | rfl | rfl | rfl | rfl <;> rfl) dX13_put_32 (fun q8 σ H hw hR hS => ?_)
      refine tw_dup (x := .inr q8) C.hx C.hb dX13_put_35 ?_
      obtain ⟨hv, hw⟩ := hw
      refine tw_cbv C hS (tk_runIN (As := []) hv C hR hS (wk_X17_init l C.hst G (R.frames - 1) (by omega) _ _ _ σ hw) q1183 q1184 q109 q1185 rfl pd_X17_init ⟨by omega, by omega⟩ hl.1 rfl (tw_r8 [.inr q8] (Nat.le_of_ble_eq_true rfl)) dX13_put_36) (fun E q σ H locs hX hR hS hi => tw_out C hR hS (fun x hx => (hnx x hx).elim) hi hX) (fun σ H locs hw hR hS => ?_)
      exact tk_th C hR hS hw (fun x hx => (hnx x hx).elim) dX13_put_39
-- TreeDiffer$Patch.change(LTreeDiffer$Operation;LTreeDiffer$Node;)V
def w_X13_change_b117 (Q : Tst → Prop) (X : String → Nat → Tst → Prop) (σ : Tst) : Prop := Q σ
def w_X13_change_b97 (Q : Tst → Prop) (X : String → Nat → Tst → Prop) (l1 : Option Nat) (l2 : Int32) (l5 : Int32) (σ : Tst) : Prop := w_if (l2 = 0) (w_p σ l1 cX3 2 (.inl l5) fun σ => w_X13_change_b117 Q X σ) (w_ok .char ((l5.toUInt32 % 65536).toInt32) ∧ w_p σ l1 cX3 0 (.inl ((l5.toUInt32 % 65536).toInt32)) fun σ => w_X13_change_b117 Q X σ)
def w_X13_change_b75 (Q : Tst → Prop) (X : String → Nat → Tst → Prop) (l1 : Option Nat) (l2 : Int32) (l3 : Int32) (l4 : Int32) (s0 : Int32) (σ : Tst) : Prop := w_if (l3 = l4) (w_X13_change_b97 Q X l1 l2 s0 σ) (w_if (l3 = s0) (w_X13_change_b97 Q X l1 l2 s0 σ) (w_nw σ cX15 6 [.inr none, .inr none, .inr none, .inr none, .inr none, .inl 0] fun q1 σ => w_rf q1 <| w_X15_init q1 (fun σ => w_th σ q1 X) X σ))
def w_X13_change_b52 (Q : Tst → Prop) (X : String → Nat → Tst → Prop) (l0 : Option Nat) (l1 : Option Nat) (l2 : Int32) (l3 : Int32) (s0 : Int32) (σ : Tst) : Prop := w_if (l2 = 0) (w_gr σ l0 cX12 2 fun x1 => w_gi σ x1 cX3 2 fun x2 => w_X13_change_b75 Q X l1 l2 l3 s0 x2 σ) (w_gr σ l0 cX12 2 fun x3 => w_gi σ x3 cX3 0 fun x4 => w_X13_change_b75 Q X l1 l2 l3 s0 x4 σ)
def w_X13_change_b30 (Q : Tst → Prop) (X : String → Nat → Tst → Prop) (l0 : Option Nat) (l1 : Option Nat) (l2 : Int32) (s0 : Int32) (σ : Tst) : Prop := w_if (l2 = 0) (w_gr σ l0 cX12 1 fun x1 => w_gi σ x1 cX3 2 fun x2 => w_X13_change_b52 Q X l0 l1 l2 s0 x2 σ) (w_gr σ l0 cX12 1 fun x3 => w_gi σ x3 cX3 0 fun x4 => w_X13_change_b52 Q X l0 l1 l2 s0 x4 σ)
def w_X13_change_b14 (Q : Tst → Prop) (X : String → Nat → Tst → Prop) (l0 : Option Nat) (l1 : Option Nat) (s0 : Int32) (σ : Tst) : Prop := w_if (s0 = 0) (w_gi σ l1 cX3 2 fun x1 => w_X13_change_b30 Q X l0 l1 s0 x1 σ) (w_gi σ l1 cX3 0 fun x2 => w_X13_change_b30 Q X l0 l1 s0 x2 σ)
def w_X13_change (l0 : Option Nat) (l1 : Option Nat) (Q : Tst → Prop) (X : String → Nat → Tst → Prop) (σ : Tst) : Prop := w_gi σ l0 cX12 0 fun x1 => w_if (x1 = 108) (w_X13_change_b14 Q X l0 l1 1 σ) (w_X13_change_b14 Q X l0 l1 0 σ)
set_option maxHeartbeats 4000000 in
theorem wk_X13_change_b117  (C : tw_C p l R s m args meth c G cX13_change 6 yX13_change.cls) (hr : meth.sig.returnType = none) (hmn : meth.name = yX13_change.name) (hnx : (∀ x ∈ c.exceptionTable.toList, False)) (hfr : 5 ≤ R.frames) (hRl : R.locals = 40 * R.frames) {Q : Tst → Prop} {X : String → Nat → Tst → Prop}   (σ : Tst) (H : Heap) (locs : List Loc) (ls : Array Slot) (hw : w_X13_change_b117 Q X  σ) (hR : tw_R G σ H) (hS : va_S (tw_A G) s.heap H locs) (hl : tw_l ls 6 []) : tw_W p l e R s m args below meth c σ H locs (tw_E below G (tw_Qv G Q) X args s R) (F0 m 117 ls []) := by
  unfold w_X13_change_b117 at hw
  exact tw_vret C hR hS hr dX13_change_117 hw
set_option maxHeartbeats 4000000 in
theorem wk_X13_change_b97  (C : tw_C p l R s m args meth c G cX13_change 6 yX13_change.cls) (hr : meth.sig.returnType = none) (hmn : meth.name = yX13_change.name) (hnx : (∀ x ∈ c.exceptionTable.toList, False)) (hfr : 5 ≤ R.frames) (hRl : R.locals = 40 * R.frames) {Q : Tst → Prop} {X : String → Nat → Tst → Prop}  (l1 : Option Nat) (l2 : Int32) (l5 : Int32) (σ : Tst) (H : Heap) (locs : List Loc) (ls : Array Slot) (hw : w_X13_change_b97 Q X l1 l2 l5 σ) (hR : tw_R G σ H) (hS : va_S (tw_A G) s.heap H locs) (hl : tw_l ls 6 [(1, .inr l1), (2, .inl l2), (5, .inl l5)]) : tw_W p l e R s m args below meth c σ H locs (tw_E below G (tw_Qv G Q) X args s R) (F0 m 97 ls []) := by
  unfold w_X13_change_b97 at hw
  refine tk_iload_n C hl 1 dX13_change_97 rfl ?_
  refine lv_if_eq (tgt := 111) C.hx C.hb dX13_change_98 (by decide) (fun c98 => ?_) (fun c98 => ?_)
  · replace hw := hw.1 c98
    refine tk_aload_n C hl 0 dX13_change_111 rfl ?_
    refine tk_iload C hl 2 dX13_change_112 rfl ?_
    refine tk_pN (x := .inl l5) C hR hS hw (by decide) rfl in_X3 tyX3 tyX3_ok nmX3 (by decide) q204 (fun _ h => h) rfl (tw_ni _) dX13_change_114 (fun σ H locs hw hR hS => ?_)
    exact wk_X13_change_b117 C hr hmn hnx hfr hRl σ _ _ _ hw hR hS (tk_sub hl [] rfl)
  · replace hw := hw.2 c98
    refine tk_aload_n C hl 0 dX13_change_101 rfl ?_
    refine tk_iload C hl 2 dX13_change_102 rfl ?_
    refine lv_i2c (v := (l5.toUInt32 % 65536).toInt32) C.hx C.hb dX13_change_104 rfl ?_
    obtain ⟨hok, hw⟩ := hw
    refine tk_pN (x := .inl ((l5.toUInt32 % 65536).toInt32)) C hR hS hw (by decide) rfl in_X3 tyX3 tyX3_ok nmX3 (by decide) q194 (fun _ h => h) rfl hok dX13_change_105 (fun σ H locs hw hR hS => ?_)
    refine lv_goto (tgt := 117) C.hx C.hb dX13_change_108 (by decide) ?_
    exact wk_X13_change_b117 C hr hmn hnx hfr hRl σ _ _ _ hw hR hS (tk_sub hl [] rfl)
set_option maxHeartbeats 4000000 in
theorem wk_X13_change_b75  (C : tw_C p l R s m args meth c G cX13_change 6 yX13_change.cls) (hr : meth.sig.returnType = none) (hmn : meth.name = yX13_change.name) (hnx : (∀ x ∈ c.exceptionTable.toList, False)) (hfr : 5 ≤ R.frames) (hRl : R.locals = 40 * R.frames) {Q : Tst → Prop} {X : String → Nat → Tst → Prop}  (l1 : Option Nat) (l2 : Int32) (l3 : Int32) (l4 : Int32) (s0 : Int32) (σ : Tst) (H : Heap) (locs : List Loc) (ls : Array Slot) (hw : w_X13_change_b75 Q X l1 l2 l3 l4 s0 σ) (hR : tw_R G σ H) (hS : va_S (tw_A G) s.heap H locs) (hl : tw_l ls 6 [(1, .inr l1), (2, .inl l2), (3, .inl l3), (4, .inl l4)]) : tw_W p l e R s m args below meth c σ H locs (tw_E below G (tw_Qv G Q) X args s R) (F0 m 75 ls [.int s0]) := by
  unfold w_X13_change_b75 at hw
  refine tk_istore (L' := [(5, .inl s0), (1, .inr l1), (2, .inl l2), (3, .inl l3), (4, .inl l4)]) C hl dX13_change_75 (by decide) rfl (fun ls hl => ?_)
  refine tk_iload_n C hl 3 dX13_change_77 rfl ?_
  refine tk_iload C hl 4 dX13_change_78 rfl ?_
  refine lv_icmp_eq (tgt := 97) C.hx C.hb dX13_change_80 (by decide) (fun c80 => ?_) (fun c80 => ?_)
  · replace hw := hw.1 c80
    exact wk_X13_change_b97 C hr hmn hnx hfr hRl _ _ _ σ _ _ _ hw hR hS (tk_sub hl [1, 2, 0] rfl)
  · replace hw := hw.2 c80
    refine tk_iload_n C hl 3 dX13_change_83 rfl ?_
    refine tk_iload C hl 0 dX13_change_84 rfl ?_
    refine lv_icmp_eq (tgt := 97) C.hx C.hb dX13_change_86 (by decide) (fun c86 => ?_) (fun c86 => ?_)
    · replace hw := hw.1 c86
      exact wk_X13_change_b97 C hr hmn hnx hfr hRl _ _ _ σ _ _ _ hw hR hS (tk_sub hl [1, 2, 0] rfl)
    · replace hw := hw.2 c86
      refine tk_nw C hR hS hw rfl in_X15 tyX15 tyX15_ok q1099 q1115 q107 (fun j hj => by rcases (show j = 0 ∨ j = 1 ∨ j = 2 ∨ j = 3 ∨ j = 4 ∨ j = 5 by omega) with rfl | rfl | rfl | rfl | rfl | rfl <;> rfl) dX13_change_89 (fun q1 σ H hw hR hS => ?_)
      refine tw_dup (x := .inr q1) C.hx C.hb dX13_change_92 ?_
      obtain ⟨hv, hw⟩ := hw
      refine tw_cbv C hS (tk_runIN (As := []) hv C hR hS (wk_X15_init l C.hst G (R.frames - 1) (by omega) _ _ _ σ hw) q1123 q1124 q107 q1125 rfl pd_X15_init ⟨by omega, by omega⟩ hl.1 rfl (tw_r8 [.inr q1] (Nat.le_of_ble_eq_true rfl)) dX13_change_93) (fun E q σ H locs hX hR hS hi => tw_out C hR hS (fun x hx => (hnx x hx).elim) hi hX) (fun σ H locs hw hR hS => ?_)
      exact tk_th C hR hS hw (fun x hx => (hnx x hx).elim) dX13_change_96
set_option maxHeartbeats 4000000 in
theorem wk_X13_change_b52  (C : tw_C p l R s m args meth c G cX13_change 6 yX13_change.cls) (hr : meth.sig.returnType = none) (hmn : meth.name = yX13_change.name) (hnx : (∀ x ∈ c.exceptionTable.toList, False)) (hfr : 5 ≤ R.frames) (hRl : R.locals = 40 * R.frames) {Q : Tst → Prop} {X : String → Nat → Tst → Prop}  (l0 : Option Nat) (l1 : Option Nat) (l2 : Int32) (l3 : Int32) (s0 : Int32) (σ : Tst) (H : Heap) (locs : List Loc) (ls : Array Slot) (hw : w_X13_change_b52 Q X l0 l1 l2 l3 s0 σ) (hR : tw_R G σ H) (hS : va_S (tw_A G) s.heap H locs) (hl : tw_l ls 6 [(0, .inr l0), (1, .inr l1), (2, .inl l2), (3, .inl l3)]) : tw_W p l e R s m args below meth c σ H locs (tw_E below G (tw_Qv G Q) X args s R) (F0 m 52 ls [.int s0]) := by
  unfold w_X13_change_b52 at hw
  refine tk_istore (L' := [(4, .inl s0), (0, .inr l0), (1, .inr l1), (2, .inl l2), (3, .inl l3)]) C hl dX13_change_52 (by decide) rfl (fun ls hl => ?_)
  refine tk_iload_n C hl 3 dX13_change_54 rfl ?_
  refine lv_if_eq (tgt := 68) C.hx C.hb dX13_change_55 (by decide) (fun c55 => ?_) (fun c55 => ?_)
  · replace hw := hw.1 c55
    refine tk_aload_n C hl 1 dX13_change_68 rfl ?_
    refine tk_grN C hR hw rfl in_X12 (by decide) q1033 (fun _ h => h) dX13_change_69 (fun x1 hw => ?_)
    refine tk_giN C hR hw rfl in_X3 (by decide) q204 (fun _ h => h) dX13_change_72 (fun x2 hw => ?_)
    exact wk_X13_change_b75 C hr hmn hnx hfr hRl _ _ _ _ _ σ _ _ _ hw hR hS (tk_sub hl [2, 3, 4, 0] rfl)
  · replace hw := hw.2 c55
    refine tk_aload_n C hl 1 dX13_change_58 rfl ?_
    refine tk_grN C hR hw rfl in_X12 (by decide) q1033 (fun _ h => h) dX13_change_59 (fun x3 hw => ?_)
    refine tk_giN C hR hw rfl in_X3 (by decide) q194 (fun _ h => h) dX13_change_62 (fun x4 hw => ?_)
    refine lv_goto (tgt := 75) C.hx C.hb dX13_change_65 (by decide) ?_
    exact wk_X13_change_b75 C hr hmn hnx hfr hRl _ _ _ _ _ σ _ _ _ hw hR hS (tk_sub hl [2, 3, 4, 0] rfl)
set_option maxHeartbeats 4000000 in
theorem wk_X13_change_b30  (C : tw_C p l R s m args meth c G cX13_change 6 yX13_change.cls) (hr : meth.sig.returnType = none) (hmn : meth.name = yX13_change.name) (hnx : (∀ x ∈ c.exceptionTable.toList, False)) (hfr : 5 ≤ R.frames) (hRl : R.locals = 40 * R.frames) {Q : Tst → Prop} {X : String → Nat → Tst → Prop}  (l0 : Option Nat) (l1 : Option Nat) (l2 : Int32) (s0 : Int32) (σ : Tst) (H : Heap) (locs : List Loc) (ls : Array Slot) (hw : w_X13_change_b30 Q X l0 l1 l2 s0 σ) (hR : tw_R G σ H) (hS : va_S (tw_A G) s.heap H locs) (hl : tw_l ls 6 [(0, .inr l0), (1, .inr l1), (2, .inl l2)]) : tw_W p l e R s m args below meth c σ H locs (tw_E below G (tw_Qv G Q) X args s R) (F0 m 30 ls [.int s0]) := by
  unfold w_X13_change_b30 at hw
  refine tk_istore_n (L' := [(3, .inl s0), (0, .inr l0), (1, .inr l1), (2, .inl l2)]) C hl dX13_change_30 (by decide) rfl (fun ls hl => ?_)
  refine tk_iload_n C hl 3 dX13_change_31 rfl ?_
  refine lv_if_eq (tgt := 45) C.hx C.hb dX13_change_32 (by decide) (fun c32 => ?_) (fun c32 => ?_)
  · replace hw := hw.1 c32
    refine tk_aload_n C hl 1 dX13_change_45 rfl ?_
    refine tk_grN C hR hw rfl in_X12 (by decide) q1030 (fun _ h => h) dX13_change_46 (fun x1 hw => ?_)
    refine tk_giN C hR hw rfl in_X3 (by decide) q204 (fun _ h => h) dX13_change_49 (fun x2 hw => ?_)
    exact wk_X13_change_b52 C hr hmn hnx hfr hRl _ _ _ _ _ σ _ _ _ hw hR hS (tk_sub hl [1, 2, 3, 0] rfl)
  · replace hw := hw.2 c32
    refine tk_aload_n C hl 1 dX13_change_35 rfl ?_
    refine tk_grN C hR hw rfl in_X12 (by decide) q1030 (fun _ h => h) dX13_change_36 (fun x3 hw => ?_)
    refine tk_giN C hR hw rfl in_X3 (by decide) q194 (fun _ h => h) dX13_change_39 (fun x4 hw => ?_)
    refine lv_goto (tgt := 52) C.hx C.hb dX13_change_42 (by decide) ?_
    exact wk_X13_change_b52 C hr hmn hnx hfr hRl _ _ _ _ _ σ _ _ _ hw hR hS (tk_sub hl [1, 2, 3, 0] rfl)
set_option maxHeartbeats 4000000 in
theorem wk_X13_change_b14  (C : tw_C p l R s m args meth c G cX13_change 6 yX13_change.cls) (hr : meth.sig.returnType = none) (hmn : meth.name = yX13_change.name) (hnx : (∀ x ∈ c.exceptionTable.toList, False)) (hfr : 5 ≤ R.frames) (hRl : R.locals = 40 * R.frames) {Q : Tst → Prop} {X : String → Nat → Tst → Prop}  (l0 : Option Nat) (l1 : Option Nat) (s0 : Int32) (σ : Tst) (H : Heap) (locs : List Loc) (ls : Array Slot) (hw : w_X13_change_b14 Q X l0 l1 s0 σ) (hR : tw_R G σ H) (hS : va_S (tw_A G) s.heap H locs) (hl : tw_l ls 6 [(0, .inr l0), (1, .inr l1)]) : tw_W p l e R s m args below meth c σ H locs (tw_E below G (tw_Qv G Q) X args s R) (F0 m 14 ls [.int s0]) := by
  unfold w_X13_change_b14 at hw
  refine tk_istore_n (L' := [(2, .inl s0), (0, .inr l0), (1, .inr l1)]) C hl dX13_change_14 (by decide) rfl (fun ls hl => ?_)
  refine tk_iload_n C hl 0 dX13_change_15 rfl ?_
  refine lv_if_eq (tgt := 26) C.hx C.hb dX13_change_16 (by decide) (fun c16 => ?_) (fun c16 => ?_)
  · replace hw := hw.1 c16
    refine tk_aload_n C hl 2 dX13_change_26 rfl ?_
    refine tk_giN C hR hw rfl in_X3 (by decide) q204 (fun _ h => h) dX13_change_27 (fun x1 hw => ?_)
    exact wk_X13_change_b30 C hr hmn hnx hfr hRl _ _ _ _ σ _ _ _ hw hR hS (tk_sub hl [1, 2, 0] rfl)
  · replace hw := hw.2 c16
    refine tk_aload_n C hl 2 dX13_change_19 rfl ?_
    refine tk_giN C hR hw rfl in_X3 (by decide) q194 (fun _ h => h) dX13_change_20 (fun x2 hw => ?_)
    refine lv_goto (tgt := 30) C.hx C.hb dX13_change_23 (by decide) ?_
    exact wk_X13_change_b30 C hr hmn hnx hfr hRl _ _ _ _ σ _ _ _ hw hR hS (tk_sub hl [1, 2, 0] rfl)
set_option maxHeartbeats 4000000 in
theorem wk_X13_change (l : Launch) (hl0 : l.stackTraces = false) (G : Tgl) (fr : Nat)  (hfr : 5 ≤ fr) (l0 : Option Nat) (l1 : Option Nat) (Q : Tst → Prop) (X : String → Nat → Tst → Prop) (σ : Tst) (hw : w_X13_change l0 l1 Q X σ) : tw_M l yX13_change (ws_ yX13_change cX13_change 6 none) fr (40 * fr) G σ [.inr l0, .inr l1] (tw_Qv G Q) X := by
  unfold w_X13_change at hw
  refine tw_of (ret := none) hl0 (by decide) (Nat.le_of_ble_eq_true rfl) (fun p e R s m args below meth c hRf hRl C hr hmn hnx hR hS ls hl => ?_)
  have hfr : 5 ≤ R.frames := by rw [hRf]; exact hfr
  have hRl : R.locals = 40 * R.frames := by rw [hRl, hRf]
  have hl : tw_l ls 6 [(0, .inr l0), (1, .inr l1)] := hl
  refine tk_aload_n C hl 0 dX13_change_0 rfl ?_
  refine tk_giN C hR hw rfl in_X12 (by decide) q1026 (fun _ h => h) dX13_change_1 (fun x1 hw => ?_)
  refine lv_bipush (v := 108) C.hx C.hb dX13_change_4 (by decide) ?_
  refine lv_icmp_ne (tgt := 13) C.hx C.hb dX13_change_6 (by decide) (fun c6 => ?_) (fun c6 => ?_)
  · replace hw := hw.2 c6
    refine lv_iconst (v := 0) C.hx C.hb dX13_change_13 (by decide) ?_
    exact wk_X13_change_b14 C hr hmn hnx hfr hRl _ _ _ σ _ _ _ hw hR hS (tk_sub hl [0, 1] rfl)
  · replace hw := hw.1 c6
    refine lv_iconst (v := 1) C.hx C.hb dX13_change_9 (by decide) ?_
    refine lv_goto (tgt := 14) C.hx C.hb dX13_change_10 (by decide) ?_
    exact wk_X13_change_b14 C hr hmn hnx hfr hRl _ _ _ σ _ _ _ hw hR hS (tk_sub hl [0, 1] rfl)
-- TreeDiffer$Patch.apply(LTreeDiffer$Operation;I)V
def w_X13_apply_2_b139 (Q : Tst → Prop) (X : String → Nat → Tst → Prop) (σ : Tst) : Prop := Q σ
def w_X13_apply_2 (l0 : Option Nat) (l1 : Option Nat) (l2 : Int32) (Q : Tst → Prop) (X : String → Nat → Tst → Prop) (σ : Tst) : Prop := w_gi σ l1 cX12 0 fun x1 => w_if (x1 = 100) (w_if (l2 = 0) (w_gr σ l1 cX12 1 fun x2 => w_X13_delete x2 (fun σ => w_X13_apply_2_b139 Q X σ) X σ) (w_X13_apply_2_b139 Q X σ)) (w_if (x1 = 105) (w_if (l2 = 2) (w_gr σ l1 cX12 2 fun x4 => w_gr σ l1 cX12 2 fun x5 => w_rc σ x5 cX3 <| w_X3_copy 64 x5 (fun x6 σ => w_rc σ l0 cX13 <| w_X13_put l0 x4 x6 (fun σ => w_X13_apply_2_b139 Q X σ) X σ) X σ) (w_X13_apply_2_b139 Q X σ)) (w_if (x1 = 109) (w_if (l2 = 0) (w_gr σ l1 cX12 1 fun x12 => w_gr σ x12 cX3 6 fun x13 => w_X13_require x13 (fun x14 σ => w_rc σ x14 cX3 <| w_X3_detach x14 (fun σ => w_X13_apply_2_b139 Q X σ) X σ) X σ) (w_if (l2 = 2) (w_gr σ l1 cX12 2 fun x8 => w_gr σ l1 cX12 1 fun x9 => w_gr σ x9 cX3 6 fun x10 => w_rc σ l0 cX13 <| w_X13_put l0 x8 x10 (fun σ => w_X13_apply_2_b139 Q X σ) X σ) (w_X13_apply_2_b139 Q X σ))) (w_if (l2 = 1) (w_gr σ l1 cX12 1 fun x16 => w_gr σ x16 cX3 6 fun x17 => w_X13_require x17 (fun x18 σ => w_X13_change l1 x18 (fun σ => w_X13_apply_2_b139 Q X σ) X σ) X σ) (w_X13_apply_2_b139 Q X σ))))
set_option maxHeartbeats 4000000 in
theorem wk_X13_apply_2_b139  (C : tw_C p l R s m args meth c G cX13_apply_2 3 yX13_apply_2.cls) (hr : meth.sig.returnType = none) (hmn : meth.name = yX13_apply_2.name) (hnx : (∀ x ∈ c.exceptionTable.toList, False)) (hfr : 72 ≤ R.frames) (hRl : R.locals = 40 * R.frames) {Q : Tst → Prop} {X : String → Nat → Tst → Prop}   (σ : Tst) (H : Heap) (locs : List Loc) (ls : Array Slot) (hw : w_X13_apply_2_b139 Q X  σ) (hR : tw_R G σ H) (hS : va_S (tw_A G) s.heap H locs) (hl : tw_l ls 3 []) : tw_W p l e R s m args below meth c σ H locs (tw_E below G (tw_Qv G Q) X args s R) (F0 m 139 ls []) := by
  unfold w_X13_apply_2_b139 at hw
  exact tw_vret C hR hS hr dX13_apply_2_139 hw
set_option maxHeartbeats 4000000 in
theorem wk_X13_apply_2 (l : Launch) (hl0 : l.stackTraces = false) (G : Tgl) (fr : Nat)  (hfr : 72 ≤ fr) (l0 : Option Nat) (l1 : Option Nat) (l2 : Int32) (Q : Tst → Prop) (X : String → Nat → Tst → Prop) (σ : Tst) (hw : w_X13_apply_2 l0 l1 l2 Q X σ) : tw_M l yX13_apply_2 (ws_ yX13_apply_2 cX13_apply_2 3 none) fr (40 * fr) G σ [.inr l0, .inr l1, .inl l2] (tw_Qv G Q) X := by
  unfold w_X13_apply_2 at hw
  refine tw_of (ret := none) hl0 (by decide) (Nat.le_of_ble_eq_true rfl) (fun p e R s m args below meth c hRf hRl C hr hmn hnx hR hS ls hl => ?_)
  have hfr : 72 ≤ R.frames := by rw [hRf]; exact hfr
  have hRl : R.locals = 40 * R.frames := by rw [hRl, hRf]
  have hl : tw_l ls 3 [(0, .inr l0), (1, .inr l1), (2, .inl l2)] := hl
  refine tk_aload_n C hl 1 dX13_apply_2_0 rfl ?_
  refine tk_giN C hR hw rfl in_X12 (by decide) q1026 (fun _ h => h) dX13_apply_2_1 (fun x1 hw => ?_)
  by_cases c4_0 : x1 = 100
  · replace hw := hw.1 c4_0
    refine lv_lookup (tgt := 40) (off := 36) C.hx C.hb dX13_apply_2_4 (by decide) ((by rw [c4_0]; rfl)) (by decide) ?_
    refine tk_iload_n C hl 2 dX13_apply_2_40 rfl ?_
    refine lv_if_ne (tgt := 139) C.hx C.hb dX13_apply_2_41 (by decide) (fun c41 => ?_) (fun c41 => ?_)
    · replace hw := hw.2 c41
      exact wk_X13_apply_2_b139 C hr hmn hnx hfr hRl σ _ _ _ hw hR hS (tk_sub hl [] rfl)
    · replace hw := hw.1 c41
      refine tk_aload_n C hl 1 dX13_apply_2_44 rfl ?_
      refine tk_grN C hR hw rfl in_X12 (by decide) q1030 (fun _ h => h) dX13_apply_2_45 (fun x2 hw => ?_)
      refine tw_cbv C hS (tw_runS (As := [.inr x2]) C hR hS (wk_X13_delete l C.hst G (R.frames - 1) (by omega) _ _ _ σ hw) q1111 q1112 q105 q1113 pd_X13_delete ⟨by omega, by omega⟩ hl.1 rfl (tw_r8 [] (Nat.le_of_ble_eq_true rfl)) dX13_apply_2_48) (fun E q σ H locs hX hR hS hi => tw_out C hR hS (fun x hx => (hnx x hx).elim) hi hX) (fun σ H locs hw hR hS => ?_)
      refine lv_goto (tgt := 139) C.hx C.hb dX13_apply_2_51 (by decide) ?_
      exact wk_X13_apply_2_b139 C hr hmn hnx hfr hRl σ _ _ _ hw hR hS (tk_sub hl [] rfl)
  replace hw := hw.2 c4_0
  by_cases c4_1 : x1 = 105
  · replace hw := hw.1 c4_1
    refine lv_lookup (tgt := 97) (off := 93) C.hx C.hb dX13_apply_2_4 (by decide) ((lv_osw c4_0 rfl).trans <| (by rw [c4_1]; rfl)) (by decide) ?_
    refine tk_iload_n C hl 2 dX13_apply_2_97 rfl ?_
    refine lv_iconst (v := 2) C.hx C.hb dX13_apply_2_98 (by decide) ?_
    refine lv_icmp_ne (tgt := 139) C.hx C.hb dX13_apply_2_99 (by decide) (fun c99 => ?_) (fun c99 => ?_)
    · replace hw := hw.2 c99
      exact wk_X13_apply_2_b139 C hr hmn hnx hfr hRl σ _ _ _ hw hR hS (tk_sub hl [] rfl)
    · replace hw := hw.1 c99
      refine tk_aload_n C hl 0 dX13_apply_2_102 rfl ?_
      refine tk_aload_n C hl 1 dX13_apply_2_103 rfl ?_
      refine tk_grN C hR hw rfl in_X12 (by decide) q1033 (fun _ h => h) dX13_apply_2_104 (fun x4 hw => ?_)
      refine tk_aload_n C hl 1 dX13_apply_2_107 rfl ?_
      refine tk_grN C hR hw rfl in_X12 (by decide) q1033 (fun _ h => h) dX13_apply_2_108 (fun x5 hw => ?_)
      obtain ⟨hv, hw⟩ := hw
      refine tw_cbq C hS (tk_runV (As := []) C hR hS (wk_X3_copy l C.hst G 64 (R.frames - 1) (by omega) _ _ _ σ hw) hv rfl q1206 q663 q664 q70 q665 pd_X3_copy ⟨by omega, by omega⟩ hl.1 rfl (tw_r8 [.inr x4, .inr l0] (Nat.le_of_ble_eq_true rfl)) dX13_apply_2_111) (fun E q σ H locs hX hR hS hi => tw_out C hR hS (fun x hx => (hnx x hx).elim) hi hX) (fun x6 σ H locs hw hR hS => ?_)
      obtain ⟨hv, hw⟩ := hw
      refine tw_cbv C hS (tk_runV (As := [.inr x4, .inr x6]) C hR hS (wk_X13_put l C.hst G (R.frames - 1) (by omega) _ _ _ _ _ σ hw) hv rfl q1167 q1169 qs11 q105 q1170 pd_X13_put ⟨by omega, by omega⟩ hl.1 rfl (tw_r8 [] (Nat.le_of_ble_eq_true rfl)) dX13_apply_2_114) (fun E q σ H locs hX hR hS hi => tw_out C hR hS (fun x hx => (hnx x hx).elim) hi hX) (fun σ H locs hw hR hS => ?_)
      refine lv_goto (tgt := 139) C.hx C.hb dX13_apply_2_117 (by decide) ?_
      exact wk_X13_apply_2_b139 C hr hmn hnx hfr hRl σ _ _ _ hw hR hS (tk_sub hl [] rfl)
  replace hw := hw.2 c4_1
  by_cases c4_2 : x1 = 109
  · replace hw := hw.1 c4_2
    refine lv_lookup (tgt := 54) (off := 50) C.hx C.hb dX13_apply_2_4 (by decide) ((lv_osw c4_0 rfl).trans <| (lv_osw c4_1 rfl).trans <| (by rw [c4_2]; rfl)) (by decide) ?_
    refine tk_iload_n C hl 2 dX13_apply_2_54 rfl ?_
    refine lv_if_ne (tgt := 74) C.hx C.hb dX13_apply_2_55 (by decide) (fun c55 => ?_) (fun c55 => ?_)
    · replace hw := hw.2 c55
      refine tk_iload_n C hl 2 dX13_apply_2_74 rfl ?_
      refine lv_iconst (v := 2) C.hx C.hb dX13_apply_2_75 (by decide) ?_
      refine lv_icmp_ne (tgt := 139) C.hx C.hb dX13_apply_2_76 (by decide) (fun c76 => ?_) (fun c76 => ?_)
      · replace hw := hw.2 c76
        exact wk_X13_apply_2_b139 C hr hmn hnx hfr hRl σ _ _ _ hw hR hS (tk_sub hl [] rfl)
      · replace hw := hw.1 c76
        refine tk_aload_n C hl 0 dX13_apply_2_79 rfl ?_
        refine tk_aload_n C hl 1 dX13_apply_2_80 rfl ?_
        refine tk_grN C hR hw rfl in_X12 (by decide) q1033 (fun _ h => h) dX13_apply_2_81 (fun x8 hw => ?_)
        refine tk_aload_n C hl 1 dX13_apply_2_84 rfl ?_
        refine tk_grN C hR hw rfl in_X12 (by decide) q1030 (fun _ h => h) dX13_apply_2_85 (fun x9 hw => ?_)
        refine tk_grN C hR hw rfl in_X3 (by decide) q218 (fun _ h => h) dX13_apply_2_88 (fun x10 hw => ?_)
        obtain ⟨hv, hw⟩ := hw
        refine tw_cbv C hS (tk_runV (As := [.inr x8, .inr x10]) C hR hS (wk_X13_put l C.hst G (R.frames - 1) (by omega) _ _ _ _ _ σ hw) hv rfl q1167 q1169 qs11 q105 q1170 pd_X13_put ⟨by omega, by omega⟩ hl.1 rfl (tw_r8 [] (Nat.le_of_ble_eq_true rfl)) dX13_apply_2_91) (fun E q σ H locs hX hR hS hi => tw_out C hR hS (fun x hx => (hnx x hx).elim) hi hX) (fun σ H locs hw hR hS => ?_)
        refine lv_goto (tgt := 139) C.hx C.hb dX13_apply_2_94 (by decide) ?_
        exact wk_X13_apply_2_b139 C hr hmn hnx hfr hRl σ _ _ _ hw hR hS (tk_sub hl [] rfl)
    · replace hw := hw.1 c55
      refine tk_aload_n C hl 1 dX13_apply_2_58 rfl ?_
      refine tk_grN C hR hw rfl in_X12 (by decide) q1030 (fun _ h => h) dX13_apply_2_59 (fun x12 hw => ?_)
      refine tk_grN C hR hw rfl in_X3 (by decide) q218 (fun _ h => h) dX13_apply_2_62 (fun x13 hw => ?_)
      refine tw_cbq C hS (tw_runS (As := [.inr x13]) C hR hS (wk_X13_require l C.hst G (R.frames - 1) (by omega) _ _ _ σ hw) q1150 q1151 q105 q1152 pd_X13_require ⟨by omega, by omega⟩ hl.1 rfl (tw_r8 [] (Nat.le_of_ble_eq_true rfl)) dX13_apply_2_65) (fun E q σ H locs hX hR hS hi => tw_out C hR hS (fun x hx => (hnx x hx).elim) hi hX) (fun x14 σ H locs hw hR hS => ?_)
      obtain ⟨hv, hw⟩ := hw
      refine tw_cbv C hS (tk_runV (As := []) C hR hS (wk_X3_detach l C.hst G (R.frames - 1) (by omega) _ _ _ σ hw) hv rfl q1129 q1130 q1131 q70 q1132 pd_X3_detach ⟨by omega, by omega⟩ hl.1 rfl (tw_r8 [] (Nat.le_of_ble_eq_true rfl)) dX13_apply_2_68) (fun E q σ H locs hX hR hS hi => tw_out C hR hS (fun x hx => (hnx x hx).elim) hi hX) (fun σ H locs hw hR hS => ?_)
      refine lv_goto (tgt := 139) C.hx C.hb dX13_apply_2_71 (by decide) ?_
      exact wk_X13_apply_2_b139 C hr hmn hnx hfr hRl σ _ _ _ hw hR hS (tk_sub hl [] rfl)
  replace hw := hw.2 c4_2
  refine lv_lookup (tgt := 120) (off := 116) C.hx C.hb dX13_apply_2_4 (by decide) ((lv_osw c4_0 rfl).trans <| (lv_osw c4_1 rfl).trans <| (lv_osw c4_2 rfl).trans <| rfl) (by decide) ?_
  refine tk_iload_n C hl 2 dX13_apply_2_120 rfl ?_
  refine lv_iconst (v := 1) C.hx C.hb dX13_apply_2_121 (by decide) ?_
  refine lv_icmp_ne (tgt := 139) C.hx C.hb dX13_apply_2_122 (by decide) (fun c122 => ?_) (fun c122 => ?_)
  · replace hw := hw.2 c122
    exact wk_X13_apply_2_b139 C hr hmn hnx hfr hRl σ _ _ _ hw hR hS (tk_sub hl [] rfl)
  · replace hw := hw.1 c122
    refine tk_aload_n C hl 1 dX13_apply_2_125 rfl ?_
    refine tk_aload_n C hl 1 dX13_apply_2_126 rfl ?_
    refine tk_grN C hR hw rfl in_X12 (by decide) q1030 (fun _ h => h) dX13_apply_2_127 (fun x16 hw => ?_)
    refine tk_grN C hR hw rfl in_X3 (by decide) q218 (fun _ h => h) dX13_apply_2_130 (fun x17 hw => ?_)
    refine tw_cbq C hS (tw_runS (As := [.inr x17]) C hR hS (wk_X13_require l C.hst G (R.frames - 1) (by omega) _ _ _ σ hw) q1150 q1151 q105 q1152 pd_X13_require ⟨by omega, by omega⟩ hl.1 rfl (tw_r8 [.inr l1] (Nat.le_of_ble_eq_true rfl)) dX13_apply_2_133) (fun E q σ H locs hX hR hS hi => tw_out C hR hS (fun x hx => (hnx x hx).elim) hi hX) (fun x18 σ H locs hw hR hS => ?_)
    refine tw_cbv C hS (tw_runS (As := [.inr l1, .inr x18]) C hR hS (wk_X13_change l C.hst G (R.frames - 1) (by omega) _ _ _ _ σ hw) q1207 q1208 q105 q1209 pd_X13_change ⟨by omega, by omega⟩ hl.1 rfl (tw_r8 [] (Nat.le_of_ble_eq_true rfl)) dX13_apply_2_136) (fun E q σ H locs hX hR hS hi => tw_out C hR hS (fun x hx => (hnx x hx).elim) hi hX) (fun σ H locs hw hR hS => ?_)
    exact wk_X13_apply_2_b139 C hr hmn hnx hfr hRl σ _ _ _ hw hR hS (tk_sub hl [] rfl)
-- TreeDiffer$Conflict.<init>(I)V
def w_X19_init (l0 : Option Nat) (l1 : Int32) (Q : Tst → Prop) (X : String → Nat → Tst → Prop) (σ : Tst) : Prop := w_rf l0 <| w_J8_init l0 (fun σ => w_p σ l0 cX19 6 (.inl l1) fun σ => Q σ) X σ
set_option maxHeartbeats 4000000 in
theorem wk_X19_init (l : Launch) (hl0 : l.stackTraces = false) (G : Tgl) (fr : Nat)  (hfr : 4 ≤ fr) (l0 : Option Nat) (l1 : Int32) (Q : Tst → Prop) (X : String → Nat → Tst → Prop) (σ : Tst) (hw : w_X19_init l0 l1 Q X σ) : tw_M l yX19_init (ws_ yX19_init cX19_init 2 none) fr (40 * fr) G σ [.inr l0, .inl l1] (tw_Qv G Q) X := by
  unfold w_X19_init at hw
  refine tw_of (ret := none) hl0 (by decide) (Nat.le_of_ble_eq_true rfl) (fun p e R s m args below meth c hRf hRl C hr hmn hnx hR hS ls hl => ?_)
  have hfr : 4 ≤ R.frames := by rw [hRf]; exact hfr
  have hRl : R.locals = 40 * R.frames := by rw [hRl, hRf]
  have hl : tw_l ls 2 [(0, .inr l0), (1, .inl l1)] := hl
  refine tk_aload_n C hl 0 dX19_init_0 rfl ?_
  obtain ⟨hv, hw⟩ := hw
  refine tw_cbv C hS (tk_runI (As := []) hv C hR hS (wk_J8_init l C.hst G (R.frames - 1) (by omega) _ _ _ σ hw) q1222 q410 q77 q411 rfl pd_J8_init ⟨by omega, by omega⟩ hl.1 rfl (tw_r8 [] (Nat.le_of_ble_eq_true rfl)) dX19_init_1) (fun E q σ H locs hX hR hS hi => tw_out C hR hS (fun x hx => (hnx x hx).elim) hi hX) (fun σ H locs hw hR hS => ?_)
  refine tk_aload_n C hl 0 dX19_init_4 rfl ?_
  refine tk_iload_n C hl 1 dX19_init_5 rfl ?_
  refine tk_pF (x := .inl l1) C hR hS hw (Or.inl (by decide)) rfl in_X19 tyX19 tyX19_ok nmX19 (by decide) q1223 (fun _ h => h) rfl hmn rfl (tw_ni _) dX19_init_6 (fun σ H locs hw hR hS => ?_)
  exact tw_vret C hR hS hr dX19_init_9 hw
-- TreeDiffer$Patch.apply()V
def w_X13_apply_b49 (Q : Tst → Prop) (X : String → Nat → Tst → Prop) (l2 : Int32) (s0 : Option Nat) (σ : Tst) : Prop := w_nw σ cX19 7 [.inr none, .inr none, .inr none, .inr none, .inr none, .inl 0, .inl 0] fun q1 σ => w_rf q1 <| w_X19_init q1 l2 (fun σ => w_ica σ q1 s0 fun x3 σ => w_th σ q1 X) X σ
def w_X13_apply_b9 (k2 : Option Nat → Int32 → Tst → Prop) (Q : Tst → Prop) (X : String → Nat → Tst → Prop) : Nat → Option Nat → Int32 → Int32 → Tst → Prop
  | 0, _, _, _, _ => False
  | n + 1, l0, l1, l2, σ => w_gr σ l0 cX13 0 fun x1 => w_gr σ x1 cX10 2 fun x2 => w_rc σ x2 cJ6 <| w_J6_size x2 (fun x3 σ => w_if (x3 ≤ l2) (k2 l0 (l1 + 1) σ) (w_gr σ l0 cX13 0 fun x4 => w_gr σ x4 cX10 2 fun x5 => w_rc σ x5 cJ6 <| w_J6_get x5 l2 (fun x6 σ => w_cc σ x6 cX12 <| w_rc σ l0 cX13 <| w_X13_apply_2 l0 x6 l1 (fun σ => (w_X13_apply_b9 k2 Q X n) l0 l1 (l2 + 1) σ) (fun E q σ => w_if (E = "TreeDiffer$Missing") (w_X13_apply_b49 Q X l2 (some q) σ) (w_if (E = "TreeDiffer$Changed") (w_X13_apply_b49 Q X l2 (some q) σ) (w_if (E = "TreeDiffer$Clash") (w_X13_apply_b49 Q X l2 (some q) σ) (w_if (E = "TreeDiffer$Full") (w_X13_apply_b49 Q X l2 (some q) σ) (False))))) σ) (fun E q σ => w_if (E = "TreeDiffer$Missing") (w_X13_apply_b49 Q X l2 (some q) σ) (w_if (E = "TreeDiffer$Changed") (w_X13_apply_b49 Q X l2 (some q) σ) (w_if (E = "TreeDiffer$Clash") (w_X13_apply_b49 Q X l2 (some q) σ) (w_if (E = "TreeDiffer$Full") (w_X13_apply_b49 Q X l2 (some q) σ) (False))))) σ)) X σ
def w_X13_apply_b2 (Q : Tst → Prop) (X : String → Nat → Tst → Prop) : Nat → Option Nat → Int32 → Tst → Prop
  | 0, _, _, _ => False
  | n + 1, l0, l1, σ => w_if (2 < l1) (Q σ) (∃ z, w_X13_apply_b9 (w_X13_apply_b2 Q X n) Q X z l0 l1 0 σ)
def w_X13_apply (l0 : Option Nat) (Q : Tst → Prop) (X : String → Nat → Tst → Prop) (σ : Tst) : Prop := ∃ z, w_X13_apply_b2 Q X z l0 0 σ
set_option maxHeartbeats 4000000 in
theorem wk_X13_apply_b49  (C : tw_C p l R s m args meth c G cX13_apply 6 yX13_apply.cls) (hr : meth.sig.returnType = none) (hmn : meth.name = yX13_apply.name) (hnx : (c.exceptionTable.toList = tableOf [(25, 46, 49, 81), (25, 46, 49, 83), (25, 46, 49, 85), (25, 46, 49, 87)])) (hfr : 73 ≤ R.frames) (hRl : R.locals = 40 * R.frames) {Q : Tst → Prop} {X : String → Nat → Tst → Prop}  (l2 : Int32) (s0 : Option Nat) (σ : Tst) (H : Heap) (locs : List Loc) (ls : Array Slot) (hw : w_X13_apply_b49 Q X l2 s0 σ) (hR : tw_R G σ H) (hS : va_S (tw_A G) s.heap H locs) (hl : tw_l ls 6 [(2, .inl l2)]) : tw_W p l e R s m args below meth c σ H locs (tw_E below G (tw_Qv G Q) X args s R) (F0 m 49 ls [va_rf s0]) := by
  unfold w_X13_apply_b49 at hw
  refine tk_astore_n (L' := [(3, .inr s0), (2, .inl l2)]) C hl dX13_apply_49 (by decide) rfl (fun ls hl => ?_)
  refine tk_nw C hR hS hw rfl in_X19 tyX19 tyX19_ok q1210 q1211 q111 (fun j hj => by rcases (show j = 0 ∨ j = 1 ∨ j = 2 ∨ j = 3 ∨ j = 4 ∨ j = 5 ∨ j = 6 by omega) with rfl | rfl | rfl | rfl | rfl | rfl | rfl <;> rfl) dX13_apply_50 (fun q1 σ H hw hR hS => ?_)
  refine tw_dup (x := .inr q1) C.hx C.hb dX13_apply_53 ?_
  refine tk_iload_n C hl 1 dX13_apply_54 rfl ?_
  obtain ⟨hv, hw⟩ := hw
  refine tw_cbv C hS (tk_runI (As := [.inl l2]) hv C hR hS (wk_X19_init l C.hst G (R.frames - 1) (by omega) _ _ _ _ σ hw) q1219 q1220 q111 q1221 rfl pd_X19_init ⟨by omega, by omega⟩ hl.1 rfl (tw_r8 [.inr q1] (Nat.le_of_ble_eq_true rfl)) dX13_apply_55) (fun E q σ H locs hX hR hS hi => tw_out C hR hS (by rw [hnx]; decide) hi hX) (fun σ H locs hw hR hS => ?_)
  refine tk_astore (L' := [(4, .inr q1), (3, .inr s0), (2, .inl l2)]) C hl dX13_apply_58 (by decide) rfl (fun ls hl => ?_)
  refine tk_aload C hl 0 dX13_apply_60 rfl ?_
  refine tk_aload_n C hl 1 dX13_apply_62 rfl ?_
  refine tk_ica C hR hS hw hl.1 (by omega) hRl (tw_r8 [] (Nat.le_of_ble_eq_true rfl)) dX13_apply_63 (fun x3 σ H locs hw hR hS => ?_)
  refine tk_astore (L' := [(5, .inr x3), (4, .inr q1), (3, .inr s0), (2, .inl l2)]) C hl dX13_apply_66 (by decide) rfl (fun ls hl => ?_)
  refine tk_aload C hl 1 dX13_apply_68 rfl ?_
  exact tk_th C hR hS hw (by rw [hnx]; decide) dX13_apply_70
set_option maxHeartbeats 4000000 in
theorem wk_X13_apply_b9  (C : tw_C p l R s m args meth c G cX13_apply 6 yX13_apply.cls) (hr : meth.sig.returnType = none) (hmn : meth.name = yX13_apply.name) (hnx : (c.exceptionTable.toList = tableOf [(25, 46, 49, 81), (25, 46, 49, 83), (25, 46, 49, 85), (25, 46, 49, 87)])) (hfr : 73 ≤ R.frames) (hRl : R.locals = 40 * R.frames) {Q : Tst → Prop} {X : String → Nat → Tst → Prop}  {k2 : Option Nat → Int32 → Tst → Prop} (hk2 : ∀ (l0 : Option Nat) (l1 : Int32) (σ : Tst) (H : Heap) (locs : List Loc) (ls : Array Slot), k2 l0 l1 σ → tw_R G σ H → va_S (tw_A G) s.heap H locs → tw_l ls 6 [(0, .inr l0), (1, .inl l1)] → tw_W p l e R s m args below meth c σ H locs (tw_E below G (tw_Qv G Q) X args s R) (F0 m 2 ls [])) : ∀ (n : Nat) (l0 : Option Nat) (l1 : Int32) (l2 : Int32) (σ : Tst) (H : Heap) (locs : List Loc) (ls : Array Slot), w_X13_apply_b9 k2 Q X n l0 l1 l2 σ → tw_R G σ H → va_S (tw_A G) s.heap H locs → tw_l ls 6 [(0, .inr l0), (1, .inl l1), (2, .inl l2)] → tw_W p l e R s m args below meth c σ H locs (tw_E below G (tw_Qv G Q) X args s R) (F0 m 9 ls []) := by
  intro n
  induction n with
  | zero => intro l0 l1 l2 σ H locs ls hw; exact False.elim hw
  | succ n hk9 =>
    intro l0 l1 l2 σ H locs ls hw hR hS hl
    rw [w_X13_apply_b9] at hw
    refine tk_iload_n C hl 2 dX13_apply_9 rfl ?_
    refine tk_aload_n C hl 0 dX13_apply_10 rfl ?_
    refine tk_gr C hR hw rfl in_X13 (by decide) q1087 (fun _ h => h) dX13_apply_11 (fun x1 hw => ?_)
    refine tk_grN C hR hw rfl in_X10 (by decide) q1897 (fun _ h => h) dX13_apply_14 (fun x2 hw => ?_)
    obtain ⟨hv, hw⟩ := hw
    refine tw_cbi5 C hS (tk_runF (As := []) (x := ⟨"java/util/List", "size", "()I"⟩) C hR hS (wk_J6_size l C.hst G (R.frames - 1) (by omega) _ _ _ σ hw) hv rfl q1103 q447 q449 q73 q451 (by decide +kernel) (show tw_pd ⟨"java/util/List", "size", "()I"⟩ 0 by decide +kernel) ⟨by omega, by omega⟩ hl.1 rfl (tw_r8 [.inl l2] (Nat.le_of_ble_eq_true rfl)) dX13_apply_17) (fun E q σ H locs hX hR hS hi => tw_out C hR hS (by rw [hnx]; decide) hi hX) (fun x3 σ H locs hw hR hS => ?_)
    refine lv_icmp_ge (tgt := 77) C.hx C.hb dX13_apply_22 (by decide) (fun c22 => ?_) (fun c22 => ?_)
    · replace hw := hw.1 c22
      refine tk_iinc (L' := [(1, .inl (l1 + 1)), (0, .inr l0), (2, .inl l2)]) (y := (l1 + 1)) C hl 1 dX13_apply_77 rfl rfl (by decide) rfl (fun ls hl => ?_)
      refine lv_goto (tgt := 2) C.hx C.hb dX13_apply_80 (by decide) ?_
      exact hk2 _ _ σ _ _ _ hw hR hS (tk_sub hl [1, 0] rfl)
    · replace hw := hw.2 c22
      refine tk_aload_n C hl 0 dX13_apply_25 rfl ?_
      refine tk_aload_n C hl 0 dX13_apply_26 rfl ?_
      refine tk_gr C hR hw rfl in_X13 (by decide) q1087 (fun _ h => h) dX13_apply_27 (fun x4 hw => ?_)
      refine tk_grN C hR hw rfl in_X10 (by decide) q1897 (fun _ h => h) dX13_apply_30 (fun x5 hw => ?_)
      refine tk_iload_n C hl 2 dX13_apply_33 rfl ?_
      obtain ⟨hv, hw⟩ := hw
      refine tw_cbq5 C hS (tk_runF (As := [.inl l2]) (x := ⟨"java/util/List", "get", "(I)Ljava/lang/Object;"⟩) C hR hS (wk_J6_get l C.hst G (R.frames - 1) (by omega) _ _ _ _ σ hw) hv rfl q1105 q456 q458 q73 q460 (by decide +kernel) (show tw_pd ⟨"java/util/List", "get", "(I)Ljava/lang/Object;"⟩ 1 by decide +kernel) ⟨by omega, by omega⟩ hl.1 rfl (tw_r8 [.inr l0] (Nat.le_of_ble_eq_true rfl)) dX13_apply_34) (fun E q σ H locs hX hR hS hi => ?_) (fun x6 σ H locs hw hR hS => ?_)
      · by_cases cE0 : E = "TreeDiffer$Missing"
        · replace hX := hX.1 cE0
          subst cE0
          refine tw_catch C hnx [] (25, 46, 49, 81) [(25, 46, 49, 83), (25, 46, 49, 85), (25, 46, 49, 87)] rfl (fun z hz => nomatch hz) rfl (by decide) q1098 q1154 hi ?_
          exact wk_X13_apply_b49 C hr hmn hnx hfr hRl _ _ σ _ _ _ hX hR hS (tk_sub hl [2] rfl)
        replace hX := hX.2 cE0
        by_cases cE1 : E = "TreeDiffer$Changed"
        · replace hX := hX.1 cE1
          subst cE1
          refine tw_catch C hnx [(25, 46, 49, 81)] (25, 46, 49, 83) [(25, 46, 49, 85), (25, 46, 49, 87)] rfl (fun z hz => by simp only [List.mem_cons, List.not_mem_nil, or_false] at hz; rcases hz with rfl; exact Or.inr ⟨by decide, _, q1098, by decide +kernel⟩) rfl (by decide) q1099 q1116 hi ?_
          exact wk_X13_apply_b49 C hr hmn hnx hfr hRl _ _ σ _ _ _ hX hR hS (tk_sub hl [2] rfl)
        replace hX := hX.2 cE1
        by_cases cE2 : E = "TreeDiffer$Clash"
        · replace hX := hX.1 cE2
          subst cE2
          refine tw_catch C hnx [(25, 46, 49, 81), (25, 46, 49, 83)] (25, 46, 49, 85) [(25, 46, 49, 87)] rfl (fun z hz => by simp only [List.mem_cons, List.not_mem_nil, or_false] at hz; rcases hz with rfl | rfl <;> first | exact Or.inr ⟨by decide, _, q1098, by decide +kernel⟩ | exact Or.inr ⟨by decide, _, q1099, by decide +kernel⟩) rfl (by decide) q1100 q1176 hi ?_
          exact wk_X13_apply_b49 C hr hmn hnx hfr hRl _ _ σ _ _ _ hX hR hS (tk_sub hl [2] rfl)
        replace hX := hX.2 cE2
        by_cases cE3 : E = "TreeDiffer$Full"
        · replace hX := hX.1 cE3
          subst cE3
          refine tw_catch C hnx [(25, 46, 49, 81), (25, 46, 49, 83), (25, 46, 49, 85)] (25, 46, 49, 87) [] rfl (fun z hz => by simp only [List.mem_cons, List.not_mem_nil, or_false] at hz; rcases hz with rfl | rfl | rfl <;> first | exact Or.inr ⟨by decide, _, q1098, by decide +kernel⟩ | exact Or.inr ⟨by decide, _, q1099, by decide +kernel⟩ | exact Or.inr ⟨by decide, _, q1100, by decide +kernel⟩) rfl (by decide) q1101 q1191 hi ?_
          exact wk_X13_apply_b49 C hr hmn hnx hfr hRl _ _ σ _ _ _ hX hR hS (tk_sub hl [2] rfl)
        replace hX := hX.2 cE3
        exact hX.elim
      refine tk_cc C hR hw rfl q1106 (Or.inl rfl) dX13_apply_39 (fun hw => ?_)
      refine tk_iload_n C hl 1 dX13_apply_42 rfl ?_
      obtain ⟨hv, hw⟩ := hw
      refine tw_cbv C hS (tk_runV (As := [.inr x6, .inl l1]) C hR hS (wk_X13_apply_2 l C.hst G (R.frames - 1) (by omega) _ _ _ _ _ σ hw) hv rfl q1107 q1109 qs9 q105 q1110 pd_X13_apply_2 ⟨by omega, by omega⟩ hl.1 rfl (tw_r8 [] (Nat.le_of_ble_eq_true rfl)) dX13_apply_43) (fun E q σ H locs hX hR hS hi => ?_) (fun σ H locs hw hR hS => ?_)
      · by_cases cE0 : E = "TreeDiffer$Missing"
        · replace hX := hX.1 cE0
          subst cE0
          refine tw_catch C hnx [] (25, 46, 49, 81) [(25, 46, 49, 83), (25, 46, 49, 85), (25, 46, 49, 87)] rfl (fun z hz => nomatch hz) rfl (by decide) q1098 q1154 hi ?_
          exact wk_X13_apply_b49 C hr hmn hnx hfr hRl _ _ σ _ _ _ hX hR hS (tk_sub hl [2] rfl)
        replace hX := hX.2 cE0
        by_cases cE1 : E = "TreeDiffer$Changed"
        · replace hX := hX.1 cE1
          subst cE1
          refine tw_catch C hnx [(25, 46, 49, 81)] (25, 46, 49, 83) [(25, 46, 49, 85), (25, 46, 49, 87)] rfl (fun z hz => by simp only [List.mem_cons, List.not_mem_nil, or_false] at hz; rcases hz with rfl; exact Or.inr ⟨by decide, _, q1098, by decide +kernel⟩) rfl (by decide) q1099 q1116 hi ?_
          exact wk_X13_apply_b49 C hr hmn hnx hfr hRl _ _ σ _ _ _ hX hR hS (tk_sub hl [2] rfl)
        replace hX := hX.2 cE1
        by_cases cE2 : E = "TreeDiffer$Clash"
        · replace hX := hX.1 cE2
          subst cE2
          refine tw_catch C hnx [(25, 46, 49, 81), (25, 46, 49, 83)] (25, 46, 49, 85) [(25, 46, 49, 87)] rfl (fun z hz => by simp only [List.mem_cons, List.not_mem_nil, or_false] at hz; rcases hz with rfl | rfl <;> first | exact Or.inr ⟨by decide, _, q1098, by decide +kernel⟩ | exact Or.inr ⟨by decide, _, q1099, by decide +kernel⟩) rfl (by decide) q1100 q1176 hi ?_
          exact wk_X13_apply_b49 C hr hmn hnx hfr hRl _ _ σ _ _ _ hX hR hS (tk_sub hl [2] rfl)
        replace hX := hX.2 cE2
        by_cases cE3 : E = "TreeDiffer$Full"
        · replace hX := hX.1 cE3
          subst cE3
          refine tw_catch C hnx [(25, 46, 49, 81), (25, 46, 49, 83), (25, 46, 49, 85)] (25, 46, 49, 87) [] rfl (fun z hz => by simp only [List.mem_cons, List.not_mem_nil, or_false] at hz; rcases hz with rfl | rfl | rfl <;> first | exact Or.inr ⟨by decide, _, q1098, by decide +kernel⟩ | exact Or.inr ⟨by decide, _, q1099, by decide +kernel⟩ | exact Or.inr ⟨by decide, _, q1100, by decide +kernel⟩) rfl (by decide) q1101 q1191 hi ?_
          exact wk_X13_apply_b49 C hr hmn hnx hfr hRl _ _ σ _ _ _ hX hR hS (tk_sub hl [2] rfl)
        replace hX := hX.2 cE3
        exact hX.elim
      refine lv_goto (tgt := 71) C.hx C.hb dX13_apply_46 (by decide) ?_
      refine tk_iinc (L' := [(2, .inl (l2 + 1)), (0, .inr l0), (1, .inl l1)]) (y := (l2 + 1)) C hl 2 dX13_apply_71 rfl rfl (by decide) rfl (fun ls hl => ?_)
      refine lv_goto (tgt := 9) C.hx C.hb dX13_apply_74 (by decide) ?_
      exact hk9 _ _ _ σ _ _ _ hw hR hS (tk_sub hl [1, 2, 0] rfl)
set_option maxHeartbeats 4000000 in
theorem wk_X13_apply_b2  (C : tw_C p l R s m args meth c G cX13_apply 6 yX13_apply.cls) (hr : meth.sig.returnType = none) (hmn : meth.name = yX13_apply.name) (hnx : (c.exceptionTable.toList = tableOf [(25, 46, 49, 81), (25, 46, 49, 83), (25, 46, 49, 85), (25, 46, 49, 87)])) (hfr : 73 ≤ R.frames) (hRl : R.locals = 40 * R.frames) {Q : Tst → Prop} {X : String → Nat → Tst → Prop}  : ∀ (n : Nat) (l0 : Option Nat) (l1 : Int32) (σ : Tst) (H : Heap) (locs : List Loc) (ls : Array Slot), w_X13_apply_b2 Q X n l0 l1 σ → tw_R G σ H → va_S (tw_A G) s.heap H locs → tw_l ls 6 [(0, .inr l0), (1, .inl l1)] → tw_W p l e R s m args below meth c σ H locs (tw_E below G (tw_Qv G Q) X args s R) (F0 m 2 ls []) := by
  intro n
  induction n with
  | zero => intro l0 l1 σ H locs ls hw; exact False.elim hw
  | succ n hk2 =>
    intro l0 l1 σ H locs ls hw hR hS hl
    rw [w_X13_apply_b2] at hw
    refine tk_iload_n C hl 1 dX13_apply_2 rfl ?_
    refine lv_iconst (v := 2) C.hx C.hb dX13_apply_3 (by decide) ?_
    refine lv_icmp_gt (tgt := 83) C.hx C.hb dX13_apply_4 (by decide) (fun c4 => ?_) (fun c4 => ?_)
    · replace hw := hw.1 c4
      exact tw_vret C hR hS hr dX13_apply_83 hw
    · replace hw := hw.2 c4
      refine lv_iconst (v := 0) C.hx C.hb dX13_apply_7 (by decide) ?_
      refine tk_istore_n (L' := [(2, .inl 0), (0, .inr l0), (1, .inl l1)]) C hl dX13_apply_8 (by decide) rfl (fun ls hl => ?_)
      obtain ⟨z, hw⟩ := hw
      exact wk_X13_apply_b9 C hr hmn hnx hfr hRl hk2 z _ _ _ σ _ _ _ hw hR hS (tk_sub hl [1, 2, 0] rfl)
set_option maxHeartbeats 4000000 in
theorem wk_X13_apply (l : Launch) (hl0 : l.stackTraces = false) (G : Tgl) (fr : Nat)  (hfr : 73 ≤ fr) (l0 : Option Nat) (Q : Tst → Prop) (X : String → Nat → Tst → Prop) (σ : Tst) (hw : w_X13_apply l0 Q X σ) : tw_M l yX13_apply (wsW_ yX13_apply cX13_apply 6 none [(25, 46, 49, 81), (25, 46, 49, 83), (25, 46, 49, 85), (25, 46, 49, 87)]) fr (40 * fr) G σ [.inr l0] (tw_Qv G Q) X := by
  unfold w_X13_apply at hw
  refine tw_ofW (ret := none) (hh := [(25, 46, 49, 81), (25, 46, 49, 83), (25, 46, 49, 85), (25, 46, 49, 87)]) hl0 (by decide) (Nat.le_of_ble_eq_true rfl) (fun p e R s m args below meth c hRf hRl C hr hmn hnx hR hS ls hl => ?_)
  have hfr : 73 ≤ R.frames := by rw [hRf]; exact hfr
  have hRl : R.locals = 40 * R.frames := by rw [hRl, hRf]
  have hl : tw_l ls 6 [(0, .inr l0)] := hl
  refine lv_iconst (v := 0) C.hx C.hb dX13_apply_0 (by decide) ?_
  refine tk_istore_n (L' := [(1, .inl 0), (0, .inr l0)]) C hl dX13_apply_1 (by decide) rfl (fun ls hl => ?_)
  obtain ⟨z, hw⟩ := hw
  exact wk_X13_apply_b2 C hr hmn hnx hfr hRl z _ _ σ _ _ _ hw hR hS (tk_sub hl [1, 0] rfl)
-- TreeDiffer$Script.givesTarget()Z
def w_X10_givesTarget_b23 (Q : Int32 → Tst → Prop) (X : String → Nat → Tst → Prop) (s0 : Option Nat) (σ : Tst) : Prop := narrow .boolean (.int 0) = .int 0 ∧ Q 0 σ
def w_X10_givesTarget (l0 : Option Nat) (Q : Int32 → Tst → Prop) (X : String → Nat → Tst → Prop) (σ : Tst) : Prop := w_gr σ l0 cX10 0 fun x1 => w_rc σ x1 cX2 <| w_X2_copy x1 (fun x2 σ => w_nw σ cX13 2 [.inr none, .inr none] fun q3 σ => w_rf q3 <| w_X13_init q3 l0 x2 (fun σ => w_rc σ q3 cX13 <| w_X13_apply q3 (fun σ => w_gr σ x2 cX2 0 fun x6 => w_gr σ l0 cX10 1 fun x7 => w_gr σ x7 cX2 0 fun x8 => w_rc σ x6 cX3 <| w_X3_isLike 64 x6 x8 0 (fun x9 σ => narrow .boolean (.int x9) = .int x9 ∧ Q x9 σ) X σ) (fun E q σ => w_if (E = "TreeDiffer$Conflict") (w_X10_givesTarget_b23 Q X (some q) σ) (False)) σ) (fun E q σ => w_if (E = "TreeDiffer$Conflict") (w_X10_givesTarget_b23 Q X (some q) σ) (False)) σ) X σ
set_option maxHeartbeats 4000000 in
theorem wk_X10_givesTarget_b23  (C : tw_C p l R s m args meth c G cX10_givesTarget 3 yX10_givesTarget.cls) (hr : meth.sig.returnType = (some .boolean)) (hmn : meth.name = yX10_givesTarget.name) (hnx : (c.exceptionTable.toList = tableOf [(8, 20, 23, 104)])) (hfr : 397 ≤ R.frames) (hRl : R.locals = 40 * R.frames) {Q : Int32 → Tst → Prop} {X : String → Nat → Tst → Prop}  (s0 : Option Nat) (σ : Tst) (H : Heap) (locs : List Loc) (ls : Array Slot) (hw : w_X10_givesTarget_b23 Q X s0 σ) (hR : tw_R G σ H) (hS : va_S (tw_A G) s.heap H locs) (hl : tw_l ls 3 []) : tw_W p l e R s m args below meth c σ H locs (tw_E below G (tw_Qi G Q) X args s R) (F0 m 23 ls [va_rf s0]) := by
  unfold w_X10_givesTarget_b23 at hw
  refine tk_astore_n (L' := [(2, .inr s0)]) C hl dX10_givesTarget_23 (by decide) rfl (fun ls hl => ?_)
  refine lv_iconst (v := 0) C.hx C.hb dX10_givesTarget_24 (by decide) ?_
  obtain ⟨hok, hw⟩ := hw
  exact tw_iret C hR hS hr hok dX10_givesTarget_25 hw
set_option maxHeartbeats 4000000 in
theorem wk_X10_givesTarget (l : Launch) (hl0 : l.stackTraces = false) (G : Tgl) (fr : Nat)  (hfr : 397 ≤ fr) (l0 : Option Nat) (Q : Int32 → Tst → Prop) (X : String → Nat → Tst → Prop) (σ : Tst) (hw : w_X10_givesTarget l0 Q X σ) : tw_M l yX10_givesTarget (wsW_ yX10_givesTarget cX10_givesTarget 3 (some .boolean) [(8, 20, 23, 104)]) fr (40 * fr) G σ [.inr l0] (tw_Qi G Q) X := by
  unfold w_X10_givesTarget at hw
  refine tw_ofW (ret := (some .boolean)) (hh := [(8, 20, 23, 104)]) hl0 (by decide) (Nat.le_of_ble_eq_true rfl) (fun p e R s m args below meth c hRf hRl C hr hmn hnx hR hS ls hl => ?_)
  have hfr : 397 ≤ R.frames := by rw [hRf]; exact hfr
  have hRl : R.locals = 40 * R.frames := by rw [hRl, hRf]
  have hl : tw_l ls 3 [(0, .inr l0)] := hl
  refine tk_aload_n C hl 0 dX10_givesTarget_0 rfl ?_
  refine tk_gr C hR hw rfl in_X10 (by decide) q1891 (fun _ h => h) dX10_givesTarget_1 (fun x1 hw => ?_)
  obtain ⟨hv, hw⟩ := hw
  refine tw_cbq C hS (tk_runV (As := []) C hR hS (wk_X2_copy l C.hst G (R.frames - 1) (by omega) _ _ _ σ hw) hv rfl q657 q658 q659 q69 q660 pd_X2_copy ⟨by omega, by omega⟩ hl.1 rfl (tw_r8 [] (Nat.le_of_ble_eq_true rfl)) dX10_givesTarget_4) (fun E q σ H locs hX hR hS hi => tw_out C hR hS (by rw [hnx]; decide) hi hX) (fun x2 σ H locs hw hR hS => ?_)
  refine tk_astore_n (L' := [(1, .inr x2), (0, .inr l0)]) C hl dX10_givesTarget_7 (by decide) rfl (fun ls hl => ?_)
  refine tk_nw C hR hS hw rfl in_X13 tyX13 tyX13_ok q944 q945 q105 (fun j hj => by rcases (show j = 0 ∨ j = 1 by omega) with rfl | rfl <;> rfl) dX10_givesTarget_8 (fun q3 σ H hw hR hS => ?_)
  refine tw_dup (x := .inr q3) C.hx C.hb dX10_givesTarget_11 ?_
  refine tk_aload_n C hl 1 dX10_givesTarget_12 rfl ?_
  refine tk_aload_n C hl 0 dX10_givesTarget_13 rfl ?_
  obtain ⟨hv, hw⟩ := hw
  refine tw_cbv C hS (tk_runI (As := [.inr l0, .inr x2]) hv C hR hS (wk_X13_init l C.hst G (R.frames - 1) (by omega) _ _ _ _ _ σ hw) q946 q947 q105 q948 rfl pd_X13_init ⟨by omega, by omega⟩ hl.1 rfl (tw_r8 [.inr q3] (Nat.le_of_ble_eq_true rfl)) dX10_givesTarget_14) (fun E q σ H locs hX hR hS hi => ?_) (fun σ H locs hw hR hS => ?_)
  · by_cases cE0 : E = "TreeDiffer$Conflict"
    · replace hX := hX.1 cE0
      subst cE0
      refine tw_catch C hnx [] (8, 20, 23, 104) [] rfl (fun z hz => nomatch hz) rfl (by decide) q656 q1212 hi ?_
      exact wk_X10_givesTarget_b23 C hr hmn hnx hfr hRl _ σ _ _ _ hX hR hS (tk_sub hl [] rfl)
    replace hX := hX.2 cE0
    exact hX.elim
  obtain ⟨hv, hw⟩ := hw
  refine tw_cbv C hS (tk_runVW (As := []) C hR hS (wk_X13_apply l C.hst G (R.frames - 1) (by omega) _ _ _ σ hw) hv rfl q1094 q1095 q1096 q105 q1097 pd_X13_apply ⟨by omega, by omega⟩ hl.1 rfl (tw_r8 [] (Nat.le_of_ble_eq_true rfl)) dX10_givesTarget_17) (fun E q σ H locs hX hR hS hi => ?_) (fun σ H locs hw hR hS => ?_)
  · by_cases cE0 : E = "TreeDiffer$Conflict"
    · replace hX := hX.1 cE0
      subst cE0
      refine tw_catch C hnx [] (8, 20, 23, 104) [] rfl (fun z hz => nomatch hz) rfl (by decide) q656 q1212 hi ?_
      exact wk_X10_givesTarget_b23 C hr hmn hnx hfr hRl _ σ _ _ _ hX hR hS (tk_sub hl [] rfl)
    replace hX := hX.2 cE0
    exact hX.elim
  refine lv_goto (tgt := 26) C.hx C.hb dX10_givesTarget_20 (by decide) ?_
  refine tk_aload_n C hl 0 dX10_givesTarget_26 rfl ?_
  refine tk_grN C hR hw rfl in_X2 (by decide) q240 (fun _ h => h) dX10_givesTarget_27 (fun x6 hw => ?_)
  refine tk_aload_n C hl 1 dX10_givesTarget_30 rfl ?_
  refine tk_gr C hR hw rfl in_X10 (by decide) q1893 (fun _ h => h) dX10_givesTarget_31 (fun x7 hw => ?_)
  refine tk_grN C hR hw rfl in_X2 (by decide) q240 (fun _ h => h) dX10_givesTarget_34 (fun x8 hw => ?_)
  refine lv_iconst (v := 0) C.hx C.hb dX10_givesTarget_37 (by decide) ?_
  obtain ⟨hv, hw⟩ := hw
  refine tw_cbi C hS (tk_runV (As := [.inr x8, .inl 0]) C hR hS (wk_X3_isLike l C.hst G 64 (R.frames - 1) (by omega) _ _ _ _ _ σ hw) hv rfl q1337 q633 q634 q70 q635 pd_X3_isLike ⟨by omega, by omega⟩ hl.1 rfl (tw_r8 [] (Nat.le_of_ble_eq_true rfl)) dX10_givesTarget_38) (fun E q σ H locs hX hR hS hi => tw_out C hR hS (by rw [hnx]; decide) hi hX) (fun x9 σ H locs hw hR hS => ?_)
  obtain ⟨hok, hw⟩ := hw
  exact tw_iret C hR hS hr hok dX10_givesTarget_41 hw
-- TreeDiffer.givesTarget()Z
def w_X1_givesTarget (l0 : Option Nat) (Q : Int32 → Tst → Prop) (X : String → Nat → Tst → Prop) (σ : Tst) : Prop := w_rc σ l0 cX1 <| w_X1_latest l0 (fun x1 σ => w_rc σ x1 cX10 <| w_X10_givesTarget x1 (fun x2 σ => narrow .boolean (.int x2) = .int x2 ∧ Q x2 σ) X σ) X σ
set_option maxHeartbeats 4000000 in
theorem wk_X1_givesTarget (l : Launch) (hl0 : l.stackTraces = false) (G : Tgl) (fr : Nat)  (hfr : 398 ≤ fr) (l0 : Option Nat) (Q : Int32 → Tst → Prop) (X : String → Nat → Tst → Prop) (σ : Tst) (hw : w_X1_givesTarget l0 Q X σ) : tw_M l yX1_givesTarget (ws_ yX1_givesTarget cX1_givesTarget 1 (some .boolean)) fr (40 * fr) G σ [.inr l0] (tw_Qi G Q) X := by
  unfold w_X1_givesTarget at hw
  refine tw_of (ret := (some .boolean)) hl0 (by decide) (Nat.le_of_ble_eq_true rfl) (fun p e R s m args below meth c hRf hRl C hr hmn hnx hR hS ls hl => ?_)
  have hfr : 398 ≤ R.frames := by rw [hRf]; exact hfr
  have hRl : R.locals = 40 * R.frames := by rw [hRl, hRf]
  have hl : tw_l ls 1 [(0, .inr l0)] := hl
  refine tk_aload_n C hl 0 dX1_givesTarget_0 rfl ?_
  obtain ⟨hv, hw⟩ := hw
  refine tw_cbq C hS (tk_runV (As := []) C hR hS (wk_X1_latest l C.hst G (R.frames - 1) (by omega) _ _ _ σ hw) hv rfl q1601 q1603 qs17 q64 q1604 pd_X1_latest ⟨by omega, by omega⟩ hl.1 rfl (tw_r8 [] (Nat.le_of_ble_eq_true rfl)) dX1_givesTarget_1) (fun E q σ H locs hX hR hS hi => tw_out C hR hS (fun x hx => (hnx x hx).elim) hi hX) (fun x1 σ H locs hw hR hS => ?_)
  obtain ⟨hv, hw⟩ := hw
  refine tw_cbi C hS (tk_runVW (As := []) C hR hS (wk_X10_givesTarget l C.hst G (R.frames - 1) (by omega) _ _ _ σ hw) hv rfl q652 q653 q654 q101 q655 pd_X10_givesTarget ⟨by omega, by omega⟩ hl.1 rfl (tw_r8 [] (Nat.le_of_ble_eq_true rfl)) dX1_givesTarget_4) (fun E q σ H locs hX hR hS hi => tw_out C hR hS (fun x hx => (hnx x hx).elim) hi hX) (fun x2 σ H locs hw hR hS => ?_)
  obtain ⟨hok, hw⟩ := hw
  exact tw_iret C hR hS hr hok dX1_givesTarget_7 hw
-- TreeDifferLaw.givesTarget(LTreeDiffer;[J)I
def w_X0_givesTarget_b18 (Q : Int32 → Tst → Prop) (X : String → Nat → Tst → Prop) (s0 : Option Nat) (σ : Tst) : Prop := Q 1 σ
def w_X0_givesTarget_b14 (Q : Int32 → Tst → Prop) (X : String → Nat → Tst → Prop) (s0 : Option Nat) (s1 : Int32) (s2 : Int64) (σ : Tst) : Prop := w_sl σ s0 s1 s2 fun σ => Q 0 σ
def w_X0_givesTarget (l0 : Option Nat) (l1 : Option Nat) (Q : Int32 → Tst → Prop) (X : String → Nat → Tst → Prop) (σ : Tst) : Prop := w_rc σ l0 cX1 <| w_X1_givesTarget l0 (fun x1 σ => w_if (x1 = 0) (w_X0_givesTarget_b14 Q X l1 0 0 σ) (w_X0_givesTarget_b14 Q X l1 0 1 σ)) (fun E q σ => w_if (E = "java/lang/IllegalStateException") (w_X0_givesTarget_b18 Q X (some q) σ) (False)) σ
set_option maxHeartbeats 4000000 in
theorem wk_X0_givesTarget_b18  (C : tw_C p l R s m args meth c G cX0_givesTarget 3 yX0_givesTarget.cls) (hr : meth.sig.returnType = (some .int)) (hmn : meth.name = yX0_givesTarget.name) (hnx : (c.exceptionTable.toList = tableOf [(0, 15, 18, 13)])) (hfr : 399 ≤ R.frames) (hRl : R.locals = 40 * R.frames) {Q : Int32 → Tst → Prop} {X : String → Nat → Tst → Prop}  (s0 : Option Nat) (σ : Tst) (H : Heap) (locs : List Loc) (ls : Array Slot) (hw : w_X0_givesTarget_b18 Q X s0 σ) (hR : tw_R G σ H) (hS : va_S (tw_A G) s.heap H locs) (hl : tw_l ls 3 []) : tw_W p l e R s m args below meth c σ H locs (tw_E below G (tw_Qi G Q) X args s R) (F0 m 18 ls [va_rf s0]) := by
  unfold w_X0_givesTarget_b18 at hw
  refine tk_astore_n (L' := [(2, .inr s0)]) C hl dX0_givesTarget_18 (by decide) rfl (fun ls hl => ?_)
  refine lv_iconst (v := 1) C.hx C.hb dX0_givesTarget_19 (by decide) ?_
  exact tw_iret C hR hS hr rfl dX0_givesTarget_20 hw
set_option maxHeartbeats 4000000 in
theorem wk_X0_givesTarget_b14  (C : tw_C p l R s m args meth c G cX0_givesTarget 3 yX0_givesTarget.cls) (hr : meth.sig.returnType = (some .int)) (hmn : meth.name = yX0_givesTarget.name) (hnx : (c.exceptionTable.toList = tableOf [(0, 15, 18, 13)])) (hfr : 399 ≤ R.frames) (hRl : R.locals = 40 * R.frames) {Q : Int32 → Tst → Prop} {X : String → Nat → Tst → Prop}  (s0 : Option Nat) (s1 : Int32) (s2 : Int64) (σ : Tst) (H : Heap) (locs : List Loc) (ls : Array Slot) (hw : w_X0_givesTarget_b14 Q X s0 s1 s2 σ) (hR : tw_R G σ H) (hS : va_S (tw_A G) s.heap H locs) (hl : tw_l ls 3 []) : tw_W p l e R s m args below meth c σ H locs (tw_E below G (tw_Qi G Q) X args s R) (F0 m 14 ls [.long s2, .int s1, va_rf s0]) := by
  unfold w_X0_givesTarget_b14 at hw
  refine tk_sl C hR hS hw dX0_givesTarget_14 (fun σ H locs hw hR hS => ?_)
  refine lv_goto (tgt := 21) C.hx C.hb dX0_givesTarget_15 (by decide) ?_
  refine lv_iconst (v := 0) C.hx C.hb dX0_givesTarget_21 (by decide) ?_
  exact tw_iret C hR hS hr rfl dX0_givesTarget_22 hw
set_option maxHeartbeats 4000000 in
theorem wk_X0_givesTarget (l : Launch) (hl0 : l.stackTraces = false) (G : Tgl) (fr : Nat)  (hfr : 399 ≤ fr) (l0 : Option Nat) (l1 : Option Nat) (Q : Int32 → Tst → Prop) (X : String → Nat → Tst → Prop) (σ : Tst) (hw : w_X0_givesTarget l0 l1 Q X σ) : tw_M l yX0_givesTarget (wsW_ yX0_givesTarget cX0_givesTarget 3 (some .int) [(0, 15, 18, 13)]) fr (40 * fr) G σ [.inr l0, .inr l1] (tw_Qi G Q) X := by
  unfold w_X0_givesTarget at hw
  refine tw_ofW (ret := (some .int)) (hh := [(0, 15, 18, 13)]) hl0 (by decide) (Nat.le_of_ble_eq_true rfl) (fun p e R s m args below meth c hRf hRl C hr hmn hnx hR hS ls hl => ?_)
  have hfr : 399 ≤ R.frames := by rw [hRf]; exact hfr
  have hRl : R.locals = 40 * R.frames := by rw [hRl, hRf]
  have hl : tw_l ls 3 [(0, .inr l0), (1, .inr l1)] := hl
  refine tk_aload_n C hl 1 dX0_givesTarget_0 rfl ?_
  refine lv_iconst (v := 0) C.hx C.hb dX0_givesTarget_1 (by decide) ?_
  refine tk_aload_n C hl 0 dX0_givesTarget_2 rfl ?_
  obtain ⟨hv, hw⟩ := hw
  refine tw_cbi C hS (tk_runV (As := []) C hR hS (wk_X1_givesTarget l C.hst G (R.frames - 1) (by omega) _ _ _ σ hw) hv rfl q1963 q1964 q1965 q64 q1966 pd_X1_givesTarget ⟨by omega, by omega⟩ hl.1 rfl (tw_r8 [.inl 0, .inr l1] (Nat.le_of_ble_eq_true rfl)) dX0_givesTarget_3) (fun E q σ H locs hX hR hS hi => ?_) (fun x1 σ H locs hw hR hS => ?_)
  · by_cases cE0 : E = "java/lang/IllegalStateException"
    · replace hX := hX.1 cE0
      subst cE0
      refine tw_catch C hnx [] (0, 15, 18, 13) [] rfl (fun z hz => nomatch hz) rfl (by decide) q1357 q490 hi ?_
      exact wk_X0_givesTarget_b18 C hr hmn hnx hfr hRl _ σ _ _ _ hX hR hS (tk_sub hl [] rfl)
    replace hX := hX.2 cE0
    exact hX.elim
  refine lv_if_eq (tgt := 13) C.hx C.hb dX0_givesTarget_6 (by decide) (fun c6 => ?_) (fun c6 => ?_)
  · replace hw := hw.1 c6
    refine lv_lconst (v := 0) C.hx C.hb dX0_givesTarget_13 (by decide) ?_
    exact wk_X0_givesTarget_b14 C hr hmn hnx hfr hRl _ _ _ σ _ _ _ hw hR hS (tk_sub hl [] rfl)
  · replace hw := hw.2 c6
    refine lv_lconst (v := 1) C.hx C.hb dX0_givesTarget_9 (by decide) ?_
    refine lv_goto (tgt := 14) C.hx C.hb dX0_givesTarget_10 (by decide) ?_
    exact wk_X0_givesTarget_b14 C hr hmn hnx hfr hRl _ _ _ σ _ _ _ hw hR hS (tk_sub hl [] rfl)
-- TreeDiffer.patch(I)I
def w_X1_patch_b29 (Q : Int32 → Tst → Prop) (X : String → Nat → Tst → Prop) (l0 : Option Nat) (s0 : Option Nat) (σ : Tst) : Prop := w_p σ l0 cX1 5 (.inr s0) fun σ => w_nw σ cJ25 6 [.inr none, .inr none, .inr none, .inr none, .inr none, .inl 0] fun q1 σ => w_rf q1 <| w_J25_init q1 (fun σ => w_th σ q1 X) X σ
def w_X1_patch (l0 : Option Nat) (l1 : Int32) (Q : Int32 → Tst → Prop) (X : String → Nat → Tst → Prop) (σ : Tst) : Prop := w_rc σ l0 cX1 <| w_X1_treeOf l0 l1 (fun x1 σ => w_rc σ x1 cX2 <| w_X2_copy x1 (fun x2 σ => w_nw σ cX13 2 [.inr none, .inr none] fun q3 σ => w_rc σ l0 cX1 <| w_X1_latest l0 (fun x4 σ => w_rf q3 <| w_X13_init q3 x4 x2 (fun σ => w_rc σ q3 cX13 <| w_X13_apply q3 (fun σ => w_gr σ l0 cX1 0 fun x7 => w_sr σ x7 l1 x2 fun σ => w_gr σ x2 cX2 0 fun x8 => w_rc σ x8 cX3 <| w_X3_size 64 x8 (fun x9 σ => Q x9 σ) X σ) (fun E q σ => w_if (E = "TreeDiffer$Conflict") (w_X1_patch_b29 Q X l0 (some q) σ) (False)) σ) X σ) X σ) X σ) X σ
set_option maxHeartbeats 4000000 in
theorem wk_X1_patch_b29  (C : tw_C p l R s m args meth c G cX1_patch 5 yX1_patch.cls) (hr : meth.sig.returnType = (some .int)) (hmn : meth.name = yX1_patch.name) (hnx : (c.exceptionTable.toList = tableOf [(22, 26, 29, 308)])) (hfr : 397 ≤ R.frames) (hRl : R.locals = 40 * R.frames) {Q : Int32 → Tst → Prop} {X : String → Nat → Tst → Prop}  (l0 : Option Nat) (s0 : Option Nat) (σ : Tst) (H : Heap) (locs : List Loc) (ls : Array Slot) (hw : w_X1_patch_b29 Q X l0 s0 σ) (hR : tw_R G σ H) (hS : va_S (tw_A G) s.heap H locs) (hl : tw_l ls 5 [(0, .inr l0)]) : tw_W p l e R s m args below meth c σ H locs (tw_E below G (tw_Qi G Q) X args s R) (F0 m 29 ls [va_rf s0]) := by
  unfold w_X1_patch_b29 at hw
  refine tk_astore (L' := [(4, .inr s0), (0, .inr l0)]) C hl dX1_patch_29 (by decide) rfl (fun ls hl => ?_)
  refine tk_aload_n C hl 1 dX1_patch_31 rfl ?_
  refine tk_aload C hl 0 dX1_patch_32 rfl ?_
  refine tk_p (x := .inr s0) C hR hS hw (by decide) rfl in_X1 tyX1 tyX1_ok nmX1 (by decide) q252 (fun _ h => h) rfl (tw_nr _ _) dX1_patch_34 (fun σ H locs hw hR hS => ?_)
  refine tk_nw C hR hS hw rfl in_J25 tyJ25 tyJ25_ok q1665 q1666 q99 (fun j hj => by rcases (show j = 0 ∨ j = 1 ∨ j = 2 ∨ j = 3 ∨ j = 4 ∨ j = 5 by omega) with rfl | rfl | rfl | rfl | rfl | rfl <;> rfl) dX1_patch_37 (fun q1 σ H hw hR hS => ?_)
  refine tw_dup (x := .inr q1) C.hx C.hb dX1_patch_40 ?_
  obtain ⟨hv, hw⟩ := hw
  refine tw_cbv C hS (tk_runI (As := []) hv C hR hS (wk_J25_init l C.hst G (R.frames - 1) (by omega) _ _ _ σ hw) q1674 q1675 q99 q1676 rfl pd_J25_init ⟨by omega, by omega⟩ hl.1 rfl (tw_r8 [.inr q1] (Nat.le_of_ble_eq_true rfl)) dX1_patch_41) (fun E q σ H locs hX hR hS hi => tw_out C hR hS (by rw [hnx]; decide) hi hX) (fun σ H locs hw hR hS => ?_)
  exact tk_th C hR hS hw (by rw [hnx]; decide) dX1_patch_44
set_option maxHeartbeats 4000000 in
theorem wk_X1_patch (l : Launch) (hl0 : l.stackTraces = false) (G : Tgl) (fr : Nat)  (hfr : 397 ≤ fr) (l0 : Option Nat) (l1 : Int32) (Q : Int32 → Tst → Prop) (X : String → Nat → Tst → Prop) (σ : Tst) (hw : w_X1_patch l0 l1 Q X σ) : tw_M l yX1_patch (wsW_ yX1_patch cX1_patch 5 (some .int) [(22, 26, 29, 308)]) fr (40 * fr) G σ [.inr l0, .inl l1] (tw_Qi G Q) X := by
  unfold w_X1_patch at hw
  refine tw_ofW (ret := (some .int)) (hh := [(22, 26, 29, 308)]) hl0 (by decide) (Nat.le_of_ble_eq_true rfl) (fun p e R s m args below meth c hRf hRl C hr hmn hnx hR hS ls hl => ?_)
  have hfr : 397 ≤ R.frames := by rw [hRf]; exact hfr
  have hRl : R.locals = 40 * R.frames := by rw [hRl, hRf]
  have hl : tw_l ls 5 [(0, .inr l0), (1, .inl l1)] := hl
  refine tk_aload_n C hl 0 dX1_patch_0 rfl ?_
  refine tk_iload_n C hl 1 dX1_patch_1 rfl ?_
  obtain ⟨hv, hw⟩ := hw
  refine tw_cbq C hS (tk_runV (As := [.inl l1]) C hR hS (wk_X1_treeOf l C.hst G (R.frames - 1) (by omega) _ _ _ _ σ hw) hv rfl q1581 q1583 qs16 q64 q1584 pd_X1_treeOf ⟨by omega, by omega⟩ hl.1 rfl (tw_r8 [] (Nat.le_of_ble_eq_true rfl)) dX1_patch_2) (fun E q σ H locs hX hR hS hi => tw_out C hR hS (by rw [hnx]; decide) hi hX) (fun x1 σ H locs hw hR hS => ?_)
  obtain ⟨hv, hw⟩ := hw
  refine tw_cbq C hS (tk_runV (As := []) C hR hS (wk_X2_copy l C.hst G (R.frames - 1) (by omega) _ _ _ σ hw) hv rfl q1715 q658 q659 q69 q660 pd_X2_copy ⟨by omega, by omega⟩ hl.1 rfl (tw_r8 [] (Nat.le_of_ble_eq_true rfl)) dX1_patch_5) (fun E q σ H locs hX hR hS hi => tw_out C hR hS (by rw [hnx]; decide) hi hX) (fun x2 σ H locs hw hR hS => ?_)
  refine tk_astore_n (L' := [(2, .inr x2), (0, .inr l0), (1, .inl l1)]) C hl dX1_patch_8 (by decide) rfl (fun ls hl => ?_)
  refine tk_nw C hR hS hw rfl in_X13 tyX13 tyX13_ok q1975 q945 q105 (fun j hj => by rcases (show j = 0 ∨ j = 1 by omega) with rfl | rfl <;> rfl) dX1_patch_9 (fun q3 σ H hw hR hS => ?_)
  refine tw_dup (x := .inr q3) C.hx C.hb dX1_patch_12 ?_
  refine tk_aload_n C hl 1 dX1_patch_13 rfl ?_
  obtain ⟨hv, hw⟩ := hw
  refine tw_cbq C hS (tk_runV (As := []) C hR hS (wk_X1_latest l C.hst G (R.frames - 1) (by omega) _ _ _ σ hw) hv rfl q1601 q1603 qs17 q64 q1604 pd_X1_latest ⟨by omega, by omega⟩ hl.1 rfl (tw_r8 [.inr q3, .inr q3] (Nat.le_of_ble_eq_true rfl)) dX1_patch_14) (fun E q σ H locs hX hR hS hi => tw_out C hR hS (by rw [hnx]; decide) hi hX) (fun x4 σ H locs hw hR hS => ?_)
  refine tk_aload_n C hl 0 dX1_patch_17 rfl ?_
  obtain ⟨hv, hw⟩ := hw
  refine tw_cbv C hS (tk_runI (As := [.inr x4, .inr x2]) hv C hR hS (wk_X13_init l C.hst G (R.frames - 1) (by omega) _ _ _ _ _ σ hw) q1976 q947 q105 q948 rfl pd_X13_init ⟨by omega, by omega⟩ hl.1 rfl (tw_r8 [.inr q3] (Nat.le_of_ble_eq_true rfl)) dX1_patch_18) (fun E q σ H locs hX hR hS hi => tw_out C hR hS (by rw [hnx]; decide) hi hX) (fun σ H locs hw hR hS => ?_)
  refine tk_astore_n (L' := [(3, .inr q3), (2, .inr x2), (0, .inr l0), (1, .inl l1)]) C hl dX1_patch_21 (by decide) rfl (fun ls hl => ?_)
  refine tk_aload_n C hl 0 dX1_patch_22 rfl ?_
  obtain ⟨hv, hw⟩ := hw
  refine tw_cbv C hS (tk_runVW (As := []) C hR hS (wk_X13_apply l C.hst G (R.frames - 1) (by omega) _ _ _ σ hw) hv rfl q1977 q1095 q1096 q105 q1097 pd_X13_apply ⟨by omega, by omega⟩ hl.1 rfl (tw_r8 [] (Nat.le_of_ble_eq_true rfl)) dX1_patch_23) (fun E q σ H locs hX hR hS hi => ?_) (fun σ H locs hw hR hS => ?_)
  · by_cases cE0 : E = "TreeDiffer$Conflict"
    · replace hX := hX.1 cE0
      subst cE0
      refine tw_catch C hnx [] (22, 26, 29, 308) [] rfl (fun z hz => nomatch hz) rfl (by decide) q1974 q1212 hi ?_
      exact wk_X1_patch_b29 C hr hmn hnx hfr hRl _ _ σ _ _ _ hX hR hS (tk_sub hl [2] rfl)
    replace hX := hX.2 cE0
    exact hX.elim
  refine lv_goto (tgt := 45) C.hx C.hb dX1_patch_26 (by decide) ?_
  refine tk_aload_n C hl 2 dX1_patch_45 rfl ?_
  refine tk_gr C hR hw rfl in_X1 (by decide) q246 (fun _ h => h) dX1_patch_46 (fun x7 hw => ?_)
  refine tk_iload_n C hl 3 dX1_patch_49 rfl ?_
  refine tk_aload_n C hl 1 dX1_patch_50 rfl ?_
  refine tk_sr C hR hS hw dX1_patch_51 (fun σ H locs hw hR hS => ?_)
  refine tk_aload_n C hl 1 dX1_patch_52 rfl ?_
  refine tk_grN C hR hw rfl in_X2 (by decide) q242 (fun _ h => h) dX1_patch_53 (fun x8 hw => ?_)
  obtain ⟨hv, hw⟩ := hw
  refine tw_cbi C hS (tk_runV (As := []) C hR hS (wk_X3_size l C.hst G 64 (R.frames - 1) (by omega) _ _ _ σ hw) hv rfl q286 q287 q288 q70 q289 pd_X3_size ⟨by omega, by omega⟩ hl.1 rfl (tw_r8 [] (Nat.le_of_ble_eq_true rfl)) dX1_patch_56) (fun E q σ H locs hX hR hS hi => tw_out C hR hS (by rw [hnx]; decide) hi hX) (fun x9 σ H locs hw hR hS => ?_)
  exact tw_iret C hR hS hr rfl dX1_patch_59 hw
-- TreeDifferLaw.patch(LTreeDiffer;I[J)I
def w_X0_patch_b12 (Q : Int32 → Tst → Prop) (X : String → Nat → Tst → Prop) (s0 : Option Nat) (σ : Tst) : Prop := Q 1 σ
def w_X0_patch_b15 (Q : Int32 → Tst → Prop) (X : String → Nat → Tst → Prop) (s0 : Option Nat) (σ : Tst) : Prop := Q 2 σ
def w_X0_patch_b18 (Q : Int32 → Tst → Prop) (X : String → Nat → Tst → Prop) (s0 : Option Nat) (σ : Tst) : Prop := Q 3 σ
def w_X0_patch (l0 : Option Nat) (l1 : Int32) (l2 : Option Nat) (Q : Int32 → Tst → Prop) (X : String → Nat → Tst → Prop) (σ : Tst) : Prop := w_rc σ l0 cX1 <| w_X1_patch l0 l1 (fun x1 σ => w_sl σ l2 0 (x1.toInt64) fun σ => Q 0 σ) (fun E q σ => w_if (E = "java/lang/IndexOutOfBoundsException") (w_X0_patch_b12 Q X (some q) σ) (w_if (E = "java/lang/IllegalStateException") (w_X0_patch_b15 Q X (some q) σ) (w_if (E = "java/lang/UnsupportedOperationException") (w_X0_patch_b18 Q X (some q) σ) (False)))) σ
set_option maxHeartbeats 4000000 in
theorem wk_X0_patch_b12  (C : tw_C p l R s m args meth c G cX0_patch 4 yX0_patch.cls) (hr : meth.sig.returnType = (some .int)) (hmn : meth.name = yX0_patch.name) (hnx : (c.exceptionTable.toList = tableOf [(0, 9, 12, 19), (0, 9, 15, 13), (0, 9, 18, 47)])) (hfr : 398 ≤ R.frames) (hRl : R.locals = 40 * R.frames) {Q : Int32 → Tst → Prop} {X : String → Nat → Tst → Prop}  (s0 : Option Nat) (σ : Tst) (H : Heap) (locs : List Loc) (ls : Array Slot) (hw : w_X0_patch_b12 Q X s0 σ) (hR : tw_R G σ H) (hS : va_S (tw_A G) s.heap H locs) (hl : tw_l ls 4 []) : tw_W p l e R s m args below meth c σ H locs (tw_E below G (tw_Qi G Q) X args s R) (F0 m 12 ls [va_rf s0]) := by
  unfold w_X0_patch_b12 at hw
  refine tk_astore_n (L' := [(3, .inr s0)]) C hl dX0_patch_12 (by decide) rfl (fun ls hl => ?_)
  refine lv_iconst (v := 1) C.hx C.hb dX0_patch_13 (by decide) ?_
  exact tw_iret C hR hS hr rfl dX0_patch_14 hw
set_option maxHeartbeats 4000000 in
theorem wk_X0_patch_b15  (C : tw_C p l R s m args meth c G cX0_patch 4 yX0_patch.cls) (hr : meth.sig.returnType = (some .int)) (hmn : meth.name = yX0_patch.name) (hnx : (c.exceptionTable.toList = tableOf [(0, 9, 12, 19), (0, 9, 15, 13), (0, 9, 18, 47)])) (hfr : 398 ≤ R.frames) (hRl : R.locals = 40 * R.frames) {Q : Int32 → Tst → Prop} {X : String → Nat → Tst → Prop}  (s0 : Option Nat) (σ : Tst) (H : Heap) (locs : List Loc) (ls : Array Slot) (hw : w_X0_patch_b15 Q X s0 σ) (hR : tw_R G σ H) (hS : va_S (tw_A G) s.heap H locs) (hl : tw_l ls 4 []) : tw_W p l e R s m args below meth c σ H locs (tw_E below G (tw_Qi G Q) X args s R) (F0 m 15 ls [va_rf s0]) := by
  unfold w_X0_patch_b15 at hw
  refine tk_astore_n (L' := [(3, .inr s0)]) C hl dX0_patch_15 (by decide) rfl (fun ls hl => ?_)
  refine lv_iconst (v := 2) C.hx C.hb dX0_patch_16 (by decide) ?_
  exact tw_iret C hR hS hr rfl dX0_patch_17 hw
set_option maxHeartbeats 4000000 in
theorem wk_X0_patch_b18  (C : tw_C p l R s m args meth c G cX0_patch 4 yX0_patch.cls) (hr : meth.sig.returnType = (some .int)) (hmn : meth.name = yX0_patch.name) (hnx : (c.exceptionTable.toList = tableOf [(0, 9, 12, 19), (0, 9, 15, 13), (0, 9, 18, 47)])) (hfr : 398 ≤ R.frames) (hRl : R.locals = 40 * R.frames) {Q : Int32 → Tst → Prop} {X : String → Nat → Tst → Prop}  (s0 : Option Nat) (σ : Tst) (H : Heap) (locs : List Loc) (ls : Array Slot) (hw : w_X0_patch_b18 Q X s0 σ) (hR : tw_R G σ H) (hS : va_S (tw_A G) s.heap H locs) (hl : tw_l ls 4 []) : tw_W p l e R s m args below meth c σ H locs (tw_E below G (tw_Qi G Q) X args s R) (F0 m 18 ls [va_rf s0]) := by
  unfold w_X0_patch_b18 at hw
  refine tk_astore_n (L' := [(3, .inr s0)]) C hl dX0_patch_18 (by decide) rfl (fun ls hl => ?_)
  refine lv_iconst (v := 3) C.hx C.hb dX0_patch_19 (by decide) ?_
  exact tw_iret C hR hS hr rfl dX0_patch_20 hw
set_option maxHeartbeats 4000000 in
theorem wk_X0_patch (l : Launch) (hl0 : l.stackTraces = false) (G : Tgl) (fr : Nat)  (hfr : 398 ≤ fr) (l0 : Option Nat) (l1 : Int32) (l2 : Option Nat) (Q : Int32 → Tst → Prop) (X : String → Nat → Tst → Prop) (σ : Tst) (hw : w_X0_patch l0 l1 l2 Q X σ) : tw_M l yX0_patch (wsW_ yX0_patch cX0_patch 4 (some .int) [(0, 9, 12, 19), (0, 9, 15, 13), (0, 9, 18, 47)]) fr (40 * fr) G σ [.inr l0, .inl l1, .inr l2] (tw_Qi G Q) X := by
  unfold w_X0_patch at hw
  refine tw_ofW (ret := (some .int)) (hh := [(0, 9, 12, 19), (0, 9, 15, 13), (0, 9, 18, 47)]) hl0 (by decide) (Nat.le_of_ble_eq_true rfl) (fun p e R s m args below meth c hRf hRl C hr hmn hnx hR hS ls hl => ?_)
  have hfr : 398 ≤ R.frames := by rw [hRf]; exact hfr
  have hRl : R.locals = 40 * R.frames := by rw [hRl, hRf]
  have hl : tw_l ls 4 [(0, .inr l0), (1, .inl l1), (2, .inr l2)] := hl
  refine tk_aload_n C hl 2 dX0_patch_0 rfl ?_
  refine lv_iconst (v := 0) C.hx C.hb dX0_patch_1 (by decide) ?_
  refine tk_aload_n C hl 0 dX0_patch_2 rfl ?_
  refine tk_iload_n C hl 1 dX0_patch_3 rfl ?_
  obtain ⟨hv, hw⟩ := hw
  refine tw_cbi C hS (tk_runVW (As := [.inl l1]) C hR hS (wk_X1_patch l C.hst G (R.frames - 1) (by omega) _ _ _ _ σ hw) hv rfl q1970 q1971 q1972 q64 q1973 pd_X1_patch ⟨by omega, by omega⟩ hl.1 rfl (tw_r8 [.inl 0, .inr l2] (Nat.le_of_ble_eq_true rfl)) dX0_patch_4) (fun E q σ H locs hX hR hS hi => ?_) (fun x1 σ H locs hw hR hS => ?_)
  · by_cases cE0 : E = "java/lang/IndexOutOfBoundsException"
    · replace hX := hX.1 cE0
      subst cE0
      refine tw_catch C hnx [] (0, 9, 12, 19) [(0, 9, 15, 13), (0, 9, 18, 47)] rfl (fun z hz => nomatch hz) rfl (by decide) q1394 q687 hi ?_
      exact wk_X0_patch_b12 C hr hmn hnx hfr hRl _ σ _ _ _ hX hR hS (tk_sub hl [] rfl)
    replace hX := hX.2 cE0
    by_cases cE1 : E = "java/lang/IllegalStateException"
    · replace hX := hX.1 cE1
      subst cE1
      refine tw_catch C hnx [(0, 9, 12, 19)] (0, 9, 15, 13) [(0, 9, 18, 47)] rfl (fun z hz => by simp only [List.mem_cons, List.not_mem_nil, or_false] at hz; rcases hz with rfl; exact Or.inr ⟨by decide, _, q1394, by decide +kernel⟩) rfl (by decide) q1357 q490 hi ?_
      exact wk_X0_patch_b15 C hr hmn hnx hfr hRl _ σ _ _ _ hX hR hS (tk_sub hl [] rfl)
    replace hX := hX.2 cE1
    by_cases cE2 : E = "java/lang/UnsupportedOperationException"
    · replace hX := hX.1 cE2
      subst cE2
      refine tw_catch C hnx [(0, 9, 12, 19), (0, 9, 15, 13)] (0, 9, 18, 47) [] rfl (fun z hz => by simp only [List.mem_cons, List.not_mem_nil, or_false] at hz; rcases hz with rfl | rfl <;> first | exact Or.inr ⟨by decide, _, q1394, by decide +kernel⟩ | exact Or.inr ⟨by decide, _, q1357, by decide +kernel⟩) rfl (by decide) q1657 q1667 hi ?_
      exact wk_X0_patch_b18 C hr hmn hnx hfr hRl _ σ _ _ _ hX hR hS (tk_sub hl [] rfl)
    replace hX := hX.2 cE2
    exact hX.elim
  refine lv_i2l (v := x1.toInt64) C.hx C.hb dX0_patch_7 rfl ?_
  refine tk_sl C hR hS hw dX0_patch_8 (fun σ H locs hw hR hS => ?_)
  refine lv_goto (tgt := 21) C.hx C.hb dX0_patch_9 (by decide) ?_
  refine lv_iconst (v := 0) C.hx C.hb dX0_patch_21 (by decide) ?_
  exact tw_iret C hR hS hr rfl dX0_patch_22 hw
-- TreeDiffer.conflictOperation()I
def w_X1_conflictOperation_b12 (Q : Int32 → Tst → Prop) (X : String → Nat → Tst → Prop) (l0 : Option Nat) (s0 : Int32) (σ : Tst) : Prop := w_X1_requireElement s0 (fun σ => w_gr σ l0 cX1 5 fun x2 => w_gi σ x2 cX19 6 fun x3 => Q x3 σ) X σ
def w_X1_conflictOperation (l0 : Option Nat) (Q : Int32 → Tst → Prop) (X : String → Nat → Tst → Prop) (σ : Tst) : Prop := w_gr σ l0 cX1 5 fun x1 => w_if (x1 = none) (w_X1_conflictOperation_b12 Q X l0 0 σ) (w_X1_conflictOperation_b12 Q X l0 1 σ)
set_option maxHeartbeats 4000000 in
theorem wk_X1_conflictOperation_b12  (C : tw_C p l R s m args meth c G cX1_conflictOperation 1 yX1_conflictOperation.cls) (hr : meth.sig.returnType = (some .int)) (hmn : meth.name = yX1_conflictOperation.name) (hnx : (∀ x ∈ c.exceptionTable.toList, False)) (hfr : 7 ≤ R.frames) (hRl : R.locals = 40 * R.frames) {Q : Int32 → Tst → Prop} {X : String → Nat → Tst → Prop}  (l0 : Option Nat) (s0 : Int32) (σ : Tst) (H : Heap) (locs : List Loc) (ls : Array Slot) (hw : w_X1_conflictOperation_b12 Q X l0 s0 σ) (hR : tw_R G σ H) (hS : va_S (tw_A G) s.heap H locs) (hl : tw_l ls 1 [(0, .inr l0)]) : tw_W p l e R s m args below meth c σ H locs (tw_E below G (tw_Qi G Q) X args s R) (F0 m 12 ls [.int s0]) := by
  unfold w_X1_conflictOperation_b12 at hw
  refine tw_cbv C hS (tw_runS (As := [.inl s0]) C hR hS (wk_X1_requireElement l C.hst G (R.frames - 1) (by omega) _ _ _ σ hw) q1569 q1570 q64 q1571 pd_X1_requireElement ⟨by omega, by omega⟩ hl.1 rfl (tw_r8 [] (Nat.le_of_ble_eq_true rfl)) dX1_conflictOperation_12) (fun E q σ H locs hX hR hS hi => tw_out C hR hS (fun x hx => (hnx x hx).elim) hi hX) (fun σ H locs hw hR hS => ?_)
  refine tk_aload_n C hl 0 dX1_conflictOperation_15 rfl ?_
  refine tk_gr C hR hw rfl in_X1 (by decide) q252 (fun _ h => h) dX1_conflictOperation_16 (fun x2 hw => ?_)
  refine tk_giN C hR hw rfl in_X19 (by decide) q1224 (fun _ h => h) dX1_conflictOperation_19 (fun x3 hw => ?_)
  exact tw_iret C hR hS hr rfl dX1_conflictOperation_22 hw
set_option maxHeartbeats 4000000 in
theorem wk_X1_conflictOperation (l : Launch) (hl0 : l.stackTraces = false) (G : Tgl) (fr : Nat)  (hfr : 7 ≤ fr) (l0 : Option Nat) (Q : Int32 → Tst → Prop) (X : String → Nat → Tst → Prop) (σ : Tst) (hw : w_X1_conflictOperation l0 Q X σ) : tw_M l yX1_conflictOperation (ws_ yX1_conflictOperation cX1_conflictOperation 1 (some .int)) fr (40 * fr) G σ [.inr l0] (tw_Qi G Q) X := by
  unfold w_X1_conflictOperation at hw
  refine tw_of (ret := (some .int)) hl0 (by decide) (Nat.le_of_ble_eq_true rfl) (fun p e R s m args below meth c hRf hRl C hr hmn hnx hR hS ls hl => ?_)
  have hfr : 7 ≤ R.frames := by rw [hRf]; exact hfr
  have hRl : R.locals = 40 * R.frames := by rw [hRl, hRf]
  have hl : tw_l ls 1 [(0, .inr l0)] := hl
  refine tk_aload_n C hl 0 dX1_conflictOperation_0 rfl ?_
  refine tk_gr C hR hw rfl in_X1 (by decide) q252 (fun _ h => h) dX1_conflictOperation_1 (fun x1 hw => ?_)
  refine tw_ifnull (tgt := 11) C.hx C.hb dX1_conflictOperation_4 (by decide) (fun c4 => ?_) (fun c4 => ?_)
  · replace hw := hw.1 c4
    refine lv_iconst (v := 0) C.hx C.hb dX1_conflictOperation_11 (by decide) ?_
    exact wk_X1_conflictOperation_b12 C hr hmn hnx hfr hRl _ _ σ _ _ _ hw hR hS (tk_sub hl [0] rfl)
  · replace hw := hw.2 c4
    refine lv_iconst (v := 1) C.hx C.hb dX1_conflictOperation_7 (by decide) ?_
    refine lv_goto (tgt := 12) C.hx C.hb dX1_conflictOperation_8 (by decide) ?_
    exact wk_X1_conflictOperation_b12 C hr hmn hnx hfr hRl _ _ σ _ _ _ hw hR hS (tk_sub hl [0] rfl)
-- TreeDifferLaw.conflictOperation(LTreeDiffer;[J)I
def w_X0_conflictOperation_b11 (Q : Int32 → Tst → Prop) (X : String → Nat → Tst → Prop) (s0 : Option Nat) (σ : Tst) : Prop := Q 1 σ
def w_X0_conflictOperation (l0 : Option Nat) (l1 : Option Nat) (Q : Int32 → Tst → Prop) (X : String → Nat → Tst → Prop) (σ : Tst) : Prop := w_rc σ l0 cX1 <| w_X1_conflictOperation l0 (fun x1 σ => w_sl σ l1 0 (x1.toInt64) fun σ => Q 0 σ) (fun E q σ => w_if (E = "java/util/NoSuchElementException") (w_X0_conflictOperation_b11 Q X (some q) σ) (False)) σ
set_option maxHeartbeats 4000000 in
theorem wk_X0_conflictOperation_b11  (C : tw_C p l R s m args meth c G cX0_conflictOperation 3 yX0_conflictOperation.cls) (hr : meth.sig.returnType = (some .int)) (hmn : meth.name = yX0_conflictOperation.name) (hnx : (c.exceptionTable.toList = tableOf [(0, 8, 11, 27)])) (hfr : 8 ≤ R.frames) (hRl : R.locals = 40 * R.frames) {Q : Int32 → Tst → Prop} {X : String → Nat → Tst → Prop}  (s0 : Option Nat) (σ : Tst) (H : Heap) (locs : List Loc) (ls : Array Slot) (hw : w_X0_conflictOperation_b11 Q X s0 σ) (hR : tw_R G σ H) (hS : va_S (tw_A G) s.heap H locs) (hl : tw_l ls 3 []) : tw_W p l e R s m args below meth c σ H locs (tw_E below G (tw_Qi G Q) X args s R) (F0 m 11 ls [va_rf s0]) := by
  unfold w_X0_conflictOperation_b11 at hw
  refine tk_astore_n (L' := [(2, .inr s0)]) C hl dX0_conflictOperation_11 (by decide) rfl (fun ls hl => ?_)
  refine lv_iconst (v := 1) C.hx C.hb dX0_conflictOperation_12 (by decide) ?_
  exact tw_iret C hR hS hr rfl dX0_conflictOperation_13 hw
set_option maxHeartbeats 4000000 in
theorem wk_X0_conflictOperation (l : Launch) (hl0 : l.stackTraces = false) (G : Tgl) (fr : Nat)  (hfr : 8 ≤ fr) (l0 : Option Nat) (l1 : Option Nat) (Q : Int32 → Tst → Prop) (X : String → Nat → Tst → Prop) (σ : Tst) (hw : w_X0_conflictOperation l0 l1 Q X σ) : tw_M l yX0_conflictOperation (wsW_ yX0_conflictOperation cX0_conflictOperation 3 (some .int) [(0, 8, 11, 27)]) fr (40 * fr) G σ [.inr l0, .inr l1] (tw_Qi G Q) X := by
  unfold w_X0_conflictOperation at hw
  refine tw_ofW (ret := (some .int)) (hh := [(0, 8, 11, 27)]) hl0 (by decide) (Nat.le_of_ble_eq_true rfl) (fun p e R s m args below meth c hRf hRl C hr hmn hnx hR hS ls hl => ?_)
  have hfr : 8 ≤ R.frames := by rw [hRf]; exact hfr
  have hRl : R.locals = 40 * R.frames := by rw [hRl, hRf]
  have hl : tw_l ls 3 [(0, .inr l0), (1, .inr l1)] := hl
  refine tk_aload_n C hl 1 dX0_conflictOperation_0 rfl ?_
  refine lv_iconst (v := 0) C.hx C.hb dX0_conflictOperation_1 (by decide) ?_
  refine tk_aload_n C hl 0 dX0_conflictOperation_2 rfl ?_
  obtain ⟨hv, hw⟩ := hw
  refine tw_cbi C hS (tk_runV (As := []) C hR hS (wk_X1_conflictOperation l C.hst G (R.frames - 1) (by omega) _ _ _ σ hw) hv rfl q1981 q1982 q1983 q64 q1984 pd_X1_conflictOperation ⟨by omega, by omega⟩ hl.1 rfl (tw_r8 [.inl 0, .inr l1] (Nat.le_of_ble_eq_true rfl)) dX0_conflictOperation_3) (fun E q σ H locs hX hR hS hi => ?_) (fun x1 σ H locs hw hR hS => ?_)
  · by_cases cE0 : E = "java/util/NoSuchElementException"
    · replace hX := hX.1 cE0
      subst cE0
      refine tw_catch C hnx [] (0, 8, 11, 27) [] rfl (fun z hz => nomatch hz) rfl (by decide) q1564 q353 hi ?_
      exact wk_X0_conflictOperation_b11 C hr hmn hnx hfr hRl _ σ _ _ _ hX hR hS (tk_sub hl [] rfl)
    replace hX := hX.2 cE0
    exact hX.elim
  refine lv_i2l (v := x1.toInt64) C.hx C.hb dX0_conflictOperation_6 rfl ?_
  refine tk_sl C hR hS hw dX0_conflictOperation_7 (fun σ H locs hw hR hS => ?_)
  refine lv_goto (tgt := 14) C.hx C.hb dX0_conflictOperation_8 (by decide) ?_
  refine lv_iconst (v := 0) C.hx C.hb dX0_conflictOperation_14 (by decide) ?_
  exact tw_iret C hR hS hr rfl dX0_conflictOperation_15 hw
end GW30
