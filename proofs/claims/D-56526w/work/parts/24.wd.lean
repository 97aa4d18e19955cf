set_option maxRecDepth 100000
section GW24
variable {p : Program} {l : Launch} {e : Env} {R : Room} {s : State} {m : MethodId} {args : Array Value} {below : List Frame} {meth : Method} {c : Code} {H : Heap} {locs : List Loc} {G : Tgl}
-- TreeDifferModel.removeNode(II)I
def w_X4_removeNode (l0 : Option Nat) (l1 : Int32) (l2 : Int32) (Q : Int32 → Tst → Prop) (X : String → Nat → Tst → Prop) (σ : Tst) : Prop := w_rc σ l0 cX4 <| w_X4_isNowhere l0 l1 l2 (fun x1 σ => w_if (x1 = 0) (w_if (l2 = 0) (w_rc σ l0 cX4 <| w_X4_fails l0 2 (fun x7 σ => Q x7 σ) X σ) (w_gr σ l0 cX4 0 fun x2 => w_lr σ x2 l1 fun x3 => w_rc σ x3 cX5 <| w_X5_end x3 l2 (fun x4 σ => w_rc σ x3 cX5 <| w_X5_moves x3 l2 (l2 - x4) (fun σ => w_gi σ x3 cX5 4 fun x6 => Q x6 σ) X σ) X σ)) (Q 0 σ)) X σ
set_option maxHeartbeats 4000000 in
theorem wk_X4_removeNode (l : Launch) (hl0 : l.stackTraces = false) (G : Tgl) (fr : Nat)  (hfr : 5 ≤ fr) (l0 : Option Nat) (l1 : Int32) (l2 : Int32) (Q : Int32 → Tst → Prop) (X : String → Nat → Tst → Prop) (σ : Tst) (hw : w_X4_removeNode l0 l1 l2 Q X σ) : tw_M l yX4_removeNode (ws_ yX4_removeNode cX4_removeNode 4 (some .int)) fr (40 * fr) G σ [.inr l0, .inl l1, .inl l2] (tw_Qi G Q) X := by
  unfold w_X4_removeNode at hw
  refine tw_of (ret := (some .int)) hl0 (by decide) (Nat.le_of_ble_eq_true rfl) (fun p e R s m args below meth c hRf hRl C hr hmn hnx hR hS ls hl => ?_)
  have hfr : 5 ≤ R.frames := by rw [hRf]; exact hfr
  have hRl : R.locals = 40 * R.frames := by rw [hRl, hRf]
  have hl : tw_l ls 4 [(0, .inr l0), (1, .inl l1), (2, .inl l2)] := hl
  refine tk_aload_n C hl 0 dX4_removeNode_0 rfl ?_
  refine tk_iload_n C hl 1 dX4_removeNode_1 rfl ?_
  refine tk_iload_n C hl 2 dX4_removeNode_2 rfl ?_
  obtain ⟨hv, hw⟩ := hw
  refine tw_cbi C hS (tk_runV (As := [.inl l1, .inl l2]) C hR hS (wk_X4_isNowhere l C.hst G (R.frames - 1) (by omega) _ _ _ _ _ σ hw) hv rfl q2251 q2253 qs35 q74 q2254 pd_X4_isNowhere ⟨by omega, by omega⟩ hl.1 rfl (tw_r8 [] (Nat.le_of_ble_eq_true rfl)) dX4_removeNode_3) (fun E q σ H locs hX hR hS hi => tw_out C hR hS (fun x hx => (hnx x hx).elim) hi hX) (fun x1 σ H locs hw hR hS => ?_)
  refine lv_if_eq (tgt := 11) C.hx C.hb dX4_removeNode_6 (by decide) (fun c6 => ?_) (fun c6 => ?_)
  · replace hw := hw.1 c6
    refine tk_iload_n C hl 2 dX4_removeNode_11 rfl ?_
    refine lv_if_ne (tgt := 21) C.hx C.hb dX4_removeNode_12 (by decide) (fun c12 => ?_) (fun c12 => ?_)
    · replace hw := hw.2 c12
      refine tk_aload_n C hl 0 dX4_removeNode_21 rfl ?_
      refine tk_gr C hR hw rfl in_X4 (by decide) q2052 (fun _ h => h) dX4_removeNode_22 (fun x2 hw => ?_)
      refine tk_iload_n C hl 1 dX4_removeNode_25 rfl ?_
      refine tk_lr C hR hw dX4_removeNode_26 (fun x3 hw => ?_)
      refine tk_astore_n (L' := [(3, .inr x3), (0, .inr l0), (1, .inl l1), (2, .inl l2)]) C hl dX4_removeNode_27 (by decide) rfl (fun ls hl => ?_)
      refine tk_aload_n C hl 0 dX4_removeNode_28 rfl ?_
      refine tk_iload_n C hl 3 dX4_removeNode_29 rfl ?_
      refine tk_iload_n C hl 3 dX4_removeNode_30 rfl ?_
      refine tk_aload_n C hl 0 dX4_removeNode_31 rfl ?_
      refine tk_iload_n C hl 3 dX4_removeNode_32 rfl ?_
      obtain ⟨hv, hw⟩ := hw
      refine tw_cbi C hS (tk_runVN (As := [.inl l2]) C hR hS (wk_X5_end l C.hst G (R.frames - 1) (by omega) _ _ _ _ σ hw) hv rfl q2262 q2264 qs37 q75 q2265 pd_X5_end ⟨by omega, by omega⟩ hl.1 rfl (tw_r8 [.inl l2, .inl l2, .inr x3] (Nat.le_of_ble_eq_true rfl)) dX4_removeNode_33) (fun E q σ H locs hX hR hS hi => tw_out C hR hS (fun x hx => (hnx x hx).elim) hi hX) (fun x4 σ H locs hw hR hS => ?_)
      refine lv_isub C.hx C.hb dX4_removeNode_36 ?_
      obtain ⟨hv, hw⟩ := hw
      refine tw_cbv C hS (tk_runVN (As := [.inl l2, .inl (l2 - x4)]) C hR hS (wk_X5_moves l C.hst G (R.frames - 1) (by omega) _ _ _ _ _ σ hw) hv rfl q2266 q2268 qs38 q75 q2269 pd_X5_moves ⟨by omega, by omega⟩ hl.1 rfl (tw_r8 [] (Nat.le_of_ble_eq_true rfl)) dX4_removeNode_37) (fun E q σ H locs hX hR hS hi => tw_out C hR hS (fun x hx => (hnx x hx).elim) hi hX) (fun σ H locs hw hR hS => ?_)
      refine tk_aload_n C hl 0 dX4_removeNode_40 rfl ?_
      refine tk_giN C hR hw rfl in_X5 (by decide) q2027 (fun _ h => h) dX4_removeNode_41 (fun x6 hw => ?_)
      exact tw_iret C hR hS hr rfl dX4_removeNode_44 hw
    · replace hw := hw.1 c12
      refine tk_aload_n C hl 0 dX4_removeNode_15 rfl ?_
      refine lv_iconst (v := 2) C.hx C.hb dX4_removeNode_16 (by decide) ?_
      obtain ⟨hv, hw⟩ := hw
      refine tw_cbi C hS (tk_runV (As := [.inl 2]) C hR hS (wk_X4_fails l C.hst G (R.frames - 1) (by omega) _ _ _ _ σ hw) hv rfl q2155 q2157 qs24 q74 q2158 pd_X4_fails ⟨by omega, by omega⟩ hl.1 rfl (tw_r8 [] (Nat.le_of_ble_eq_true rfl)) dX4_removeNode_17) (fun E q σ H locs hX hR hS hi => tw_out C hR hS (fun x hx => (hnx x hx).elim) hi hX) (fun x7 σ H locs hw hR hS => ?_)
      exact tw_iret C hR hS hr rfl dX4_removeNode_20 hw
  · replace hw := hw.2 c6
    refine lv_iconst (v := 0) C.hx C.hb dX4_removeNode_9 (by decide) ?_
    exact tw_iret C hR hS hr rfl dX4_removeNode_10 hw
-- TreeDifferModel.setLabel(IIC)I
def w_X4_setLabel_b75 (k46 : Int32 → Option Nat → Int32 → Int32 → Tst → Prop) (Q : Int32 → Tst → Prop) (X : String → Nat → Tst → Prop) (l3 : Int32) (l4 : Option Nat) (l6 : Int32) (s0 : Int32) (s1 : Int32) (σ : Tst) : Prop := k46 l3 l4 (s0 + s1) (l6 + 1) σ
def w_X4_setLabel_b46 (Q : Int32 → Tst → Prop) (X : String → Nat → Tst → Prop) : Nat → Int32 → Option Nat → Int32 → Int32 → Tst → Prop
  | 0, _, _, _, _, _ => False
  | n + 1, l3, l4, l5, l6, σ => w_gi σ l4 cX5 4 fun x1 => w_if (x1 ≤ l6) (Q l5 σ) (w_gr σ l4 cX5 0 fun x2 => w_li σ x2 l6 fun x3 => w_if (x3 = l3) (w_X4_setLabel_b75 (w_X4_setLabel_b46 Q X n) Q X l3 l4 l6 l5 1 σ) (w_X4_setLabel_b75 (w_X4_setLabel_b46 Q X n) Q X l3 l4 l6 l5 0 σ))
def w_X4_setLabel (l0 : Option Nat) (l1 : Int32) (l2 : Int32) (l3 : Int32) (Q : Int32 → Tst → Prop) (X : String → Nat → Tst → Prop) (σ : Tst) : Prop := w_rc σ l0 cX4 <| w_X4_isNowhere l0 l1 l2 (fun x1 σ => w_if (x1 = 0) (w_X4_isLabel l3 (fun x2 σ => w_if (x2 = 0) (w_rc σ l0 cX4 <| w_X4_fails l0 2 (fun x6 σ => Q x6 σ) X σ) (w_gr σ l0 cX4 0 fun x3 => w_lr σ x3 l1 fun x4 => w_gr σ x4 cX5 0 fun x5 => w_si σ x5 l2 l3 fun σ => ∃ z, w_X4_setLabel_b46 Q X z l3 x4 0 0 σ)) X σ) (Q 0 σ)) X σ
set_option maxHeartbeats 4000000 in
theorem wk_X4_setLabel_b75  (C : tw_C p l R s m args meth c G cX4_setLabel 7 yX4_setLabel.cls) (hr : meth.sig.returnType = (some .int)) (hmn : meth.name = yX4_setLabel.name) (hnx : (∀ x ∈ c.exceptionTable.toList, False)) (hfr : 5 ≤ R.frames) (hRl : R.locals = 40 * R.frames) {Q : Int32 → Tst → Prop} {X : String → Nat → Tst → Prop}  {k46 : Int32 → Option Nat → Int32 → Int32 → Tst → Prop} (hk46 : ∀ (l3 : Int32) (l4 : Option Nat) (l5 : Int32) (l6 : Int32) (σ : Tst) (H : Heap) (locs : List Loc) (ls : Array Slot), k46 l3 l4 l5 l6 σ → tw_R G σ H → va_S (tw_A G) s.heap H locs → tw_l ls 7 [(3, .inl l3), (4, .inr l4), (5, .inl l5), (6, .inl l6)] → tw_W p l e R s m args below meth c σ H locs (tw_E below G (tw_Qi G Q) X args s R) (F0 m 46 ls [])) (l3 : Int32) (l4 : Option Nat) (l6 : Int32) (s0 : Int32) (s1 : Int32) (σ : Tst) (H : Heap) (locs : List Loc) (ls : Array Slot) (hw : w_X4_setLabel_b75 k46 Q X l3 l4 l6 s0 s1 σ) (hR : tw_R G σ H) (hS : va_S (tw_A G) s.heap H locs) (hl : tw_l ls 7 [(3, .inl l3), (4, .inr l4), (6, .inl l6)]) : tw_W p l e R s m args below meth c σ H locs (tw_E below G (tw_Qi G Q) X args s R) (F0 m 75 ls [.int s1, .int s0]) := by
  unfold w_X4_setLabel_b75 at hw
  refine lv_iadd C.hx C.hb dX4_setLabel_75 ?_
  refine tk_istore (L' := [(5, .inl (s0 + s1)), (3, .inl l3), (4, .inr l4), (6, .inl l6)]) C hl dX4_setLabel_76 (by decide) rfl (fun ls hl => ?_)
  refine tk_iinc (L' := [(6, .inl (l6 + 1)), (5, .inl (s0 + s1)), (3, .inl l3), (4, .inr l4)]) (y := (l6 + 1)) C hl 3 dX4_setLabel_78 rfl rfl (by decide) rfl (fun ls hl => ?_)
  refine lv_goto (tgt := 46) C.hx C.hb dX4_setLabel_81 (by decide) ?_
  exact hk46 _ _ _ _ σ _ _ _ hw hR hS (tk_sub hl [2, 3, 1, 0] rfl)
set_option maxHeartbeats 4000000 in
theorem wk_X4_setLabel_b46  (C : tw_C p l R s m args meth c G cX4_setLabel 7 yX4_setLabel.cls) (hr : meth.sig.returnType = (some .int)) (hmn : meth.name = yX4_setLabel.name) (hnx : (∀ x ∈ c.exceptionTable.toList, False)) (hfr : 5 ≤ R.frames) (hRl : R.locals = 40 * R.frames) {Q : Int32 → Tst → Prop} {X : String → Nat → Tst → Prop}  : ∀ (n : Nat) (l3 : Int32) (l4 : Option Nat) (l5 : Int32) (l6 : Int32) (σ : Tst) (H : Heap) (locs : List Loc) (ls : Array Slot), w_X4_setLabel_b46 Q X n l3 l4 l5 l6 σ → tw_R G σ H → va_S (tw_A G) s.heap H locs → tw_l ls 7 [(3, .inl l3), (4, .inr l4), (5, .inl l5), (6, .inl l6)] → tw_W p l e R s m args below meth c σ H locs (tw_E below G (tw_Qi G Q) X args s R) (F0 m 46 ls []) := by
  intro n
  induction n with
  | zero => intro l3 l4 l5 l6 σ H locs ls hw; exact False.elim hw
  | succ n hk46 =>
    intro l3 l4 l5 l6 σ H locs ls hw hR hS hl
    rw [w_X4_setLabel_b46] at hw
    refine tk_iload C hl 3 dX4_setLabel_46 rfl ?_
    refine tk_aload C hl 1 dX4_setLabel_48 rfl ?_
    refine tk_giN C hR hw rfl in_X5 (by decide) q2027 (fun _ h => h) dX4_setLabel_50 (fun x1 hw => ?_)
    refine lv_icmp_ge (tgt := 84) C.hx C.hb dX4_setLabel_53 (by decide) (fun c53 => ?_) (fun c53 => ?_)
    · replace hw := hw.1 c53
      refine tk_iload C hl 2 dX4_setLabel_84 rfl ?_
      exact tw_iret C hR hS hr rfl dX4_setLabel_86 hw
    · replace hw := hw.2 c53
      refine tk_iload C hl 2 dX4_setLabel_56 rfl ?_
      refine tk_aload C hl 1 dX4_setLabel_58 rfl ?_
      refine tk_grN C hR hw rfl in_X5 (by decide) q2019 (fun _ h => h) dX4_setLabel_60 (fun x2 hw => ?_)
      refine tk_iload C hl 3 dX4_setLabel_63 rfl ?_
      refine tk_li C hR hw dX4_setLabel_65 (fun x3 hw => ?_)
      refine tk_iload_n C hl 0 dX4_setLabel_66 rfl ?_
      refine lv_icmp_ne (tgt := 74) C.hx C.hb dX4_setLabel_67 (by decide) (fun c67 => ?_) (fun c67 => ?_)
      · replace hw := hw.2 c67
        refine lv_iconst (v := 0) C.hx C.hb dX4_setLabel_74 (by decide) ?_
        exact wk_X4_setLabel_b75 C hr hmn hnx hfr hRl hk46 _ _ _ _ _ σ _ _ _ hw hR hS (tk_sub hl [0, 1, 3] rfl)
      · replace hw := hw.1 c67
        refine lv_iconst (v := 1) C.hx C.hb dX4_setLabel_70 (by decide) ?_
        refine lv_goto (tgt := 75) C.hx C.hb dX4_setLabel_71 (by decide) ?_
        exact wk_X4_setLabel_b75 C hr hmn hnx hfr hRl hk46 _ _ _ _ _ σ _ _ _ hw hR hS (tk_sub hl [0, 1, 3] rfl)
set_option maxHeartbeats 4000000 in
theorem wk_X4_setLabel (l : Launch) (hl0 : l.stackTraces = false) (G : Tgl) (fr : Nat)  (hfr : 5 ≤ fr) (l0 : Option Nat) (l1 : Int32) (l2 : Int32) (l3 : Int32) (Q : Int32 → Tst → Prop) (X : String → Nat → Tst → Prop) (σ : Tst) (hw : w_X4_setLabel l0 l1 l2 l3 Q X σ) : tw_M l yX4_setLabel (ws_ yX4_setLabel cX4_setLabel 7 (some .int)) fr (40 * fr) G σ [.inr l0, .inl l1, .inl l2, .inl l3] (tw_Qi G Q) X := by
  unfold w_X4_setLabel at hw
  refine tw_of (ret := (some .int)) hl0 (by decide) (Nat.le_of_ble_eq_true rfl) (fun p e R s m args below meth c hRf hRl C hr hmn hnx hR hS ls hl => ?_)
  have hfr : 5 ≤ R.frames := by rw [hRf]; exact hfr
  have hRl : R.locals = 40 * R.frames := by rw [hRl, hRf]
  have hl : tw_l ls 7 [(0, .inr l0), (1, .inl l1), (2, .inl l2), (3, .inl l3)] := hl
  refine tk_aload_n C hl 0 dX4_setLabel_0 rfl ?_
  refine tk_iload_n C hl 1 dX4_setLabel_1 rfl ?_
  refine tk_iload_n C hl 2 dX4_setLabel_2 rfl ?_
  obtain ⟨hv, hw⟩ := hw
  refine tw_cbi C hS (tk_runV (As := [.inl l1, .inl l2]) C hR hS (wk_X4_isNowhere l C.hst G (R.frames - 1) (by omega) _ _ _ _ _ σ hw) hv rfl q2251 q2253 qs35 q74 q2254 pd_X4_isNowhere ⟨by omega, by omega⟩ hl.1 rfl (tw_r8 [] (Nat.le_of_ble_eq_true rfl)) dX4_setLabel_3) (fun E q σ H locs hX hR hS hi => tw_out C hR hS (fun x hx => (hnx x hx).elim) hi hX) (fun x1 σ H locs hw hR hS => ?_)
  refine lv_if_eq (tgt := 11) C.hx C.hb dX4_setLabel_6 (by decide) (fun c6 => ?_) (fun c6 => ?_)
  · replace hw := hw.1 c6
    refine tk_iload_n C hl 3 dX4_setLabel_11 rfl ?_
    refine tw_cbi C hS (tw_runS (As := [.inl l3]) C hR hS (wk_X4_isLabel l C.hst G (R.frames - 1) (by omega) _ _ _ σ hw) q2259 q2260 q74 q2261 pd_X4_isLabel ⟨by omega, by omega⟩ hl.1 rfl (tw_r8 [] (Nat.le_of_ble_eq_true rfl)) dX4_setLabel_12) (fun E q σ H locs hX hR hS hi => tw_out C hR hS (fun x hx => (hnx x hx).elim) hi hX) (fun x2 σ H locs hw hR hS => ?_)
    refine lv_if_ne (tgt := 24) C.hx C.hb dX4_setLabel_15 (by decide) (fun c15 => ?_) (fun c15 => ?_)
    · replace hw := hw.2 c15
      refine tk_aload_n C hl 0 dX4_setLabel_24 rfl ?_
      refine tk_gr C hR hw rfl in_X4 (by decide) q2052 (fun _ h => h) dX4_setLabel_25 (fun x3 hw => ?_)
      refine tk_iload_n C hl 1 dX4_setLabel_28 rfl ?_
      refine tk_lr C hR hw dX4_setLabel_29 (fun x4 hw => ?_)
      refine tk_astore (L' := [(4, .inr x4), (0, .inr l0), (1, .inl l1), (2, .inl l2), (3, .inl l3)]) C hl dX4_setLabel_30 (by decide) rfl (fun ls hl => ?_)
      refine tk_aload C hl 0 dX4_setLabel_32 rfl ?_
      refine tk_grN C hR hw rfl in_X5 (by decide) q2019 (fun _ h => h) dX4_setLabel_34 (fun x5 hw => ?_)
      refine tk_iload_n C hl 3 dX4_setLabel_37 rfl ?_
      refine tk_iload_n C hl 4 dX4_setLabel_38 rfl ?_
      refine tk_si C hR hS hw dX4_setLabel_39 (fun σ H locs hw hR hS => ?_)
      refine lv_iconst (v := 0) C.hx C.hb dX4_setLabel_40 (by decide) ?_
      refine tk_istore (L' := [(5, .inl 0), (4, .inr x4), (0, .inr l0), (1, .inl l1), (2, .inl l2), (3, .inl l3)]) C hl dX4_setLabel_41 (by decide) rfl (fun ls hl => ?_)
      refine lv_iconst (v := 0) C.hx C.hb dX4_setLabel_43 (by decide) ?_
      refine tk_istore (L' := [(6, .inl 0), (5, .inl 0), (4, .inr x4), (0, .inr l0), (1, .inl l1), (2, .inl l2), (3, .inl l3)]) C hl dX4_setLabel_44 (by decide) rfl (fun ls hl => ?_)
      obtain ⟨z, hw⟩ := hw
      exact wk_X4_setLabel_b46 C hr hmn hnx hfr hRl z _ _ _ _ σ _ _ _ hw hR hS (tk_sub hl [6, 2, 1, 0] rfl)
    · replace hw := hw.1 c15
      refine tk_aload_n C hl 0 dX4_setLabel_18 rfl ?_
      refine lv_iconst (v := 2) C.hx C.hb dX4_setLabel_19 (by decide) ?_
      obtain ⟨hv, hw⟩ := hw
      refine tw_cbi C hS (tk_runV (As := [.inl 2]) C hR hS (wk_X4_fails l C.hst G (R.frames - 1) (by omega) _ _ _ _ σ hw) hv rfl q2155 q2157 qs24 q74 q2158 pd_X4_fails ⟨by omega, by omega⟩ hl.1 rfl (tw_r8 [] (Nat.le_of_ble_eq_true rfl)) dX4_setLabel_20) (fun E q σ H locs hX hR hS hi => tw_out C hR hS (fun x hx => (hnx x hx).elim) hi hX) (fun x6 σ H locs hw hR hS => ?_)
      exact tw_iret C hR hS hr rfl dX4_setLabel_23 hw
  · replace hw := hw.2 c6
    refine lv_iconst (v := 0) C.hx C.hb dX4_setLabel_9 (by decide) ?_
    exact tw_iret C hR hS hr rfl dX4_setLabel_10 hw
-- TreeDifferModel.setKey(III)I
def w_X4_setKey (l0 : Option Nat) (l1 : Int32) (l2 : Int32) (l3 : Int32) (Q : Int32 → Tst → Prop) (X : String → Nat → Tst → Prop) (σ : Tst) : Prop := w_rc σ l0 cX4 <| w_X4_isNowhere l0 l1 l2 (fun x1 σ => w_if (x1 = 0) (w_X4_isBetween l3 0 9 (fun x2 σ => w_if (x2 = 0) (w_rc σ l0 cX4 <| w_X4_fails l0 2 (fun x13 σ => Q x13 σ) X σ) (w_if (l2 = 0) (w_rc σ l0 cX4 <| w_X4_fails l0 3 (fun x12 σ => Q x12 σ) X σ) (w_gr σ l0 cX4 0 fun x3 => w_lr σ x3 l1 fun x4 => w_gr σ x4 cX5 3 fun x5 => w_li σ x5 l2 fun x6 => w_rc σ x4 cX5 <| w_X5_isUsed x4 x6 l3 l2 (fun x7 σ => w_if (x7 = 0) (w_gr σ x4 cX5 1 fun x8 => w_li σ x8 l2 fun x9 => w_gr σ x4 cX5 1 fun x10 => w_si σ x10 l2 l3 fun σ => Q x9 σ) (w_rc σ l0 cX4 <| w_X4_fails l0 4 (fun x11 σ => Q x11 σ) X σ)) X σ))) X σ) (Q 0 σ)) X σ
set_option maxHeartbeats 4000000 in
theorem wk_X4_setKey (l : Launch) (hl0 : l.stackTraces = false) (G : Tgl) (fr : Nat)  (hfr : 5 ≤ fr) (l0 : Option Nat) (l1 : Int32) (l2 : Int32) (l3 : Int32) (Q : Int32 → Tst → Prop) (X : String → Nat → Tst → Prop) (σ : Tst) (hw : w_X4_setKey l0 l1 l2 l3 Q X σ) : tw_M l yX4_setKey (ws_ yX4_setKey cX4_setKey 6 (some .int)) fr (40 * fr) G σ [.inr l0, .inl l1, .inl l2, .inl l3] (tw_Qi G Q) X := by
  unfold w_X4_setKey at hw
  refine tw_of (ret := (some .int)) hl0 (by decide) (Nat.le_of_ble_eq_true rfl) (fun p e R s m args below meth c hRf hRl C hr hmn hnx hR hS ls hl => ?_)
  have hfr : 5 ≤ R.frames := by rw [hRf]; exact hfr
  have hRl : R.locals = 40 * R.frames := by rw [hRl, hRf]
  have hl : tw_l ls 6 [(0, .inr l0), (1, .inl l1), (2, .inl l2), (3, .inl l3)] := hl
  refine tk_aload_n C hl 0 dX4_setKey_0 rfl ?_
  refine tk_iload_n C hl 1 dX4_setKey_1 rfl ?_
  refine tk_iload_n C hl 2 dX4_setKey_2 rfl ?_
  obtain ⟨hv, hw⟩ := hw
  refine tw_cbi C hS (tk_runV (As := [.inl l1, .inl l2]) C hR hS (wk_X4_isNowhere l C.hst G (R.frames - 1) (by omega) _ _ _ _ _ σ hw) hv rfl q2251 q2253 qs35 q74 q2254 pd_X4_isNowhere ⟨by omega, by omega⟩ hl.1 rfl (tw_r8 [] (Nat.le_of_ble_eq_true rfl)) dX4_setKey_3) (fun E q σ H locs hX hR hS hi => tw_out C hR hS (fun x hx => (hnx x hx).elim) hi hX) (fun x1 σ H locs hw hR hS => ?_)
  refine lv_if_eq (tgt := 11) C.hx C.hb dX4_setKey_6 (by decide) (fun c6 => ?_) (fun c6 => ?_)
  · replace hw := hw.1 c6
    refine tk_iload_n C hl 3 dX4_setKey_11 rfl ?_
    refine lv_iconst (v := 0) C.hx C.hb dX4_setKey_12 (by decide) ?_
    refine lv_bipush (v := 9) C.hx C.hb dX4_setKey_13 (by decide) ?_
    refine tw_cbi C hS (tw_runS (As := [.inl l3, .inl 0, .inl 9]) C hR hS (wk_X4_isBetween l C.hst G (R.frames - 1) (by omega) _ _ _ _ _ σ hw) q2166 q2167 q74 q2168 pd_X4_isBetween ⟨by omega, by omega⟩ hl.1 rfl (tw_r8 [] (Nat.le_of_ble_eq_true rfl)) dX4_setKey_15) (fun E q σ H locs hX hR hS hi => tw_out C hR hS (fun x hx => (hnx x hx).elim) hi hX) (fun x2 σ H locs hw hR hS => ?_)
    refine lv_if_ne (tgt := 27) C.hx C.hb dX4_setKey_18 (by decide) (fun c18 => ?_) (fun c18 => ?_)
    · replace hw := hw.2 c18
      refine tk_iload_n C hl 2 dX4_setKey_27 rfl ?_
      refine lv_if_ne (tgt := 37) C.hx C.hb dX4_setKey_28 (by decide) (fun c28 => ?_) (fun c28 => ?_)
      · replace hw := hw.2 c28
        refine tk_aload_n C hl 0 dX4_setKey_37 rfl ?_
        refine tk_gr C hR hw rfl in_X4 (by decide) q2052 (fun _ h => h) dX4_setKey_38 (fun x3 hw => ?_)
        refine tk_iload_n C hl 1 dX4_setKey_41 rfl ?_
        refine tk_lr C hR hw dX4_setKey_42 (fun x4 hw => ?_)
        refine tk_astore (L' := [(4, .inr x4), (0, .inr l0), (1, .inl l1), (2, .inl l2), (3, .inl l3)]) C hl dX4_setKey_43 (by decide) rfl (fun ls hl => ?_)
        refine tk_aload C hl 0 dX4_setKey_45 rfl ?_
        refine tk_aload C hl 0 dX4_setKey_47 rfl ?_
        refine tk_grN C hR hw rfl in_X5 (by decide) q2025 (fun _ h => h) dX4_setKey_49 (fun x5 hw => ?_)
        refine tk_iload_n C hl 3 dX4_setKey_52 rfl ?_
        refine tk_li C hR hw dX4_setKey_53 (fun x6 hw => ?_)
        refine tk_iload_n C hl 4 dX4_setKey_54 rfl ?_
        refine tk_iload_n C hl 3 dX4_setKey_55 rfl ?_
        obtain ⟨hv, hw⟩ := hw
        refine tw_cbi C hS (tk_runVN (As := [.inl x6, .inl l3, .inl l2]) C hR hS (wk_X5_isUsed l C.hst G (R.frames - 1) (by omega) _ _ _ _ _ _ σ hw) hv rfl q2185 q2187 qs29 q75 q2188 pd_X5_isUsed ⟨by omega, by omega⟩ hl.1 rfl (tw_r8 [] (Nat.le_of_ble_eq_true rfl)) dX4_setKey_56) (fun E q σ H locs hX hR hS hi => tw_out C hR hS (fun x hx => (hnx x hx).elim) hi hX) (fun x7 σ H locs hw hR hS => ?_)
        refine lv_if_eq (tgt := 68) C.hx C.hb dX4_setKey_59 (by decide) (fun c59 => ?_) (fun c59 => ?_)
        · replace hw := hw.1 c59
          refine tk_aload C hl 0 dX4_setKey_68 rfl ?_
          refine tk_grN C hR hw rfl in_X5 (by decide) q2021 (fun _ h => h) dX4_setKey_70 (fun x8 hw => ?_)
          refine tk_iload_n C hl 3 dX4_setKey_73 rfl ?_
          refine tk_li C hR hw dX4_setKey_74 (fun x9 hw => ?_)
          refine tk_istore (L' := [(5, .inl x9), (4, .inr x4), (0, .inr l0), (1, .inl l1), (2, .inl l2), (3, .inl l3)]) C hl dX4_setKey_75 (by decide) rfl (fun ls hl => ?_)
          refine tk_aload C hl 1 dX4_setKey_77 rfl ?_
          refine tk_grN C hR hw rfl in_X5 (by decide) q2021 (fun _ h => h) dX4_setKey_79 (fun x10 hw => ?_)
          refine tk_iload_n C hl 4 dX4_setKey_82 rfl ?_
          refine tk_iload_n C hl 5 dX4_setKey_83 rfl ?_
          refine tk_si C hR hS hw dX4_setKey_84 (fun σ H locs hw hR hS => ?_)
          refine tk_iload C hl 0 dX4_setKey_85 rfl ?_
          exact tw_iret C hR hS hr rfl dX4_setKey_87 hw
        · replace hw := hw.2 c59
          refine tk_aload_n C hl 1 dX4_setKey_62 rfl ?_
          refine lv_iconst (v := 4) C.hx C.hb dX4_setKey_63 (by decide) ?_
          obtain ⟨hv, hw⟩ := hw
          refine tw_cbi C hS (tk_runV (As := [.inl 4]) C hR hS (wk_X4_fails l C.hst G (R.frames - 1) (by omega) _ _ _ _ σ hw) hv rfl q2155 q2157 qs24 q74 q2158 pd_X4_fails ⟨by omega, by omega⟩ hl.1 rfl (tw_r8 [] (Nat.le_of_ble_eq_true rfl)) dX4_setKey_64) (fun E q σ H locs hX hR hS hi => tw_out C hR hS (fun x hx => (hnx x hx).elim) hi hX) (fun x11 σ H locs hw hR hS => ?_)
          exact tw_iret C hR hS hr rfl dX4_setKey_67 hw
      · replace hw := hw.1 c28
        refine tk_aload_n C hl 0 dX4_setKey_31 rfl ?_
        refine lv_iconst (v := 3) C.hx C.hb dX4_setKey_32 (by decide) ?_
        obtain ⟨hv, hw⟩ := hw
        refine tw_cbi C hS (tk_runV (As := [.inl 3]) C hR hS (wk_X4_fails l C.hst G (R.frames - 1) (by omega) _ _ _ _ σ hw) hv rfl q2155 q2157 qs24 q74 q2158 pd_X4_fails ⟨by omega, by omega⟩ hl.1 rfl (tw_r8 [] (Nat.le_of_ble_eq_true rfl)) dX4_setKey_33) (fun E q σ H locs hX hR hS hi => tw_out C hR hS (fun x hx => (hnx x hx).elim) hi hX) (fun x12 σ H locs hw hR hS => ?_)
        exact tw_iret C hR hS hr rfl dX4_setKey_36 hw
    · replace hw := hw.1 c18
      refine tk_aload_n C hl 0 dX4_setKey_21 rfl ?_
      refine lv_iconst (v := 2) C.hx C.hb dX4_setKey_22 (by decide) ?_
      obtain ⟨hv, hw⟩ := hw
      refine tw_cbi C hS (tk_runV (As := [.inl 2]) C hR hS (wk_X4_fails l C.hst G (R.frames - 1) (by omega) _ _ _ _ σ hw) hv rfl q2155 q2157 qs24 q74 q2158 pd_X4_fails ⟨by omega, by omega⟩ hl.1 rfl (tw_r8 [] (Nat.le_of_ble_eq_true rfl)) dX4_setKey_23) (fun E q σ H locs hX hR hS hi => tw_out C hR hS (fun x hx => (hnx x hx).elim) hi hX) (fun x13 σ H locs hw hR hS => ?_)
      exact tw_iret C hR hS hr rfl dX4_setKey_26 hw
  · replace hw := hw.2 c6
    refine lv_iconst (v := 0) C.hx C.hb dX4_setKey_9 (by decide) ?_
    exact tw_iret C hR hS hr rfl dX4_setKey_10 hw
-- TreeDifferModel.setValue(III)I
def w_X4_setValue (l0 : Option Nat) (l1 : Int32) (l2 : Int32) (l3 : Int32) (Q : Int32 → Tst → Prop) (X : String → Nat → Tst → Prop) (σ : Tst) : Prop := w_rc σ l0 cX4 <| w_X4_isNowhere l0 l1 l2 (fun x1 σ => w_if (x1 = 0) (w_X4_isBetween l3 0 99 (fun x2 σ => w_if (x2 = 0) (w_rc σ l0 cX4 <| w_X4_fails l0 2 (fun x10 σ => Q x10 σ) X σ) (w_gr σ l0 cX4 0 fun x3 => w_lr σ x3 l1 fun x4 => w_gr σ x4 cX5 2 fun x5 => w_li σ x5 l2 fun x6 => w_gr σ l0 cX4 0 fun x7 => w_lr σ x7 l1 fun x8 => w_gr σ x8 cX5 2 fun x9 => w_si σ x9 l2 l3 fun σ => Q x6 σ)) X σ) (Q 0 σ)) X σ
set_option maxHeartbeats 4000000 in
theorem wk_X4_setValue (l : Launch) (hl0 : l.stackTraces = false) (G : Tgl) (fr : Nat)  (hfr : 5 ≤ fr) (l0 : Option Nat) (l1 : Int32) (l2 : Int32) (l3 : Int32) (Q : Int32 → Tst → Prop) (X : String → Nat → Tst → Prop) (σ : Tst) (hw : w_X4_setValue l0 l1 l2 l3 Q X σ) : tw_M l yX4_setValue (ws_ yX4_setValue cX4_setValue 5 (some .int)) fr (40 * fr) G σ [.inr l0, .inl l1, .inl l2, .inl l3] (tw_Qi G Q) X := by
  unfold w_X4_setValue at hw
  refine tw_of (ret := (some .int)) hl0 (by decide) (Nat.le_of_ble_eq_true rfl) (fun p e R s m args below meth c hRf hRl C hr hmn hnx hR hS ls hl => ?_)
  have hfr : 5 ≤ R.frames := by rw [hRf]; exact hfr
  have hRl : R.locals = 40 * R.frames := by rw [hRl, hRf]
  have hl : tw_l ls 5 [(0, .inr l0), (1, .inl l1), (2, .inl l2), (3, .inl l3)] := hl
  refine tk_aload_n C hl 0 dX4_setValue_0 rfl ?_
  refine tk_iload_n C hl 1 dX4_setValue_1 rfl ?_
  refine tk_iload_n C hl 2 dX4_setValue_2 rfl ?_
  obtain ⟨hv, hw⟩ := hw
  refine tw_cbi C hS (tk_runV (As := [.inl l1, .inl l2]) C hR hS (wk_X4_isNowhere l C.hst G (R.frames - 1) (by omega) _ _ _ _ _ σ hw) hv rfl q2251 q2253 qs35 q74 q2254 pd_X4_isNowhere ⟨by omega, by omega⟩ hl.1 rfl (tw_r8 [] (Nat.le_of_ble_eq_true rfl)) dX4_setValue_3) (fun E q σ H locs hX hR hS hi => tw_out C hR hS (fun x hx => (hnx x hx).elim) hi hX) (fun x1 σ H locs hw hR hS => ?_)
  refine lv_if_eq (tgt := 11) C.hx C.hb dX4_setValue_6 (by decide) (fun c6 => ?_) (fun c6 => ?_)
  · replace hw := hw.1 c6
    refine tk_iload_n C hl 3 dX4_setValue_11 rfl ?_
    refine lv_iconst (v := 0) C.hx C.hb dX4_setValue_12 (by decide) ?_
    refine lv_bipush (v := 99) C.hx C.hb dX4_setValue_13 (by decide) ?_
    refine tw_cbi C hS (tw_runS (As := [.inl l3, .inl 0, .inl 99]) C hR hS (wk_X4_isBetween l C.hst G (R.frames - 1) (by omega) _ _ _ _ _ σ hw) q2166 q2167 q74 q2168 pd_X4_isBetween ⟨by omega, by omega⟩ hl.1 rfl (tw_r8 [] (Nat.le_of_ble_eq_true rfl)) dX4_setValue_15) (fun E q σ H locs hX hR hS hi => tw_out C hR hS (fun x hx => (hnx x hx).elim) hi hX) (fun x2 σ H locs hw hR hS => ?_)
    refine lv_if_ne (tgt := 27) C.hx C.hb dX4_setValue_18 (by decide) (fun c18 => ?_) (fun c18 => ?_)
    · replace hw := hw.2 c18
      refine tk_aload_n C hl 0 dX4_setValue_27 rfl ?_
      refine tk_gr C hR hw rfl in_X4 (by decide) q2052 (fun _ h => h) dX4_setValue_28 (fun x3 hw => ?_)
      refine tk_iload_n C hl 1 dX4_setValue_31 rfl ?_
      refine tk_lr C hR hw dX4_setValue_32 (fun x4 hw => ?_)
      refine tk_grN C hR hw rfl in_X5 (by decide) q2023 (fun _ h => h) dX4_setValue_33 (fun x5 hw => ?_)
      refine tk_iload_n C hl 2 dX4_setValue_36 rfl ?_
      refine tk_li C hR hw dX4_setValue_37 (fun x6 hw => ?_)
      refine tk_istore (L' := [(4, .inl x6), (0, .inr l0), (1, .inl l1), (2, .inl l2), (3, .inl l3)]) C hl dX4_setValue_38 (by decide) rfl (fun ls hl => ?_)
      refine tk_aload_n C hl 1 dX4_setValue_40 rfl ?_
      refine tk_gr C hR hw rfl in_X4 (by decide) q2052 (fun _ h => h) dX4_setValue_41 (fun x7 hw => ?_)
      refine tk_iload_n C hl 2 dX4_setValue_44 rfl ?_
      refine tk_lr C hR hw dX4_setValue_45 (fun x8 hw => ?_)
      refine tk_grN C hR hw rfl in_X5 (by decide) q2023 (fun _ h => h) dX4_setValue_46 (fun x9 hw => ?_)
      refine tk_iload_n C hl 3 dX4_setValue_49 rfl ?_
      refine tk_iload_n C hl 4 dX4_setValue_50 rfl ?_
      refine tk_si C hR hS hw dX4_setValue_51 (fun σ H locs hw hR hS => ?_)
      refine tk_iload C hl 0 dX4_setValue_52 rfl ?_
      exact tw_iret C hR hS hr rfl dX4_setValue_54 hw
    · replace hw := hw.1 c18
      refine tk_aload_n C hl 0 dX4_setValue_21 rfl ?_
      refine lv_iconst (v := 2) C.hx C.hb dX4_setValue_22 (by decide) ?_
      obtain ⟨hv, hw⟩ := hw
      refine tw_cbi C hS (tk_runV (As := [.inl 2]) C hR hS (wk_X4_fails l C.hst G (R.frames - 1) (by omega) _ _ _ _ σ hw) hv rfl q2155 q2157 qs24 q74 q2158 pd_X4_fails ⟨by omega, by omega⟩ hl.1 rfl (tw_r8 [] (Nat.le_of_ble_eq_true rfl)) dX4_setValue_23) (fun E q σ H locs hX hR hS hi => tw_out C hR hS (fun x hx => (hnx x hx).elim) hi hX) (fun x10 σ H locs hw hR hS => ?_)
      exact tw_iret C hR hS hr rfl dX4_setValue_26 hw
  · replace hw := hw.2 c6
    refine lv_iconst (v := 0) C.hx C.hb dX4_setValue_9 (by decide) ?_
    exact tw_iret C hR hS hr rfl dX4_setValue_10 hw
-- TreeDifferModel.areNone(II)Z
def w_X4_areNone_b35 (Q : Int32 → Tst → Prop) (X : String → Nat → Tst → Prop) (s0 : Int32) (σ : Tst) : Prop := narrow .boolean (.int s0) = .int s0 ∧ Q s0 σ
def w_X4_areNone_b20 (Q : Int32 → Tst → Prop) (X : String → Nat → Tst → Prop) (l0 : Option Nat) (s0 : Option Nat) (s1 : Int32) (σ : Tst) : Prop := w_p σ s0 cX4 1 (.inl s1) fun σ => w_gi σ l0 cX4 1 fun x1 => w_if (x1 ≤ 0) (w_X4_areNone_b35 Q X 0 σ) (w_X4_areNone_b35 Q X 1 σ)
def w_X4_areNone_b19 (Q : Int32 → Tst → Prop) (X : String → Nat → Tst → Prop) (l0 : Option Nat) (s0 : Option Nat) (σ : Tst) : Prop := w_X4_areNone_b20 Q X l0 s0 1 σ
def w_X4_areNone (l0 : Option Nat) (l1 : Int32) (l2 : Int32) (Q : Int32 → Tst → Prop) (X : String → Nat → Tst → Prop) (σ : Tst) : Prop := w_X4_isTree l1 (fun x1 σ => w_if (x1 = 0) (w_X4_areNone_b19 Q X l0 l0 σ) (w_X4_isTree l2 (fun x2 σ => w_if (x2 = 0) (w_X4_areNone_b19 Q X l0 l0 σ) (w_X4_areNone_b20 Q X l0 l0 0 σ)) X σ)) X σ
set_option maxHeartbeats 4000000 in
theorem wk_X4_areNone_b35  (C : tw_C p l R s m args meth c G cX4_areNone 3 yX4_areNone.cls) (hr : meth.sig.returnType = (some .boolean)) (hmn : meth.name = yX4_areNone.name) (hnx : (∀ x ∈ c.exceptionTable.toList, False)) (hfr : 3 ≤ R.frames) (hRl : R.locals = 40 * R.frames) {Q : Int32 → Tst → Prop} {X : String → Nat → Tst → Prop}  (s0 : Int32) (σ : Tst) (H : Heap) (locs : List Loc) (ls : Array Slot) (hw : w_X4_areNone_b35 Q X s0 σ) (hR : tw_R G σ H) (hS : va_S (tw_A G) s.heap H locs) (hl : tw_l ls 3 []) : tw_W p l e R s m args below meth c σ H locs (tw_E below G (tw_Qi G Q) X args s R) (F0 m 35 ls [.int s0]) := by
  unfold w_X4_areNone_b35 at hw
  obtain ⟨hok, hw⟩ := hw
  exact tw_iret C hR hS hr hok dX4_areNone_35 hw
set_option maxHeartbeats 4000000 in
theorem wk_X4_areNone_b20  (C : tw_C p l R s m args meth c G cX4_areNone 3 yX4_areNone.cls) (hr : meth.sig.returnType = (some .boolean)) (hmn : meth.name = yX4_areNone.name) (hnx : (∀ x ∈ c.exceptionTable.toList, False)) (hfr : 3 ≤ R.frames) (hRl : R.locals = 40 * R.frames) {Q : Int32 → Tst → Prop} {X : String → Nat → Tst → Prop}  (l0 : Option Nat) (s0 : Option Nat) (s1 : Int32) (σ : Tst) (H : Heap) (locs : List Loc) (ls : Array Slot) (hw : w_X4_areNone_b20 Q X l0 s0 s1 σ) (hR : tw_R G σ H) (hS : va_S (tw_A G) s.heap H locs) (hl : tw_l ls 3 [(0, .inr l0)]) : tw_W p l e R s m args below meth c σ H locs (tw_E below G (tw_Qi G Q) X args s R) (F0 m 20 ls [.int s1, va_rf s0]) := by
  unfold w_X4_areNone_b20 at hw
  refine tk_p (x := .inl s1) C hR hS hw (by decide) rfl in_X4 tyX4 tyX4_ok nmX4 (by decide) q2053 (fun _ h => h) rfl (tw_ni _) dX4_areNone_20 (fun σ H locs hw hR hS => ?_)
  refine tk_aload_n C hl 0 dX4_areNone_23 rfl ?_
  refine tk_gi C hR hw rfl in_X4 (by decide) q2053 (fun _ h => h) dX4_areNone_24 (fun x1 hw => ?_)
  refine lv_if_le (tgt := 34) C.hx C.hb dX4_areNone_27 (by decide) (fun c27 => ?_) (fun c27 => ?_)
  · replace hw := hw.1 c27
    refine lv_iconst (v := 0) C.hx C.hb dX4_areNone_34 (by decide) ?_
    exact wk_X4_areNone_b35 C hr hmn hnx hfr hRl _ σ _ _ _ hw hR hS (tk_sub hl [] rfl)
  · replace hw := hw.2 c27
    refine lv_iconst (v := 1) C.hx C.hb dX4_areNone_30 (by decide) ?_
    refine lv_goto (tgt := 35) C.hx C.hb dX4_areNone_31 (by decide) ?_
    exact wk_X4_areNone_b35 C hr hmn hnx hfr hRl _ σ _ _ _ hw hR hS (tk_sub hl [] rfl)
set_option maxHeartbeats 4000000 in
theorem wk_X4_areNone_b19  (C : tw_C p l R s m args meth c G cX4_areNone 3 yX4_areNone.cls) (hr : meth.sig.returnType = (some .boolean)) (hmn : meth.name = yX4_areNone.name) (hnx : (∀ x ∈ c.exceptionTable.toList, False)) (hfr : 3 ≤ R.frames) (hRl : R.locals = 40 * R.frames) {Q : Int32 → Tst → Prop} {X : String → Nat → Tst → Prop}  (l0 : Option Nat) (s0 : Option Nat) (σ : Tst) (H : Heap) (locs : List Loc) (ls : Array Slot) (hw : w_X4_areNone_b19 Q X l0 s0 σ) (hR : tw_R G σ H) (hS : va_S (tw_A G) s.heap H locs) (hl : tw_l ls 3 [(0, .inr l0)]) : tw_W p l e R s m args below meth c σ H locs (tw_E below G (tw_Qi G Q) X args s R) (F0 m 19 ls [va_rf s0]) := by
  unfold w_X4_areNone_b19 at hw
  refine lv_iconst (v := 1) C.hx C.hb dX4_areNone_19 (by decide) ?_
  exact wk_X4_areNone_b20 C hr hmn hnx hfr hRl _ _ _ σ _ _ _ hw hR hS (tk_sub hl [0] rfl)
set_option maxHeartbeats 4000000 in
theorem wk_X4_areNone (l : Launch) (hl0 : l.stackTraces = false) (G : Tgl) (fr : Nat)  (hfr : 3 ≤ fr) (l0 : Option Nat) (l1 : Int32) (l2 : Int32) (Q : Int32 → Tst → Prop) (X : String → Nat → Tst → Prop) (σ : Tst) (hw : w_X4_areNone l0 l1 l2 Q X σ) : tw_M l yX4_areNone (ws_ yX4_areNone cX4_areNone 3 (some .boolean)) fr (40 * fr) G σ [.inr l0, .inl l1, .inl l2] (tw_Qi G Q) X := by
  unfold w_X4_areNone at hw
  refine tw_of (ret := (some .boolean)) hl0 (by decide) (Nat.le_of_ble_eq_true rfl) (fun p e R s m args below meth c hRf hRl C hr hmn hnx hR hS ls hl => ?_)
  have hfr : 3 ≤ R.frames := by rw [hRf]; exact hfr
  have hRl : R.locals = 40 * R.frames := by rw [hRl, hRf]
  have hl : tw_l ls 3 [(0, .inr l0), (1, .inl l1), (2, .inl l2)] := hl
  refine tk_aload_n C hl 0 dX4_areNone_0 rfl ?_
  refine tk_iload_n C hl 1 dX4_areNone_1 rfl ?_
  refine tw_cbi C hS (tw_runS (As := [.inl l1]) C hR hS (wk_X4_isTree l C.hst G (R.frames - 1) (by omega) _ _ _ σ hw) q2163 q2164 q74 q2165 pd_X4_isTree ⟨by omega, by omega⟩ hl.1 rfl (tw_r8 [.inr l0] (Nat.le_of_ble_eq_true rfl)) dX4_areNone_2) (fun E q σ H locs hX hR hS hi => tw_out C hR hS (fun x hx => (hnx x hx).elim) hi hX) (fun x1 σ H locs hw hR hS => ?_)
  refine lv_if_eq (tgt := 19) C.hx C.hb dX4_areNone_5 (by decide) (fun c5 => ?_) (fun c5 => ?_)
  · replace hw := hw.1 c5
    exact wk_X4_areNone_b19 C hr hmn hnx hfr hRl _ _ σ _ _ _ hw hR hS (tk_sub hl [0] rfl)
  · replace hw := hw.2 c5
    refine tk_iload_n C hl 2 dX4_areNone_8 rfl ?_
    refine tw_cbi C hS (tw_runS (As := [.inl l2]) C hR hS (wk_X4_isTree l C.hst G (R.frames - 1) (by omega) _ _ _ σ hw) q2163 q2164 q74 q2165 pd_X4_isTree ⟨by omega, by omega⟩ hl.1 rfl (tw_r8 [.inr l0] (Nat.le_of_ble_eq_true rfl)) dX4_areNone_9) (fun E q σ H locs hX hR hS hi => tw_out C hR hS (fun x hx => (hnx x hx).elim) hi hX) (fun x2 σ H locs hw hR hS => ?_)
    refine lv_if_eq (tgt := 19) C.hx C.hb dX4_areNone_12 (by decide) (fun c12 => ?_) (fun c12 => ?_)
    · replace hw := hw.1 c12
      exact wk_X4_areNone_b19 C hr hmn hnx hfr hRl _ _ σ _ _ _ hw hR hS (tk_sub hl [0] rfl)
    · replace hw := hw.2 c12
      refine lv_iconst (v := 0) C.hx C.hb dX4_areNone_15 (by decide) ?_
      refine lv_goto (tgt := 20) C.hx C.hb dX4_areNone_16 (by decide) ?_
      exact wk_X4_areNone_b20 C hr hmn hnx hfr hRl _ _ _ σ _ _ _ hw hR hS (tk_sub hl [0] rfl)
-- TreeDifferModel.copyTree(II)I
def w_X4_copyTree (l0 : Option Nat) (l1 : Int32) (l2 : Int32) (Q : Int32 → Tst → Prop) (X : String → Nat → Tst → Prop) (σ : Tst) : Prop := w_rc σ l0 cX4 <| w_X4_areNone l0 l1 l2 (fun x1 σ => w_if (x1 = 0) (w_gr σ l0 cX4 0 fun x2 => w_lr σ x2 l2 fun x3 => w_gr σ l0 cX4 0 fun x4 => w_lr σ x4 l1 fun x5 => w_rc σ x3 cX5 <| w_X5_copies x3 x5 (fun σ => w_gr σ l0 cX4 0 fun x7 => w_lr σ x7 l1 fun x8 => w_gi σ x8 cX5 4 fun x9 => Q x9 σ) X σ) (Q 0 σ)) X σ
set_option maxHeartbeats 4000000 in
theorem wk_X4_copyTree (l : Launch) (hl0 : l.stackTraces = false) (G : Tgl) (fr : Nat)  (hfr : 4 ≤ fr) (l0 : Option Nat) (l1 : Int32) (l2 : Int32) (Q : Int32 → Tst → Prop) (X : String → Nat → Tst → Prop) (σ : Tst) (hw : w_X4_copyTree l0 l1 l2 Q X σ) : tw_M l yX4_copyTree (ws_ yX4_copyTree cX4_copyTree 3 (some .int)) fr (40 * fr) G σ [.inr l0, .inl l1, .inl l2] (tw_Qi G Q) X := by
  unfold w_X4_copyTree at hw
  refine tw_of (ret := (some .int)) hl0 (by decide) (Nat.le_of_ble_eq_true rfl) (fun p e R s m args below meth c hRf hRl C hr hmn hnx hR hS ls hl => ?_)
  have hfr : 4 ≤ R.frames := by rw [hRf]; exact hfr
  have hRl : R.locals = 40 * R.frames := by rw [hRl, hRf]
  have hl : tw_l ls 3 [(0, .inr l0), (1, .inl l1), (2, .inl l2)] := hl
  refine tk_aload_n C hl 0 dX4_copyTree_0 rfl ?_
  refine tk_iload_n C hl 1 dX4_copyTree_1 rfl ?_
  refine tk_iload_n C hl 2 dX4_copyTree_2 rfl ?_
  obtain ⟨hv, hw⟩ := hw
  refine tw_cbi C hS (tk_runV (As := [.inl l1, .inl l2]) C hR hS (wk_X4_areNone l C.hst G (R.frames - 1) (by omega) _ _ _ _ _ σ hw) hv rfl q2291 q2293 qs39 q74 q2294 pd_X4_areNone ⟨by omega, by omega⟩ hl.1 rfl (tw_r8 [] (Nat.le_of_ble_eq_true rfl)) dX4_copyTree_3) (fun E q σ H locs hX hR hS hi => tw_out C hR hS (fun x hx => (hnx x hx).elim) hi hX) (fun x1 σ H locs hw hR hS => ?_)
  refine lv_if_eq (tgt := 11) C.hx C.hb dX4_copyTree_6 (by decide) (fun c6 => ?_) (fun c6 => ?_)
  · replace hw := hw.1 c6
    refine tk_aload_n C hl 0 dX4_copyTree_11 rfl ?_
    refine tk_gr C hR hw rfl in_X4 (by decide) q2052 (fun _ h => h) dX4_copyTree_12 (fun x2 hw => ?_)
    refine tk_iload_n C hl 2 dX4_copyTree_15 rfl ?_
    refine tk_lr C hR hw dX4_copyTree_16 (fun x3 hw => ?_)
    refine tk_aload_n C hl 0 dX4_copyTree_17 rfl ?_
    refine tk_gr C hR hw rfl in_X4 (by decide) q2052 (fun _ h => h) dX4_copyTree_18 (fun x4 hw => ?_)
    refine tk_iload_n C hl 1 dX4_copyTree_21 rfl ?_
    refine tk_lr C hR hw dX4_copyTree_22 (fun x5 hw => ?_)
    obtain ⟨hv, hw⟩ := hw
    refine tw_cbv C hS (tk_runVN (As := [.inr x5]) C hR hS (wk_X5_copies l C.hst G (R.frames - 1) (by omega) _ _ _ _ σ hw) hv rfl q2193 q2195 qs31 q75 q2196 pd_X5_copies ⟨by omega, by omega⟩ hl.1 rfl (tw_r8 [] (Nat.le_of_ble_eq_true rfl)) dX4_copyTree_23) (fun E q σ H locs hX hR hS hi => tw_out C hR hS (fun x hx => (hnx x hx).elim) hi hX) (fun σ H locs hw hR hS => ?_)
    refine tk_aload_n C hl 0 dX4_copyTree_26 rfl ?_
    refine tk_gr C hR hw rfl in_X4 (by decide) q2052 (fun _ h => h) dX4_copyTree_27 (fun x7 hw => ?_)
    refine tk_iload_n C hl 1 dX4_copyTree_30 rfl ?_
    refine tk_lr C hR hw dX4_copyTree_31 (fun x8 hw => ?_)
    refine tk_giN C hR hw rfl in_X5 (by decide) q2027 (fun _ h => h) dX4_copyTree_32 (fun x9 hw => ?_)
    exact tw_iret C hR hS hr rfl dX4_copyTree_35 hw
  · replace hw := hw.2 c6
    refine lv_iconst (v := 0) C.hx C.hb dX4_copyTree_9 (by decide) ?_
    exact tw_iret C hR hS hr rfl dX4_copyTree_10 hw
-- TreeDifferModel.size(I)I
def w_X4_size_b22 (Q : Int32 → Tst → Prop) (X : String → Nat → Tst → Prop) (s0 : Int32) (σ : Tst) : Prop := Q s0 σ
def w_X4_size (l0 : Option Nat) (l1 : Int32) (Q : Int32 → Tst → Prop) (X : String → Nat → Tst → Prop) (σ : Tst) : Prop := w_rc σ l0 cX4 <| w_X4_areNone l0 l1 l1 (fun x1 σ => w_if (x1 = 0) (w_gr σ l0 cX4 0 fun x2 => w_lr σ x2 l1 fun x3 => w_gi σ x3 cX5 4 fun x4 => w_X4_size_b22 Q X x4 σ) (w_X4_size_b22 Q X 0 σ)) X σ
set_option maxHeartbeats 4000000 in
theorem wk_X4_size_b22  (C : tw_C p l R s m args meth c G cX4_size 2 yX4_size.cls) (hr : meth.sig.returnType = (some .int)) (hmn : meth.name = yX4_size.name) (hnx : (∀ x ∈ c.exceptionTable.toList, False)) (hfr : 4 ≤ R.frames) (hRl : R.locals = 40 * R.frames) {Q : Int32 → Tst → Prop} {X : String → Nat → Tst → Prop}  (s0 : Int32) (σ : Tst) (H : Heap) (locs : List Loc) (ls : Array Slot) (hw : w_X4_size_b22 Q X s0 σ) (hR : tw_R G σ H) (hS : va_S (tw_A G) s.heap H locs) (hl : tw_l ls 2 []) : tw_W p l e R s m args below meth c σ H locs (tw_E below G (tw_Qi G Q) X args s R) (F0 m 22 ls [.int s0]) := by
  unfold w_X4_size_b22 at hw
  exact tw_iret C hR hS hr rfl dX4_size_22 hw
set_option maxHeartbeats 4000000 in
theorem wk_X4_size (l : Launch) (hl0 : l.stackTraces = false) (G : Tgl) (fr : Nat)  (hfr : 4 ≤ fr) (l0 : Option Nat) (l1 : Int32) (Q : Int32 → Tst → Prop) (X : String → Nat → Tst → Prop) (σ : Tst) (hw : w_X4_size l0 l1 Q X σ) : tw_M l yX4_size (ws_ yX4_size cX4_size 2 (some .int)) fr (40 * fr) G σ [.inr l0, .inl l1] (tw_Qi G Q) X := by
  unfold w_X4_size at hw
  refine tw_of (ret := (some .int)) hl0 (by decide) (Nat.le_of_ble_eq_true rfl) (fun p e R s m args below meth c hRf hRl C hr hmn hnx hR hS ls hl => ?_)
  have hfr : 4 ≤ R.frames := by rw [hRf]; exact hfr
  have hRl : R.locals = 40 * R.frames := by rw [hRl, hRf]
  have hl : tw_l ls 2 [(0, .inr l0), (1, .inl l1)] := hl
  refine tk_aload_n C hl 0 dX4_size_0 rfl ?_
  refine tk_iload_n C hl 1 dX4_size_1 rfl ?_
  refine tk_iload_n C hl 1 dX4_size_2 rfl ?_
  obtain ⟨hv, hw⟩ := hw
  refine tw_cbi C hS (tk_runV (As := [.inl l1, .inl l1]) C hR hS (wk_X4_areNone l C.hst G (R.frames - 1) (by omega) _ _ _ _ _ σ hw) hv rfl q2291 q2293 qs39 q74 q2294 pd_X4_areNone ⟨by omega, by omega⟩ hl.1 rfl (tw_r8 [] (Nat.le_of_ble_eq_true rfl)) dX4_size_3) (fun E q σ H locs hX hR hS hi => tw_out C hR hS (fun x hx => (hnx x hx).elim) hi hX) (fun x1 σ H locs hw hR hS => ?_)
  refine lv_if_eq (tgt := 13) C.hx C.hb dX4_size_6 (by decide) (fun c6 => ?_) (fun c6 => ?_)
  · replace hw := hw.1 c6
    refine tk_aload_n C hl 0 dX4_size_13 rfl ?_
    refine tk_gr C hR hw rfl in_X4 (by decide) q2052 (fun _ h => h) dX4_size_14 (fun x2 hw => ?_)
    refine tk_iload_n C hl 1 dX4_size_17 rfl ?_
    refine tk_lr C hR hw dX4_size_18 (fun x3 hw => ?_)
    refine tk_giN C hR hw rfl in_X5 (by decide) q2027 (fun _ h => h) dX4_size_19 (fun x4 hw => ?_)
    exact wk_X4_size_b22 C hr hmn hnx hfr hRl _ σ _ _ _ hw hR hS (tk_sub hl [] rfl)
  · replace hw := hw.2 c6
    refine lv_iconst (v := 0) C.hx C.hb dX4_size_9 (by decide) ?_
    refine lv_goto (tgt := 22) C.hx C.hb dX4_size_10 (by decide) ?_
    exact wk_X4_size_b22 C hr hmn hnx hfr hRl _ σ _ _ _ hw hR hS (tk_sub hl [] rfl)
-- TreeDifferModel.label(II)C
def w_X4_label_b25 (Q : Int32 → Tst → Prop) (X : String → Nat → Tst → Prop) (s0 : Int32) (σ : Tst) : Prop := narrow .char (.int s0) = .int s0 ∧ Q s0 σ
def w_X4_label (l0 : Option Nat) (l1 : Int32) (l2 : Int32) (Q : Int32 → Tst → Prop) (X : String → Nat → Tst → Prop) (σ : Tst) : Prop := w_rc σ l0 cX4 <| w_X4_isNowhere l0 l1 l2 (fun x1 σ => w_if (x1 = 0) (w_gr σ l0 cX4 0 fun x2 => w_lr σ x2 l1 fun x3 => w_gr σ x3 cX5 0 fun x4 => w_li σ x4 l2 fun x5 => w_X4_label_b25 Q X ((x5.toUInt32 % 65536).toInt32) σ) (w_X4_label_b25 Q X 0 σ)) X σ
set_option maxHeartbeats 4000000 in
theorem wk_X4_label_b25  (C : tw_C p l R s m args meth c G cX4_label 3 yX4_label.cls) (hr : meth.sig.returnType = (some .char)) (hmn : meth.name = yX4_label.name) (hnx : (∀ x ∈ c.exceptionTable.toList, False)) (hfr : 5 ≤ R.frames) (hRl : R.locals = 40 * R.frames) {Q : Int32 → Tst → Prop} {X : String → Nat → Tst → Prop}  (s0 : Int32) (σ : Tst) (H : Heap) (locs : List Loc) (ls : Array Slot) (hw : w_X4_label_b25 Q X s0 σ) (hR : tw_R G σ H) (hS : va_S (tw_A G) s.heap H locs) (hl : tw_l ls 3 []) : tw_W p l e R s m args below meth c σ H locs (tw_E below G (tw_Qi G Q) X args s R) (F0 m 25 ls [.int s0]) := by
  unfold w_X4_label_b25 at hw
  obtain ⟨hok, hw⟩ := hw
  exact tw_iret C hR hS hr hok dX4_label_25 hw
set_option maxHeartbeats 4000000 in
theorem wk_X4_label (l : Launch) (hl0 : l.stackTraces = false) (G : Tgl) (fr : Nat)  (hfr : 5 ≤ fr) (l0 : Option Nat) (l1 : Int32) (l2 : Int32) (Q : Int32 → Tst → Prop) (X : String → Nat → Tst → Prop) (σ : Tst) (hw : w_X4_label l0 l1 l2 Q X σ) : tw_M l yX4_label (ws_ yX4_label cX4_label 3 (some .char)) fr (40 * fr) G σ [.inr l0, .inl l1, .inl l2] (tw_Qi G Q) X := by
  unfold w_X4_label at hw
  refine tw_of (ret := (some .char)) hl0 (by decide) (Nat.le_of_ble_eq_true rfl) (fun p e R s m args below meth c hRf hRl C hr hmn hnx hR hS ls hl => ?_)
  have hfr : 5 ≤ R.frames := by rw [hRf]; exact hfr
  have hRl : R.locals = 40 * R.frames := by rw [hRl, hRf]
  have hl : tw_l ls 3 [(0, .inr l0), (1, .inl l1), (2, .inl l2)] := hl
  refine tk_aload_n C hl 0 dX4_label_0 rfl ?_
  refine tk_iload_n C hl 1 dX4_label_1 rfl ?_
  refine tk_iload_n C hl 2 dX4_label_2 rfl ?_
  obtain ⟨hv, hw⟩ := hw
  refine tw_cbi C hS (tk_runV (As := [.inl l1, .inl l2]) C hR hS (wk_X4_isNowhere l C.hst G (R.frames - 1) (by omega) _ _ _ _ _ σ hw) hv rfl q2251 q2253 qs35 q74 q2254 pd_X4_isNowhere ⟨by omega, by omega⟩ hl.1 rfl (tw_r8 [] (Nat.le_of_ble_eq_true rfl)) dX4_label_3) (fun E q σ H locs hX hR hS hi => tw_out C hR hS (fun x hx => (hnx x hx).elim) hi hX) (fun x1 σ H locs hw hR hS => ?_)
  refine lv_if_eq (tgt := 13) C.hx C.hb dX4_label_6 (by decide) (fun c6 => ?_) (fun c6 => ?_)
  · replace hw := hw.1 c6
    refine tk_aload_n C hl 0 dX4_label_13 rfl ?_
    refine tk_gr C hR hw rfl in_X4 (by decide) q2052 (fun _ h => h) dX4_label_14 (fun x2 hw => ?_)
    refine tk_iload_n C hl 1 dX4_label_17 rfl ?_
    refine tk_lr C hR hw dX4_label_18 (fun x3 hw => ?_)
    refine tk_grN C hR hw rfl in_X5 (by decide) q2019 (fun _ h => h) dX4_label_19 (fun x4 hw => ?_)
    refine tk_iload_n C hl 2 dX4_label_22 rfl ?_
    refine tk_li C hR hw dX4_label_23 (fun x5 hw => ?_)
    refine lv_i2c (v := (x5.toUInt32 % 65536).toInt32) C.hx C.hb dX4_label_24 rfl ?_
    exact wk_X4_label_b25 C hr hmn hnx hfr hRl _ σ _ _ _ hw hR hS (tk_sub hl [] rfl)
  · replace hw := hw.2 c6
    refine lv_iconst (v := 0) C.hx C.hb dX4_label_9 (by decide) ?_
    refine lv_goto (tgt := 25) C.hx C.hb dX4_label_10 (by decide) ?_
    exact wk_X4_label_b25 C hr hmn hnx hfr hRl _ σ _ _ _ hw hR hS (tk_sub hl [] rfl)
-- TreeDifferModel.key(II)I
def w_X4_key_b24 (Q : Int32 → Tst → Prop) (X : String → Nat → Tst → Prop) (s0 : Int32) (σ : Tst) : Prop := Q s0 σ
def w_X4_key (l0 : Option Nat) (l1 : Int32) (l2 : Int32) (Q : Int32 → Tst → Prop) (X : String → Nat → Tst → Prop) (σ : Tst) : Prop := w_rc σ l0 cX4 <| w_X4_isNowhere l0 l1 l2 (fun x1 σ => w_if (x1 = 0) (w_gr σ l0 cX4 0 fun x2 => w_lr σ x2 l1 fun x3 => w_gr σ x3 cX5 1 fun x4 => w_li σ x4 l2 fun x5 => w_X4_key_b24 Q X x5 σ) (w_X4_key_b24 Q X 0 σ)) X σ
set_option maxHeartbeats 4000000 in
theorem wk_X4_key_b24  (C : tw_C p l R s m args meth c G cX4_key 3 yX4_key.cls) (hr : meth.sig.returnType = (some .int)) (hmn : meth.name = yX4_key.name) (hnx : (∀ x ∈ c.exceptionTable.toList, False)) (hfr : 5 ≤ R.frames) (hRl : R.locals = 40 * R.frames) {Q : Int32 → Tst → Prop} {X : String → Nat → Tst → Prop}  (s0 : Int32) (σ : Tst) (H : Heap) (locs : List Loc) (ls : Array Slot) (hw : w_X4_key_b24 Q X s0 σ) (hR : tw_R G σ H) (hS : va_S (tw_A G) s.heap H locs) (hl : tw_l ls 3 []) : tw_W p l e R s m args below meth c σ H locs (tw_E below G (tw_Qi G Q) X args s R) (F0 m 24 ls [.int s0]) := by
  unfold w_X4_key_b24 at hw
  exact tw_iret C hR hS hr rfl dX4_key_24 hw
set_option maxHeartbeats 4000000 in
theorem wk_X4_key (l : Launch) (hl0 : l.stackTraces = false) (G : Tgl) (fr : Nat)  (hfr : 5 ≤ fr) (l0 : Option Nat) (l1 : Int32) (l2 : Int32) (Q : Int32 → Tst → Prop) (X : String → Nat → Tst → Prop) (σ : Tst) (hw : w_X4_key l0 l1 l2 Q X σ) : tw_M l yX4_key (ws_ yX4_key cX4_key 3 (some .int)) fr (40 * fr) G σ [.inr l0, .inl l1, .inl l2] (tw_Qi G Q) X := by
  unfold w_X4_key at hw
  refine tw_of (ret := (some .int)) hl0 (by decide) (Nat.le_of_ble_eq_true rfl) (fun p e R s m args below meth c hRf hRl C hr hmn hnx hR hS ls hl => ?_)
  have hfr : 5 ≤ R.frames := by rw [hRf]; exact hfr
  have hRl : R.locals = 40 * R.frames := by rw [hRl, hRf]
  have hl : tw_l ls 3 [(0, .inr l0), (1, .inl l1), (2, .inl l2)] := hl
  refine tk_aload_n C hl 0 dX4_key_0 rfl ?_
  refine tk_iload_n C hl 1 dX4_key_1 rfl ?_
  refine tk_iload_n C hl 2 dX4_key_2 rfl ?_
  obtain ⟨hv, hw⟩ := hw
  refine tw_cbi C hS (tk_runV (As := [.inl l1, .inl l2]) C hR hS (wk_X4_isNowhere l C.hst G (R.frames - 1) (by omega) _ _ _ _ _ σ hw) hv rfl q2251 q2253 qs35 q74 q2254 pd_X4_isNowhere ⟨by omega, by omega⟩ hl.1 rfl (tw_r8 [] (Nat.le_of_ble_eq_true rfl)) dX4_key_3) (fun E q σ H locs hX hR hS hi => tw_out C hR hS (fun x hx => (hnx x hx).elim) hi hX) (fun x1 σ H locs hw hR hS => ?_)
  refine lv_if_eq (tgt := 13) C.hx C.hb dX4_key_6 (by decide) (fun c6 => ?_) (fun c6 => ?_)
  · replace hw := hw.1 c6
    refine tk_aload_n C hl 0 dX4_key_13 rfl ?_
    refine tk_gr C hR hw rfl in_X4 (by decide) q2052 (fun _ h => h) dX4_key_14 (fun x2 hw => ?_)
    refine tk_iload_n C hl 1 dX4_key_17 rfl ?_
    refine tk_lr C hR hw dX4_key_18 (fun x3 hw => ?_)
    refine tk_grN C hR hw rfl in_X5 (by decide) q2021 (fun _ h => h) dX4_key_19 (fun x4 hw => ?_)
    refine tk_iload_n C hl 2 dX4_key_22 rfl ?_
    refine tk_li C hR hw dX4_key_23 (fun x5 hw => ?_)
    exact wk_X4_key_b24 C hr hmn hnx hfr hRl _ σ _ _ _ hw hR hS (tk_sub hl [] rfl)
  · replace hw := hw.2 c6
    refine lv_iconst (v := 0) C.hx C.hb dX4_key_9 (by decide) ?_
    refine lv_goto (tgt := 24) C.hx C.hb dX4_key_10 (by decide) ?_
    exact wk_X4_key_b24 C hr hmn hnx hfr hRl _ σ _ _ _ hw hR hS (tk_sub hl [] rfl)
-- TreeDifferModel.value(II)I
def w_X4_value_b24 (Q : Int32 → Tst → Prop) (X : String → Nat → Tst → Prop) (s0 : Int32) (σ : Tst) : Prop := Q s0 σ
def w_X4_value (l0 : Option Nat) (l1 : Int32) (l2 : Int32) (Q : Int32 → Tst → Prop) (X : String → Nat → Tst → Prop) (σ : Tst) : Prop := w_rc σ l0 cX4 <| w_X4_isNowhere l0 l1 l2 (fun x1 σ => w_if (x1 = 0) (w_gr σ l0 cX4 0 fun x2 => w_lr σ x2 l1 fun x3 => w_gr σ x3 cX5 2 fun x4 => w_li σ x4 l2 fun x5 => w_X4_value_b24 Q X x5 σ) (w_X4_value_b24 Q X 0 σ)) X σ
set_option maxHeartbeats 4000000 in
theorem wk_X4_value_b24  (C : tw_C p l R s m args meth c G cX4_value 3 yX4_value.cls) (hr : meth.sig.returnType = (some .int)) (hmn : meth.name = yX4_value.name) (hnx : (∀ x ∈ c.exceptionTable.toList, False)) (hfr : 5 ≤ R.frames) (hRl : R.locals = 40 * R.frames) {Q : Int32 → Tst → Prop} {X : String → Nat → Tst → Prop}  (s0 : Int32) (σ : Tst) (H : Heap) (locs : List Loc) (ls : Array Slot) (hw : w_X4_value_b24 Q X s0 σ) (hR : tw_R G σ H) (hS : va_S (tw_A G) s.heap H locs) (hl : tw_l ls 3 []) : tw_W p l e R s m args below meth c σ H locs (tw_E below G (tw_Qi G Q) X args s R) (F0 m 24 ls [.int s0]) := by
  unfold w_X4_value_b24 at hw
  exact tw_iret C hR hS hr rfl dX4_value_24 hw
set_option maxHeartbeats 4000000 in
theorem wk_X4_value (l : Launch) (hl0 : l.stackTraces = false) (G : Tgl) (fr : Nat)  (hfr : 5 ≤ fr) (l0 : Option Nat) (l1 : Int32) (l2 : Int32) (Q : Int32 → Tst → Prop) (X : String → Nat → Tst → Prop) (σ : Tst) (hw : w_X4_value l0 l1 l2 Q X σ) : tw_M l yX4_value (ws_ yX4_value cX4_value 3 (some .int)) fr (40 * fr) G σ [.inr l0, .inl l1, .inl l2] (tw_Qi G Q) X := by
  unfold w_X4_value at hw
  refine tw_of (ret := (some .int)) hl0 (by decide) (Nat.le_of_ble_eq_true rfl) (fun p e R s m args below meth c hRf hRl C hr hmn hnx hR hS ls hl => ?_)
  have hfr : 5 ≤ R.frames := by rw [hRf]; exact hfr
  have hRl : R.locals = 40 * R.frames := by rw [hRl, hRf]
  have hl : tw_l ls 3 [(0, .inr l0), (1, .inl l1), (2, .inl l2)] := hl
  refine tk_aload_n C hl 0 dX4_value_0 rfl ?_
  refine tk_iload_n C hl 1 dX4_value_1 rfl ?_
  refine tk_iload_n C hl 2 dX4_value_2 rfl ?_
  obtain ⟨hv, hw⟩ := hw
  refine tw_cbi C hS (tk_runV (As := [.inl l1, .inl l2]) C hR hS (wk_X4_isNowhere l C.hst G (R.frames - 1) (by omega) _ _ _ _ _ σ hw) hv rfl q2251 q2253 qs35 q74 q2254 pd_X4_isNowhere ⟨by omega, by omega⟩ hl.1 rfl (tw_r8 [] (Nat.le_of_ble_eq_true rfl)) dX4_value_3) (fun E q σ H locs hX hR hS hi => tw_out C hR hS (fun x hx => (hnx x hx).elim) hi hX) (fun x1 σ H locs hw hR hS => ?_)
  refine lv_if_eq (tgt := 13) C.hx C.hb dX4_value_6 (by decide) (fun c6 => ?_) (fun c6 => ?_)
  · replace hw := hw.1 c6
    refine tk_aload_n C hl 0 dX4_value_13 rfl ?_
    refine tk_gr C hR hw rfl in_X4 (by decide) q2052 (fun _ h => h) dX4_value_14 (fun x2 hw => ?_)
    refine tk_iload_n C hl 1 dX4_value_17 rfl ?_
    refine tk_lr C hR hw dX4_value_18 (fun x3 hw => ?_)
    refine tk_grN C hR hw rfl in_X5 (by decide) q2023 (fun _ h => h) dX4_value_19 (fun x4 hw => ?_)
    refine tk_iload_n C hl 2 dX4_value_22 rfl ?_
    refine tk_li C hR hw dX4_value_23 (fun x5 hw => ?_)
    exact wk_X4_value_b24 C hr hmn hnx hfr hRl _ σ _ _ _ hw hR hS (tk_sub hl [] rfl)
  · replace hw := hw.2 c6
    refine lv_iconst (v := 0) C.hx C.hb dX4_value_9 (by decide) ?_
    refine lv_goto (tgt := 24) C.hx C.hb dX4_value_10 (by decide) ?_
    exact wk_X4_value_b24 C hr hmn hnx hfr hRl _ σ _ _ _ hw hR hS (tk_sub hl [] rfl)
-- TreeDifferModel.children(II)I
def w_X4_children_b23 (Q : Int32 → Tst → Prop) (X : String → Nat → Tst → Prop) (s0 : Int32) (σ : Tst) : Prop := Q s0 σ
def w_X4_children (l0 : Option Nat) (l1 : Int32) (l2 : Int32) (Q : Int32 → Tst → Prop) (X : String → Nat → Tst → Prop) (σ : Tst) : Prop := w_rc σ l0 cX4 <| w_X4_isNowhere l0 l1 l2 (fun x1 σ => w_if (x1 = 0) (w_gr σ l0 cX4 0 fun x2 => w_lr σ x2 l1 fun x3 => w_rc σ x3 cX5 <| w_X5_many x3 l2 (fun x4 σ => w_X4_children_b23 Q X x4 σ) X σ) (w_X4_children_b23 Q X 0 σ)) X σ
set_option maxHeartbeats 4000000 in
theorem wk_X4_children_b23  (C : tw_C p l R s m args meth c G cX4_children 3 yX4_children.cls) (hr : meth.sig.returnType = (some .int)) (hmn : meth.name = yX4_children.name) (hnx : (∀ x ∈ c.exceptionTable.toList, False)) (hfr : 5 ≤ R.frames) (hRl : R.locals = 40 * R.frames) {Q : Int32 → Tst → Prop} {X : String → Nat → Tst → Prop}  (s0 : Int32) (σ : Tst) (H : Heap) (locs : List Loc) (ls : Array Slot) (hw : w_X4_children_b23 Q X s0 σ) (hR : tw_R G σ H) (hS : va_S (tw_A G) s.heap H locs) (hl : tw_l ls 3 []) : tw_W p l e R s m args below meth c σ H locs (tw_E below G (tw_Qi G Q) X args s R) (F0 m 23 ls [.int s0]) := by
  unfold w_X4_children_b23 at hw
  exact tw_iret C hR hS hr rfl dX4_children_23 hw
set_option maxHeartbeats 4000000 in
theorem wk_X4_children (l : Launch) (hl0 : l.stackTraces = false) (G : Tgl) (fr : Nat)  (hfr : 5 ≤ fr) (l0 : Option Nat) (l1 : Int32) (l2 : Int32) (Q : Int32 → Tst → Prop) (X : String → Nat → Tst → Prop) (σ : Tst) (hw : w_X4_children l0 l1 l2 Q X σ) : tw_M l yX4_children (ws_ yX4_children cX4_children 3 (some .int)) fr (40 * fr) G σ [.inr l0, .inl l1, .inl l2] (tw_Qi G Q) X := by
  unfold w_X4_children at hw
  refine tw_of (ret := (some .int)) hl0 (by decide) (Nat.le_of_ble_eq_true rfl) (fun p e R s m args below meth c hRf hRl C hr hmn hnx hR hS ls hl => ?_)
  have hfr : 5 ≤ R.frames := by rw [hRf]; exact hfr
  have hRl : R.locals = 40 * R.frames := by rw [hRl, hRf]
  have hl : tw_l ls 3 [(0, .inr l0), (1, .inl l1), (2, .inl l2)] := hl
  refine tk_aload_n C hl 0 dX4_children_0 rfl ?_
  refine tk_iload_n C hl 1 dX4_children_1 rfl ?_
  refine tk_iload_n C hl 2 dX4_children_2 rfl ?_
  obtain ⟨hv, hw⟩ := hw
  refine tw_cbi C hS (tk_runV (As := [.inl l1, .inl l2]) C hR hS (wk_X4_isNowhere l C.hst G (R.frames - 1) (by omega) _ _ _ _ _ σ hw) hv rfl q2251 q2253 qs35 q74 q2254 pd_X4_isNowhere ⟨by omega, by omega⟩ hl.1 rfl (tw_r8 [] (Nat.le_of_ble_eq_true rfl)) dX4_children_3) (fun E q σ H locs hX hR hS hi => tw_out C hR hS (fun x hx => (hnx x hx).elim) hi hX) (fun x1 σ H locs hw hR hS => ?_)
  refine lv_if_eq (tgt := 13) C.hx C.hb dX4_children_6 (by decide) (fun c6 => ?_) (fun c6 => ?_)
  · replace hw := hw.1 c6
    refine tk_aload_n C hl 0 dX4_children_13 rfl ?_
    refine tk_gr C hR hw rfl in_X4 (by decide) q2052 (fun _ h => h) dX4_children_14 (fun x2 hw => ?_)
    refine tk_iload_n C hl 1 dX4_children_17 rfl ?_
    refine tk_lr C hR hw dX4_children_18 (fun x3 hw => ?_)
    refine tk_iload_n C hl 2 dX4_children_19 rfl ?_
    obtain ⟨hv, hw⟩ := hw
    refine tw_cbi C hS (tk_runVN (As := [.inl l2]) C hR hS (wk_X5_many l C.hst G (R.frames - 1) (by omega) _ _ _ _ σ hw) hv rfl q2213 q2215 qs33 q75 q2216 pd_X5_many ⟨by omega, by omega⟩ hl.1 rfl (tw_r8 [] (Nat.le_of_ble_eq_true rfl)) dX4_children_20) (fun E q σ H locs hX hR hS hi => tw_out C hR hS (fun x hx => (hnx x hx).elim) hi hX) (fun x4 σ H locs hw hR hS => ?_)
    exact wk_X4_children_b23 C hr hmn hnx hfr hRl _ σ _ _ _ hw hR hS (tk_sub hl [] rfl)
  · replace hw := hw.2 c6
    refine lv_iconst (v := 0) C.hx C.hb dX4_children_9 (by decide) ?_
    refine lv_goto (tgt := 23) C.hx C.hb dX4_children_10 (by decide) ?_
    exact wk_X4_children_b23 C hr hmn hnx hfr hRl _ σ _ _ _ hw hR hS (tk_sub hl [] rfl)
-- TreeDifferModel.parent(II)I
def w_X4_parent_b34 (Q : Int32 → Tst → Prop) (X : String → Nat → Tst → Prop) (s0 : Int32) (σ : Tst) : Prop := Q s0 σ
def w_X4_parent (l0 : Option Nat) (l1 : Int32) (l2 : Int32) (Q : Int32 → Tst → Prop) (X : String → Nat → Tst → Prop) (σ : Tst) : Prop := w_rc σ l0 cX4 <| w_X4_isNowhere l0 l1 l2 (fun x1 σ => w_if (x1 = 0) (w_if (l2 = 0) (w_rc σ l0 cX4 <| w_X4_fails l0 2 (fun x6 σ => w_X4_parent_b34 Q X x6 σ) X σ) (w_gr σ l0 cX4 0 fun x2 => w_lr σ x2 l1 fun x3 => w_gr σ x3 cX5 3 fun x4 => w_li σ x4 l2 fun x5 => w_X4_parent_b34 Q X x5 σ)) (Q 0 σ)) X σ
set_option maxHeartbeats 4000000 in
theorem wk_X4_parent_b34  (C : tw_C p l R s m args meth c G cX4_parent 3 yX4_parent.cls) (hr : meth.sig.returnType = (some .int)) (hmn : meth.name = yX4_parent.name) (hnx : (∀ x ∈ c.exceptionTable.toList, False)) (hfr : 5 ≤ R.frames) (hRl : R.locals = 40 * R.frames) {Q : Int32 → Tst → Prop} {X : String → Nat → Tst → Prop}  (s0 : Int32) (σ : Tst) (H : Heap) (locs : List Loc) (ls : Array Slot) (hw : w_X4_parent_b34 Q X s0 σ) (hR : tw_R G σ H) (hS : va_S (tw_A G) s.heap H locs) (hl : tw_l ls 3 []) : tw_W p l e R s m args below meth c σ H locs (tw_E below G (tw_Qi G Q) X args s R) (F0 m 34 ls [.int s0]) := by
  unfold w_X4_parent_b34 at hw
  exact tw_iret C hR hS hr rfl dX4_parent_34 hw
set_option maxHeartbeats 4000000 in
theorem wk_X4_parent (l : Launch) (hl0 : l.stackTraces = false) (G : Tgl) (fr : Nat)  (hfr : 5 ≤ fr) (l0 : Option Nat) (l1 : Int32) (l2 : Int32) (Q : Int32 → Tst → Prop) (X : String → Nat → Tst → Prop) (σ : Tst) (hw : w_X4_parent l0 l1 l2 Q X σ) : tw_M l yX4_parent (ws_ yX4_parent cX4_parent 3 (some .int)) fr (40 * fr) G σ [.inr l0, .inl l1, .inl l2] (tw_Qi G Q) X := by
  unfold w_X4_parent at hw
  refine tw_of (ret := (some .int)) hl0 (by decide) (Nat.le_of_ble_eq_true rfl) (fun p e R s m args below meth c hRf hRl C hr hmn hnx hR hS ls hl => ?_)
  have hfr : 5 ≤ R.frames := by rw [hRf]; exact hfr
  have hRl : R.locals = 40 * R.frames := by rw [hRl, hRf]
  have hl : tw_l ls 3 [(0, .inr l0), (1, .inl l1), (2, .inl l2)] := hl
  refine tk_aload_n C hl 0 dX4_parent_0 rfl ?_
  refine tk_iload_n C hl 1 dX4_parent_1 rfl ?_
  refine tk_iload_n C hl 2 dX4_parent_2 rfl ?_
  obtain ⟨hv, hw⟩ := hw
  refine tw_cbi C hS (tk_runV (As := [.inl l1, .inl l2]) C hR hS (wk_X4_isNowhere l C.hst G (R.frames - 1) (by omega) _ _ _ _ _ σ hw) hv rfl q2251 q2253 qs35 q74 q2254 pd_X4_isNowhere ⟨by omega, by omega⟩ hl.1 rfl (tw_r8 [] (Nat.le_of_ble_eq_true rfl)) dX4_parent_3) (fun E q σ H locs hX hR hS hi => tw_out C hR hS (fun x hx => (hnx x hx).elim) hi hX) (fun x1 σ H locs hw hR hS => ?_)
  refine lv_if_eq (tgt := 11) C.hx C.hb dX4_parent_6 (by decide) (fun c6 => ?_) (fun c6 => ?_)
  · replace hw := hw.1 c6
    refine tk_iload_n C hl 2 dX4_parent_11 rfl ?_
    refine lv_if_ne (tgt := 23) C.hx C.hb dX4_parent_12 (by decide) (fun c12 => ?_) (fun c12 => ?_)
    · replace hw := hw.2 c12
      refine tk_aload_n C hl 0 dX4_parent_23 rfl ?_
      refine tk_gr C hR hw rfl in_X4 (by decide) q2052 (fun _ h => h) dX4_parent_24 (fun x2 hw => ?_)
      refine tk_iload_n C hl 1 dX4_parent_27 rfl ?_
      refine tk_lr C hR hw dX4_parent_28 (fun x3 hw => ?_)
      refine tk_grN C hR hw rfl in_X5 (by decide) q2025 (fun _ h => h) dX4_parent_29 (fun x4 hw => ?_)
      refine tk_iload_n C hl 2 dX4_parent_32 rfl ?_
      refine tk_li C hR hw dX4_parent_33 (fun x5 hw => ?_)
      exact wk_X4_parent_b34 C hr hmn hnx hfr hRl _ σ _ _ _ hw hR hS (tk_sub hl [] rfl)
    · replace hw := hw.1 c12
      refine tk_aload_n C hl 0 dX4_parent_15 rfl ?_
      refine lv_iconst (v := 2) C.hx C.hb dX4_parent_16 (by decide) ?_
      obtain ⟨hv, hw⟩ := hw
      refine tw_cbi C hS (tk_runV (As := [.inl 2]) C hR hS (wk_X4_fails l C.hst G (R.frames - 1) (by omega) _ _ _ _ σ hw) hv rfl q2155 q2157 qs24 q74 q2158 pd_X4_fails ⟨by omega, by omega⟩ hl.1 rfl (tw_r8 [] (Nat.le_of_ble_eq_true rfl)) dX4_parent_17) (fun E q σ H locs hX hR hS hi => tw_out C hR hS (fun x hx => (hnx x hx).elim) hi hX) (fun x6 σ H locs hw hR hS => ?_)
      refine lv_goto (tgt := 34) C.hx C.hb dX4_parent_20 (by decide) ?_
      exact wk_X4_parent_b34 C hr hmn hnx hfr hRl _ σ _ _ _ hw hR hS (tk_sub hl [] rfl)
  · replace hw := hw.2 c6
    refine lv_iconst (v := 0) C.hx C.hb dX4_parent_9 (by decide) ?_
    exact tw_iret C hR hS hr rfl dX4_parent_10 hw
-- TreeDifferModel.subtreeSize(II)I
def w_X4_subtreeSize_b25 (Q : Int32 → Tst → Prop) (X : String → Nat → Tst → Prop) (s0 : Int32) (σ : Tst) : Prop := Q s0 σ
def w_X4_subtreeSize (l0 : Option Nat) (l1 : Int32) (l2 : Int32) (Q : Int32 → Tst → Prop) (X : String → Nat → Tst → Prop) (σ : Tst) : Prop := w_rc σ l0 cX4 <| w_X4_isNowhere l0 l1 l2 (fun x1 σ => w_if (x1 = 0) (w_gr σ l0 cX4 0 fun x2 => w_lr σ x2 l1 fun x3 => w_rc σ x3 cX5 <| w_X5_end x3 l2 (fun x4 σ => w_X4_subtreeSize_b25 Q X (x4 - l2) σ) X σ) (w_X4_subtreeSize_b25 Q X 0 σ)) X σ
set_option maxHeartbeats 4000000 in
theorem wk_X4_subtreeSize_b25  (C : tw_C p l R s m args meth c G cX4_subtreeSize 3 yX4_subtreeSize.cls) (hr : meth.sig.returnType = (some .int)) (hmn : meth.name = yX4_subtreeSize.name) (hnx : (∀ x ∈ c.exceptionTable.toList, False)) (hfr : 5 ≤ R.frames) (hRl : R.locals = 40 * R.frames) {Q : Int32 → Tst → Prop} {X : String → Nat → Tst → Prop}  (s0 : Int32) (σ : Tst) (H : Heap) (locs : List Loc) (ls : Array Slot) (hw : w_X4_subtreeSize_b25 Q X s0 σ) (hR : tw_R G σ H) (hS : va_S (tw_A G) s.heap H locs) (hl : tw_l ls 3 []) : tw_W p l e R s m args below meth c σ H locs (tw_E below G (tw_Qi G Q) X args s R) (F0 m 25 ls [.int s0]) := by
  unfold w_X4_subtreeSize_b25 at hw
  exact tw_iret C hR hS hr rfl dX4_subtreeSize_25 hw
set_option maxHeartbeats 4000000 in
theorem wk_X4_subtreeSize (l : Launch) (hl0 : l.stackTraces = false) (G : Tgl) (fr : Nat)  (hfr : 5 ≤ fr) (l0 : Option Nat) (l1 : Int32) (l2 : Int32) (Q : Int32 → Tst → Prop) (X : String → Nat → Tst → Prop) (σ : Tst) (hw : w_X4_subtreeSize l0 l1 l2 Q X σ) : tw_M l yX4_subtreeSize (ws_ yX4_subtreeSize cX4_subtreeSize 3 (some .int)) fr (40 * fr) G σ [.inr l0, .inl l1, .inl l2] (tw_Qi G Q) X := by
  unfold w_X4_subtreeSize at hw
  refine tw_of (ret := (some .int)) hl0 (by decide) (Nat.le_of_ble_eq_true rfl) (fun p e R s m args below meth c hRf hRl C hr hmn hnx hR hS ls hl => ?_)
  have hfr : 5 ≤ R.frames := by rw [hRf]; exact hfr
  have hRl : R.locals = 40 * R.frames := by rw [hRl, hRf]
  have hl : tw_l ls 3 [(0, .inr l0), (1, .inl l1), (2, .inl l2)] := hl
  refine tk_aload_n C hl 0 dX4_subtreeSize_0 rfl ?_
  refine tk_iload_n C hl 1 dX4_subtreeSize_1 rfl ?_
  refine tk_iload_n C hl 2 dX4_subtreeSize_2 rfl ?_
  obtain ⟨hv, hw⟩ := hw
  refine tw_cbi C hS (tk_runV (As := [.inl l1, .inl l2]) C hR hS (wk_X4_isNowhere l C.hst G (R.frames - 1) (by omega) _ _ _ _ _ σ hw) hv rfl q2251 q2253 qs35 q74 q2254 pd_X4_isNowhere ⟨by omega, by omega⟩ hl.1 rfl (tw_r8 [] (Nat.le_of_ble_eq_true rfl)) dX4_subtreeSize_3) (fun E q σ H locs hX hR hS hi => tw_out C hR hS (fun x hx => (hnx x hx).elim) hi hX) (fun x1 σ H locs hw hR hS => ?_)
  refine lv_if_eq (tgt := 13) C.hx C.hb dX4_subtreeSize_6 (by decide) (fun c6 => ?_) (fun c6 => ?_)
  · replace hw := hw.1 c6
    refine tk_aload_n C hl 0 dX4_subtreeSize_13 rfl ?_
    refine tk_gr C hR hw rfl in_X4 (by decide) q2052 (fun _ h => h) dX4_subtreeSize_14 (fun x2 hw => ?_)
    refine tk_iload_n C hl 1 dX4_subtreeSize_17 rfl ?_
    refine tk_lr C hR hw dX4_subtreeSize_18 (fun x3 hw => ?_)
    refine tk_iload_n C hl 2 dX4_subtreeSize_19 rfl ?_
    obtain ⟨hv, hw⟩ := hw
    refine tw_cbi C hS (tk_runVN (As := [.inl l2]) C hR hS (wk_X5_end l C.hst G (R.frames - 1) (by omega) _ _ _ _ σ hw) hv rfl q2262 q2264 qs37 q75 q2265 pd_X5_end ⟨by omega, by omega⟩ hl.1 rfl (tw_r8 [] (Nat.le_of_ble_eq_true rfl)) dX4_subtreeSize_20) (fun E q σ H locs hX hR hS hi => tw_out C hR hS (fun x hx => (hnx x hx).elim) hi hX) (fun x4 σ H locs hw hR hS => ?_)
    refine tk_iload_n C hl 2 dX4_subtreeSize_23 rfl ?_
    refine lv_isub C.hx C.hb dX4_subtreeSize_24 ?_
    exact wk_X4_subtreeSize_b25 C hr hmn hnx hfr hRl _ σ _ _ _ hw hR hS (tk_sub hl [] rfl)
  · replace hw := hw.2 c6
    refine lv_iconst (v := 0) C.hx C.hb dX4_subtreeSize_9 (by decide) ?_
    refine lv_goto (tgt := 25) C.hx C.hb dX4_subtreeSize_10 (by decide) ?_
    exact wk_X4_subtreeSize_b25 C hr hmn hnx hfr hRl _ σ _ _ _ hw hR hS (tk_sub hl [] rfl)
-- TreeDifferModel$Tree.hash(I)I
def w_X5_hash_b40 (rf_X5_hash : (Option Nat) → Int32 → (Int32 → Tst → Prop) → (String → Nat → Tst → Prop) → Tst → Prop) (Q : Int32 → Tst → Prop) (X : String → Nat → Tst → Prop) : Nat → Option Nat → Int32 → Int32 → Option Nat → Int32 → Int32 → Tst → Prop
  | 0, _, _, _, _, _, _, _ => False
  | n + 1, l0, l1, l2, l3, l4, l5, σ => w_if (l4 ≤ l5) (w_rc σ l0 cX5 <| w_X5_many l0 l1 (fun x1 σ => Q ((l2 * 31) + x1) σ) X σ) (w_li σ l3 l5 fun x2 => w_rc σ l0 cX5 <| rf_X5_hash l0 x2 (fun x3 σ => (w_X5_hash_b40 rf_X5_hash Q X n) l0 l1 ((l2 * 31) + x3) l3 l4 (l5 + 1) σ) X σ)
def w_X5_hash : Nat → Option Nat → Int32 → (Int32 → Tst → Prop) → (String → Nat → Tst → Prop) → Tst → Prop
  | 0, _, _, _, _, _ => False
  | d + 1, l0, l1, Q, X, σ => w_gr σ l0 cX5 0 fun x1 => w_li σ x1 l1 fun x2 => w_gr σ l0 cX5 1 fun x3 => w_li σ x3 l1 fun x4 => w_gr σ l0 cX5 2 fun x5 => w_li σ x5 l1 fun x6 => w_rc σ l0 cX5 <| w_X5_kids l0 l1 (fun x7 σ => w_al σ x7 fun x8 => ∃ z, w_X5_hash_b40 (w_X5_hash d) Q X z l0 l1 ((((x2 * 31) + x4) * 31) + x6) x7 x8 0 σ) X σ
set_option maxHeartbeats 4000000 in
theorem wk_X5_hash_b40 {rf_X5_hash : (Option Nat) → Int32 → (Int32 → Tst → Prop) → (String → Nat → Tst → Prop) → Tst → Prop} {frf_X5_hash : Nat}  (C : tw_C p l R s m args meth c G cX5_hash 7 yX5_hash.cls) (hr : meth.sig.returnType = (some .int)) (hmn : meth.name = yX5_hash.name) (hnx : (∀ x ∈ c.exceptionTable.toList, False)) (hfr : 3 ≤ R.frames ∧ frf_X5_hash + 1 ≤ R.frames) (hRl : R.locals = 40 * R.frames) {Q : Int32 → Tst → Prop} {X : String → Nat → Tst → Prop} (hrf_X5_hash : ∀ fr : Nat, frf_X5_hash ≤ fr → ∀ (a0 : Option Nat) (a1 : Int32) (Q : Int32 → Tst → Prop) (X : String → Nat → Tst → Prop) (σ : Tst), rf_X5_hash a0 a1 Q X σ → tw_M l yX5_hash (ws_ yX5_hash cX5_hash 7 (some .int)) fr (40 * fr) G σ [.inr a0, .inl a1] (tw_Qi G Q) X) : ∀ (n : Nat) (l0 : Option Nat) (l1 : Int32) (l2 : Int32) (l3 : Option Nat) (l4 : Int32) (l5 : Int32) (σ : Tst) (H : Heap) (locs : List Loc) (ls : Array Slot), w_X5_hash_b40 rf_X5_hash Q X n l0 l1 l2 l3 l4 l5 σ → tw_R G σ H → va_S (tw_A G) s.heap H locs → tw_l ls 7 [(0, .inr l0), (1, .inl l1), (2, .inl l2), (3, .inr l3), (4, .inl l4), (5, .inl l5)] → tw_W p l e R s m args below meth c σ H locs (tw_E below G (tw_Qi G Q) X args s R) (F0 m 40 ls []) := by
  intro n
  induction n with
  | zero => intro l0 l1 l2 l3 l4 l5 σ H locs ls hw; exact False.elim hw
  | succ n hk40 =>
    intro l0 l1 l2 l3 l4 l5 σ H locs ls hw hR hS hl
    rw [w_X5_hash_b40] at hw
    refine tk_iload C hl 5 dX5_hash_40 rfl ?_
    refine tk_iload C hl 4 dX5_hash_42 rfl ?_
    refine lv_icmp_ge (tgt := 71) C.hx C.hb dX5_hash_44 (by decide) (fun c44 => ?_) (fun c44 => ?_)
    · replace hw := hw.1 c44
      refine tk_iload_n C hl 2 dX5_hash_71 rfl ?_
      refine lv_bipush (v := 31) C.hx C.hb dX5_hash_72 (by decide) ?_
      refine lv_imul C.hx C.hb dX5_hash_74 ?_
      refine tk_aload_n C hl 0 dX5_hash_75 rfl ?_
      refine tk_iload_n C hl 1 dX5_hash_76 rfl ?_
      obtain ⟨hv, hw⟩ := hw
      refine tw_cbi C hS (tk_runV (As := [.inl l1]) C hR hS (wk_X5_many l C.hst G (R.frames - 1) (by omega) _ _ _ _ σ hw) hv rfl q2221 q2215 qs33 q75 q2216 pd_X5_many ⟨by omega, by omega⟩ hl.1 rfl (tw_r8 [.inl (l2 * 31)] (Nat.le_of_ble_eq_true rfl)) dX5_hash_77) (fun E q σ H locs hX hR hS hi => tw_out C hR hS (fun x hx => (hnx x hx).elim) hi hX) (fun x1 σ H locs hw hR hS => ?_)
      refine lv_iadd C.hx C.hb dX5_hash_80 ?_
      exact tw_iret C hR hS hr rfl dX5_hash_81 hw
    · replace hw := hw.2 c44
      refine tk_aload_n C hl 3 dX5_hash_47 rfl ?_
      refine tk_iload C hl 5 dX5_hash_48 rfl ?_
      refine tk_li C hR hw dX5_hash_50 (fun x2 hw => ?_)
      refine tk_istore (L' := [(6, .inl x2), (0, .inr l0), (1, .inl l1), (2, .inl l2), (3, .inr l3), (4, .inl l4), (5, .inl l5)]) C hl dX5_hash_51 (by decide) rfl (fun ls hl => ?_)
      refine tk_iload_n C hl 3 dX5_hash_53 rfl ?_
      refine lv_bipush (v := 31) C.hx C.hb dX5_hash_54 (by decide) ?_
      refine lv_imul C.hx C.hb dX5_hash_56 ?_
      refine tk_aload_n C hl 1 dX5_hash_57 rfl ?_
      refine tk_iload C hl 0 dX5_hash_58 rfl ?_
      obtain ⟨hv, hw⟩ := hw
      refine tw_cbi C hS (tk_runV (As := [.inl x2]) C hR hS (hrf_X5_hash (R.frames - 1) (by omega) _ _ _ _ σ hw) hv rfl q2332 q2329 qs40 q75 q2330 pd_X5_hash ⟨by omega, by omega⟩ hl.1 rfl (tw_r8 [.inl (l2 * 31)] (Nat.le_of_ble_eq_true rfl)) dX5_hash_60) (fun E q σ H locs hX hR hS hi => tw_out C hR hS (fun x hx => (hnx x hx).elim) hi hX) (fun x3 σ H locs hw hR hS => ?_)
      refine lv_iadd C.hx C.hb dX5_hash_63 ?_
      refine tk_istore_n (L' := [(2, .inl ((l2 * 31) + x3)), (6, .inl x2), (0, .inr l0), (1, .inl l1), (3, .inr l3), (4, .inl l4), (5, .inl l5)]) C hl dX5_hash_64 (by decide) rfl (fun ls hl => ?_)
      refine tk_iinc (L' := [(5, .inl (l5 + 1)), (2, .inl ((l2 * 31) + x3)), (6, .inl x2), (0, .inr l0), (1, .inl l1), (3, .inr l3), (4, .inl l4)]) (y := (l5 + 1)) C hl 6 dX5_hash_65 rfl rfl (by decide) rfl (fun ls hl => ?_)
      refine lv_goto (tgt := 40) C.hx C.hb dX5_hash_68 (by decide) ?_
      exact hk40 _ _ _ _ _ _ σ _ _ _ hw hR hS (tk_sub hl [3, 4, 1, 5, 6, 0] rfl)
set_option maxHeartbeats 4000000 in
theorem wk_X5_hash (l : Launch) (hl0 : l.stackTraces = false) (G : Tgl)  : ∀ (d fr : Nat), 3 + 1 * d ≤ fr → ∀ (l0 : Option Nat) (l1 : Int32) (Q : Int32 → Tst → Prop) (X : String → Nat → Tst → Prop) (σ : Tst), w_X5_hash d l0 l1 Q X σ → tw_M l yX5_hash (ws_ yX5_hash cX5_hash 7 (some .int)) fr (40 * fr) G σ [.inr l0, .inl l1] (tw_Qi G Q) X := by
  intro d
  induction d with
  | zero => intro fr hfr l0 l1 Q X σ hw; exact False.elim hw
  | succ d ih =>
    intro fr hfr l0 l1 Q X σ hw
    have hrf_X5_hash := fun (fr : Nat) (h : 3 + 1 * d ≤ fr) => ih fr (by omega)
    rw [w_X5_hash] at hw
    generalize hg : w_X5_hash d = rf_X5_hash at hw hrf_X5_hash
    clear hg ih
    obtain ⟨frf_X5_hash, hfrf_X5_hash⟩ : ∃ f, f = 3 + 1 * d := ⟨_, rfl⟩
    rw [← hfrf_X5_hash] at hrf_X5_hash
    have hfr : 3 ≤ fr ∧ frf_X5_hash + 1 ≤ fr := by refine ⟨?_, ?_⟩ <;> omega
    refine tw_of (ret := (some .int)) hl0 (by decide) (Nat.le_of_ble_eq_true rfl) (fun p e R s m args below meth c hRf hRl C hr hmn hnx hR hS ls hl => ?_)
    have hfr : 3 ≤ R.frames ∧ frf_X5_hash + 1 ≤ R.frames := by rw [hRf]; exact hfr
    have hRl : R.locals = 40 * R.frames := by rw [hRl, hRf]
    have hl : tw_l ls 7 [(0, .inr l0), (1, .inl l1)] := hl
    refine tk_aload_n C hl 0 dX5_hash_0 rfl ?_
    refine tk_gr C hR hw rfl in_X5 (by decide) q2018 (fun _ h => h) dX5_hash_1 (fun x1 hw => ?_)
    refine tk_iload_n C hl 1 dX5_hash_4 rfl ?_
    refine tk_li C hR hw dX5_hash_5 (fun x2 hw => ?_)
    refine lv_bipush (v := 31) C.hx C.hb dX5_hash_6 (by decide) ?_
    refine lv_imul C.hx C.hb dX5_hash_8 ?_
    refine tk_aload_n C hl 0 dX5_hash_9 rfl ?_
    refine tk_gr C hR hw rfl in_X5 (by decide) q2020 (fun _ h => h) dX5_hash_10 (fun x3 hw => ?_)
    refine tk_iload_n C hl 1 dX5_hash_13 rfl ?_
    refine tk_li C hR hw dX5_hash_14 (fun x4 hw => ?_)
    refine lv_iadd C.hx C.hb dX5_hash_15 ?_
    refine lv_bipush (v := 31) C.hx C.hb dX5_hash_16 (by decide) ?_
    refine lv_imul C.hx C.hb dX5_hash_18 ?_
    refine tk_aload_n C hl 0 dX5_hash_19 rfl ?_
    refine tk_gr C hR hw rfl in_X5 (by decide) q2022 (fun _ h => h) dX5_hash_20 (fun x5 hw => ?_)
    refine tk_iload_n C hl 1 dX5_hash_23 rfl ?_
    refine tk_li C hR hw dX5_hash_24 (fun x6 hw => ?_)
    refine lv_iadd C.hx C.hb dX5_hash_25 ?_
    refine tk_istore_n (L' := [(2, .inl ((((x2 * 31) + x4) * 31) + x6)), (0, .inr l0), (1, .inl l1)]) C hl dX5_hash_26 (by decide) rfl (fun ls hl => ?_)
    refine tk_aload_n C hl 1 dX5_hash_27 rfl ?_
    refine tk_iload_n C hl 2 dX5_hash_28 rfl ?_
    obtain ⟨hv, hw⟩ := hw
    refine tw_cbq C hS (tk_runV (As := [.inl l1]) C hR hS (wk_X5_kids l C.hst G (R.frames - 1) (by omega) _ _ _ _ σ hw) hv rfl q2331 q2219 qs34 q75 q2220 pd_X5_kids ⟨by omega, by omega⟩ hl.1 rfl (tw_r8 [] (Nat.le_of_ble_eq_true rfl)) dX5_hash_29) (fun E q σ H locs hX hR hS hi => tw_out C hR hS (fun x hx => (hnx x hx).elim) hi hX) (fun x7 σ H locs hw hR hS => ?_)
    refine tk_astore_n (L' := [(3, .inr x7), (2, .inl ((((x2 * 31) + x4) * 31) + x6)), (0, .inr l0), (1, .inl l1)]) C hl dX5_hash_32 (by decide) rfl (fun ls hl => ?_)
    refine tk_aload_n C hl 0 dX5_hash_33 rfl ?_
    refine tk_al C hR hw dX5_hash_34 (fun x8 hw => ?_)
    refine tk_istore (L' := [(4, .inl x8), (3, .inr x7), (2, .inl ((((x2 * 31) + x4) * 31) + x6)), (0, .inr l0), (1, .inl l1)]) C hl dX5_hash_35 (by decide) rfl (fun ls hl => ?_)
    refine lv_iconst (v := 0) C.hx C.hb dX5_hash_37 (by decide) ?_
    refine tk_istore (L' := [(5, .inl 0), (4, .inl x8), (3, .inr x7), (2, .inl ((((x2 * 31) + x4) * 31) + x6)), (0, .inr l0), (1, .inl l1)]) C hl dX5_hash_38 (by decide) rfl (fun ls hl => ?_)
    obtain ⟨z, hw⟩ := hw
    exact wk_X5_hash_b40 C hr hmn hnx hfr hRl hrf_X5_hash z _ _ _ _ _ _ σ _ _ _ hw hR hS (tk_sub hl [4, 5, 3, 2, 1, 0] rfl)
-- TreeDifferModel.subtreeHash(II)I
def w_X4_subtreeHash_b23 (Q : Int32 → Tst → Prop) (X : String → Nat → Tst → Prop) (s0 : Int32) (σ : Tst) : Prop := Q s0 σ
def w_X4_subtreeHash (l0 : Option Nat) (l1 : Int32) (l2 : Int32) (Q : Int32 → Tst → Prop) (X : String → Nat → Tst → Prop) (σ : Tst) : Prop := w_rc σ l0 cX4 <| w_X4_isNowhere l0 l1 l2 (fun x1 σ => w_if (x1 = 0) (w_gr σ l0 cX4 0 fun x2 => w_lr σ x2 l1 fun x3 => w_rc σ x3 cX5 <| w_X5_hash 64 x3 l2 (fun x4 σ => w_X4_subtreeHash_b23 Q X x4 σ) X σ) (w_X4_subtreeHash_b23 Q X 0 σ)) X σ
set_option maxHeartbeats 4000000 in
theorem wk_X4_subtreeHash_b23  (C : tw_C p l R s m args meth c G cX4_subtreeHash 3 yX4_subtreeHash.cls) (hr : meth.sig.returnType = (some .int)) (hmn : meth.name = yX4_subtreeHash.name) (hnx : (∀ x ∈ c.exceptionTable.toList, False)) (hfr : 68 ≤ R.frames) (hRl : R.locals = 40 * R.frames) {Q : Int32 → Tst → Prop} {X : String → Nat → Tst → Prop}  (s0 : Int32) (σ : Tst) (H : Heap) (locs : List Loc) (ls : Array Slot) (hw : w_X4_subtreeHash_b23 Q X s0 σ) (hR : tw_R G σ H) (hS : va_S (tw_A G) s.heap H locs) (hl : tw_l ls 3 []) : tw_W p l e R s m args below meth c σ H locs (tw_E below G (tw_Qi G Q) X args s R) (F0 m 23 ls [.int s0]) := by
  unfold w_X4_subtreeHash_b23 at hw
  exact tw_iret C hR hS hr rfl dX4_subtreeHash_23 hw
set_option maxHeartbeats 4000000 in
theorem wk_X4_subtreeHash (l : Launch) (hl0 : l.stackTraces = false) (G : Tgl) (fr : Nat)  (hfr : 68 ≤ fr) (l0 : Option Nat) (l1 : Int32) (l2 : Int32) (Q : Int32 → Tst → Prop) (X : String → Nat → Tst → Prop) (σ : Tst) (hw : w_X4_subtreeHash l0 l1 l2 Q X σ) : tw_M l yX4_subtreeHash (ws_ yX4_subtreeHash cX4_subtreeHash 3 (some .int)) fr (40 * fr) G σ [.inr l0, .inl l1, .inl l2] (tw_Qi G Q) X := by
  unfold w_X4_subtreeHash at hw
  refine tw_of (ret := (some .int)) hl0 (by decide) (Nat.le_of_ble_eq_true rfl) (fun p e R s m args below meth c hRf hRl C hr hmn hnx hR hS ls hl => ?_)
  have hfr : 68 ≤ R.frames := by rw [hRf]; exact hfr
  have hRl : R.locals = 40 * R.frames := by rw [hRl, hRf]
  have hl : tw_l ls 3 [(0, .inr l0), (1, .inl l1), (2, .inl l2)] := hl
  refine tk_aload_n C hl 0 dX4_subtreeHash_0 rfl ?_
  refine tk_iload_n C hl 1 dX4_subtreeHash_1 rfl ?_
  refine tk_iload_n C hl 2 dX4_subtreeHash_2 rfl ?_
  obtain ⟨hv, hw⟩ := hw
  refine tw_cbi C hS (tk_runV (As := [.inl l1, .inl l2]) C hR hS (wk_X4_isNowhere l C.hst G (R.frames - 1) (by omega) _ _ _ _ _ σ hw) hv rfl q2251 q2253 qs35 q74 q2254 pd_X4_isNowhere ⟨by omega, by omega⟩ hl.1 rfl (tw_r8 [] (Nat.le_of_ble_eq_true rfl)) dX4_subtreeHash_3) (fun E q σ H locs hX hR hS hi => tw_out C hR hS (fun x hx => (hnx x hx).elim) hi hX) (fun x1 σ H locs hw hR hS => ?_)
  refine lv_if_eq (tgt := 13) C.hx C.hb dX4_subtreeHash_6 (by decide) (fun c6 => ?_) (fun c6 => ?_)
  · replace hw := hw.1 c6
    refine tk_aload_n C hl 0 dX4_subtreeHash_13 rfl ?_
    refine tk_gr C hR hw rfl in_X4 (by decide) q2052 (fun _ h => h) dX4_subtreeHash_14 (fun x2 hw => ?_)
    refine tk_iload_n C hl 1 dX4_subtreeHash_17 rfl ?_
    refine tk_lr C hR hw dX4_subtreeHash_18 (fun x3 hw => ?_)
    refine tk_iload_n C hl 2 dX4_subtreeHash_19 rfl ?_
    obtain ⟨hv, hw⟩ := hw
    refine tw_cbi C hS (tk_runVN (As := [.inl l2]) C hR hS (wk_X5_hash l C.hst G 64 (R.frames - 1) (by omega) _ _ _ _ σ hw) hv rfl q2327 q2329 qs40 q75 q2330 pd_X5_hash ⟨by omega, by omega⟩ hl.1 rfl (tw_r8 [] (Nat.le_of_ble_eq_true rfl)) dX4_subtreeHash_20) (fun E q σ H locs hX hR hS hi => tw_out C hR hS (fun x hx => (hnx x hx).elim) hi hX) (fun x4 σ H locs hw hR hS => ?_)
    exact wk_X4_subtreeHash_b23 C hr hmn hnx hfr hRl _ σ _ _ _ hw hR hS (tk_sub hl [] rfl)
  · replace hw := hw.2 c6
    refine lv_iconst (v := 0) C.hx C.hb dX4_subtreeHash_9 (by decide) ?_
    refine lv_goto (tgt := 23) C.hx C.hb dX4_subtreeHash_10 (by decide) ?_
    exact wk_X4_subtreeHash_b23 C hr hmn hnx hfr hRl _ σ _ _ _ hw hR hS (tk_sub hl [] rfl)
-- TreeDifferModel.areLike(LTreeDifferModel$Tree;ILTreeDifferModel$Tree;IZ)Z
def w_X4_areLike_b135 (k26 : Option Nat → Int32 → Option Nat → Int32 → Int32 → Int32 → Int32 → Tst → Prop) (Q : Int32 → Tst → Prop) (X : String → Nat → Tst → Prop) (l0 : Option Nat) (l1 : Int32) (l2 : Option Nat) (l3 : Int32) (l4 : Int32) (l5 : Int32) (l6 : Int32) (σ : Tst) : Prop := k26 l0 l1 l2 l3 l4 l5 (l6 + 1) σ
def w_X4_areLike_b133 (Q : Int32 → Tst → Prop) (X : String → Nat → Tst → Prop) (σ : Tst) : Prop := narrow .boolean (.int 0) = .int 0 ∧ Q 0 σ
def w_X4_areLike_b65 (k26 : Option Nat → Int32 → Option Nat → Int32 → Int32 → Int32 → Int32 → Tst → Prop) (Q : Int32 → Tst → Prop) (X : String → Nat → Tst → Prop) (l0 : Option Nat) (l1 : Int32) (l2 : Option Nat) (l3 : Int32) (l4 : Int32) (l5 : Int32) (l6 : Int32) (σ : Tst) : Prop := w_if (l4 = 0) (w_gr σ l0 cX5 0 fun x1 => w_li σ x1 (l1 + l6) fun x2 => w_gr σ l2 cX5 0 fun x3 => w_li σ x3 (l3 + l6) fun x4 => w_if (x2 = x4) (w_gr σ l0 cX5 1 fun x5 => w_li σ x5 (l1 + l6) fun x6 => w_gr σ l2 cX5 1 fun x7 => w_li σ x7 (l3 + l6) fun x8 => w_if (x6 = x8) (w_gr σ l0 cX5 2 fun x9 => w_li σ x9 (l1 + l6) fun x10 => w_gr σ l2 cX5 2 fun x11 => w_li σ x11 (l3 + l6) fun x12 => w_if (x10 = x12) (w_X4_areLike_b135 k26 Q X l0 l1 l2 l3 l4 l5 l6 σ) (w_X4_areLike_b133 Q X σ)) (w_X4_areLike_b133 Q X σ)) (w_X4_areLike_b133 Q X σ)) (w_X4_areLike_b135 k26 Q X l0 l1 l2 l3 l4 l5 l6 σ)
def w_X4_areLike_b26 (Q : Int32 → Tst → Prop) (X : String → Nat → Tst → Prop) : Nat → Option Nat → Int32 → Option Nat → Int32 → Int32 → Int32 → Int32 → Tst → Prop
  | 0, _, _, _, _, _, _, _, _ => False
  | n + 1, l0, l1, l2, l3, l4, l5, l6, σ => w_if (l5 ≤ l6) (narrow .boolean (.int 1) = .int 1 ∧ Q 1 σ) (w_if (l6 ≤ 0) (w_X4_areLike_b65 (w_X4_areLike_b26 Q X n) Q X l0 l1 l2 l3 l4 l5 l6 σ) (w_gr σ l0 cX5 3 fun x1 => w_li σ x1 (l1 + l6) fun x2 => w_gr σ l2 cX5 3 fun x3 => w_li σ x3 (l3 + l6) fun x4 => w_if ((x2 - l1) = (x4 - l3)) (w_X4_areLike_b65 (w_X4_areLike_b26 Q X n) Q X l0 l1 l2 l3 l4 l5 l6 σ) (narrow .boolean (.int 0) = .int 0 ∧ Q 0 σ)))
def w_X4_areLike (l0 : Option Nat) (l1 : Int32) (l2 : Option Nat) (l3 : Int32) (l4 : Int32) (Q : Int32 → Tst → Prop) (X : String → Nat → Tst → Prop) (σ : Tst) : Prop := w_rc σ l0 cX5 <| w_X5_end l0 l1 (fun x1 σ => w_rc σ l2 cX5 <| w_X5_end l2 l3 (fun x2 σ => w_if ((x1 - l1) = (x2 - l3)) (∃ z, w_X4_areLike_b26 Q X z l0 l1 l2 l3 l4 (x1 - l1) 0 σ) (narrow .boolean (.int 0) = .int 0 ∧ Q 0 σ)) X σ) X σ
set_option maxHeartbeats 4000000 in
theorem wk_X4_areLike_b135  (C : tw_C p l R s m args meth c G cX4_areLike 7 yX4_areLike.cls) (hr : meth.sig.returnType = (some .boolean)) (hmn : meth.name = yX4_areLike.name) (hnx : (∀ x ∈ c.exceptionTable.toList, False)) (hfr : 2 ≤ R.frames) (hRl : R.locals = 40 * R.frames) {Q : Int32 → Tst → Prop} {X : String → Nat → Tst → Prop}  {k26 : Option Nat → Int32 → Option Nat → Int32 → Int32 → Int32 → Int32 → Tst → Prop} (hk26 : ∀ (l0 : Option Nat) (l1 : Int32) (l2 : Option Nat) (l3 : Int32) (l4 : Int32) (l5 : Int32) (l6 : Int32) (σ : Tst) (H : Heap) (locs : List Loc) (ls : Array Slot), k26 l0 l1 l2 l3 l4 l5 l6 σ → tw_R G σ H → va_S (tw_A G) s.heap H locs → tw_l ls 7 [(0, .inr l0), (1, .inl l1), (2, .inr l2), (3, .inl l3), (4, .inl l4), (5, .inl l5), (6, .inl l6)] → tw_W p l e R s m args below meth c σ H locs (tw_E below G (tw_Qi G Q) X args s R) (F0 m 26 ls [])) (l0 : Option Nat) (l1 : Int32) (l2 : Option Nat) (l3 : Int32) (l4 : Int32) (l5 : Int32) (l6 : Int32) (σ : Tst) (H : Heap) (locs : List Loc) (ls : Array Slot) (hw : w_X4_areLike_b135 k26 Q X l0 l1 l2 l3 l4 l5 l6 σ) (hR : tw_R G σ H) (hS : va_S (tw_A G) s.heap H locs) (hl : tw_l ls 7 [(0, .inr l0), (1, .inl l1), (2, .inr l2), (3, .inl l3), (4, .inl l4), (5, .inl l5), (6, .inl l6)]) : tw_W p l e R s m args below meth c σ H locs (tw_E below G (tw_Qi G Q) X args s R) (F0 m 135 ls []) := by
  unfold w_X4_areLike_b135 at hw
  refine tk_iinc (L' := [(6, .inl (l6 + 1)), (0, .inr l0), (1, .inl l1), (2, .inr l2), (3, .inl l3), (4, .inl l4), (5, .inl l5)]) (y := (l6 + 1)) C hl 6 dX4_areLike_135 rfl rfl (by decide) rfl (fun ls hl => ?_)
  refine lv_goto (tgt := 26) C.hx C.hb dX4_areLike_138 (by decide) ?_
  exact hk26 _ _ _ _ _ _ _ σ _ _ _ hw hR hS (tk_sub hl [1, 2, 3, 4, 5, 6, 0] rfl)
set_option maxHeartbeats 4000000 in
theorem wk_X4_areLike_b133  (C : tw_C p l R s m args meth c G cX4_areLike 7 yX4_areLike.cls) (hr : meth.sig.returnType = (some .boolean)) (hmn : meth.name = yX4_areLike.name) (hnx : (∀ x ∈ c.exceptionTable.toList, False)) (hfr : 2 ≤ R.frames) (hRl : R.locals = 40 * R.frames) {Q : Int32 → Tst → Prop} {X : String → Nat → Tst → Prop}   (σ : Tst) (H : Heap) (locs : List Loc) (ls : Array Slot) (hw : w_X4_areLike_b133 Q X  σ) (hR : tw_R G σ H) (hS : va_S (tw_A G) s.heap H locs) (hl : tw_l ls 7 []) : tw_W p l e R s m args below meth c σ H locs (tw_E below G (tw_Qi G Q) X args s R) (F0 m 133 ls []) := by
  unfold w_X4_areLike_b133 at hw
  refine lv_iconst (v := 0) C.hx C.hb dX4_areLike_133 (by decide) ?_
  obtain ⟨hok, hw⟩ := hw
  exact tw_iret C hR hS hr hok dX4_areLike_134 hw
set_option maxHeartbeats 4000000 in
theorem wk_X4_areLike_b65  (C : tw_C p l R s m args meth c G cX4_areLike 7 yX4_areLike.cls) (hr : meth.sig.returnType = (some .boolean)) (hmn : meth.name = yX4_areLike.name) (hnx : (∀ x ∈ c.exceptionTable.toList, False)) (hfr : 2 ≤ R.frames) (hRl : R.locals = 40 * R.frames) {Q : Int32 → Tst → Prop} {X : String → Nat → Tst → Prop}  {k26 : Option Nat → Int32 → Option Nat → Int32 → Int32 → Int32 → Int32 → Tst → Prop} (hk26 : ∀ (l0 : Option Nat) (l1 : Int32) (l2 : Option Nat) (l3 : Int32) (l4 : Int32) (l5 : Int32) (l6 : Int32) (σ : Tst) (H : Heap) (locs : List Loc) (ls : Array Slot), k26 l0 l1 l2 l3 l4 l5 l6 σ → tw_R G σ H → va_S (tw_A G) s.heap H locs → tw_l ls 7 [(0, .inr l0), (1, .inl l1), (2, .inr l2), (3, .inl l3), (4, .inl l4), (5, .inl l5), (6, .inl l6)] → tw_W p l e R s m args below meth c σ H locs (tw_E below G (tw_Qi G Q) X args s R) (F0 m 26 ls [])) (l0 : Option Nat) (l1 : Int32) (l2 : Option Nat) (l3 : Int32) (l4 : Int32) (l5 : Int32) (l6 : Int32) (σ : Tst) (H : Heap) (locs : List Loc) (ls : Array Slot) (hw : w_X4_areLike_b65 k26 Q X l0 l1 l2 l3 l4 l5 l6 σ) (hR : tw_R G σ H) (hS : va_S (tw_A G) s.heap H locs) (hl : tw_l ls 7 [(0, .inr l0), (1, .inl l1), (2, .inr l2), (3, .inl l3), (4, .inl l4), (5, .inl l5), (6, .inl l6)]) : tw_W p l e R s m args below meth c σ H locs (tw_E below G (tw_Qi G Q) X args s R) (F0 m 65 ls []) := by
  unfold w_X4_areLike_b65 at hw
  refine tk_iload C hl 4 dX4_areLike_65 rfl ?_
  refine lv_if_ne (tgt := 135) C.hx C.hb dX4_areLike_67 (by decide) (fun c67 => ?_) (fun c67 => ?_)
  · replace hw := hw.2 c67
    exact wk_X4_areLike_b135 C hr hmn hnx hfr hRl hk26 _ _ _ _ _ _ _ σ _ _ _ hw hR hS (tk_sub hl [0, 1, 2, 3, 4, 5, 6] rfl)
  · replace hw := hw.1 c67
    refine tk_aload_n C hl 0 dX4_areLike_70 rfl ?_
    refine tk_grN C hR hw rfl in_X5 (by decide) q2019 (fun _ h => h) dX4_areLike_71 (fun x1 hw => ?_)
    refine tk_iload_n C hl 1 dX4_areLike_74 rfl ?_
    refine tk_iload C hl 6 dX4_areLike_75 rfl ?_
    refine lv_iadd C.hx C.hb dX4_areLike_77 ?_
    refine tk_li C hR hw dX4_areLike_78 (fun x2 hw => ?_)
    refine tk_aload_n C hl 2 dX4_areLike_79 rfl ?_
    refine tk_grN C hR hw rfl in_X5 (by decide) q2019 (fun _ h => h) dX4_areLike_80 (fun x3 hw => ?_)
    refine tk_iload_n C hl 3 dX4_areLike_83 rfl ?_
    refine tk_iload C hl 6 dX4_areLike_84 rfl ?_
    refine lv_iadd C.hx C.hb dX4_areLike_86 ?_
    refine tk_li C hR hw dX4_areLike_87 (fun x4 hw => ?_)
    refine lv_icmp_ne (tgt := 133) C.hx C.hb dX4_areLike_88 (by decide) (fun c88 => ?_) (fun c88 => ?_)
    · replace hw := hw.2 c88
      exact wk_X4_areLike_b133 C hr hmn hnx hfr hRl σ _ _ _ hw hR hS (tk_sub hl [] rfl)
    · replace hw := hw.1 c88
      refine tk_aload_n C hl 0 dX4_areLike_91 rfl ?_
      refine tk_grN C hR hw rfl in_X5 (by decide) q2021 (fun _ h => h) dX4_areLike_92 (fun x5 hw => ?_)
      refine tk_iload_n C hl 1 dX4_areLike_95 rfl ?_
      refine tk_iload C hl 6 dX4_areLike_96 rfl ?_
      refine lv_iadd C.hx C.hb dX4_areLike_98 ?_
      refine tk_li C hR hw dX4_areLike_99 (fun x6 hw => ?_)
      refine tk_aload_n C hl 2 dX4_areLike_100 rfl ?_
      refine tk_grN C hR hw rfl in_X5 (by decide) q2021 (fun _ h => h) dX4_areLike_101 (fun x7 hw => ?_)
      refine tk_iload_n C hl 3 dX4_areLike_104 rfl ?_
      refine tk_iload C hl 6 dX4_areLike_105 rfl ?_
      refine lv_iadd C.hx C.hb dX4_areLike_107 ?_
      refine tk_li C hR hw dX4_areLike_108 (fun x8 hw => ?_)
      refine lv_icmp_ne (tgt := 133) C.hx C.hb dX4_areLike_109 (by decide) (fun c109 => ?_) (fun c109 => ?_)
      · replace hw := hw.2 c109
        exact wk_X4_areLike_b133 C hr hmn hnx hfr hRl σ _ _ _ hw hR hS (tk_sub hl [] rfl)
      · replace hw := hw.1 c109
        refine tk_aload_n C hl 0 dX4_areLike_112 rfl ?_
        refine tk_grN C hR hw rfl in_X5 (by decide) q2023 (fun _ h => h) dX4_areLike_113 (fun x9 hw => ?_)
        refine tk_iload_n C hl 1 dX4_areLike_116 rfl ?_
        refine tk_iload C hl 6 dX4_areLike_117 rfl ?_
        refine lv_iadd C.hx C.hb dX4_areLike_119 ?_
        refine tk_li C hR hw dX4_areLike_120 (fun x10 hw => ?_)
        refine tk_aload_n C hl 2 dX4_areLike_121 rfl ?_
        refine tk_grN C hR hw rfl in_X5 (by decide) q2023 (fun _ h => h) dX4_areLike_122 (fun x11 hw => ?_)
        refine tk_iload_n C hl 3 dX4_areLike_125 rfl ?_
        refine tk_iload C hl 6 dX4_areLike_126 rfl ?_
        refine lv_iadd C.hx C.hb dX4_areLike_128 ?_
        refine tk_li C hR hw dX4_areLike_129 (fun x12 hw => ?_)
        refine lv_icmp_eq (tgt := 135) C.hx C.hb dX4_areLike_130 (by decide) (fun c130 => ?_) (fun c130 => ?_)
        · replace hw := hw.1 c130
          exact wk_X4_areLike_b135 C hr hmn hnx hfr hRl hk26 _ _ _ _ _ _ _ σ _ _ _ hw hR hS (tk_sub hl [0, 1, 2, 3, 4, 5, 6] rfl)
        · replace hw := hw.2 c130
          exact wk_X4_areLike_b133 C hr hmn hnx hfr hRl σ _ _ _ hw hR hS (tk_sub hl [] rfl)
set_option maxHeartbeats 4000000 in
theorem wk_X4_areLike_b26  (C : tw_C p l R s m args meth c G cX4_areLike 7 yX4_areLike.cls) (hr : meth.sig.returnType = (some .boolean)) (hmn : meth.name = yX4_areLike.name) (hnx : (∀ x ∈ c.exceptionTable.toList, False)) (hfr : 2 ≤ R.frames) (hRl : R.locals = 40 * R.frames) {Q : Int32 → Tst → Prop} {X : String → Nat → Tst → Prop}  : ∀ (n : Nat) (l0 : Option Nat) (l1 : Int32) (l2 : Option Nat) (l3 : Int32) (l4 : Int32) (l5 : Int32) (l6 : Int32) (σ : Tst) (H : Heap) (locs : List Loc) (ls : Array Slot), w_X4_areLike_b26 Q X n l0 l1 l2 l3 l4 l5 l6 σ → tw_R G σ H → va_S (tw_A G) s.heap H locs → tw_l ls 7 [(0, .inr l0), (1, .inl l1), (2, .inr l2), (3, .inl l3), (4, .inl l4), (5, .inl l5), (6, .inl l6)] → tw_W p l e R s m args below meth c σ H locs (tw_E below G (tw_Qi G Q) X args s R) (F0 m 26 ls []) := by
  intro n
  induction n with
  | zero => intro l0 l1 l2 l3 l4 l5 l6 σ H locs ls hw; exact False.elim hw
  | succ n hk26 =>
    intro l0 l1 l2 l3 l4 l5 l6 σ H locs ls hw hR hS hl
    rw [w_X4_areLike_b26] at hw
    refine tk_iload C hl 6 dX4_areLike_26 rfl ?_
    refine tk_iload C hl 5 dX4_areLike_28 rfl ?_
    refine lv_icmp_ge (tgt := 141) C.hx C.hb dX4_areLike_30 (by decide) (fun c30 => ?_) (fun c30 => ?_)
    · replace hw := hw.1 c30
      refine lv_iconst (v := 1) C.hx C.hb dX4_areLike_141 (by decide) ?_
      obtain ⟨hok, hw⟩ := hw
      exact tw_iret C hR hS hr hok dX4_areLike_142 hw
    · replace hw := hw.2 c30
      refine tk_iload C hl 6 dX4_areLike_33 rfl ?_
      refine lv_if_le (tgt := 65) C.hx C.hb dX4_areLike_35 (by decide) (fun c35 => ?_) (fun c35 => ?_)
      · replace hw := hw.1 c35
        exact wk_X4_areLike_b65 C hr hmn hnx hfr hRl hk26 _ _ _ _ _ _ _ σ _ _ _ hw hR hS (tk_sub hl [0, 1, 2, 3, 4, 5, 6] rfl)
      · replace hw := hw.2 c35
        refine tk_aload_n C hl 0 dX4_areLike_38 rfl ?_
        refine tk_grN C hR hw rfl in_X5 (by decide) q2025 (fun _ h => h) dX4_areLike_39 (fun x1 hw => ?_)
        refine tk_iload_n C hl 1 dX4_areLike_42 rfl ?_
        refine tk_iload C hl 6 dX4_areLike_43 rfl ?_
        refine lv_iadd C.hx C.hb dX4_areLike_45 ?_
        refine tk_li C hR hw dX4_areLike_46 (fun x2 hw => ?_)
        refine tk_iload_n C hl 1 dX4_areLike_47 rfl ?_
        refine lv_isub C.hx C.hb dX4_areLike_48 ?_
        refine tk_aload_n C hl 2 dX4_areLike_49 rfl ?_
        refine tk_grN C hR hw rfl in_X5 (by decide) q2025 (fun _ h => h) dX4_areLike_50 (fun x3 hw => ?_)
        refine tk_iload_n C hl 3 dX4_areLike_53 rfl ?_
        refine tk_iload C hl 6 dX4_areLike_54 rfl ?_
        refine lv_iadd C.hx C.hb dX4_areLike_56 ?_
        refine tk_li C hR hw dX4_areLike_57 (fun x4 hw => ?_)
        refine tk_iload_n C hl 3 dX4_areLike_58 rfl ?_
        refine lv_isub C.hx C.hb dX4_areLike_59 ?_
        refine lv_icmp_eq (tgt := 65) C.hx C.hb dX4_areLike_60 (by decide) (fun c60 => ?_) (fun c60 => ?_)
        · replace hw := hw.1 c60
          exact wk_X4_areLike_b65 C hr hmn hnx hfr hRl hk26 _ _ _ _ _ _ _ σ _ _ _ hw hR hS (tk_sub hl [0, 1, 2, 3, 4, 5, 6] rfl)
        · replace hw := hw.2 c60
          refine lv_iconst (v := 0) C.hx C.hb dX4_areLike_63 (by decide) ?_
          obtain ⟨hok, hw⟩ := hw
          exact tw_iret C hR hS hr hok dX4_areLike_64 hw
set_option maxHeartbeats 4000000 in
theorem wk_X4_areLike (l : Launch) (hl0 : l.stackTraces = false) (G : Tgl) (fr : Nat)  (hfr : 2 ≤ fr) (l0 : Option Nat) (l1 : Int32) (l2 : Option Nat) (l3 : Int32) (l4 : Int32) (Q : Int32 → Tst → Prop) (X : String → Nat → Tst → Prop) (σ : Tst) (hw : w_X4_areLike l0 l1 l2 l3 l4 Q X σ) : tw_M l yX4_areLike (ws_ yX4_areLike cX4_areLike 7 (some .boolean)) fr (40 * fr) G σ [.inr l0, .inl l1, .inr l2, .inl l3, .inl l4] (tw_Qi G Q) X := by
  unfold w_X4_areLike at hw
  refine tw_of (ret := (some .boolean)) hl0 (by decide) (Nat.le_of_ble_eq_true rfl) (fun p e R s m args below meth c hRf hRl C hr hmn hnx hR hS ls hl => ?_)
  have hfr : 2 ≤ R.frames := by rw [hRf]; exact hfr
  have hRl : R.locals = 40 * R.frames := by rw [hRl, hRf]
  have hl : tw_l ls 7 [(0, .inr l0), (1, .inl l1), (2, .inr l2), (3, .inl l3), (4, .inl l4)] := hl
  refine tk_aload_n C hl 0 dX4_areLike_0 rfl ?_
  refine tk_iload_n C hl 1 dX4_areLike_1 rfl ?_
  obtain ⟨hv, hw⟩ := hw
  refine tw_cbi C hS (tk_runVN (As := [.inl l1]) C hR hS (wk_X5_end l C.hst G (R.frames - 1) (by omega) _ _ _ _ σ hw) hv rfl q2262 q2264 qs37 q75 q2265 pd_X5_end ⟨by omega, by omega⟩ hl.1 rfl (tw_r8 [] (Nat.le_of_ble_eq_true rfl)) dX4_areLike_2) (fun E q σ H locs hX hR hS hi => tw_out C hR hS (fun x hx => (hnx x hx).elim) hi hX) (fun x1 σ H locs hw hR hS => ?_)
  refine tk_iload_n C hl 1 dX4_areLike_5 rfl ?_
  refine lv_isub C.hx C.hb dX4_areLike_6 ?_
  refine tk_istore (L' := [(5, .inl (x1 - l1)), (0, .inr l0), (1, .inl l1), (2, .inr l2), (3, .inl l3), (4, .inl l4)]) C hl dX4_areLike_7 (by decide) rfl (fun ls hl => ?_)
  refine tk_iload C hl 0 dX4_areLike_9 rfl ?_
  refine tk_aload_n C hl 3 dX4_areLike_11 rfl ?_
  refine tk_iload_n C hl 4 dX4_areLike_12 rfl ?_
  obtain ⟨hv, hw⟩ := hw
  refine tw_cbi C hS (tk_runVN (As := [.inl l3]) C hR hS (wk_X5_end l C.hst G (R.frames - 1) (by omega) _ _ _ _ σ hw) hv rfl q2262 q2264 qs37 q75 q2265 pd_X5_end ⟨by omega, by omega⟩ hl.1 rfl (tw_r8 [.inl (x1 - l1)] (Nat.le_of_ble_eq_true rfl)) dX4_areLike_13) (fun E q σ H locs hX hR hS hi => tw_out C hR hS (fun x hx => (hnx x hx).elim) hi hX) (fun x2 σ H locs hw hR hS => ?_)
  refine tk_iload_n C hl 4 dX4_areLike_16 rfl ?_
  refine lv_isub C.hx C.hb dX4_areLike_17 ?_
  refine lv_icmp_eq (tgt := 23) C.hx C.hb dX4_areLike_18 (by decide) (fun c18 => ?_) (fun c18 => ?_)
  · replace hw := hw.1 c18
    refine lv_iconst (v := 0) C.hx C.hb dX4_areLike_23 (by decide) ?_
    refine tk_istore (L' := [(6, .inl 0), (5, .inl (x1 - l1)), (0, .inr l0), (1, .inl l1), (2, .inr l2), (3, .inl l3), (4, .inl l4)]) C hl dX4_areLike_24 (by decide) rfl (fun ls hl => ?_)
    obtain ⟨z, hw⟩ := hw
    exact wk_X4_areLike_b26 C hr hmn hnx hfr hRl z _ _ _ _ _ _ _ σ _ _ _ hw hR hS (tk_sub hl [2, 3, 4, 5, 6, 1, 0] rfl)
  · replace hw := hw.2 c18
    refine lv_iconst (v := 0) C.hx C.hb dX4_areLike_21 (by decide) ?_
    obtain ⟨hok, hw⟩ := hw
    exact tw_iret C hR hS hr hok dX4_areLike_22 hw
-- TreeDifferModel.areEqual(IIII)Z
def w_X4_areEqual_b46 (Q : Int32 → Tst → Prop) (X : String → Nat → Tst → Prop) (s0 : Int32) (σ : Tst) : Prop := narrow .boolean (.int s0) = .int s0 ∧ Q s0 σ
def w_X4_areEqual_b45 (Q : Int32 → Tst → Prop) (X : String → Nat → Tst → Prop) (σ : Tst) : Prop := w_X4_areEqual_b46 Q X 0 σ
def w_X4_areEqual (l0 : Option Nat) (l1 : Int32) (l2 : Int32) (l3 : Int32) (l4 : Int32) (Q : Int32 → Tst → Prop) (X : String → Nat → Tst → Prop) (σ : Tst) : Prop := w_rc σ l0 cX4 <| w_X4_isNowhere l0 l1 l2 (fun x1 σ => w_if (x1 = 0) (w_rc σ l0 cX4 <| w_X4_isNowhere l0 l3 l4 (fun x2 σ => w_if (x2 = 0) (w_gr σ l0 cX4 0 fun x3 => w_lr σ x3 l1 fun x4 => w_gr σ l0 cX4 0 fun x5 => w_lr σ x5 l3 fun x6 => w_X4_areLike x4 l2 x6 l4 0 (fun x7 σ => w_if (x7 = 0) (w_X4_areEqual_b45 Q X σ) (w_X4_areEqual_b46 Q X 1 σ)) X σ) (w_X4_areEqual_b45 Q X σ)) X σ) (w_X4_areEqual_b45 Q X σ)) X σ
set_option maxHeartbeats 4000000 in
theorem wk_X4_areEqual_b46  (C : tw_C p l R s m args meth c G cX4_areEqual 5 yX4_areEqual.cls) (hr : meth.sig.returnType = (some .boolean)) (hmn : meth.name = yX4_areEqual.name) (hnx : (∀ x ∈ c.exceptionTable.toList, False)) (hfr : 5 ≤ R.frames) (hRl : R.locals = 40 * R.frames) {Q : Int32 → Tst → Prop} {X : String → Nat → Tst → Prop}  (s0 : Int32) (σ : Tst) (H : Heap) (locs : List Loc) (ls : Array Slot) (hw : w_X4_areEqual_b46 Q X s0 σ) (hR : tw_R G σ H) (hS : va_S (tw_A G) s.heap H locs) (hl : tw_l ls 5 []) : tw_W p l e R s m args below meth c σ H locs (tw_E below G (tw_Qi G Q) X args s R) (F0 m 46 ls [.int s0]) := by
  unfold w_X4_areEqual_b46 at hw
  obtain ⟨hok, hw⟩ := hw
  exact tw_iret C hR hS hr hok dX4_areEqual_46 hw
set_option maxHeartbeats 4000000 in
theorem wk_X4_areEqual_b45  (C : tw_C p l R s m args meth c G cX4_areEqual 5 yX4_areEqual.cls) (hr : meth.sig.returnType = (some .boolean)) (hmn : meth.name = yX4_areEqual.name) (hnx : (∀ x ∈ c.exceptionTable.toList, False)) (hfr : 5 ≤ R.frames) (hRl : R.locals = 40 * R.frames) {Q : Int32 → Tst → Prop} {X : String → Nat → Tst → Prop}   (σ : Tst) (H : Heap) (locs : List Loc) (ls : Array Slot) (hw : w_X4_areEqual_b45 Q X  σ) (hR : tw_R G σ H) (hS : va_S (tw_A G) s.heap H locs) (hl : tw_l ls 5 []) : tw_W p l e R s m args below meth c σ H locs (tw_E below G (tw_Qi G Q) X args s R) (F0 m 45 ls []) := by
  unfold w_X4_areEqual_b45 at hw
  refine lv_iconst (v := 0) C.hx C.hb dX4_areEqual_45 (by decide) ?_
  exact wk_X4_areEqual_b46 C hr hmn hnx hfr hRl _ σ _ _ _ hw hR hS (tk_sub hl [] rfl)
set_option maxHeartbeats 4000000 in
theorem wk_X4_areEqual (l : Launch) (hl0 : l.stackTraces = false) (G : Tgl) (fr : Nat)  (hfr : 5 ≤ fr) (l0 : Option Nat) (l1 : Int32) (l2 : Int32) (l3 : Int32) (l4 : Int32) (Q : Int32 → Tst → Prop) (X : String → Nat → Tst → Prop) (σ : Tst) (hw : w_X4_areEqual l0 l1 l2 l3 l4 Q X σ) : tw_M l yX4_areEqual (ws_ yX4_areEqual cX4_areEqual 5 (some .boolean)) fr (40 * fr) G σ [.inr l0, .inl l1, .inl l2, .inl l3, .inl l4] (tw_Qi G Q) X := by
  unfold w_X4_areEqual at hw
  refine tw_of (ret := (some .boolean)) hl0 (by decide) (Nat.le_of_ble_eq_true rfl) (fun p e R s m args below meth c hRf hRl C hr hmn hnx hR hS ls hl => ?_)
  have hfr : 5 ≤ R.frames := by rw [hRf]; exact hfr
  have hRl : R.locals = 40 * R.frames := by rw [hRl, hRf]
  have hl : tw_l ls 5 [(0, .inr l0), (1, .inl l1), (2, .inl l2), (3, .inl l3), (4, .inl l4)] := hl
  refine tk_aload_n C hl 0 dX4_areEqual_0 rfl ?_
  refine tk_iload_n C hl 1 dX4_areEqual_1 rfl ?_
  refine tk_iload_n C hl 2 dX4_areEqual_2 rfl ?_
  obtain ⟨hv, hw⟩ := hw
  refine tw_cbi C hS (tk_runV (As := [.inl l1, .inl l2]) C hR hS (wk_X4_isNowhere l C.hst G (R.frames - 1) (by omega) _ _ _ _ _ σ hw) hv rfl q2251 q2253 qs35 q74 q2254 pd_X4_isNowhere ⟨by omega, by omega⟩ hl.1 rfl (tw_r8 [] (Nat.le_of_ble_eq_true rfl)) dX4_areEqual_3) (fun E q σ H locs hX hR hS hi => tw_out C hR hS (fun x hx => (hnx x hx).elim) hi hX) (fun x1 σ H locs hw hR hS => ?_)
  refine lv_if_ne (tgt := 45) C.hx C.hb dX4_areEqual_6 (by decide) (fun c6 => ?_) (fun c6 => ?_)
  · replace hw := hw.2 c6
    exact wk_X4_areEqual_b45 C hr hmn hnx hfr hRl σ _ _ _ hw hR hS (tk_sub hl [] rfl)
  · replace hw := hw.1 c6
    refine tk_aload_n C hl 0 dX4_areEqual_9 rfl ?_
    refine tk_iload_n C hl 3 dX4_areEqual_10 rfl ?_
    refine tk_iload C hl 4 dX4_areEqual_11 rfl ?_
    obtain ⟨hv, hw⟩ := hw
    refine tw_cbi C hS (tk_runV (As := [.inl l3, .inl l4]) C hR hS (wk_X4_isNowhere l C.hst G (R.frames - 1) (by omega) _ _ _ _ _ σ hw) hv rfl q2251 q2253 qs35 q74 q2254 pd_X4_isNowhere ⟨by omega, by omega⟩ hl.1 rfl (tw_r8 [] (Nat.le_of_ble_eq_true rfl)) dX4_areEqual_13) (fun E q σ H locs hX hR hS hi => tw_out C hR hS (fun x hx => (hnx x hx).elim) hi hX) (fun x2 σ H locs hw hR hS => ?_)
    refine lv_if_ne (tgt := 45) C.hx C.hb dX4_areEqual_16 (by decide) (fun c16 => ?_) (fun c16 => ?_)
    · replace hw := hw.2 c16
      exact wk_X4_areEqual_b45 C hr hmn hnx hfr hRl σ _ _ _ hw hR hS (tk_sub hl [] rfl)
    · replace hw := hw.1 c16
      refine tk_aload_n C hl 0 dX4_areEqual_19 rfl ?_
      refine tk_gr C hR hw rfl in_X4 (by decide) q2052 (fun _ h => h) dX4_areEqual_20 (fun x3 hw => ?_)
      refine tk_iload_n C hl 1 dX4_areEqual_23 rfl ?_
      refine tk_lr C hR hw dX4_areEqual_24 (fun x4 hw => ?_)
      refine tk_iload_n C hl 2 dX4_areEqual_25 rfl ?_
      refine tk_aload_n C hl 0 dX4_areEqual_26 rfl ?_
      refine tk_gr C hR hw rfl in_X4 (by decide) q2052 (fun _ h => h) dX4_areEqual_27 (fun x5 hw => ?_)
      refine tk_iload_n C hl 3 dX4_areEqual_30 rfl ?_
      refine tk_lr C hR hw dX4_areEqual_31 (fun x6 hw => ?_)
      refine tk_iload C hl 4 dX4_areEqual_32 rfl ?_
      refine lv_iconst (v := 0) C.hx C.hb dX4_areEqual_34 (by decide) ?_
      refine tw_cbi C hS (tw_runS (As := [.inr x4, .inl l2, .inr x6, .inl l4, .inl 0]) C hR hS (wk_X4_areLike l C.hst G (R.frames - 1) (by omega) _ _ _ _ _ _ _ σ hw) q2337 q2338 q74 q2339 pd_X4_areLike ⟨by omega, by omega⟩ hl.1 rfl (tw_r8 [] (Nat.le_of_ble_eq_true rfl)) dX4_areEqual_35) (fun E q σ H locs hX hR hS hi => tw_out C hR hS (fun x hx => (hnx x hx).elim) hi hX) (fun x7 σ H locs hw hR hS => ?_)
      refine lv_if_eq (tgt := 45) C.hx C.hb dX4_areEqual_38 (by decide) (fun c38 => ?_) (fun c38 => ?_)
      · replace hw := hw.1 c38
        exact wk_X4_areEqual_b45 C hr hmn hnx hfr hRl σ _ _ _ hw hR hS (tk_sub hl [] rfl)
      · replace hw := hw.2 c38
        refine lv_iconst (v := 1) C.hx C.hb dX4_areEqual_41 (by decide) ?_
        refine lv_goto (tgt := 46) C.hx C.hb dX4_areEqual_42 (by decide) ?_
        exact wk_X4_areEqual_b46 C hr hmn hnx hfr hRl _ σ _ _ _ hw hR hS (tk_sub hl [] rfl)
-- TreeDifferModel.finds(IIIZ)I
def w_X4_finds_b37 (Q : Int32 → Tst → Prop) (X : String → Nat → Tst → Prop) : Nat → Option Nat → Int32 → Int32 → Int32 → Int32 → Int32 → Tst → Prop
  | 0, _, _, _, _, _, _, _ => False
  | n + 1, l0, l1, l2, l3, l4, l5, σ => w_gr σ l0 cX4 0 fun x1 => w_lr σ x1 l3 fun x2 => w_gi σ x2 cX5 4 fun x3 => w_if (x3 ≤ l5) (w_rc σ l0 cX4 <| w_X4_fails l0 2 (fun x4 σ => Q x4 σ) X σ) (w_gr σ l0 cX4 0 fun x5 => w_lr σ x5 l1 fun x6 => w_gr σ l0 cX4 0 fun x7 => w_lr σ x7 l3 fun x8 => w_X4_areLike x6 l2 x8 l5 l4 (fun x9 σ => w_if (x9 = 0) ((w_X4_finds_b37 Q X n) l0 l1 l2 l3 l4 (l5 + 1) σ) (Q l5 σ)) X σ)
def w_X4_finds_b22 (Q : Int32 → Tst → Prop) (X : String → Nat → Tst → Prop) (l0 : Option Nat) (l1 : Int32) (l2 : Int32) (l3 : Int32) (l4 : Int32) (s0 : Option Nat) (s1 : Int32) (σ : Tst) : Prop := w_p σ s0 cX4 1 (.inl s1) fun σ => w_gi σ l0 cX4 1 fun x1 => w_if (x1 ≤ 0) (∃ z, w_X4_finds_b37 Q X z l0 l1 l2 l3 l4 0 σ) (Q 0 σ)
def w_X4_finds_b21 (Q : Int32 → Tst → Prop) (X : String → Nat → Tst → Prop) (l0 : Option Nat) (l1 : Int32) (l2 : Int32) (l3 : Int32) (l4 : Int32) (s0 : Option Nat) (σ : Tst) : Prop := w_X4_finds_b22 Q X l0 l1 l2 l3 l4 s0 1 σ
def w_X4_finds (l0 : Option Nat) (l1 : Int32) (l2 : Int32) (l3 : Int32) (l4 : Int32) (Q : Int32 → Tst → Prop) (X : String → Nat → Tst → Prop) (σ : Tst) : Prop := w_rc σ l0 cX4 <| w_X4_isNode l0 l1 l2 (fun x1 σ => w_if (x1 = 0) (w_X4_finds_b21 Q X l0 l1 l2 l3 l4 l0 σ) (w_X4_isTree l3 (fun x2 σ => w_if (x2 = 0) (w_X4_finds_b21 Q X l0 l1 l2 l3 l4 l0 σ) (w_X4_finds_b22 Q X l0 l1 l2 l3 l4 l0 0 σ)) X σ)) X σ
set_option maxHeartbeats 4000000 in
theorem wk_X4_finds_b37  (C : tw_C p l R s m args meth c G cX4_finds 6 yX4_finds.cls) (hr : meth.sig.returnType = (some .int)) (hmn : meth.name = yX4_finds.name) (hnx : (∀ x ∈ c.exceptionTable.toList, False)) (hfr : 4 ≤ R.frames) (hRl : R.locals = 40 * R.frames) {Q : Int32 → Tst → Prop} {X : String → Nat → Tst → Prop}  : ∀ (n : Nat) (l0 : Option Nat) (l1 : Int32) (l2 : Int32) (l3 : Int32) (l4 : Int32) (l5 : Int32) (σ : Tst) (H : Heap) (locs : List Loc) (ls : Array Slot), w_X4_finds_b37 Q X n l0 l1 l2 l3 l4 l5 σ → tw_R G σ H → va_S (tw_A G) s.heap H locs → tw_l ls 6 [(0, .inr l0), (1, .inl l1), (2, .inl l2), (3, .inl l3), (4, .inl l4), (5, .inl l5)] → tw_W p l e R s m args below meth c σ H locs (tw_E below G (tw_Qi G Q) X args s R) (F0 m 37 ls []) := by
  intro n
  induction n with
  | zero => intro l0 l1 l2 l3 l4 l5 σ H locs ls hw; exact False.elim hw
  | succ n hk37 =>
    intro l0 l1 l2 l3 l4 l5 σ H locs ls hw hR hS hl
    rw [w_X4_finds_b37] at hw
    refine tk_iload C hl 5 dX4_finds_37 rfl ?_
    refine tk_aload_n C hl 0 dX4_finds_39 rfl ?_
    refine tk_gr C hR hw rfl in_X4 (by decide) q2052 (fun _ h => h) dX4_finds_40 (fun x1 hw => ?_)
    refine tk_iload_n C hl 3 dX4_finds_43 rfl ?_
    refine tk_lr C hR hw dX4_finds_44 (fun x2 hw => ?_)
    refine tk_giN C hR hw rfl in_X5 (by decide) q2027 (fun _ h => h) dX4_finds_45 (fun x3 hw => ?_)
    refine lv_icmp_ge (tgt := 83) C.hx C.hb dX4_finds_48 (by decide) (fun c48 => ?_) (fun c48 => ?_)
    · replace hw := hw.1 c48
      refine tk_aload_n C hl 0 dX4_finds_83 rfl ?_
      refine lv_iconst (v := 2) C.hx C.hb dX4_finds_84 (by decide) ?_
      obtain ⟨hv, hw⟩ := hw
      refine tw_cbi C hS (tk_runV (As := [.inl 2]) C hR hS (wk_X4_fails l C.hst G (R.frames - 1) (by omega) _ _ _ _ σ hw) hv rfl q2155 q2157 qs24 q74 q2158 pd_X4_fails ⟨by omega, by omega⟩ hl.1 rfl (tw_r8 [] (Nat.le_of_ble_eq_true rfl)) dX4_finds_85) (fun E q σ H locs hX hR hS hi => tw_out C hR hS (fun x hx => (hnx x hx).elim) hi hX) (fun x4 σ H locs hw hR hS => ?_)
      exact tw_iret C hR hS hr rfl dX4_finds_88 hw
    · replace hw := hw.2 c48
      refine tk_aload_n C hl 0 dX4_finds_51 rfl ?_
      refine tk_gr C hR hw rfl in_X4 (by decide) q2052 (fun _ h => h) dX4_finds_52 (fun x5 hw => ?_)
      refine tk_iload_n C hl 1 dX4_finds_55 rfl ?_
      refine tk_lr C hR hw dX4_finds_56 (fun x6 hw => ?_)
      refine tk_iload_n C hl 2 dX4_finds_57 rfl ?_
      refine tk_aload_n C hl 0 dX4_finds_58 rfl ?_
      refine tk_gr C hR hw rfl in_X4 (by decide) q2052 (fun _ h => h) dX4_finds_59 (fun x7 hw => ?_)
      refine tk_iload_n C hl 3 dX4_finds_62 rfl ?_
      refine tk_lr C hR hw dX4_finds_63 (fun x8 hw => ?_)
      refine tk_iload C hl 5 dX4_finds_64 rfl ?_
      refine tk_iload C hl 4 dX4_finds_66 rfl ?_
      refine tw_cbi C hS (tw_runS (As := [.inr x6, .inl l2, .inr x8, .inl l5, .inl l4]) C hR hS (wk_X4_areLike l C.hst G (R.frames - 1) (by omega) _ _ _ _ _ _ _ σ hw) q2337 q2338 q74 q2339 pd_X4_areLike ⟨by omega, by omega⟩ hl.1 rfl (tw_r8 [] (Nat.le_of_ble_eq_true rfl)) dX4_finds_68) (fun E q σ H locs hX hR hS hi => tw_out C hR hS (fun x hx => (hnx x hx).elim) hi hX) (fun x9 σ H locs hw hR hS => ?_)
      refine lv_if_eq (tgt := 77) C.hx C.hb dX4_finds_71 (by decide) (fun c71 => ?_) (fun c71 => ?_)
      · replace hw := hw.1 c71
        refine tk_iinc (L' := [(5, .inl (l5 + 1)), (0, .inr l0), (1, .inl l1), (2, .inl l2), (3, .inl l3), (4, .inl l4)]) (y := (l5 + 1)) C hl 5 dX4_finds_77 rfl rfl (by decide) rfl (fun ls hl => ?_)
        refine lv_goto (tgt := 37) C.hx C.hb dX4_finds_80 (by decide) ?_
        exact hk37 _ _ _ _ _ _ σ _ _ _ hw hR hS (tk_sub hl [1, 2, 3, 4, 5, 0] rfl)
      · replace hw := hw.2 c71
        refine tk_iload C hl 5 dX4_finds_74 rfl ?_
        exact tw_iret C hR hS hr rfl dX4_finds_76 hw
set_option maxHeartbeats 4000000 in
theorem wk_X4_finds_b22  (C : tw_C p l R s m args meth c G cX4_finds 6 yX4_finds.cls) (hr : meth.sig.returnType = (some .int)) (hmn : meth.name = yX4_finds.name) (hnx : (∀ x ∈ c.exceptionTable.toList, False)) (hfr : 4 ≤ R.frames) (hRl : R.locals = 40 * R.frames) {Q : Int32 → Tst → Prop} {X : String → Nat → Tst → Prop}  (l0 : Option Nat) (l1 : Int32) (l2 : Int32) (l3 : Int32) (l4 : Int32) (s0 : Option Nat) (s1 : Int32) (σ : Tst) (H : Heap) (locs : List Loc) (ls : Array Slot) (hw : w_X4_finds_b22 Q X l0 l1 l2 l3 l4 s0 s1 σ) (hR : tw_R G σ H) (hS : va_S (tw_A G) s.heap H locs) (hl : tw_l ls 6 [(0, .inr l0), (1, .inl l1), (2, .inl l2), (3, .inl l3), (4, .inl l4)]) : tw_W p l e R s m args below meth c σ H locs (tw_E below G (tw_Qi G Q) X args s R) (F0 m 22 ls [.int s1, va_rf s0]) := by
  unfold w_X4_finds_b22 at hw
  refine tk_p (x := .inl s1) C hR hS hw (by decide) rfl in_X4 tyX4 tyX4_ok nmX4 (by decide) q2053 (fun _ h => h) rfl (tw_ni _) dX4_finds_22 (fun σ H locs hw hR hS => ?_)
  refine tk_aload_n C hl 0 dX4_finds_25 rfl ?_
  refine tk_gi C hR hw rfl in_X4 (by decide) q2053 (fun _ h => h) dX4_finds_26 (fun x1 hw => ?_)
  refine lv_if_le (tgt := 34) C.hx C.hb dX4_finds_29 (by decide) (fun c29 => ?_) (fun c29 => ?_)
  · replace hw := hw.1 c29
    refine lv_iconst (v := 0) C.hx C.hb dX4_finds_34 (by decide) ?_
    refine tk_istore (L' := [(5, .inl 0), (0, .inr l0), (1, .inl l1), (2, .inl l2), (3, .inl l3), (4, .inl l4)]) C hl dX4_finds_35 (by decide) rfl (fun ls hl => ?_)
    obtain ⟨z, hw⟩ := hw
    exact wk_X4_finds_b37 C hr hmn hnx hfr hRl z _ _ _ _ _ _ σ _ _ _ hw hR hS (tk_sub hl [1, 2, 3, 4, 5, 0] rfl)
  · replace hw := hw.2 c29
    refine lv_iconst (v := 0) C.hx C.hb dX4_finds_32 (by decide) ?_
    exact tw_iret C hR hS hr rfl dX4_finds_33 hw
set_option maxHeartbeats 4000000 in
theorem wk_X4_finds_b21  (C : tw_C p l R s m args meth c G cX4_finds 6 yX4_finds.cls) (hr : meth.sig.returnType = (some .int)) (hmn : meth.name = yX4_finds.name) (hnx : (∀ x ∈ c.exceptionTable.toList, False)) (hfr : 4 ≤ R.frames) (hRl : R.locals = 40 * R.frames) {Q : Int32 → Tst → Prop} {X : String → Nat → Tst → Prop}  (l0 : Option Nat) (l1 : Int32) (l2 : Int32) (l3 : Int32) (l4 : Int32) (s0 : Option Nat) (σ : Tst) (H : Heap) (locs : List Loc) (ls : Array Slot) (hw : w_X4_finds_b21 Q X l0 l1 l2 l3 l4 s0 σ) (hR : tw_R G σ H) (hS : va_S (tw_A G) s.heap H locs) (hl : tw_l ls 6 [(0, .inr l0), (1, .inl l1), (2, .inl l2), (3, .inl l3), (4, .inl l4)]) : tw_W p l e R s m args below meth c σ H locs (tw_E below G (tw_Qi G Q) X args s R) (F0 m 21 ls [va_rf s0]) := by
  unfold w_X4_finds_b21 at hw
  refine lv_iconst (v := 1) C.hx C.hb dX4_finds_21 (by decide) ?_
  exact wk_X4_finds_b22 C hr hmn hnx hfr hRl _ _ _ _ _ _ _ σ _ _ _ hw hR hS (tk_sub hl [0, 1, 2, 3, 4] rfl)
set_option maxHeartbeats 4000000 in
theorem wk_X4_finds (l : Launch) (hl0 : l.stackTraces = false) (G : Tgl) (fr : Nat)  (hfr : 4 ≤ fr) (l0 : Option Nat) (l1 : Int32) (l2 : Int32) (l3 : Int32) (l4 : Int32) (Q : Int32 → Tst → Prop) (X : String → Nat → Tst → Prop) (σ : Tst) (hw : w_X4_finds l0 l1 l2 l3 l4 Q X σ) : tw_M l yX4_finds (ws_ yX4_finds cX4_finds 6 (some .int)) fr (40 * fr) G σ [.inr l0, .inl l1, .inl l2, .inl l3, .inl l4] (tw_Qi G Q) X := by
  unfold w_X4_finds at hw
  refine tw_of (ret := (some .int)) hl0 (by decide) (Nat.le_of_ble_eq_true rfl) (fun p e R s m args below meth c hRf hRl C hr hmn hnx hR hS ls hl => ?_)
  have hfr : 4 ≤ R.frames := by rw [hRf]; exact hfr
  have hRl : R.locals = 40 * R.frames := by rw [hRl, hRf]
  have hl : tw_l ls 6 [(0, .inr l0), (1, .inl l1), (2, .inl l2), (3, .inl l3), (4, .inl l4)] := hl
  refine tk_aload_n C hl 0 dX4_finds_0 rfl ?_
  refine tk_aload_n C hl 0 dX4_finds_1 rfl ?_
  refine tk_iload_n C hl 1 dX4_finds_2 rfl ?_
  refine tk_iload_n C hl 2 dX4_finds_3 rfl ?_
  obtain ⟨hv, hw⟩ := hw
  refine tw_cbi C hS (tk_runV (As := [.inl l1, .inl l2]) C hR hS (wk_X4_isNode l C.hst G (R.frames - 1) (by omega) _ _ _ _ _ σ hw) hv rfl q2255 q2257 qs36 q74 q2258 pd_X4_isNode ⟨by omega, by omega⟩ hl.1 rfl (tw_r8 [.inr l0] (Nat.le_of_ble_eq_true rfl)) dX4_finds_4) (fun E q σ H locs hX hR hS hi => tw_out C hR hS (fun x hx => (hnx x hx).elim) hi hX) (fun x1 σ H locs hw hR hS => ?_)
  refine lv_if_eq (tgt := 21) C.hx C.hb dX4_finds_7 (by decide) (fun c7 => ?_) (fun c7 => ?_)
  · replace hw := hw.1 c7
    exact wk_X4_finds_b21 C hr hmn hnx hfr hRl _ _ _ _ _ _ σ _ _ _ hw hR hS (tk_sub hl [0, 1, 2, 3, 4] rfl)
  · replace hw := hw.2 c7
    refine tk_iload_n C hl 3 dX4_finds_10 rfl ?_
    refine tw_cbi C hS (tw_runS (As := [.inl l3]) C hR hS (wk_X4_isTree l C.hst G (R.frames - 1) (by omega) _ _ _ σ hw) q2163 q2164 q74 q2165 pd_X4_isTree ⟨by omega, by omega⟩ hl.1 rfl (tw_r8 [.inr l0] (Nat.le_of_ble_eq_true rfl)) dX4_finds_11) (fun E q σ H locs hX hR hS hi => tw_out C hR hS (fun x hx => (hnx x hx).elim) hi hX) (fun x2 σ H locs hw hR hS => ?_)
    refine lv_if_eq (tgt := 21) C.hx C.hb dX4_finds_14 (by decide) (fun c14 => ?_) (fun c14 => ?_)
    · replace hw := hw.1 c14
      exact wk_X4_finds_b21 C hr hmn hnx hfr hRl _ _ _ _ _ _ σ _ _ _ hw hR hS (tk_sub hl [0, 1, 2, 3, 4] rfl)
    · replace hw := hw.2 c14
      refine lv_iconst (v := 0) C.hx C.hb dX4_finds_17 (by decide) ?_
      refine lv_goto (tgt := 22) C.hx C.hb dX4_finds_18 (by decide) ?_
      exact wk_X4_finds_b22 C hr hmn hnx hfr hRl _ _ _ _ _ _ _ σ _ _ _ hw hR hS (tk_sub hl [0, 1, 2, 3, 4] rfl)
-- TreeDifferModel.twin(III)I
def w_X4_twin (l0 : Option Nat) (l1 : Int32) (l2 : Int32) (l3 : Int32) (Q : Int32 → Tst → Prop) (X : String → Nat → Tst → Prop) (σ : Tst) : Prop := w_rc σ l0 cX4 <| w_X4_finds l0 l1 l2 l3 0 (fun x1 σ => Q x1 σ) X σ
set_option maxHeartbeats 4000000 in
theorem wk_X4_twin (l : Launch) (hl0 : l.stackTraces = false) (G : Tgl) (fr : Nat)  (hfr : 5 ≤ fr) (l0 : Option Nat) (l1 : Int32) (l2 : Int32) (l3 : Int32) (Q : Int32 → Tst → Prop) (X : String → Nat → Tst → Prop) (σ : Tst) (hw : w_X4_twin l0 l1 l2 l3 Q X σ) : tw_M l yX4_twin (ws_ yX4_twin cX4_twin 4 (some .int)) fr (40 * fr) G σ [.inr l0, .inl l1, .inl l2, .inl l3] (tw_Qi G Q) X := by
  unfold w_X4_twin at hw
  refine tw_of (ret := (some .int)) hl0 (by decide) (Nat.le_of_ble_eq_true rfl) (fun p e R s m args below meth c hRf hRl C hr hmn hnx hR hS ls hl => ?_)
  have hfr : 5 ≤ R.frames := by rw [hRf]; exact hfr
  have hRl : R.locals = 40 * R.frames := by rw [hRl, hRf]
  have hl : tw_l ls 4 [(0, .inr l0), (1, .inl l1), (2, .inl l2), (3, .inl l3)] := hl
  refine tk_aload_n C hl 0 dX4_twin_0 rfl ?_
  refine tk_iload_n C hl 1 dX4_twin_1 rfl ?_
  refine tk_iload_n C hl 2 dX4_twin_2 rfl ?_
  refine tk_iload_n C hl 3 dX4_twin_3 rfl ?_
  refine lv_iconst (v := 0) C.hx C.hb dX4_twin_4 (by decide) ?_
  obtain ⟨hv, hw⟩ := hw
  refine tw_cbi C hS (tk_runV (As := [.inl l1, .inl l2, .inl l3, .inl 0]) C hR hS (wk_X4_finds l C.hst G (R.frames - 1) (by omega) _ _ _ _ _ _ _ σ hw) hv rfl q2344 q2346 qs41 q74 q2347 pd_X4_finds ⟨by omega, by omega⟩ hl.1 rfl (tw_r8 [] (Nat.le_of_ble_eq_true rfl)) dX4_twin_5) (fun E q σ H locs hX hR hS hi => tw_out C hR hS (fun x hx => (hnx x hx).elim) hi hX) (fun x1 σ H locs hw hR hS => ?_)
  exact tw_iret C hR hS hr rfl dX4_twin_8 hw
-- TreeDifferModel.shapeTwin(III)I
def w_X4_shapeTwin (l0 : Option Nat) (l1 : Int32) (l2 : Int32) (l3 : Int32) (Q : Int32 → Tst → Prop) (X : String → Nat → Tst → Prop) (σ : Tst) : Prop := w_rc σ l0 cX4 <| w_X4_finds l0 l1 l2 l3 1 (fun x1 σ => Q x1 σ) X σ
set_option maxHeartbeats 4000000 in
theorem wk_X4_shapeTwin (l : Launch) (hl0 : l.stackTraces = false) (G : Tgl) (fr : Nat)  (hfr : 5 ≤ fr) (l0 : Option Nat) (l1 : Int32) (l2 : Int32) (l3 : Int32) (Q : Int32 → Tst → Prop) (X : String → Nat → Tst → Prop) (σ : Tst) (hw : w_X4_shapeTwin l0 l1 l2 l3 Q X σ) : tw_M l yX4_shapeTwin (ws_ yX4_shapeTwin cX4_shapeTwin 4 (some .int)) fr (40 * fr) G σ [.inr l0, .inl l1, .inl l2, .inl l3] (tw_Qi G Q) X := by
  unfold w_X4_shapeTwin at hw
  refine tw_of (ret := (some .int)) hl0 (by decide) (Nat.le_of_ble_eq_true rfl) (fun p e R s m args below meth c hRf hRl C hr hmn hnx hR hS ls hl => ?_)
  have hfr : 5 ≤ R.frames := by rw [hRf]; exact hfr
  have hRl : R.locals = 40 * R.frames := by rw [hRl, hRf]
  have hl : tw_l ls 4 [(0, .inr l0), (1, .inl l1), (2, .inl l2), (3, .inl l3)] := hl
  refine tk_aload_n C hl 0 dX4_shapeTwin_0 rfl ?_
  refine tk_iload_n C hl 1 dX4_shapeTwin_1 rfl ?_
  refine tk_iload_n C hl 2 dX4_shapeTwin_2 rfl ?_
  refine tk_iload_n C hl 3 dX4_shapeTwin_3 rfl ?_
  refine lv_iconst (v := 1) C.hx C.hb dX4_shapeTwin_4 (by decide) ?_
  obtain ⟨hv, hw⟩ := hw
  refine tw_cbi C hS (tk_runV (As := [.inl l1, .inl l2, .inl l3, .inl 1]) C hR hS (wk_X4_finds l C.hst G (R.frames - 1) (by omega) _ _ _ _ _ _ _ σ hw) hv rfl q2344 q2346 qs41 q74 q2347 pd_X4_finds ⟨by omega, by omega⟩ hl.1 rfl (tw_r8 [] (Nat.le_of_ble_eq_true rfl)) dX4_shapeTwin_5) (fun E q σ H locs hX hR hS hi => tw_out C hR hS (fun x hx => (hnx x hx).elim) hi hX) (fun x1 σ H locs hw hR hS => ?_)
  exact tw_iret C hR hS hr rfl dX4_shapeTwin_8 hw
-- TreeDifferModel.left(LTreeDifferModel$Tree;[ILTreeDifferModel$Tree;[I)[[I
def w_X4_left_b216 (k19 : Option Nat → Option Nat → Option Nat → Option Nat → Option Nat → Option Nat → Int32 → Tst → Prop) (k29 : Option Nat → Option Nat → Option Nat → Option Nat → Option Nat → Option Nat → Int32 → Int32 → Tst → Prop) (Q : Option Nat → Tst → Prop) (X : String → Nat → Tst → Prop) (l0 : Option Nat) (l1 : Option Nat) (l2 : Option Nat) (l3 : Option Nat) (l4 : Option Nat) (l5 : Option Nat) (l6 : Int32) (l7 : Int32) (σ : Tst) : Prop := k29 l0 l1 l2 l3 l4 l5 l6 (l7 + (-1)) σ
def w_X4_left_b206 (k19 : Option Nat → Option Nat → Option Nat → Option Nat → Option Nat → Option Nat → Int32 → Tst → Prop) (k29 : Option Nat → Option Nat → Option Nat → Option Nat → Option Nat → Option Nat → Int32 → Int32 → Tst → Prop) (Q : Option Nat → Tst → Prop) (X : String → Nat → Tst → Prop) (l0 : Option Nat) (l1 : Option Nat) (l2 : Option Nat) (l3 : Option Nat) (l4 : Option Nat) (l5 : Option Nat) (l6 : Int32) (l7 : Int32) (l8 : Int32) (σ : Tst) : Prop := w_lr σ l5 l6 fun x1 => w_si σ x1 l7 l8 fun σ => w_X4_left_b216 k19 k29 Q X l0 l1 l2 l3 l4 l5 l6 l7 σ
def w_X4_left_b134 (k19 : Option Nat → Option Nat → Option Nat → Option Nat → Option Nat → Option Nat → Int32 → Tst → Prop) (k29 : Option Nat → Option Nat → Option Nat → Option Nat → Option Nat → Option Nat → Int32 → Int32 → Tst → Prop) (Q : Option Nat → Tst → Prop) (X : String → Nat → Tst → Prop) (l0 : Option Nat) (l1 : Option Nat) (l2 : Option Nat) (l3 : Option Nat) (l4 : Option Nat) (l5 : Option Nat) (l6 : Int32) (l7 : Int32) (l8 : Int32) (σ : Tst) : Prop := w_al σ l2 fun x1 => w_if (x1 ≤ l6) (w_X4_left_b206 k19 k29 Q X l0 l1 l2 l3 l4 l5 l6 l7 l8 σ) (w_al σ l4 fun x2 => w_if (x2 ≤ l7) (w_X4_left_b206 k19 k29 Q X l0 l1 l2 l3 l4 l5 l6 l7 l8 σ) (w_gr σ l1 cX5 1 fun x3 => w_li σ l2 l6 fun x4 => w_li σ x3 x4 fun x5 => w_gr σ l3 cX5 1 fun x6 => w_li σ l4 l7 fun x7 => w_li σ x6 x7 fun x8 => w_if (x5 = x8) (w_gr σ l0 cX4 9 fun x9 => w_li σ l2 l6 fun x10 => w_lr σ x9 x10 fun x11 => w_li σ l4 l7 fun x12 => w_li σ x11 x12 fun x13 => w_lr σ l5 (l6 + 1) fun x14 => w_li σ x14 (l7 + 1) fun x15 => w_X4_left_b206 k19 k29 Q X l0 l1 l2 l3 l4 l5 l6 l7 (if (x13 + x15) < l8 then (x13 + x15) else l8) σ) (w_X4_left_b206 k19 k29 Q X l0 l1 l2 l3 l4 l5 l6 l7 l8 σ)))
def w_X4_left_b91 (k19 : Option Nat → Option Nat → Option Nat → Option Nat → Option Nat → Option Nat → Int32 → Tst → Prop) (k29 : Option Nat → Option Nat → Option Nat → Option Nat → Option Nat → Option Nat → Int32 → Int32 → Tst → Prop) (Q : Option Nat → Tst → Prop) (X : String → Nat → Tst → Prop) (l0 : Option Nat) (l1 : Option Nat) (l2 : Option Nat) (l3 : Option Nat) (l4 : Option Nat) (l5 : Option Nat) (l6 : Int32) (l7 : Int32) (l8 : Int32) (σ : Tst) : Prop := w_al σ l4 fun x1 => w_if (x1 ≤ l7) (w_X4_left_b134 k19 k29 Q X l0 l1 l2 l3 l4 l5 l6 l7 l8 σ) (w_li σ l4 l7 fun x2 => w_rc σ l3 cX5 <| w_X5_end l3 x2 (fun x3 σ => w_li σ l4 l7 fun x4 => w_lr σ l5 l6 fun x5 => w_li σ x5 (l7 + 1) fun x6 => w_X4_left_b134 k19 k29 Q X l0 l1 l2 l3 l4 l5 l6 l7 (if ((2 * (x3 - x4)) + x6) < l8 then ((2 * (x3 - x4)) + x6) else l8) σ) X σ)
def w_X4_left_b52 (k19 : Option Nat → Option Nat → Option Nat → Option Nat → Option Nat → Option Nat → Int32 → Tst → Prop) (k29 : Option Nat → Option Nat → Option Nat → Option Nat → Option Nat → Option Nat → Int32 → Int32 → Tst → Prop) (Q : Option Nat → Tst → Prop) (X : String → Nat → Tst → Prop) (l0 : Option Nat) (l1 : Option Nat) (l2 : Option Nat) (l3 : Option Nat) (l4 : Option Nat) (l5 : Option Nat) (l6 : Int32) (l7 : Int32) (σ : Tst) : Prop := w_al σ l2 fun x1 => w_if (x1 ≤ l6) (w_X4_left_b91 k19 k29 Q X l0 l1 l2 l3 l4 l5 l6 l7 1000000 σ) (w_li σ l2 l6 fun x2 => w_rc σ l1 cX5 <| w_X5_end l1 x2 (fun x3 σ => w_li σ l2 l6 fun x4 => w_lr σ l5 (l6 + 1) fun x5 => w_li σ x5 l7 fun x6 => w_X4_left_b91 k19 k29 Q X l0 l1 l2 l3 l4 l5 l6 l7 ((2 * (x3 - x4)) + x6) σ) X σ)
def w_X4_left_b29 (k19 : Option Nat → Option Nat → Option Nat → Option Nat → Option Nat → Option Nat → Int32 → Tst → Prop) (Q : Option Nat → Tst → Prop) (X : String → Nat → Tst → Prop) : Nat → Option Nat → Option Nat → Option Nat → Option Nat → Option Nat → Option Nat → Int32 → Int32 → Tst → Prop
  | 0, _, _, _, _, _, _, _, _, _ => False
  | n + 1, l0, l1, l2, l3, l4, l5, l6, l7, σ => w_if (l7 < 0) (k19 l0 l1 l2 l3 l4 l5 (l6 + (-1)) σ) (w_al σ l2 fun x1 => w_if (l6 = x1) (w_al σ l4 fun x2 => w_if (l7 = x2) (w_X4_left_b216 k19 (w_X4_left_b29 k19 Q X n) Q X l0 l1 l2 l3 l4 l5 l6 l7 σ) (w_X4_left_b52 k19 (w_X4_left_b29 k19 Q X n) Q X l0 l1 l2 l3 l4 l5 l6 l7 σ)) (w_X4_left_b52 k19 (w_X4_left_b29 k19 Q X n) Q X l0 l1 l2 l3 l4 l5 l6 l7 σ))
def w_X4_left_b19 (Q : Option Nat → Tst → Prop) (X : String → Nat → Tst → Prop) : Nat → Option Nat → Option Nat → Option Nat → Option Nat → Option Nat → Option Nat → Int32 → Tst → Prop
  | 0, _, _, _, _, _, _, _, _ => False
  | n + 1, l0, l1, l2, l3, l4, l5, l6, σ => w_if (l6 < 0) (Q l5 σ) (w_al σ l4 fun x1 => ∃ z, w_X4_left_b29 (w_X4_left_b19 Q X n) Q X z l0 l1 l2 l3 l4 l5 l6 x1 σ)
def w_X4_left (l0 : Option Nat) (l1 : Option Nat) (l2 : Option Nat) (l3 : Option Nat) (l4 : Option Nat) (Q : Option Nat → Tst → Prop) (X : String → Nat → Tst → Prop) (σ : Tst) : Prop := w_al σ l2 fun x1 => w_al σ l4 fun x2 => w_ma σ (x1 + 1) (x2 + 1) fun q3 σ => w_al σ l2 fun x4 => ∃ z, w_X4_left_b19 Q X z l0 l1 l2 l3 l4 q3 x4 σ
set_option maxHeartbeats 4000000 in
theorem wk_X4_left_b216  (C : tw_C p l R s m args meth c G cX4_left 9 yX4_left.cls) (hr : meth.sig.returnType = (some (.array (.array .int)))) (hmn : meth.name = yX4_left.name) (hnx : (∀ x ∈ c.exceptionTable.toList, False)) (hfr : 2 ≤ R.frames) (hRl : R.locals = 40 * R.frames) {Q : Option Nat → Tst → Prop} {X : String → Nat → Tst → Prop}  {k19 : Option Nat → Option Nat → Option Nat → Option Nat → Option Nat → Option Nat → Int32 → Tst → Prop} (hk19 : ∀ (l0 : Option Nat) (l1 : Option Nat) (l2 : Option Nat) (l3 : Option Nat) (l4 : Option Nat) (l5 : Option Nat) (l6 : Int32) (σ : Tst) (H : Heap) (locs : List Loc) (ls : Array Slot), k19 l0 l1 l2 l3 l4 l5 l6 σ → tw_R G σ H → va_S (tw_A G) s.heap H locs → tw_l ls 9 [(0, .inr l0), (1, .inr l1), (2, .inr l2), (3, .inr l3), (4, .inr l4), (5, .inr l5), (6, .inl l6)] → tw_W p l e R s m args below meth c σ H locs (tw_E below G (tw_Qq G Q) X args s R) (F0 m 19 ls [])) {k29 : Option Nat → Option Nat → Option Nat → Option Nat → Option Nat → Option Nat → Int32 → Int32 → Tst → Prop} (hk29 : ∀ (l0 : Option Nat) (l1 : Option Nat) (l2 : Option Nat) (l3 : Option Nat) (l4 : Option Nat) (l5 : Option Nat) (l6 : Int32) (l7 : Int32) (σ : Tst) (H : Heap) (locs : List Loc) (ls : Array Slot), k29 l0 l1 l2 l3 l4 l5 l6 l7 σ → tw_R G σ H → va_S (tw_A G) s.heap H locs → tw_l ls 9 [(0, .inr l0), (1, .inr l1), (2, .inr l2), (3, .inr l3), (4, .inr l4), (5, .inr l5), (6, .inl l6), (7, .inl l7)] → tw_W p l e R s m args below meth c σ H locs (tw_E below G (tw_Qq G Q) X args s R) (F0 m 29 ls [])) (l0 : Option Nat) (l1 : Option Nat) (l2 : Option Nat) (l3 : Option Nat) (l4 : Option Nat) (l5 : Option Nat) (l6 : Int32) (l7 : Int32) (σ : Tst) (H : Heap) (locs : List Loc) (ls : Array Slot) (hw : w_X4_left_b216 k19 k29 Q X l0 l1 l2 l3 l4 l5 l6 l7 σ) (hR : tw_R G σ H) (hS : va_S (tw_A G) s.heap H locs) (hl : tw_l ls 9 [(0, .inr l0), (1, .inr l1), (2, .inr l2), (3, .inr l3), (4, .inr l4), (5, .inr l5), (6, .inl l6), (7, .inl l7)]) : tw_W p l e R s m args below meth c σ H locs (tw_E below G (tw_Qq G Q) X args s R) (F0 m 216 ls []) := by
  unfold w_X4_left_b216 at hw
  refine tk_iinc (L' := [(7, .inl (l7 + (-1))), (0, .inr l0), (1, .inr l1), (2, .inr l2), (3, .inr l3), (4, .inr l4), (5, .inr l5), (6, .inl l6)]) (y := (l7 + (-1))) C hl 7 dX4_left_216 rfl rfl (by decide) rfl (fun ls hl => ?_)
  refine lv_goto (tgt := 29) C.hx C.hb dX4_left_219 (by decide) ?_
  exact hk29 _ _ _ _ _ _ _ _ σ _ _ _ hw hR hS (tk_sub hl [1, 2, 3, 4, 5, 6, 7, 0] rfl)
set_option maxHeartbeats 4000000 in
theorem wk_X4_left_b206  (C : tw_C p l R s m args meth c G cX4_left 9 yX4_left.cls) (hr : meth.sig.returnType = (some (.array (.array .int)))) (hmn : meth.name = yX4_left.name) (hnx : (∀ x ∈ c.exceptionTable.toList, False)) (hfr : 2 ≤ R.frames) (hRl : R.locals = 40 * R.frames) {Q : Option Nat → Tst → Prop} {X : String → Nat → Tst → Prop}  {k19 : Option Nat → Option Nat → Option Nat → Option Nat → Option Nat → Option Nat → Int32 → Tst → Prop} (hk19 : ∀ (l0 : Option Nat) (l1 : Option Nat) (l2 : Option Nat) (l3 : Option Nat) (l4 : Option Nat) (l5 : Option Nat) (l6 : Int32) (σ : Tst) (H : Heap) (locs : List Loc) (ls : Array Slot), k19 l0 l1 l2 l3 l4 l5 l6 σ → tw_R G σ H → va_S (tw_A G) s.heap H locs → tw_l ls 9 [(0, .inr l0), (1, .inr l1), (2, .inr l2), (3, .inr l3), (4, .inr l4), (5, .inr l5), (6, .inl l6)] → tw_W p l e R s m args below meth c σ H locs (tw_E below G (tw_Qq G Q) X args s R) (F0 m 19 ls [])) {k29 : Option Nat → Option Nat → Option Nat → Option Nat → Option Nat → Option Nat → Int32 → Int32 → Tst → Prop} (hk29 : ∀ (l0 : Option Nat) (l1 : Option Nat) (l2 : Option Nat) (l3 : Option Nat) (l4 : Option Nat) (l5 : Option Nat) (l6 : Int32) (l7 : Int32) (σ : Tst) (H : Heap) (locs : List Loc) (ls : Array Slot), k29 l0 l1 l2 l3 l4 l5 l6 l7 σ → tw_R G σ H → va_S (tw_A G) s.heap H locs → tw_l ls 9 [(0, .inr l0), (1, .inr l1), (2, .inr l2), (3, .inr l3), (4, .inr l4), (5, .inr l5), (6, .inl l6), (7, .inl l7)] → tw_W p l e R s m args below meth c σ H locs (tw_E below G (tw_Qq G Q) X args s R) (F0 m 29 ls [])) (l0 : Option Nat) (l1 : Option Nat) (l2 : Option Nat) (l3 : Option Nat) (l4 : Option Nat) (l5 : Option Nat) (l6 : Int32) (l7 : Int32) (l8 : Int32) (σ : Tst) (H : Heap) (locs : List Loc) (ls : Array Slot) (hw : w_X4_left_b206 k19 k29 Q X l0 l1 l2 l3 l4 l5 l6 l7 l8 σ) (hR : tw_R G σ H) (hS : va_S (tw_A G) s.heap H locs) (hl : tw_l ls 9 [(0, .inr l0), (1, .inr l1), (2, .inr l2), (3, .inr l3), (4, .inr l4), (5, .inr l5), (6, .inl l6), (7, .inl l7), (8, .inl l8)]) : tw_W p l e R s m args below meth c σ H locs (tw_E below G (tw_Qq G Q) X args s R) (F0 m 206 ls []) := by
  unfold w_X4_left_b206 at hw
  refine tk_aload C hl 5 dX4_left_206 rfl ?_
  refine tk_iload C hl 6 dX4_left_208 rfl ?_
  refine tk_lr C hR hw dX4_left_210 (fun x1 hw => ?_)
  refine tk_iload C hl 7 dX4_left_211 rfl ?_
  refine tk_iload C hl 8 dX4_left_213 rfl ?_
  refine tk_si C hR hS hw dX4_left_215 (fun σ H locs hw hR hS => ?_)
  exact wk_X4_left_b216 C hr hmn hnx hfr hRl hk19 hk29 _ _ _ _ _ _ _ _ σ _ _ _ hw hR hS (tk_sub hl [0, 1, 2, 3, 4, 5, 6, 7] rfl)
set_option maxHeartbeats 4000000 in
theorem wk_X4_left_b134  (C : tw_C p l R s m args meth c G cX4_left 9 yX4_left.cls) (hr : meth.sig.returnType = (some (.array (.array .int)))) (hmn : meth.name = yX4_left.name) (hnx : (∀ x ∈ c.exceptionTable.toList, False)) (hfr : 2 ≤ R.frames) (hRl : R.locals = 40 * R.frames) {Q : Option Nat → Tst → Prop} {X : String → Nat → Tst → Prop}  {k19 : Option Nat → Option Nat → Option Nat → Option Nat → Option Nat → Option Nat → Int32 → Tst → Prop} (hk19 : ∀ (l0 : Option Nat) (l1 : Option Nat) (l2 : Option Nat) (l3 : Option Nat) (l4 : Option Nat) (l5 : Option Nat) (l6 : Int32) (σ : Tst) (H : Heap) (locs : List Loc) (ls : Array Slot), k19 l0 l1 l2 l3 l4 l5 l6 σ → tw_R G σ H → va_S (tw_A G) s.heap H locs → tw_l ls 9 [(0, .inr l0), (1, .inr l1), (2, .inr l2), (3, .inr l3), (4, .inr l4), (5, .inr l5), (6, .inl l6)] → tw_W p l e R s m args below meth c σ H locs (tw_E below G (tw_Qq G Q) X args s R) (F0 m 19 ls [])) {k29 : Option Nat → Option Nat → Option Nat → Option Nat → Option Nat → Option Nat → Int32 → Int32 → Tst → Prop} (hk29 : ∀ (l0 : Option Nat) (l1 : Option Nat) (l2 : Option Nat) (l3 : Option Nat) (l4 : Option Nat) (l5 : Option Nat) (l6 : Int32) (l7 : Int32) (σ : Tst) (H : Heap) (locs : List Loc) (ls : Array Slot), k29 l0 l1 l2 l3 l4 l5 l6 l7 σ → tw_R G σ H → va_S (tw_A G) s.heap H locs → tw_l ls 9 [(0, .inr l0), (1, .inr l1), (2, .inr l2), (3, .inr l3), (4, .inr l4), (5, .inr l5), (6, .inl l6), (7, .inl l7)] → tw_W p l e R s m args below meth c σ H locs (tw_E below G (tw_Qq G Q) X args s R) (F0 m 29 ls [])) (l0 : Option Nat) (l1 : Option Nat) (l2 : Option Nat) (l3 : Option Nat) (l4 : Option Nat) (l5 : Option Nat) (l6 : Int32) (l7 : Int32) (l8 : Int32) (σ : Tst) (H : Heap) (locs : List Loc) (ls : Array Slot) (hw : w_X4_left_b134 k19 k29 Q X l0 l1 l2 l3 l4 l5 l6 l7 l8 σ) (hR : tw_R G σ H) (hS : va_S (tw_A G) s.heap H locs) (hl : tw_l ls 9 [(0, .inr l0), (1, .inr l1), (2, .inr l2), (3, .inr l3), (4, .inr l4), (5, .inr l5), (6, .inl l6), (7, .inl l7), (8, .inl l8)]) : tw_W p l e R s m args below meth c σ H locs (tw_E below G (tw_Qq G Q) X args s R) (F0 m 134 ls []) := by
  unfold w_X4_left_b134 at hw
  refine tk_iload C hl 6 dX4_left_134 rfl ?_
  refine tk_aload_n C hl 2 dX4_left_136 rfl ?_
  refine tk_al C hR hw dX4_left_137 (fun x1 hw => ?_)
  refine lv_icmp_ge (tgt := 206) C.hx C.hb dX4_left_138 (by decide) (fun c138 => ?_) (fun c138 => ?_)
  · replace hw := hw.1 c138
    exact wk_X4_left_b206 C hr hmn hnx hfr hRl hk19 hk29 _ _ _ _ _ _ _ _ _ σ _ _ _ hw hR hS (tk_sub hl [0, 1, 2, 3, 4, 5, 6, 7, 8] rfl)
  · replace hw := hw.2 c138
    refine tk_iload C hl 7 dX4_left_141 rfl ?_
    refine tk_aload C hl 4 dX4_left_143 rfl ?_
    refine tk_al C hR hw dX4_left_145 (fun x2 hw => ?_)
    refine lv_icmp_ge (tgt := 206) C.hx C.hb dX4_left_146 (by decide) (fun c146 => ?_) (fun c146 => ?_)
    · replace hw := hw.1 c146
      exact wk_X4_left_b206 C hr hmn hnx hfr hRl hk19 hk29 _ _ _ _ _ _ _ _ _ σ _ _ _ hw hR hS (tk_sub hl [0, 1, 2, 3, 4, 5, 6, 7, 8] rfl)
    · replace hw := hw.2 c146
      refine tk_aload_n C hl 1 dX4_left_149 rfl ?_
      refine tk_grN C hR hw rfl in_X5 (by decide) q2021 (fun _ h => h) dX4_left_150 (fun x3 hw => ?_)
      refine tk_aload_n C hl 2 dX4_left_153 rfl ?_
      refine tk_iload C hl 6 dX4_left_154 rfl ?_
      refine tk_li C hR hw dX4_left_156 (fun x4 hw => ?_)
      refine tk_li C hR hw dX4_left_157 (fun x5 hw => ?_)
      refine tk_aload_n C hl 3 dX4_left_158 rfl ?_
      refine tk_grN C hR hw rfl in_X5 (by decide) q2021 (fun _ h => h) dX4_left_159 (fun x6 hw => ?_)
      refine tk_aload C hl 4 dX4_left_162 rfl ?_
      refine tk_iload C hl 7 dX4_left_164 rfl ?_
      refine tk_li C hR hw dX4_left_166 (fun x7 hw => ?_)
      refine tk_li C hR hw dX4_left_167 (fun x8 hw => ?_)
      refine lv_icmp_ne (tgt := 206) C.hx C.hb dX4_left_168 (by decide) (fun c168 => ?_) (fun c168 => ?_)
      · replace hw := hw.2 c168
        exact wk_X4_left_b206 C hr hmn hnx hfr hRl hk19 hk29 _ _ _ _ _ _ _ _ _ σ _ _ _ hw hR hS (tk_sub hl [0, 1, 2, 3, 4, 5, 6, 7, 8] rfl)
      · replace hw := hw.1 c168
        refine tk_iload C hl 8 dX4_left_171 rfl ?_
        refine tk_aload_n C hl 0 dX4_left_173 rfl ?_
        refine tk_gr C hR hw rfl in_X4 (by decide) q2061 (fun _ h => h) dX4_left_174 (fun x9 hw => ?_)
        refine tk_aload_n C hl 2 dX4_left_177 rfl ?_
        refine tk_iload C hl 6 dX4_left_178 rfl ?_
        refine tk_li C hR hw dX4_left_180 (fun x10 hw => ?_)
        refine tk_lr C hR hw dX4_left_181 (fun x11 hw => ?_)
        refine tk_aload C hl 4 dX4_left_182 rfl ?_
        refine tk_iload C hl 7 dX4_left_184 rfl ?_
        refine tk_li C hR hw dX4_left_186 (fun x12 hw => ?_)
        refine tk_li C hR hw dX4_left_187 (fun x13 hw => ?_)
        refine tk_aload C hl 5 dX4_left_188 rfl ?_
        refine tk_iload C hl 6 dX4_left_190 rfl ?_
        refine lv_iconst (v := 1) C.hx C.hb dX4_left_192 (by decide) ?_
        refine lv_iadd C.hx C.hb dX4_left_193 ?_
        refine tk_lr C hR hw dX4_left_194 (fun x14 hw => ?_)
        refine tk_iload C hl 7 dX4_left_195 rfl ?_
        refine lv_iconst (v := 1) C.hx C.hb dX4_left_197 (by decide) ?_
        refine lv_iadd C.hx C.hb dX4_left_198 ?_
        refine tk_li C hR hw dX4_left_199 (fun x15 hw => ?_)
        refine lv_iadd C.hx C.hb dX4_left_200 ?_
        refine tk_min C q2365 hl.1 (by omega) hRl (tw_r8 [] (Nat.le_of_ble_eq_true rfl)) dX4_left_201 ?_
        refine tk_istore (L' := [(8, .inl (if (x13 + x15) < l8 then (x13 + x15) else l8)), (0, .inr l0), (1, .inr l1), (2, .inr l2), (3, .inr l3), (4, .inr l4), (5, .inr l5), (6, .inl l6), (7, .inl l7)]) C hl dX4_left_204 (by decide) rfl (fun ls hl => ?_)
        exact wk_X4_left_b206 C hr hmn hnx hfr hRl hk19 hk29 _ _ _ _ _ _ _ _ _ σ _ _ _ hw hR hS (tk_sub hl [1, 2, 3, 4, 5, 6, 7, 8, 0] rfl)
set_option maxHeartbeats 4000000 in
theorem wk_X4_left_b91  (C : tw_C p l R s m args meth c G cX4_left 9 yX4_left.cls) (hr : meth.sig.returnType = (some (.array (.array .int)))) (hmn : meth.name = yX4_left.name) (hnx : (∀ x ∈ c.exceptionTable.toList, False)) (hfr : 2 ≤ R.frames) (hRl : R.locals = 40 * R.frames) {Q : Option Nat → Tst → Prop} {X : String → Nat → Tst → Prop}  {k19 : Option Nat → Option Nat → Option Nat → Option Nat → Option Nat → Option Nat → Int32 → Tst → Prop} (hk19 : ∀ (l0 : Option Nat) (l1 : Option Nat) (l2 : Option Nat) (l3 : Option Nat) (l4 : Option Nat) (l5 : Option Nat) (l6 : Int32) (σ : Tst) (H : Heap) (locs : List Loc) (ls : Array Slot), k19 l0 l1 l2 l3 l4 l5 l6 σ → tw_R G σ H → va_S (tw_A G) s.heap H locs → tw_l ls 9 [(0, .inr l0), (1, .inr l1), (2, .inr l2), (3, .inr l3), (4, .inr l4), (5, .inr l5), (6, .inl l6)] → tw_W p l e R s m args below meth c σ H locs (tw_E below G (tw_Qq G Q) X args s R) (F0 m 19 ls [])) {k29 : Option Nat → Option Nat → Option Nat → Option Nat → Option Nat → Option Nat → Int32 → Int32 → Tst → Prop} (hk29 : ∀ (l0 : Option Nat) (l1 : Option Nat) (l2 : Option Nat) (l3 : Option Nat) (l4 : Option Nat) (l5 : Option Nat) (l6 : Int32) (l7 : Int32) (σ : Tst) (H : Heap) (locs : List Loc) (ls : Array Slot), k29 l0 l1 l2 l3 l4 l5 l6 l7 σ → tw_R G σ H → va_S (tw_A G) s.heap H locs → tw_l ls 9 [(0, .inr l0), (1, .inr l1), (2, .inr l2), (3, .inr l3), (4, .inr l4), (5, .inr l5), (6, .inl l6), (7, .inl l7)] → tw_W p l e R s m args below meth c σ H locs (tw_E below G (tw_Qq G Q) X args s R) (F0 m 29 ls [])) (l0 : Option Nat) (l1 : Option Nat) (l2 : Option Nat) (l3 : Option Nat) (l4 : Option Nat) (l5 : Option Nat) (l6 : Int32) (l7 : Int32) (l8 : Int32) (σ : Tst) (H : Heap) (locs : List Loc) (ls : Array Slot) (hw : w_X4_left_b91 k19 k29 Q X l0 l1 l2 l3 l4 l5 l6 l7 l8 σ) (hR : tw_R G σ H) (hS : va_S (tw_A G) s.heap H locs) (hl : tw_l ls 9 [(0, .inr l0), (1, .inr l1), (2, .inr l2), (3, .inr l3), (4, .inr l4), (5, .inr l5), (6, .inl l6), (7, .inl l7), (8, .inl l8)]) : tw_W p l e R s m args below meth c σ H locs (tw_E below G (tw_Qq G Q) X args s R) (F0 m 91 ls []) := by
  unfold w_X4_left_b91 at hw
  refine tk_iload C hl 7 dX4_left_91 rfl ?_
  refine tk_aload C hl 4 dX4_left_93 rfl ?_
  refine tk_al C hR hw dX4_left_95 (fun x1 hw => ?_)
  refine lv_icmp_ge (tgt := 134) C.hx C.hb dX4_left_96 (by decide) (fun c96 => ?_) (fun c96 => ?_)
  · replace hw := hw.1 c96
    exact wk_X4_left_b134 C hr hmn hnx hfr hRl hk19 hk29 _ _ _ _ _ _ _ _ _ σ _ _ _ hw hR hS (tk_sub hl [0, 1, 2, 3, 4, 5, 6, 7, 8] rfl)
  · replace hw := hw.2 c96
    refine tk_iload C hl 8 dX4_left_99 rfl ?_
    refine lv_iconst (v := 2) C.hx C.hb dX4_left_101 (by decide) ?_
    refine tk_aload_n C hl 3 dX4_left_102 rfl ?_
    refine tk_aload C hl 4 dX4_left_103 rfl ?_
    refine tk_iload C hl 7 dX4_left_105 rfl ?_
    refine tk_li C hR hw dX4_left_107 (fun x2 hw => ?_)
    obtain ⟨hv, hw⟩ := hw
    refine tw_cbi C hS (tk_runVN (As := [.inl x2]) C hR hS (wk_X5_end l C.hst G (R.frames - 1) (by omega) _ _ _ _ σ hw) hv rfl q2262 q2264 qs37 q75 q2265 pd_X5_end ⟨by omega, by omega⟩ hl.1 rfl (tw_r8 [.inl 2, .inl l8] (Nat.le_of_ble_eq_true rfl)) dX4_left_108) (fun E q σ H locs hX hR hS hi => tw_out C hR hS (fun x hx => (hnx x hx).elim) hi hX) (fun x3 σ H locs hw hR hS => ?_)
    refine tk_aload C hl 4 dX4_left_111 rfl ?_
    refine tk_iload C hl 7 dX4_left_113 rfl ?_
    refine tk_li C hR hw dX4_left_115 (fun x4 hw => ?_)
    refine lv_isub C.hx C.hb dX4_left_116 ?_
    refine lv_imul C.hx C.hb dX4_left_117 ?_
    refine tk_aload C hl 5 dX4_left_118 rfl ?_
    refine tk_iload C hl 6 dX4_left_120 rfl ?_
    refine tk_lr C hR hw dX4_left_122 (fun x5 hw => ?_)
    refine tk_iload C hl 7 dX4_left_123 rfl ?_
    refine lv_iconst (v := 1) C.hx C.hb dX4_left_125 (by decide) ?_
    refine lv_iadd C.hx C.hb dX4_left_126 ?_
    refine tk_li C hR hw dX4_left_127 (fun x6 hw => ?_)
    refine lv_iadd C.hx C.hb dX4_left_128 ?_
    refine tk_min C q2365 hl.1 (by omega) hRl (tw_r8 [] (Nat.le_of_ble_eq_true rfl)) dX4_left_129 ?_
    refine tk_istore (L' := [(8, .inl (if ((2 * (x3 - x4)) + x6) < l8 then ((2 * (x3 - x4)) + x6) else l8)), (0, .inr l0), (1, .inr l1), (2, .inr l2), (3, .inr l3), (4, .inr l4), (5, .inr l5), (6, .inl l6), (7, .inl l7)]) C hl dX4_left_132 (by decide) rfl (fun ls hl => ?_)
    exact wk_X4_left_b134 C hr hmn hnx hfr hRl hk19 hk29 _ _ _ _ _ _ _ _ _ σ _ _ _ hw hR hS (tk_sub hl [1, 2, 3, 4, 5, 6, 7, 8, 0] rfl)
set_option maxHeartbeats 4000000 in
theorem wk_X4_left_b52  (C : tw_C p l R s m args meth c G cX4_left 9 yX4_left.cls) (hr : meth.sig.returnType = (some (.array (.array .int)))) (hmn : meth.name = yX4_left.name) (hnx : (∀ x ∈ c.exceptionTable.toList, False)) (hfr : 2 ≤ R.frames) (hRl : R.locals = 40 * R.frames) {Q : Option Nat → Tst → Prop} {X : String → Nat → Tst → Prop}  {k19 : Option Nat → Option Nat → Option Nat → Option Nat → Option Nat → Option Nat → Int32 → Tst → Prop} (hk19 : ∀ (l0 : Option Nat) (l1 : Option Nat) (l2 : Option Nat) (l3 : Option Nat) (l4 : Option Nat) (l5 : Option Nat) (l6 : Int32) (σ : Tst) (H : Heap) (locs : List Loc) (ls : Array Slot), k19 l0 l1 l2 l3 l4 l5 l6 σ → tw_R G σ H → va_S (tw_A G) s.heap H locs → tw_l ls 9 [(0, .inr l0), (1, .inr l1), (2, .inr l2), (3, .inr l3), (4, .inr l4), (5, .inr l5), (6, .inl l6)] → tw_W p l e R s m args below meth c σ H locs (tw_E below G (tw_Qq G Q) X args s R) (F0 m 19 ls [])) {k29 : Option Nat → Option Nat → Option Nat → Option Nat → Option Nat → Option Nat → Int32 → Int32 → Tst → Prop} (hk29 : ∀ (l0 : Option Nat) (l1 : Option Nat) (l2 : Option Nat) (l3 : Option Nat) (l4 : Option Nat) (l5 : Option Nat) (l6 : Int32) (l7 : Int32) (σ : Tst) (H : Heap) (locs : List Loc) (ls : Array Slot), k29 l0 l1 l2 l3 l4 l5 l6 l7 σ → tw_R G σ H → va_S (tw_A G) s.heap H locs → tw_l ls 9 [(0, .inr l0), (1, .inr l1), (2, .inr l2), (3, .inr l3), (4, .inr l4), (5, .inr l5), (6, .inl l6), (7, .inl l7)] → tw_W p l e R s m args below meth c σ H locs (tw_E below G (tw_Qq G Q) X args s R) (F0 m 29 ls [])) (l0 : Option Nat) (l1 : Option Nat) (l2 : Option Nat) (l3 : Option Nat) (l4 : Option Nat) (l5 : Option Nat) (l6 : Int32) (l7 : Int32) (σ : Tst) (H : Heap) (locs : List Loc) (ls : Array Slot) (hw : w_X4_left_b52 k19 k29 Q X l0 l1 l2 l3 l4 l5 l6 l7 σ) (hR : tw_R G σ H) (hS : va_S (tw_A G) s.heap H locs) (hl : tw_l ls 9 [(0, .inr l0), (1, .inr l1), (2, .inr l2), (3, .inr l3), (4, .inr l4), (5, .inr l5), (6, .inl l6), (7, .inl l7)]) : tw_W p l e R s m args below meth c σ H locs (tw_E below G (tw_Qq G Q) X args s R) (F0 m 52 ls []) := by
  unfold w_X4_left_b52 at hw
  refine lv_ldc (v := 1000000) C.hx C.hb C.ho (C.hts _ q2364) dX4_left_52 ?_
  refine tk_istore (L' := [(8, .inl 1000000), (0, .inr l0), (1, .inr l1), (2, .inr l2), (3, .inr l3), (4, .inr l4), (5, .inr l5), (6, .inl l6), (7, .inl l7)]) C hl dX4_left_54 (by decide) rfl (fun ls hl => ?_)
  refine tk_iload C hl 7 dX4_left_56 rfl ?_
  refine tk_aload_n C hl 3 dX4_left_58 rfl ?_
  refine tk_al C hR hw dX4_left_59 (fun x1 hw => ?_)
  refine lv_icmp_ge (tgt := 91) C.hx C.hb dX4_left_60 (by decide) (fun c60 => ?_) (fun c60 => ?_)
  · replace hw := hw.1 c60
    exact wk_X4_left_b91 C hr hmn hnx hfr hRl hk19 hk29 _ _ _ _ _ _ _ _ _ σ _ _ _ hw hR hS (tk_sub hl [1, 2, 3, 4, 5, 6, 7, 8, 0] rfl)
  · replace hw := hw.2 c60
    refine lv_iconst (v := 2) C.hx C.hb dX4_left_63 (by decide) ?_
    refine tk_aload_n C hl 2 dX4_left_64 rfl ?_
    refine tk_aload_n C hl 3 dX4_left_65 rfl ?_
    refine tk_iload C hl 7 dX4_left_66 rfl ?_
    refine tk_li C hR hw dX4_left_68 (fun x2 hw => ?_)
    obtain ⟨hv, hw⟩ := hw
    refine tw_cbi C hS (tk_runVN (As := [.inl x2]) C hR hS (wk_X5_end l C.hst G (R.frames - 1) (by omega) _ _ _ _ σ hw) hv rfl q2262 q2264 qs37 q75 q2265 pd_X5_end ⟨by omega, by omega⟩ hl.1 rfl (tw_r8 [.inl 2] (Nat.le_of_ble_eq_true rfl)) dX4_left_69) (fun E q σ H locs hX hR hS hi => tw_out C hR hS (fun x hx => (hnx x hx).elim) hi hX) (fun x3 σ H locs hw hR hS => ?_)
    refine tk_aload_n C hl 3 dX4_left_72 rfl ?_
    refine tk_iload C hl 7 dX4_left_73 rfl ?_
    refine tk_li C hR hw dX4_left_75 (fun x4 hw => ?_)
    refine lv_isub C.hx C.hb dX4_left_76 ?_
    refine lv_imul C.hx C.hb dX4_left_77 ?_
    refine tk_aload C hl 6 dX4_left_78 rfl ?_
    refine tk_iload C hl 7 dX4_left_80 rfl ?_
    refine lv_iconst (v := 1) C.hx C.hb dX4_left_82 (by decide) ?_
    refine lv_iadd C.hx C.hb dX4_left_83 ?_
    refine tk_lr C hR hw dX4_left_84 (fun x5 hw => ?_)
    refine tk_iload C hl 8 dX4_left_85 rfl ?_
    refine tk_li C hR hw dX4_left_87 (fun x6 hw => ?_)
    refine lv_iadd C.hx C.hb dX4_left_88 ?_
    refine tk_istore (L' := [(8, .inl ((2 * (x3 - x4)) + x6)), (0, .inr l0), (1, .inr l1), (2, .inr l2), (3, .inr l3), (4, .inr l4), (5, .inr l5), (6, .inl l6), (7, .inl l7)]) C hl dX4_left_89 (by decide) rfl (fun ls hl => ?_)
    exact wk_X4_left_b91 C hr hmn hnx hfr hRl hk19 hk29 _ _ _ _ _ _ _ _ _ σ _ _ _ hw hR hS (tk_sub hl [1, 2, 3, 4, 5, 6, 7, 8, 0] rfl)
set_option maxHeartbeats 4000000 in
theorem wk_X4_left_b29  (C : tw_C p l R s m args meth c G cX4_left 9 yX4_left.cls) (hr : meth.sig.returnType = (some (.array (.array .int)))) (hmn : meth.name = yX4_left.name) (hnx : (∀ x ∈ c.exceptionTable.toList, False)) (hfr : 2 ≤ R.frames) (hRl : R.locals = 40 * R.frames) {Q : Option Nat → Tst → Prop} {X : String → Nat → Tst → Prop}  {k19 : Option Nat → Option Nat → Option Nat → Option Nat → Option Nat → Option Nat → Int32 → Tst → Prop} (hk19 : ∀ (l0 : Option Nat) (l1 : Option Nat) (l2 : Option Nat) (l3 : Option Nat) (l4 : Option Nat) (l5 : Option Nat) (l6 : Int32) (σ : Tst) (H : Heap) (locs : List Loc) (ls : Array Slot), k19 l0 l1 l2 l3 l4 l5 l6 σ → tw_R G σ H → va_S (tw_A G) s.heap H locs → tw_l ls 9 [(0, .inr l0), (1, .inr l1), (2, .inr l2), (3, .inr l3), (4, .inr l4), (5, .inr l5), (6, .inl l6)] → tw_W p l e R s m args below meth c σ H locs (tw_E below G (tw_Qq G Q) X args s R) (F0 m 19 ls [])) : ∀ (n : Nat) (l0 : Option Nat) (l1 : Option Nat) (l2 : Option Nat) (l3 : Option Nat) (l4 : Option Nat) (l5 : Option Nat) (l6 : Int32) (l7 : Int32) (σ : Tst) (H : Heap) (locs : List Loc) (ls : Array Slot), w_X4_left_b29 k19 Q X n l0 l1 l2 l3 l4 l5 l6 l7 σ → tw_R G σ H → va_S (tw_A G) s.heap H locs → tw_l ls 9 [(0, .inr l0), (1, .inr l1), (2, .inr l2), (3, .inr l3), (4, .inr l4), (5, .inr l5), (6, .inl l6), (7, .inl l7)] → tw_W p l e R s m args below meth c σ H locs (tw_E below G (tw_Qq G Q) X args s R) (F0 m 29 ls []) := by
  intro n
  induction n with
  | zero => intro l0 l1 l2 l3 l4 l5 l6 l7 σ H locs ls hw; exact False.elim hw
  | succ n hk29 =>
    intro l0 l1 l2 l3 l4 l5 l6 l7 σ H locs ls hw hR hS hl
    rw [w_X4_left_b29] at hw
    refine tk_iload C hl 7 dX4_left_29 rfl ?_
    refine lv_if_lt (tgt := 222) C.hx C.hb dX4_left_31 (by decide) (fun c31 => ?_) (fun c31 => ?_)
    · replace hw := hw.1 c31
      refine tk_iinc (L' := [(6, .inl (l6 + (-1))), (0, .inr l0), (1, .inr l1), (2, .inr l2), (3, .inr l3), (4, .inr l4), (5, .inr l5), (7, .inl l7)]) (y := (l6 + (-1))) C hl 6 dX4_left_222 rfl rfl (by decide) rfl (fun ls hl => ?_)
      refine lv_goto (tgt := 19) C.hx C.hb dX4_left_225 (by decide) ?_
      exact hk19 _ _ _ _ _ _ _ σ _ _ _ hw hR hS (tk_sub hl [1, 2, 3, 4, 5, 6, 0] rfl)
    · replace hw := hw.2 c31
      refine tk_iload C hl 6 dX4_left_34 rfl ?_
      refine tk_aload_n C hl 2 dX4_left_36 rfl ?_
      refine tk_al C hR hw dX4_left_37 (fun x1 hw => ?_)
      refine lv_icmp_ne (tgt := 52) C.hx C.hb dX4_left_38 (by decide) (fun c38 => ?_) (fun c38 => ?_)
      · replace hw := hw.2 c38
        exact wk_X4_left_b52 C hr hmn hnx hfr hRl hk19 hk29 _ _ _ _ _ _ _ _ σ _ _ _ hw hR hS (tk_sub hl [0, 1, 2, 3, 4, 5, 6, 7] rfl)
      · replace hw := hw.1 c38
        refine tk_iload C hl 7 dX4_left_41 rfl ?_
        refine tk_aload C hl 4 dX4_left_43 rfl ?_
        refine tk_al C hR hw dX4_left_45 (fun x2 hw => ?_)
        refine lv_icmp_ne (tgt := 52) C.hx C.hb dX4_left_46 (by decide) (fun c46 => ?_) (fun c46 => ?_)
        · replace hw := hw.2 c46
          exact wk_X4_left_b52 C hr hmn hnx hfr hRl hk19 hk29 _ _ _ _ _ _ _ _ σ _ _ _ hw hR hS (tk_sub hl [0, 1, 2, 3, 4, 5, 6, 7] rfl)
        · replace hw := hw.1 c46
          refine lv_goto (tgt := 216) C.hx C.hb dX4_left_49 (by decide) ?_
          exact wk_X4_left_b216 C hr hmn hnx hfr hRl hk19 hk29 _ _ _ _ _ _ _ _ σ _ _ _ hw hR hS (tk_sub hl [0, 1, 2, 3, 4, 5, 6, 7] rfl)
set_option maxHeartbeats 4000000 in
theorem wk_X4_left_b19  (C : tw_C p l R s m args meth c G cX4_left 9 yX4_left.cls) (hr : meth.sig.returnType = (some (.array (.array .int)))) (hmn : meth.name = yX4_left.name) (hnx : (∀ x ∈ c.exceptionTable.toList, False)) (hfr : 2 ≤ R.frames) (hRl : R.locals = 40 * R.frames) {Q : Option Nat → Tst → Prop} {X : String → Nat → Tst → Prop}  : ∀ (n : Nat) (l0 : Option Nat) (l1 : Option Nat) (l2 : Option Nat) (l3 : Option Nat) (l4 : Option Nat) (l5 : Option Nat) (l6 : Int32) (σ : Tst) (H : Heap) (locs : List Loc) (ls : Array Slot), w_X4_left_b19 Q X n l0 l1 l2 l3 l4 l5 l6 σ → tw_R G σ H → va_S (tw_A G) s.heap H locs → tw_l ls 9 [(0, .inr l0), (1, .inr l1), (2, .inr l2), (3, .inr l3), (4, .inr l4), (5, .inr l5), (6, .inl l6)] → tw_W p l e R s m args below meth c σ H locs (tw_E below G (tw_Qq G Q) X args s R) (F0 m 19 ls []) := by
  intro n
  induction n with
  | zero => intro l0 l1 l2 l3 l4 l5 l6 σ H locs ls hw; exact False.elim hw
  | succ n hk19 =>
    intro l0 l1 l2 l3 l4 l5 l6 σ H locs ls hw hR hS hl
    rw [w_X4_left_b19] at hw
    refine tk_iload C hl 6 dX4_left_19 rfl ?_
    refine lv_if_lt (tgt := 228) C.hx C.hb dX4_left_21 (by decide) (fun c21 => ?_) (fun c21 => ?_)
    · replace hw := hw.1 c21
      refine tk_aload C hl 5 dX4_left_228 rfl ?_
      exact tw_aret C hR hS hr (Or.inr ⟨_, rfl⟩) dX4_left_230 hw
    · replace hw := hw.2 c21
      refine tk_aload C hl 4 dX4_left_24 rfl ?_
      refine tk_al C hR hw dX4_left_26 (fun x1 hw => ?_)
      refine tk_istore (L' := [(7, .inl x1), (0, .inr l0), (1, .inr l1), (2, .inr l2), (3, .inr l3), (4, .inr l4), (5, .inr l5), (6, .inl l6)]) C hl dX4_left_27 (by decide) rfl (fun ls hl => ?_)
      obtain ⟨z, hw⟩ := hw
      exact wk_X4_left_b29 C hr hmn hnx hfr hRl hk19 z _ _ _ _ _ _ _ _ σ _ _ _ hw hR hS (tk_sub hl [1, 2, 3, 4, 5, 6, 7, 0] rfl)
set_option maxHeartbeats 4000000 in
theorem wk_X4_left (l : Launch) (hl0 : l.stackTraces = false) (G : Tgl) (fr : Nat)  (hfr : 2 ≤ fr) (l0 : Option Nat) (l1 : Option Nat) (l2 : Option Nat) (l3 : Option Nat) (l4 : Option Nat) (Q : Option Nat → Tst → Prop) (X : String → Nat → Tst → Prop) (σ : Tst) (hw : w_X4_left l0 l1 l2 l3 l4 Q X σ) : tw_M l yX4_left (ws_ yX4_left cX4_left 9 (some (.array (.array .int)))) fr (40 * fr) G σ [.inr l0, .inr l1, .inr l2, .inr l3, .inr l4] (tw_Qq G Q) X := by
  unfold w_X4_left at hw
  refine tw_of (ret := (some (.array (.array .int)))) hl0 (by decide) (Nat.le_of_ble_eq_true rfl) (fun p e R s m args below meth c hRf hRl C hr hmn hnx hR hS ls hl => ?_)
  have hfr : 2 ≤ R.frames := by rw [hRf]; exact hfr
  have hRl : R.locals = 40 * R.frames := by rw [hRl, hRf]
  have hl : tw_l ls 9 [(0, .inr l0), (1, .inr l1), (2, .inr l2), (3, .inr l3), (4, .inr l4)] := hl
  refine tk_aload_n C hl 2 dX4_left_0 rfl ?_
  refine tk_al C hR hw dX4_left_1 (fun x1 hw => ?_)
  refine lv_iconst (v := 1) C.hx C.hb dX4_left_2 (by decide) ?_
  refine lv_iadd C.hx C.hb dX4_left_3 ?_
  refine tk_aload C hl 4 dX4_left_4 rfl ?_
  refine tk_al C hR hw dX4_left_6 (fun x2 hw => ?_)
  refine lv_iconst (v := 1) C.hx C.hb dX4_left_7 (by decide) ?_
  refine lv_iadd C.hx C.hb dX4_left_8 ?_
  refine tk_ma C hR hS hw q2040 q630 dX4_left_9 (fun q3 σ H hw hR hS => ?_)
  refine tk_astore (L' := [(5, .inr q3), (0, .inr l0), (1, .inr l1), (2, .inr l2), (3, .inr l3), (4, .inr l4)]) C hl dX4_left_13 (by decide) rfl (fun ls hl => ?_)
  refine tk_aload_n C hl 3 dX4_left_15 rfl ?_
  refine tk_al C hR hw dX4_left_16 (fun x4 hw => ?_)
  refine tk_istore (L' := [(6, .inl x4), (5, .inr q3), (0, .inr l0), (1, .inr l1), (2, .inr l2), (3, .inr l3), (4, .inr l4)]) C hl dX4_left_17 (by decide) rfl (fun ls hl => ?_)
  obtain ⟨z, hw⟩ := hw
  exact wk_X4_left_b19 C hr hmn hnx hfr hRl z _ _ _ _ _ _ _ σ _ _ _ hw hR hS (tk_sub hl [2, 3, 4, 5, 6, 1, 0] rfl)
-- TreeDifferModel.fills(LTreeDifferModel$Tree;LTreeDifferModel$Tree;)I
def w_X4_fills_b66 (k7 : Option Nat → Option Nat → Option Nat → Int32 → Tst → Prop) (k19 : Option Nat → Option Nat → Option Nat → Int32 → Int32 → Tst → Prop) (Q : Int32 → Tst → Prop) (X : String → Nat → Tst → Prop) (l0 : Option Nat) (l1 : Option Nat) (l2 : Option Nat) (l3 : Int32) (l4 : Int32) (s0 : Int32) (s1 : Int32) (σ : Tst) : Prop := w_gr σ l0 cX4 9 fun x1 => w_lr σ x1 l3 fun x2 => w_rc σ l1 cX5 <| w_X5_kids l1 l3 (fun x3 σ => w_rc σ l2 cX5 <| w_X5_kids l2 l4 (fun x4 σ => w_rc σ l0 cX4 <| w_X4_left l0 l1 x3 l2 x4 (fun x5 σ => w_lr σ x5 0 fun x6 => w_li σ x6 0 fun x7 => w_si σ x2 l4 ((s0 + s1) + x7) fun σ => k19 l0 l1 l2 l3 (l4 + (-1)) σ) X σ) X σ) X σ
def w_X4_fills_b45 (k7 : Option Nat → Option Nat → Option Nat → Int32 → Tst → Prop) (k19 : Option Nat → Option Nat → Option Nat → Int32 → Int32 → Tst → Prop) (Q : Int32 → Tst → Prop) (X : String → Nat → Tst → Prop) (l0 : Option Nat) (l1 : Option Nat) (l2 : Option Nat) (l3 : Int32) (l4 : Int32) (s0 : Int32) (σ : Tst) : Prop := w_gr σ l1 cX5 2 fun x1 => w_li σ x1 l3 fun x2 => w_gr σ l2 cX5 2 fun x3 => w_li σ x3 l4 fun x4 => w_if (x2 = x4) (w_X4_fills_b66 k7 k19 Q X l0 l1 l2 l3 l4 s0 0 σ) (w_X4_fills_b66 k7 k19 Q X l0 l1 l2 l3 l4 s0 1 σ)
def w_X4_fills_b19 (k7 : Option Nat → Option Nat → Option Nat → Int32 → Tst → Prop) (Q : Int32 → Tst → Prop) (X : String → Nat → Tst → Prop) : Nat → Option Nat → Option Nat → Option Nat → Int32 → Int32 → Tst → Prop
  | 0, _, _, _, _, _, _ => False
  | n + 1, l0, l1, l2, l3, l4, σ => w_if (l4 < 0) (k7 l0 l1 l2 (l3 + (-1)) σ) (w_gr σ l1 cX5 0 fun x1 => w_li σ x1 l3 fun x2 => w_gr σ l2 cX5 0 fun x3 => w_li σ x3 l4 fun x4 => w_if (x2 = x4) (w_X4_fills_b45 k7 (w_X4_fills_b19 k7 Q X n) Q X l0 l1 l2 l3 l4 0 σ) (w_X4_fills_b45 k7 (w_X4_fills_b19 k7 Q X n) Q X l0 l1 l2 l3 l4 3 σ))
def w_X4_fills_b7 (Q : Int32 → Tst → Prop) (X : String → Nat → Tst → Prop) : Nat → Option Nat → Option Nat → Option Nat → Int32 → Tst → Prop
  | 0, _, _, _, _, _ => False
  | n + 1, l0, l1, l2, l3, σ => w_if (l3 < 0) (w_gr σ l0 cX4 9 fun x1 => w_lr σ x1 0 fun x2 => w_li σ x2 0 fun x3 => Q x3 σ) (w_gi σ l2 cX5 4 fun x4 => ∃ z, w_X4_fills_b19 (w_X4_fills_b7 Q X n) Q X z l0 l1 l2 l3 (x4 - 1) σ)
def w_X4_fills (l0 : Option Nat) (l1 : Option Nat) (l2 : Option Nat) (Q : Int32 → Tst → Prop) (X : String → Nat → Tst → Prop) (σ : Tst) : Prop := w_gi σ l1 cX5 4 fun x1 => ∃ z, w_X4_fills_b7 Q X z l0 l1 l2 (x1 - 1) σ
set_option maxHeartbeats 4000000 in
theorem wk_X4_fills_b66  (C : tw_C p l R s m args meth c G cX4_fills 6 yX4_fills.cls) (hr : meth.sig.returnType = (some .int)) (hmn : meth.name = yX4_fills.name) (hnx : (∀ x ∈ c.exceptionTable.toList, False)) (hfr : 3 ≤ R.frames) (hRl : R.locals = 40 * R.frames) {Q : Int32 → Tst → Prop} {X : String → Nat → Tst → Prop}  {k7 : Option Nat → Option Nat → Option Nat → Int32 → Tst → Prop} (hk7 : ∀ (l0 : Option Nat) (l1 : Option Nat) (l2 : Option Nat) (l3 : Int32) (σ : Tst) (H : Heap) (locs : List Loc) (ls : Array Slot), k7 l0 l1 l2 l3 σ → tw_R G σ H → va_S (tw_A G) s.heap H locs → tw_l ls 6 [(0, .inr l0), (1, .inr l1), (2, .inr l2), (3, .inl l3)] → tw_W p l e R s m args below meth c σ H locs (tw_E below G (tw_Qi G Q) X args s R) (F0 m 7 ls [])) {k19 : Option Nat → Option Nat → Option Nat → Int32 → Int32 → Tst → Prop} (hk19 : ∀ (l0 : Option Nat) (l1 : Option Nat) (l2 : Option Nat) (l3 : Int32) (l4 : Int32) (σ : Tst) (H : Heap) (locs : List Loc) (ls : Array Slot), k19 l0 l1 l2 l3 l4 σ → tw_R G σ H → va_S (tw_A G) s.heap H locs → tw_l ls 6 [(0, .inr l0), (1, .inr l1), (2, .inr l2), (3, .inl l3), (4, .inl l4)] → tw_W p l e R s m args below meth c σ H locs (tw_E below G (tw_Qi G Q) X args s R) (F0 m 19 ls [])) (l0 : Option Nat) (l1 : Option Nat) (l2 : Option Nat) (l3 : Int32) (l4 : Int32) (s0 : Int32) (s1 : Int32) (σ : Tst) (H : Heap) (locs : List Loc) (ls : Array Slot) (hw : w_X4_fills_b66 k7 k19 Q X l0 l1 l2 l3 l4 s0 s1 σ) (hR : tw_R G σ H) (hS : va_S (tw_A G) s.heap H locs) (hl : tw_l ls 6 [(0, .inr l0), (1, .inr l1), (2, .inr l2), (3, .inl l3), (4, .inl l4)]) : tw_W p l e R s m args below meth c σ H locs (tw_E below G (tw_Qi G Q) X args s R) (F0 m 66 ls [.int s1, .int s0]) := by
  unfold w_X4_fills_b66 at hw
  refine lv_iadd C.hx C.hb dX4_fills_66 ?_
  refine tk_istore (L' := [(5, .inl (s0 + s1)), (0, .inr l0), (1, .inr l1), (2, .inr l2), (3, .inl l3), (4, .inl l4)]) C hl dX4_fills_67 (by decide) rfl (fun ls hl => ?_)
  refine tk_aload_n C hl 1 dX4_fills_69 rfl ?_
  refine tk_gr C hR hw rfl in_X4 (by decide) q2061 (fun _ h => h) dX4_fills_70 (fun x1 hw => ?_)
  refine tk_iload_n C hl 4 dX4_fills_73 rfl ?_
  refine tk_lr C hR hw dX4_fills_74 (fun x2 hw => ?_)
  refine tk_iload C hl 5 dX4_fills_75 rfl ?_
  refine tk_iload C hl 0 dX4_fills_77 rfl ?_
  refine tk_aload_n C hl 1 dX4_fills_79 rfl ?_
  refine tk_aload_n C hl 2 dX4_fills_80 rfl ?_
  refine tk_aload_n C hl 2 dX4_fills_81 rfl ?_
  refine tk_iload_n C hl 4 dX4_fills_82 rfl ?_
  obtain ⟨hv, hw⟩ := hw
  refine tw_cbq C hS (tk_runVN (As := [.inl l3]) C hR hS (wk_X5_kids l C.hst G (R.frames - 1) (by omega) _ _ _ _ σ hw) hv rfl q2217 q2219 qs34 q75 q2220 pd_X5_kids ⟨by omega, by omega⟩ hl.1 rfl (tw_r8 [.inr l1, .inr l0, .inl (s0 + s1), .inl l4, .inr x2] (Nat.le_of_ble_eq_true rfl)) dX4_fills_83) (fun E q σ H locs hX hR hS hi => tw_out C hR hS (fun x hx => (hnx x hx).elim) hi hX) (fun x3 σ H locs hw hR hS => ?_)
  refine tk_aload_n C hl 3 dX4_fills_86 rfl ?_
  refine tk_aload_n C hl 3 dX4_fills_87 rfl ?_
  refine tk_iload C hl 5 dX4_fills_88 rfl ?_
  obtain ⟨hv, hw⟩ := hw
  refine tw_cbq C hS (tk_runVN (As := [.inl l4]) C hR hS (wk_X5_kids l C.hst G (R.frames - 1) (by omega) _ _ _ _ σ hw) hv rfl q2217 q2219 qs34 q75 q2220 pd_X5_kids ⟨by omega, by omega⟩ hl.1 rfl (tw_r8 [.inr l2, .inr x3, .inr l1, .inr l0, .inl (s0 + s1), .inl l4, .inr x2] (Nat.le_of_ble_eq_true rfl)) dX4_fills_90) (fun E q σ H locs hX hR hS hi => tw_out C hR hS (fun x hx => (hnx x hx).elim) hi hX) (fun x4 σ H locs hw hR hS => ?_)
  obtain ⟨hv, hw⟩ := hw
  refine tw_cbq C hS (tk_runV (As := [.inr l1, .inr x3, .inr l2, .inr x4]) C hR hS (wk_X4_left l C.hst G (R.frames - 1) (by omega) _ _ _ _ _ _ _ σ hw) hv rfl q2360 q2362 qs43 q74 q2363 pd_X4_left ⟨by omega, by omega⟩ hl.1 rfl (tw_r8 [.inl (s0 + s1), .inl l4, .inr x2] (Nat.le_of_ble_eq_true rfl)) dX4_fills_93) (fun E q σ H locs hX hR hS hi => tw_out C hR hS (fun x hx => (hnx x hx).elim) hi hX) (fun x5 σ H locs hw hR hS => ?_)
  refine lv_iconst (v := 0) C.hx C.hb dX4_fills_96 (by decide) ?_
  refine tk_lr C hR hw dX4_fills_97 (fun x6 hw => ?_)
  refine lv_iconst (v := 0) C.hx C.hb dX4_fills_98 (by decide) ?_
  refine tk_li C hR hw dX4_fills_99 (fun x7 hw => ?_)
  refine lv_iadd C.hx C.hb dX4_fills_100 ?_
  refine tk_si C hR hS hw dX4_fills_101 (fun σ H locs hw hR hS => ?_)
  refine tk_iinc (L' := [(4, .inl (l4 + (-1))), (5, .inl (s0 + s1)), (0, .inr l0), (1, .inr l1), (2, .inr l2), (3, .inl l3)]) (y := (l4 + (-1))) C hl 5 dX4_fills_102 rfl rfl (by decide) rfl (fun ls hl => ?_)
  refine lv_goto (tgt := 19) C.hx C.hb dX4_fills_105 (by decide) ?_
  exact hk19 _ _ _ _ _ σ _ _ _ hw hR hS (tk_sub hl [2, 3, 4, 5, 0] rfl)
set_option maxHeartbeats 4000000 in
theorem wk_X4_fills_b45  (C : tw_C p l R s m args meth c G cX4_fills 6 yX4_fills.cls) (hr : meth.sig.returnType = (some .int)) (hmn : meth.name = yX4_fills.name) (hnx : (∀ x ∈ c.exceptionTable.toList, False)) (hfr : 3 ≤ R.frames) (hRl : R.locals = 40 * R.frames) {Q : Int32 → Tst → Prop} {X : String → Nat → Tst → Prop}  {k7 : Option Nat → Option Nat → Option Nat → Int32 → Tst → Prop} (hk7 : ∀ (l0 : Option Nat) (l1 : Option Nat) (l2 : Option Nat) (l3 : Int32) (σ : Tst) (H : Heap) (locs : List Loc) (ls : Array Slot), k7 l0 l1 l2 l3 σ → tw_R G σ H → va_S (tw_A G) s.heap H locs → tw_l ls 6 [(0, .inr l0), (1, .inr l1), (2, .inr l2), (3, .inl l3)] → tw_W p l e R s m args below meth c σ H locs (tw_E below G (tw_Qi G Q) X args s R) (F0 m 7 ls [])) {k19 : Option Nat → Option Nat → Option Nat → Int32 → Int32 → Tst → Prop} (hk19 : ∀ (l0 : Option Nat) (l1 : Option Nat) (l2 : Option Nat) (l3 : Int32) (l4 : Int32) (σ : Tst) (H : Heap) (locs : List Loc) (ls : Array Slot), k19 l0 l1 l2 l3 l4 σ → tw_R G σ H → va_S (tw_A G) s.heap H locs → tw_l ls 6 [(0, .inr l0), (1, .inr l1), (2, .inr l2), (3, .inl l3), (4, .inl l4)] → tw_W p l e R s m args below meth c σ H locs (tw_E below G (tw_Qi G Q) X args s R) (F0 m 19 ls [])) (l0 : Option Nat) (l1 : Option Nat) (l2 : Option Nat) (l3 : Int32) (l4 : Int32) (s0 : Int32) (σ : Tst) (H : Heap) (locs : List Loc) (ls : Array Slot) (hw : w_X4_fills_b45 k7 k19 Q X l0 l1 l2 l3 l4 s0 σ) (hR : tw_R G σ H) (hS : va_S (tw_A G) s.heap H locs) (hl : tw_l ls 6 [(0, .inr l0), (1, .inr l1), (2, .inr l2), (3, .inl l3), (4, .inl l4)]) : tw_W p l e R s m args below meth c σ H locs (tw_E below G (tw_Qi G Q) X args s R) (F0 m 45 ls [.int s0]) := by
  unfold w_X4_fills_b45 at hw
  refine tk_aload_n C hl 1 dX4_fills_45 rfl ?_
  refine tk_grN C hR hw rfl in_X5 (by decide) q2023 (fun _ h => h) dX4_fills_46 (fun x1 hw => ?_)
  refine tk_iload_n C hl 3 dX4_fills_49 rfl ?_
  refine tk_li C hR hw dX4_fills_50 (fun x2 hw => ?_)
  refine tk_aload_n C hl 2 dX4_fills_51 rfl ?_
  refine tk_grN C hR hw rfl in_X5 (by decide) q2023 (fun _ h => h) dX4_fills_52 (fun x3 hw => ?_)
  refine tk_iload C hl 4 dX4_fills_55 rfl ?_
  refine tk_li C hR hw dX4_fills_57 (fun x4 hw => ?_)
  refine lv_icmp_ne (tgt := 65) C.hx C.hb dX4_fills_58 (by decide) (fun c58 => ?_) (fun c58 => ?_)
  · replace hw := hw.2 c58
    refine lv_iconst (v := 1) C.hx C.hb dX4_fills_65 (by decide) ?_
    exact wk_X4_fills_b66 C hr hmn hnx hfr hRl hk7 hk19 _ _ _ _ _ _ _ σ _ _ _ hw hR hS (tk_sub hl [0, 1, 2, 3, 4] rfl)
  · replace hw := hw.1 c58
    refine lv_iconst (v := 0) C.hx C.hb dX4_fills_61 (by decide) ?_
    refine lv_goto (tgt := 66) C.hx C.hb dX4_fills_62 (by decide) ?_
    exact wk_X4_fills_b66 C hr hmn hnx hfr hRl hk7 hk19 _ _ _ _ _ _ _ σ _ _ _ hw hR hS (tk_sub hl [0, 1, 2, 3, 4] rfl)
set_option maxHeartbeats 4000000 in
theorem wk_X4_fills_b19  (C : tw_C p l R s m args meth c G cX4_fills 6 yX4_fills.cls) (hr : meth.sig.returnType = (some .int)) (hmn : meth.name = yX4_fills.name) (hnx : (∀ x ∈ c.exceptionTable.toList, False)) (hfr : 3 ≤ R.frames) (hRl : R.locals = 40 * R.frames) {Q : Int32 → Tst → Prop} {X : String → Nat → Tst → Prop}  {k7 : Option Nat → Option Nat → Option Nat → Int32 → Tst → Prop} (hk7 : ∀ (l0 : Option Nat) (l1 : Option Nat) (l2 : Option Nat) (l3 : Int32) (σ : Tst) (H : Heap) (locs : List Loc) (ls : Array Slot), k7 l0 l1 l2 l3 σ → tw_R G σ H → va_S (tw_A G) s.heap H locs → tw_l ls 6 [(0, .inr l0), (1, .inr l1), (2, .inr l2), (3, .inl l3)] → tw_W p l e R s m args below meth c σ H locs (tw_E below G (tw_Qi G Q) X args s R) (F0 m 7 ls [])) : ∀ (n : Nat) (l0 : Option Nat) (l1 : Option Nat) (l2 : Option Nat) (l3 : Int32) (l4 : Int32) (σ : Tst) (H : Heap) (locs : List Loc) (ls : Array Slot), w_X4_fills_b19 k7 Q X n l0 l1 l2 l3 l4 σ → tw_R G σ H → va_S (tw_A G) s.heap H locs → tw_l ls 6 [(0, .inr l0), (1, .inr l1), (2, .inr l2), (3, .inl l3), (4, .inl l4)] → tw_W p l e R s m args below meth c σ H locs (tw_E below G (tw_Qi G Q) X args s R) (F0 m 19 ls []) := by
  intro n
  induction n with
  | zero => intro l0 l1 l2 l3 l4 σ H locs ls hw; exact False.elim hw
  | succ n hk19 =>
    intro l0 l1 l2 l3 l4 σ H locs ls hw hR hS hl
    rw [w_X4_fills_b19] at hw
    refine tk_iload C hl 4 dX4_fills_19 rfl ?_
    refine lv_if_lt (tgt := 108) C.hx C.hb dX4_fills_21 (by decide) (fun c21 => ?_) (fun c21 => ?_)
    · replace hw := hw.1 c21
      refine tk_iinc (L' := [(3, .inl (l3 + (-1))), (0, .inr l0), (1, .inr l1), (2, .inr l2), (4, .inl l4)]) (y := (l3 + (-1))) C hl 3 dX4_fills_108 rfl rfl (by decide) rfl (fun ls hl => ?_)
      refine lv_goto (tgt := 7) C.hx C.hb dX4_fills_111 (by decide) ?_
      exact hk7 _ _ _ _ σ _ _ _ hw hR hS (tk_sub hl [1, 2, 3, 0] rfl)
    · replace hw := hw.2 c21
      refine tk_aload_n C hl 1 dX4_fills_24 rfl ?_
      refine tk_grN C hR hw rfl in_X5 (by decide) q2019 (fun _ h => h) dX4_fills_25 (fun x1 hw => ?_)
      refine tk_iload_n C hl 3 dX4_fills_28 rfl ?_
      refine tk_li C hR hw dX4_fills_29 (fun x2 hw => ?_)
      refine tk_aload_n C hl 2 dX4_fills_30 rfl ?_
      refine tk_grN C hR hw rfl in_X5 (by decide) q2019 (fun _ h => h) dX4_fills_31 (fun x3 hw => ?_)
      refine tk_iload C hl 4 dX4_fills_34 rfl ?_
      refine tk_li C hR hw dX4_fills_36 (fun x4 hw => ?_)
      refine lv_icmp_ne (tgt := 44) C.hx C.hb dX4_fills_37 (by decide) (fun c37 => ?_) (fun c37 => ?_)
      · replace hw := hw.2 c37
        refine lv_iconst (v := 3) C.hx C.hb dX4_fills_44 (by decide) ?_
        exact wk_X4_fills_b45 C hr hmn hnx hfr hRl hk7 hk19 _ _ _ _ _ _ σ _ _ _ hw hR hS (tk_sub hl [0, 1, 2, 3, 4] rfl)
      · replace hw := hw.1 c37
        refine lv_iconst (v := 0) C.hx C.hb dX4_fills_40 (by decide) ?_
        refine lv_goto (tgt := 45) C.hx C.hb dX4_fills_41 (by decide) ?_
        exact wk_X4_fills_b45 C hr hmn hnx hfr hRl hk7 hk19 _ _ _ _ _ _ σ _ _ _ hw hR hS (tk_sub hl [0, 1, 2, 3, 4] rfl)
set_option maxHeartbeats 4000000 in
theorem wk_X4_fills_b7  (C : tw_C p l R s m args meth c G cX4_fills 6 yX4_fills.cls) (hr : meth.sig.returnType = (some .int)) (hmn : meth.name = yX4_fills.name) (hnx : (∀ x ∈ c.exceptionTable.toList, False)) (hfr : 3 ≤ R.frames) (hRl : R.locals = 40 * R.frames) {Q : Int32 → Tst → Prop} {X : String → Nat → Tst → Prop}  : ∀ (n : Nat) (l0 : Option Nat) (l1 : Option Nat) (l2 : Option Nat) (l3 : Int32) (σ : Tst) (H : Heap) (locs : List Loc) (ls : Array Slot), w_X4_fills_b7 Q X n l0 l1 l2 l3 σ → tw_R G σ H → va_S (tw_A G) s.heap H locs → tw_l ls 6 [(0, .inr l0), (1, .inr l1), (2, .inr l2), (3, .inl l3)] → tw_W p l e R s m args below meth c σ H locs (tw_E below G (tw_Qi G Q) X args s R) (F0 m 7 ls []) := by
  intro n
  induction n with
  | zero => intro l0 l1 l2 l3 σ H locs ls hw; exact False.elim hw
  | succ n hk7 =>
    intro l0 l1 l2 l3 σ H locs ls hw hR hS hl
    rw [w_X4_fills_b7] at hw
    refine tk_iload_n C hl 3 dX4_fills_7 rfl ?_
    refine lv_if_lt (tgt := 114) C.hx C.hb dX4_fills_8 (by decide) (fun c8 => ?_) (fun c8 => ?_)
    · replace hw := hw.1 c8
      refine tk_aload_n C hl 0 dX4_fills_114 rfl ?_
      refine tk_gr C hR hw rfl in_X4 (by decide) q2061 (fun _ h => h) dX4_fills_115 (fun x1 hw => ?_)
      refine lv_iconst (v := 0) C.hx C.hb dX4_fills_118 (by decide) ?_
      refine tk_lr C hR hw dX4_fills_119 (fun x2 hw => ?_)
      refine lv_iconst (v := 0) C.hx C.hb dX4_fills_120 (by decide) ?_
      refine tk_li C hR hw dX4_fills_121 (fun x3 hw => ?_)
      exact tw_iret C hR hS hr rfl dX4_fills_122 hw
    · replace hw := hw.2 c8
      refine tk_aload_n C hl 2 dX4_fills_11 rfl ?_
      refine tk_giN C hR hw rfl in_X5 (by decide) q2027 (fun _ h => h) dX4_fills_12 (fun x4 hw => ?_)
      refine lv_iconst (v := 1) C.hx C.hb dX4_fills_15 (by decide) ?_
      refine lv_isub C.hx C.hb dX4_fills_16 ?_
      refine tk_istore (L' := [(4, .inl (x4 - 1)), (0, .inr l0), (1, .inr l1), (2, .inr l2), (3, .inl l3)]) C hl dX4_fills_17 (by decide) rfl (fun ls hl => ?_)
      obtain ⟨z, hw⟩ := hw
      exact wk_X4_fills_b19 C hr hmn hnx hfr hRl hk7 z _ _ _ _ _ σ _ _ _ hw hR hS (tk_sub hl [1, 2, 3, 4, 0] rfl)
set_option maxHeartbeats 4000000 in
theorem wk_X4_fills (l : Launch) (hl0 : l.stackTraces = false) (G : Tgl) (fr : Nat)  (hfr : 3 ≤ fr) (l0 : Option Nat) (l1 : Option Nat) (l2 : Option Nat) (Q : Int32 → Tst → Prop) (X : String → Nat → Tst → Prop) (σ : Tst) (hw : w_X4_fills l0 l1 l2 Q X σ) : tw_M l yX4_fills (ws_ yX4_fills cX4_fills 6 (some .int)) fr (40 * fr) G σ [.inr l0, .inr l1, .inr l2] (tw_Qi G Q) X := by
  unfold w_X4_fills at hw
  refine tw_of (ret := (some .int)) hl0 (by decide) (Nat.le_of_ble_eq_true rfl) (fun p e R s m args below meth c hRf hRl C hr hmn hnx hR hS ls hl => ?_)
  have hfr : 3 ≤ R.frames := by rw [hRf]; exact hfr
  have hRl : R.locals = 40 * R.frames := by rw [hRl, hRf]
  have hl : tw_l ls 6 [(0, .inr l0), (1, .inr l1), (2, .inr l2)] := hl
  refine tk_aload_n C hl 1 dX4_fills_0 rfl ?_
  refine tk_giN C hR hw rfl in_X5 (by decide) q2027 (fun _ h => h) dX4_fills_1 (fun x1 hw => ?_)
  refine lv_iconst (v := 1) C.hx C.hb dX4_fills_4 (by decide) ?_
  refine lv_isub C.hx C.hb dX4_fills_5 ?_
  refine tk_istore_n (L' := [(3, .inl (x1 - 1)), (0, .inr l0), (1, .inr l1), (2, .inr l2)]) C hl dX4_fills_6 (by decide) rfl (fun ls hl => ?_)
  obtain ⟨z, hw⟩ := hw
  exact wk_X4_fills_b7 C hr hmn hnx hfr hRl z _ _ _ _ σ _ _ _ hw hR hS (tk_sub hl [1, 2, 3, 0] rfl)
-- TreeDifferModel.distance(II)I
def w_X4_distance_b29 (Q : Int32 → Tst → Prop) (X : String → Nat → Tst → Prop) (s0 : Int32) (σ : Tst) : Prop := Q s0 σ
def w_X4_distance (l0 : Option Nat) (l1 : Int32) (l2 : Int32) (Q : Int32 → Tst → Prop) (X : String → Nat → Tst → Prop) (σ : Tst) : Prop := w_rc σ l0 cX4 <| w_X4_areNone l0 l1 l2 (fun x1 σ => w_if (x1 = 0) (w_gr σ l0 cX4 0 fun x2 => w_lr σ x2 l1 fun x3 => w_gr σ l0 cX4 0 fun x4 => w_lr σ x4 l2 fun x5 => w_rc σ l0 cX4 <| w_X4_fills l0 x3 x5 (fun x6 σ => w_X4_distance_b29 Q X x6 σ) X σ) (w_X4_distance_b29 Q X 0 σ)) X σ
set_option maxHeartbeats 4000000 in
theorem wk_X4_distance_b29  (C : tw_C p l R s m args meth c G cX4_distance 3 yX4_distance.cls) (hr : meth.sig.returnType = (some .int)) (hmn : meth.name = yX4_distance.name) (hnx : (∀ x ∈ c.exceptionTable.toList, False)) (hfr : 4 ≤ R.frames) (hRl : R.locals = 40 * R.frames) {Q : Int32 → Tst → Prop} {X : String → Nat → Tst → Prop}  (s0 : Int32) (σ : Tst) (H : Heap) (locs : List Loc) (ls : Array Slot) (hw : w_X4_distance_b29 Q X s0 σ) (hR : tw_R G σ H) (hS : va_S (tw_A G) s.heap H locs) (hl : tw_l ls 3 []) : tw_W p l e R s m args below meth c σ H locs (tw_E below G (tw_Qi G Q) X args s R) (F0 m 29 ls [.int s0]) := by
  unfold w_X4_distance_b29 at hw
  exact tw_iret C hR hS hr rfl dX4_distance_29 hw
set_option maxHeartbeats 4000000 in
theorem wk_X4_distance (l : Launch) (hl0 : l.stackTraces = false) (G : Tgl) (fr : Nat)  (hfr : 4 ≤ fr) (l0 : Option Nat) (l1 : Int32) (l2 : Int32) (Q : Int32 → Tst → Prop) (X : String → Nat → Tst → Prop) (σ : Tst) (hw : w_X4_distance l0 l1 l2 Q X σ) : tw_M l yX4_distance (ws_ yX4_distance cX4_distance 3 (some .int)) fr (40 * fr) G σ [.inr l0, .inl l1, .inl l2] (tw_Qi G Q) X := by
  unfold w_X4_distance at hw
  refine tw_of (ret := (some .int)) hl0 (by decide) (Nat.le_of_ble_eq_true rfl) (fun p e R s m args below meth c hRf hRl C hr hmn hnx hR hS ls hl => ?_)
  have hfr : 4 ≤ R.frames := by rw [hRf]; exact hfr
  have hRl : R.locals = 40 * R.frames := by rw [hRl, hRf]
  have hl : tw_l ls 3 [(0, .inr l0), (1, .inl l1), (2, .inl l2)] := hl
  refine tk_aload_n C hl 0 dX4_distance_0 rfl ?_
  refine tk_iload_n C hl 1 dX4_distance_1 rfl ?_
  refine tk_iload_n C hl 2 dX4_distance_2 rfl ?_
  obtain ⟨hv, hw⟩ := hw
  refine tw_cbi C hS (tk_runV (As := [.inl l1, .inl l2]) C hR hS (wk_X4_areNone l C.hst G (R.frames - 1) (by omega) _ _ _ _ _ σ hw) hv rfl q2291 q2293 qs39 q74 q2294 pd_X4_areNone ⟨by omega, by omega⟩ hl.1 rfl (tw_r8 [] (Nat.le_of_ble_eq_true rfl)) dX4_distance_3) (fun E q σ H locs hX hR hS hi => tw_out C hR hS (fun x hx => (hnx x hx).elim) hi hX) (fun x1 σ H locs hw hR hS => ?_)
  refine lv_if_eq (tgt := 13) C.hx C.hb dX4_distance_6 (by decide) (fun c6 => ?_) (fun c6 => ?_)
  · replace hw := hw.1 c6
    refine tk_aload_n C hl 0 dX4_distance_13 rfl ?_
    refine tk_aload_n C hl 0 dX4_distance_14 rfl ?_
    refine tk_gr C hR hw rfl in_X4 (by decide) q2052 (fun _ h => h) dX4_distance_15 (fun x2 hw => ?_)
    refine tk_iload_n C hl 1 dX4_distance_18 rfl ?_
    refine tk_lr C hR hw dX4_distance_19 (fun x3 hw => ?_)
    refine tk_aload_n C hl 0 dX4_distance_20 rfl ?_
    refine tk_gr C hR hw rfl in_X4 (by decide) q2052 (fun _ h => h) dX4_distance_21 (fun x4 hw => ?_)
    refine tk_iload_n C hl 2 dX4_distance_24 rfl ?_
    refine tk_lr C hR hw dX4_distance_25 (fun x5 hw => ?_)
    obtain ⟨hv, hw⟩ := hw
    refine tw_cbi C hS (tk_runV (As := [.inr x3, .inr x5]) C hR hS (wk_X4_fills l C.hst G (R.frames - 1) (by omega) _ _ _ _ _ σ hw) hv rfl q2356 q2358 qs42 q74 q2359 pd_X4_fills ⟨by omega, by omega⟩ hl.1 rfl (tw_r8 [] (Nat.le_of_ble_eq_true rfl)) dX4_distance_26) (fun E q σ H locs hX hR hS hi => tw_out C hR hS (fun x hx => (hnx x hx).elim) hi hX) (fun x6 σ H locs hw hR hS => ?_)
    exact wk_X4_distance_b29 C hr hmn hnx hfr hRl _ σ _ _ _ hw hR hS (tk_sub hl [] rfl)
  · replace hw := hw.2 c6
    refine lv_iconst (v := 0) C.hx C.hb dX4_distance_9 (by decide) ?_
    refine lv_goto (tgt := 29) C.hx C.hb dX4_distance_10 (by decide) ?_
    exact wk_X4_distance_b29 C hr hmn hnx hfr hRl _ σ _ _ _ hw hR hS (tk_sub hl [] rfl)
-- TreeDifferModel.distanceByMatchings(II)I
def w_X4_distanceByMatchings_b63 (Q : Int32 → Tst → Prop) (X : String → Nat → Tst → Prop) (s0 : Int32) (σ : Tst) : Prop := Q s0 σ
def w_X4_distanceByMatchings_b39 (Q : Int32 → Tst → Prop) (X : String → Nat → Tst → Prop) (l0 : Option Nat) (σ : Tst) : Prop := w_rc σ l0 cX4 <| w_X4_fails l0 2 (fun x1 σ => w_X4_distanceByMatchings_b63 Q X x1 σ) X σ
def w_X4_distanceByMatchings (l0 : Option Nat) (l1 : Int32) (l2 : Int32) (Q : Int32 → Tst → Prop) (X : String → Nat → Tst → Prop) (σ : Tst) : Prop := w_rc σ l0 cX4 <| w_X4_areNone l0 l1 l2 (fun x1 σ => w_if (x1 = 0) (w_gr σ l0 cX4 0 fun x2 => w_lr σ x2 l1 fun x3 => w_gi σ x3 cX5 4 fun x4 => w_if (7 < x4) (w_X4_distanceByMatchings_b39 Q X l0 σ) (w_gr σ l0 cX4 0 fun x5 => w_lr σ x5 l2 fun x6 => w_gi σ x6 cX5 4 fun x7 => w_if (x7 ≤ 7) (w_gr σ l0 cX4 0 fun x8 => w_lr σ x8 l1 fun x9 => w_gr σ l0 cX4 0 fun x10 => w_lr σ x10 l2 fun x11 => w_rc σ l0 cX4 <| w_X4_fills l0 x9 x11 (fun x12 σ => w_X4_distanceByMatchings_b63 Q X x12 σ) X σ) (w_X4_distanceByMatchings_b39 Q X l0 σ))) (Q 0 σ)) X σ
set_option maxHeartbeats 4000000 in
theorem wk_X4_distanceByMatchings_b63  (C : tw_C p l R s m args meth c G cX4_distanceByMatchings 3 yX4_distanceByMatchings.cls) (hr : meth.sig.returnType = (some .int)) (hmn : meth.name = yX4_distanceByMatchings.name) (hnx : (∀ x ∈ c.exceptionTable.toList, False)) (hfr : 4 ≤ R.frames) (hRl : R.locals = 40 * R.frames) {Q : Int32 → Tst → Prop} {X : String → Nat → Tst → Prop}  (s0 : Int32) (σ : Tst) (H : Heap) (locs : List Loc) (ls : Array Slot) (hw : w_X4_distanceByMatchings_b63 Q X s0 σ) (hR : tw_R G σ H) (hS : va_S (tw_A G) s.heap H locs) (hl : tw_l ls 3 []) : tw_W p l e R s m args below meth c σ H locs (tw_E below G (tw_Qi G Q) X args s R) (F0 m 63 ls [.int s0]) := by
  unfold w_X4_distanceByMatchings_b63 at hw
  exact tw_iret C hR hS hr rfl dX4_distanceByMatchings_63 hw
set_option maxHeartbeats 4000000 in
theorem wk_X4_distanceByMatchings_b39  (C : tw_C p l R s m args meth c G cX4_distanceByMatchings 3 yX4_distanceByMatchings.cls) (hr : meth.sig.returnType = (some .int)) (hmn : meth.name = yX4_distanceByMatchings.name) (hnx : (∀ x ∈ c.exceptionTable.toList, False)) (hfr : 4 ≤ R.frames) (hRl : R.locals = 40 * R.frames) {Q : Int32 → Tst → Prop} {X : String → Nat → Tst → Prop}  (l0 : Option Nat) (σ : Tst) (H : Heap) (locs : List Loc) (ls : Array Slot) (hw : w_X4_distanceByMatchings_b39 Q X l0 σ) (hR : tw_R G σ H) (hS : va_S (tw_A G) s.heap H locs) (hl : tw_l ls 3 [(0, .inr l0)]) : tw_W p l e R s m args below meth c σ H locs (tw_E below G (tw_Qi G Q) X args s R) (F0 m 39 ls []) := by
  unfold w_X4_distanceByMatchings_b39 at hw
  refine tk_aload_n C hl 0 dX4_distanceByMatchings_39 rfl ?_
  refine lv_iconst (v := 2) C.hx C.hb dX4_distanceByMatchings_40 (by decide) ?_
  obtain ⟨hv, hw⟩ := hw
  refine tw_cbi C hS (tk_runV (As := [.inl 2]) C hR hS (wk_X4_fails l C.hst G (R.frames - 1) (by omega) _ _ _ _ σ hw) hv rfl q2155 q2157 qs24 q74 q2158 pd_X4_fails ⟨by omega, by omega⟩ hl.1 rfl (tw_r8 [] (Nat.le_of_ble_eq_true rfl)) dX4_distanceByMatchings_41) (fun E q σ H locs hX hR hS hi => tw_out C hR hS (fun x hx => (hnx x hx).elim) hi hX) (fun x1 σ H locs hw hR hS => ?_)
  refine lv_goto (tgt := 63) C.hx C.hb dX4_distanceByMatchings_44 (by decide) ?_
  exact wk_X4_distanceByMatchings_b63 C hr hmn hnx hfr hRl _ σ _ _ _ hw hR hS (tk_sub hl [] rfl)
set_option maxHeartbeats 4000000 in
theorem wk_X4_distanceByMatchings (l : Launch) (hl0 : l.stackTraces = false) (G : Tgl) (fr : Nat)  (hfr : 4 ≤ fr) (l0 : Option Nat) (l1 : Int32) (l2 : Int32) (Q : Int32 → Tst → Prop) (X : String → Nat → Tst → Prop) (σ : Tst) (hw : w_X4_distanceByMatchings l0 l1 l2 Q X σ) : tw_M l yX4_distanceByMatchings (ws_ yX4_distanceByMatchings cX4_distanceByMatchings 3 (some .int)) fr (40 * fr) G σ [.inr l0, .inl l1, .inl l2] (tw_Qi G Q) X := by
  unfold w_X4_distanceByMatchings at hw
  refine tw_of (ret := (some .int)) hl0 (by decide) (Nat.le_of_ble_eq_true rfl) (fun p e R s m args below meth c hRf hRl C hr hmn hnx hR hS ls hl => ?_)
  have hfr : 4 ≤ R.frames := by rw [hRf]; exact hfr
  have hRl : R.locals = 40 * R.frames := by rw [hRl, hRf]
  have hl : tw_l ls 3 [(0, .inr l0), (1, .inl l1), (2, .inl l2)] := hl
  refine tk_aload_n C hl 0 dX4_distanceByMatchings_0 rfl ?_
  refine tk_iload_n C hl 1 dX4_distanceByMatchings_1 rfl ?_
  refine tk_iload_n C hl 2 dX4_distanceByMatchings_2 rfl ?_
  obtain ⟨hv, hw⟩ := hw
  refine tw_cbi C hS (tk_runV (As := [.inl l1, .inl l2]) C hR hS (wk_X4_areNone l C.hst G (R.frames - 1) (by omega) _ _ _ _ _ σ hw) hv rfl q2291 q2293 qs39 q74 q2294 pd_X4_areNone ⟨by omega, by omega⟩ hl.1 rfl (tw_r8 [] (Nat.le_of_ble_eq_true rfl)) dX4_distanceByMatchings_3) (fun E q σ H locs hX hR hS hi => tw_out C hR hS (fun x hx => (hnx x hx).elim) hi hX) (fun x1 σ H locs hw hR hS => ?_)
  refine lv_if_eq (tgt := 11) C.hx C.hb dX4_distanceByMatchings_6 (by decide) (fun c6 => ?_) (fun c6 => ?_)
  · replace hw := hw.1 c6
    refine tk_aload_n C hl 0 dX4_distanceByMatchings_11 rfl ?_
    refine tk_gr C hR hw rfl in_X4 (by decide) q2052 (fun _ h => h) dX4_distanceByMatchings_12 (fun x2 hw => ?_)
    refine tk_iload_n C hl 1 dX4_distanceByMatchings_15 rfl ?_
    refine tk_lr C hR hw dX4_distanceByMatchings_16 (fun x3 hw => ?_)
    refine tk_giN C hR hw rfl in_X5 (by decide) q2027 (fun _ h => h) dX4_distanceByMatchings_17 (fun x4 hw => ?_)
    refine lv_bipush (v := 7) C.hx C.hb dX4_distanceByMatchings_20 (by decide) ?_
    refine lv_icmp_gt (tgt := 39) C.hx C.hb dX4_distanceByMatchings_22 (by decide) (fun c22 => ?_) (fun c22 => ?_)
    · replace hw := hw.1 c22
      exact wk_X4_distanceByMatchings_b39 C hr hmn hnx hfr hRl _ σ _ _ _ hw hR hS (tk_sub hl [0] rfl)
    · replace hw := hw.2 c22
      refine tk_aload_n C hl 0 dX4_distanceByMatchings_25 rfl ?_
      refine tk_gr C hR hw rfl in_X4 (by decide) q2052 (fun _ h => h) dX4_distanceByMatchings_26 (fun x5 hw => ?_)
      refine tk_iload_n C hl 2 dX4_distanceByMatchings_29 rfl ?_
      refine tk_lr C hR hw dX4_distanceByMatchings_30 (fun x6 hw => ?_)
      refine tk_giN C hR hw rfl in_X5 (by decide) q2027 (fun _ h => h) dX4_distanceByMatchings_31 (fun x7 hw => ?_)
      refine lv_bipush (v := 7) C.hx C.hb dX4_distanceByMatchings_34 (by decide) ?_
      refine lv_icmp_le (tgt := 47) C.hx C.hb dX4_distanceByMatchings_36 (by decide) (fun c36 => ?_) (fun c36 => ?_)
      · replace hw := hw.1 c36
        refine tk_aload_n C hl 0 dX4_distanceByMatchings_47 rfl ?_
        refine tk_aload_n C hl 0 dX4_distanceByMatchings_48 rfl ?_
        refine tk_gr C hR hw rfl in_X4 (by decide) q2052 (fun _ h => h) dX4_distanceByMatchings_49 (fun x8 hw => ?_)
        refine tk_iload_n C hl 1 dX4_distanceByMatchings_52 rfl ?_
        refine tk_lr C hR hw dX4_distanceByMatchings_53 (fun x9 hw => ?_)
        refine tk_aload_n C hl 0 dX4_distanceByMatchings_54 rfl ?_
        refine tk_gr C hR hw rfl in_X4 (by decide) q2052 (fun _ h => h) dX4_distanceByMatchings_55 (fun x10 hw => ?_)
        refine tk_iload_n C hl 2 dX4_distanceByMatchings_58 rfl ?_
        refine tk_lr C hR hw dX4_distanceByMatchings_59 (fun x11 hw => ?_)
        obtain ⟨hv, hw⟩ := hw
        refine tw_cbi C hS (tk_runV (As := [.inr x9, .inr x11]) C hR hS (wk_X4_fills l C.hst G (R.frames - 1) (by omega) _ _ _ _ _ σ hw) hv rfl q2356 q2358 qs42 q74 q2359 pd_X4_fills ⟨by omega, by omega⟩ hl.1 rfl (tw_r8 [] (Nat.le_of_ble_eq_true rfl)) dX4_distanceByMatchings_60) (fun E q σ H locs hX hR hS hi => tw_out C hR hS (fun x hx => (hnx x hx).elim) hi hX) (fun x12 σ H locs hw hR hS => ?_)
        exact wk_X4_distanceByMatchings_b63 C hr hmn hnx hfr hRl _ σ _ _ _ hw hR hS (tk_sub hl [] rfl)
      · replace hw := hw.2 c36
        exact wk_X4_distanceByMatchings_b39 C hr hmn hnx hfr hRl _ σ _ _ _ hw hR hS (tk_sub hl [0] rfl)
  · replace hw := hw.2 c6
    refine lv_iconst (v := 0) C.hx C.hb dX4_distanceByMatchings_9 (by decide) ?_
    exact tw_iret C hR hS hr rfl dX4_distanceByMatchings_10 hw
-- TreeDifferModel.similarity(II)D
def w_X4_similarity (l0 : Option Nat) (l1 : Int32) (l2 : Int32) (Q : UInt64 → Tst → Prop) (X : String → Nat → Tst → Prop) (σ : Tst) : Prop := w_rc σ l0 cX4 <| w_X4_areNone l0 l1 l2 (fun x1 σ => w_if (x1 = 0) (w_gr σ l0 cX4 0 fun x2 => w_lr σ x2 l1 fun x3 => w_gr σ l0 cX4 0 fun x4 => w_lr σ x4 l2 fun x5 => w_rc σ l0 cX4 <| w_X4_fills l0 x3 x5 (fun x6 σ => w_gr σ l0 cX4 0 fun x7 => w_lr σ x7 l1 fun x8 => w_gi σ x8 cX5 4 fun x9 => w_gr σ l0 cX4 0 fun x10 => w_lr σ x10 l2 fun x11 => w_gi σ x11 cX5 4 fun x12 => vf_n64 (FP.ddiv (FP.i2d x6) (FP.i2d (2 * (x9 + x12)))) ∧ vf_n64 (FP.dsub 0x3ff0000000000000 (FP.ddiv (FP.i2d x6) (FP.i2d (2 * (x9 + x12))))) ∧ Q (FP.dsub 0x3ff0000000000000 (FP.ddiv (FP.i2d x6) (FP.i2d (2 * (x9 + x12))))) σ) X σ) (Q 0 σ)) X σ
set_option maxHeartbeats 4000000 in
theorem wk_X4_similarity (l : Launch) (hl0 : l.stackTraces = false) (G : Tgl) (fr : Nat)  (hfr : 4 ≤ fr) (l0 : Option Nat) (l1 : Int32) (l2 : Int32) (Q : UInt64 → Tst → Prop) (X : String → Nat → Tst → Prop) (σ : Tst) (hw : w_X4_similarity l0 l1 l2 Q X σ) : tw_M l yX4_similarity (ws_ yX4_similarity cX4_similarity 3 (some .double)) fr (40 * fr) G σ [.inr l0, .inl l1, .inl l2] (tw_Qd G Q) X := by
  unfold w_X4_similarity at hw
  refine tw_of (ret := (some .double)) hl0 (by decide) (Nat.le_of_ble_eq_true rfl) (fun p e R s m args below meth c hRf hRl C hr hmn hnx hR hS ls hl => ?_)
  have hfr : 4 ≤ R.frames := by rw [hRf]; exact hfr
  have hRl : R.locals = 40 * R.frames := by rw [hRl, hRf]
  have hl : tw_l ls 3 [(0, .inr l0), (1, .inl l1), (2, .inl l2)] := hl
  refine tk_aload_n C hl 0 dX4_similarity_0 rfl ?_
  refine tk_iload_n C hl 1 dX4_similarity_1 rfl ?_
  refine tk_iload_n C hl 2 dX4_similarity_2 rfl ?_
  obtain ⟨hv, hw⟩ := hw
  refine tw_cbi C hS (tk_runV (As := [.inl l1, .inl l2]) C hR hS (wk_X4_areNone l C.hst G (R.frames - 1) (by omega) _ _ _ _ _ σ hw) hv rfl q2291 q2293 qs39 q74 q2294 pd_X4_areNone ⟨by omega, by omega⟩ hl.1 rfl (tw_r8 [] (Nat.le_of_ble_eq_true rfl)) dX4_similarity_3) (fun E q σ H locs hX hR hS hi => tw_out C hR hS (fun x hx => (hnx x hx).elim) hi hX) (fun x1 σ H locs hw hR hS => ?_)
  refine lv_if_eq (tgt := 11) C.hx C.hb dX4_similarity_6 (by decide) (fun c6 => ?_) (fun c6 => ?_)
  · replace hw := hw.1 c6
    refine lv_dconst1 C.hx C.hb dX4_similarity_11 ?_
    refine tk_aload_n C hl 0 dX4_similarity_12 rfl ?_
    refine tk_aload_n C hl 0 dX4_similarity_13 rfl ?_
    refine tk_gr C hR hw rfl in_X4 (by decide) q2052 (fun _ h => h) dX4_similarity_14 (fun x2 hw => ?_)
    refine tk_iload_n C hl 1 dX4_similarity_17 rfl ?_
    refine tk_lr C hR hw dX4_similarity_18 (fun x3 hw => ?_)
    refine tk_aload_n C hl 0 dX4_similarity_19 rfl ?_
    refine tk_gr C hR hw rfl in_X4 (by decide) q2052 (fun _ h => h) dX4_similarity_20 (fun x4 hw => ?_)
    refine tk_iload_n C hl 2 dX4_similarity_23 rfl ?_
    refine tk_lr C hR hw dX4_similarity_24 (fun x5 hw => ?_)
    obtain ⟨hv, hw⟩ := hw
    refine tw_cbi C hS (tk_runV (As := [.inr x3, .inr x5]) C hR hS (wk_X4_fills l C.hst G (R.frames - 1) (by omega) _ _ _ _ _ σ hw) hv rfl q2356 q2358 qs42 q74 q2359 pd_X4_fills ⟨by omega, by omega⟩ hl.1 rfl (by first | decide | (simp [Value.category])) dX4_similarity_25) (fun E q σ H locs hX hR hS hi => tw_out C hR hS (fun x hx => (hnx x hx).elim) hi hX) (fun x6 σ H locs hw hR hS => ?_)
    refine lv_i2d C.hx C.hb dX4_similarity_28 ?_
    refine lv_iconst (v := 2) C.hx C.hb dX4_similarity_29 (by decide) ?_
    refine tk_aload_n C hl 0 dX4_similarity_30 rfl ?_
    refine tk_gr C hR hw rfl in_X4 (by decide) q2052 (fun _ h => h) dX4_similarity_31 (fun x7 hw => ?_)
    refine tk_iload_n C hl 1 dX4_similarity_34 rfl ?_
    refine tk_lr C hR hw dX4_similarity_35 (fun x8 hw => ?_)
    refine tk_giN C hR hw rfl in_X5 (by decide) q2027 (fun _ h => h) dX4_similarity_36 (fun x9 hw => ?_)
    refine tk_aload_n C hl 0 dX4_similarity_39 rfl ?_
    refine tk_gr C hR hw rfl in_X4 (by decide) q2052 (fun _ h => h) dX4_similarity_40 (fun x10 hw => ?_)
    refine tk_iload_n C hl 2 dX4_similarity_43 rfl ?_
    refine tk_lr C hR hw dX4_similarity_44 (fun x11 hw => ?_)
    refine tk_giN C hR hw rfl in_X5 (by decide) q2027 (fun _ h => h) dX4_similarity_45 (fun x12 hw => ?_)
    refine lv_iadd C.hx C.hb dX4_similarity_48 ?_
    refine lv_imul C.hx C.hb dX4_similarity_49 ?_
    refine lv_i2d C.hx C.hb dX4_similarity_50 ?_
    obtain ⟨hne, hw⟩ := hw
    refine lv_ddiv C.hx C.hb dX4_similarity_51 hne ?_
    obtain ⟨hne, hw⟩ := hw
    refine lv_dsub C.hx C.hb dX4_similarity_52 hne ?_
    exact tw_dret C hR hS hr dX4_similarity_53 hw
  · replace hw := hw.2 c6
    refine lv_dconst0 C.hx C.hb dX4_similarity_9 ?_
    exact tw_dret C hR hS hr dX4_similarity_10 hw
end GW24
