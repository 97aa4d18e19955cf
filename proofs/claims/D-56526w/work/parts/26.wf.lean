set_option maxRecDepth 100000
section GW26
variable {p : Program} {l : Launch} {e : Env} {R : Room} {s : State} {m : MethodId} {args : Array Value} {below : List Frame} {meth : Method} {c : Code} {H : Heap} {locs : List Loc} {G : Tgl}
-- TreeDifferModel.counterpart(I)LTreeDifferModel$Item;
def w_X4_counterpart_b28 (Q : Option Nat → Tst → Prop) (X : String → Nat → Tst → Prop) (s0 : Option Nat) (σ : Tst) : Prop := Q s0 σ
def w_X4_counterpart (l0 : Option Nat) (l1 : Int32) (Q : Option Nat → Tst → Prop) (X : String → Nat → Tst → Prop) (σ : Tst) : Prop := w_gr σ l0 cX4 22 fun x1 => w_li σ x1 l1 fun x2 => w_if (x2 < 0) (w_gr σ l0 cX4 25 fun x3 => w_lr σ x3 l1 fun x4 => w_X4_counterpart_b28 Q X x4 σ) (w_gr σ l0 cX4 22 fun x5 => w_li σ x5 l1 fun x6 => w_rc σ l0 cX4 <| w_X4_image l0 x6 (fun x7 σ => w_X4_counterpart_b28 Q X x7 σ) X σ)
set_option maxHeartbeats 4000000 in
theorem wk_X4_counterpart_b28  (C : tw_C p l R s m args meth c G cX4_counterpart 2 yX4_counterpart.cls) (hr : meth.sig.returnType = (some (.object "TreeDifferModel$Item"))) (hmn : meth.name = yX4_counterpart.name) (hnx : (∀ x ∈ c.exceptionTable.toList, False)) (hfr : 2 ≤ R.frames) (hRl : R.locals = 40 * R.frames) {Q : Option Nat → Tst → Prop} {X : String → Nat → Tst → Prop}  (s0 : Option Nat) (σ : Tst) (H : Heap) (locs : List Loc) (ls : Array Slot) (hw : w_X4_counterpart_b28 Q X s0 σ) (hR : tw_R G σ H) (hS : va_S (tw_A G) s.heap H locs) (hl : tw_l ls 2 []) : tw_W p l e R s m args below meth c σ H locs (tw_E below G (tw_Qq G Q) X args s R) (F0 m 28 ls [va_rf s0]) := by
  unfold w_X4_counterpart_b28 at hw
  exact tw_aret C hR hS hr (Or.inl ⟨_, rfl⟩) dX4_counterpart_28 hw
set_option maxHeartbeats 4000000 in
theorem wk_X4_counterpart (l : Launch) (hl0 : l.stackTraces = false) (G : Tgl) (fr : Nat)  (hfr : 2 ≤ fr) (l0 : Option Nat) (l1 : Int32) (Q : Option Nat → Tst → Prop) (X : String → Nat → Tst → Prop) (σ : Tst) (hw : w_X4_counterpart l0 l1 Q X σ) : tw_M l yX4_counterpart (ws_ yX4_counterpart cX4_counterpart 2 (some (.object "TreeDifferModel$Item"))) fr (40 * fr) G σ [.inr l0, .inl l1] (tw_Qq G Q) X := by
  unfold w_X4_counterpart at hw
  refine tw_of (ret := (some (.object "TreeDifferModel$Item"))) hl0 (by decide) (Nat.le_of_ble_eq_true rfl) (fun p e R s m args below meth c hRf hRl C hr hmn hnx hR hS ls hl => ?_)
  have hfr : 2 ≤ R.frames := by rw [hRf]; exact hfr
  have hRl : R.locals = 40 * R.frames := by rw [hRl, hRf]
  have hl : tw_l ls 2 [(0, .inr l0), (1, .inl l1)] := hl
  refine tk_aload_n C hl 0 dX4_counterpart_0 rfl ?_
  refine tk_gr C hR hw rfl in_X4 (by decide) q2074 (fun _ h => h) dX4_counterpart_1 (fun x1 hw => ?_)
  refine tk_iload_n C hl 1 dX4_counterpart_4 rfl ?_
  refine tk_li C hR hw dX4_counterpart_5 (fun x2 hw => ?_)
  refine lv_if_lt (tgt := 22) C.hx C.hb dX4_counterpart_6 (by decide) (fun c6 => ?_) (fun c6 => ?_)
  · replace hw := hw.1 c6
    refine tk_aload_n C hl 0 dX4_counterpart_22 rfl ?_
    refine tk_gr C hR hw rfl in_X4 (by decide) q2077 (fun _ h => h) dX4_counterpart_23 (fun x3 hw => ?_)
    refine tk_iload_n C hl 1 dX4_counterpart_26 rfl ?_
    refine tk_lr C hR hw dX4_counterpart_27 (fun x4 hw => ?_)
    exact wk_X4_counterpart_b28 C hr hmn hnx hfr hRl _ σ _ _ _ hw hR hS (tk_sub hl [] rfl)
  · replace hw := hw.2 c6
    refine tk_aload_n C hl 0 dX4_counterpart_9 rfl ?_
    refine tk_aload_n C hl 0 dX4_counterpart_10 rfl ?_
    refine tk_gr C hR hw rfl in_X4 (by decide) q2074 (fun _ h => h) dX4_counterpart_11 (fun x5 hw => ?_)
    refine tk_iload_n C hl 1 dX4_counterpart_14 rfl ?_
    refine tk_li C hR hw dX4_counterpart_15 (fun x6 hw => ?_)
    obtain ⟨hv, hw⟩ := hw
    refine tw_cbq C hS (tk_runV (As := [.inl x6]) C hR hS (wk_X4_image l C.hst G (R.frames - 1) (by omega) _ _ _ _ σ hw) hv rfl q2486 q2488 qs55 q74 q2489 pd_X4_image ⟨by omega, by omega⟩ hl.1 rfl (tw_r8 [] (Nat.le_of_ble_eq_true rfl)) dX4_counterpart_16) (fun E q σ H locs hX hR hS hi => tw_out C hR hS (fun x hx => (hnx x hx).elim) hi hX) (fun x7 σ H locs hw hR hS => ?_)
    refine lv_goto (tgt := 28) C.hx C.hb dX4_counterpart_19 (by decide) ?_
    exact wk_X4_counterpart_b28 C hr hmn hnx hfr hRl _ σ _ _ _ hw hR hS (tk_sub hl [] rfl)
-- TreeDifferModel.putsIn(ILTreeDifferModel$Tree;)C
def w_X4_putsIn_b207 (k149 : Option Nat → Int32 → Int32 → Option Nat → Int32 → Int32 → Option Nat → Int32 → Int32 → Tst → Prop) (Q : Int32 → Tst → Prop) (X : String → Nat → Tst → Prop) (l0 : Option Nat) (l1 : Int32) (l3 : Int32) (l5 : Option Nat) (l6 : Int32) (l7 : Int32) (l8 : Option Nat) (l9 : Int32) (l10 : Int32) (σ : Tst) : Prop := k149 l0 l1 l3 l5 l6 l7 l8 l9 (l10 + 1) σ
def w_X4_putsIn_b179 (k149 : Option Nat → Int32 → Int32 → Option Nat → Int32 → Int32 → Option Nat → Int32 → Int32 → Tst → Prop) (Q : Int32 → Tst → Prop) (X : String → Nat → Tst → Prop) (l0 : Option Nat) (l1 : Int32) (l3 : Int32) (l5 : Option Nat) (l6 : Int32) (l7 : Int32) (l8 : Option Nat) (l9 : Int32) (l10 : Int32) (s0 : Option Nat) (σ : Tst) : Prop := w_if (s0 = none) (w_X4_putsIn_b207 k149 Q X l0 l1 l3 l5 l6 l7 l8 l9 l10 σ) (w_gr σ s0 cX20 4 fun x1 => w_if (x1 = l5) (w_rc σ l5 cX20 <| w_X20_placeOf l5 s0 (fun x2 σ => w_X4_putsIn_b207 k149 Q X l0 l1 l3 l5 l6 (x2 + 1) l8 l9 l10 σ) X σ) (w_X4_putsIn_b207 k149 Q X l0 l1 l3 l5 l6 l7 l8 l9 l10 σ))
def w_X4_putsIn_b252 (Q : Int32 → Tst → Prop) (X : String → Nat → Tst → Prop) (l0 : Option Nat) (l3 : Int32) (l5 : Option Nat) (l6 : Int32) (l7 : Int32) (s0 : Option Nat) (s1 : Int32) (s2 : Option Nat) (σ : Tst) : Prop := w_sr σ s0 s1 s2 fun σ => w_gr σ l0 cX4 25 fun x1 => w_lr σ x1 l3 fun x2 => w_rc σ l5 cX20 <| w_X20_puts l5 x2 l7 (fun σ => w_gi σ l0 cX4 28 fun x4 => w_p σ l0 cX4 28 (.inl (x4 + l6)) fun σ => narrow .char (.int 45) = .int 45 ∧ Q 45 σ) X σ
def w_X4_putsIn_b149 (Q : Int32 → Tst → Prop) (X : String → Nat → Tst → Prop) : Nat → Option Nat → Int32 → Int32 → Option Nat → Int32 → Int32 → Option Nat → Int32 → Int32 → Tst → Prop
  | 0, _, _, _, _, _, _, _, _, _, _ => False
  | n + 1, l0, l1, l3, l5, l6, l7, l8, l9, l10, σ => w_if (l9 ≤ l10) (w_gr σ l0 cX4 25 fun x1 => w_gr σ l0 cX4 18 fun x2 => w_lc σ x2 l1 fun x3 => w_if (x3 = 109) (w_gr σ l0 cX4 19 fun x7 => w_li σ x7 l1 fun x8 => w_rc σ l0 cX4 <| w_X4_image l0 x8 (fun x9 σ => w_X4_putsIn_b252 Q X l0 l3 l5 l6 l7 x1 l3 x9 σ) X σ) (w_gr σ l0 cX4 17 fun x4 => w_X4_links x4 l3 (fun x5 σ => w_lr σ x5 0 fun x6 => w_X4_putsIn_b252 Q X l0 l3 l5 l6 l7 x1 l3 x6 σ) X σ)) (w_li σ l8 l10 fun x10 => w_if (l3 ≤ x10) (w_X4_putsIn_b179 (w_X4_putsIn_b149 Q X n) Q X l0 l1 l3 l5 l6 l7 l8 l9 l10 none σ) (w_rc σ l0 cX4 <| w_X4_counterpart l0 x10 (fun x11 σ => w_X4_putsIn_b179 (w_X4_putsIn_b149 Q X n) Q X l0 l1 l3 l5 l6 l7 l8 l9 l10 x11 σ) X σ))
def w_X4_putsIn_b110 (Q : Int32 → Tst → Prop) (X : String → Nat → Tst → Prop) (l0 : Option Nat) (l1 : Int32) (l3 : Int32) (l4 : Int32) (l5 : Option Nat) (s0 : Int32) (σ : Tst) : Prop := w_gi σ l0 cX4 28 fun x1 => w_if ((x1 + s0) ≤ 20) (w_gr σ l0 cX4 17 fun x2 => w_rc σ x2 cX5 <| w_X5_kids x2 l4 (fun x3 σ => w_al σ x3 fun x4 => ∃ z, w_X4_putsIn_b149 Q X z l0 l1 l3 l5 s0 0 x3 x4 0 σ) X σ) (narrow .char (.int 102) = .int 102 ∧ Q 102 σ)
def w_X4_putsIn (l0 : Option Nat) (l1 : Int32) (l2 : Option Nat) (Q : Int32 → Tst → Prop) (X : String → Nat → Tst → Prop) (σ : Tst) : Prop := w_gr σ l0 cX4 20 fun x1 => w_li σ x1 l1 fun x2 => w_gr σ l0 cX4 17 fun x3 => w_gr σ x3 cX5 3 fun x4 => w_li σ x4 x2 fun x5 => w_gr σ l0 cX4 22 fun x6 => w_li σ x6 x5 fun x7 => w_rc σ l0 cX4 <| w_X4_image l0 x7 (fun x8 σ => w_if (x8 = none) (narrow .char (.int 103) = .int 103 ∧ Q 103 σ) (w_gr σ l0 cX4 17 fun x9 => w_gr σ x9 cX5 1 fun x10 => w_li σ x10 x2 fun x11 => w_rc σ x8 cX20 <| w_X20_hasKey x8 x11 (fun x12 σ => w_if (x12 = 0) (w_gr σ l0 cX4 18 fun x13 => w_lc σ x13 l1 fun x14 => w_if (x14 = 109) (w_gr σ l0 cX4 13 fun x17 => w_gr σ l0 cX4 19 fun x18 => w_li σ x18 l1 fun x19 => w_li σ x17 x19 fun x20 => w_rc σ l2 cX5 <| w_X5_end l2 x20 (fun x21 σ => w_gr σ l0 cX4 13 fun x22 => w_gr σ l0 cX4 19 fun x23 => w_li σ x23 l1 fun x24 => w_li σ x22 x24 fun x25 => w_X4_putsIn_b110 Q X l0 l1 x2 x5 x8 (x21 - x25) σ) X σ) (w_gr σ l0 cX4 17 fun x15 => w_rc σ x15 cX5 <| w_X5_end x15 x2 (fun x16 σ => w_X4_putsIn_b110 Q X l0 l1 x2 x5 x8 (x16 - x2) σ) X σ)) (narrow .char (.int 107) = .int 107 ∧ Q 107 σ)) X σ)) X σ
set_option maxHeartbeats 4000000 in
theorem wk_X4_putsIn_b207  (C : tw_C p l R s m args meth c G cX4_putsIn 13 yX4_putsIn.cls) (hr : meth.sig.returnType = (some .char)) (hmn : meth.name = yX4_putsIn.name) (hnx : (∀ x ∈ c.exceptionTable.toList, False)) (hfr : 3 ≤ R.frames) (hRl : R.locals = 40 * R.frames) {Q : Int32 → Tst → Prop} {X : String → Nat → Tst → Prop}  {k149 : Option Nat → Int32 → Int32 → Option Nat → Int32 → Int32 → Option Nat → Int32 → Int32 → Tst → Prop} (hk149 : ∀ (l0 : Option Nat) (l1 : Int32) (l3 : Int32) (l5 : Option Nat) (l6 : Int32) (l7 : Int32) (l8 : Option Nat) (l9 : Int32) (l10 : Int32) (σ : Tst) (H : Heap) (locs : List Loc) (ls : Array Slot), k149 l0 l1 l3 l5 l6 l7 l8 l9 l10 σ → tw_R G σ H → va_S (tw_A G) s.heap H locs → tw_l ls 13 [(0, .inr l0), (1, .inl l1), (3, .inl l3), (5, .inr l5), (6, .inl l6), (7, .inl l7), (8, .inr l8), (9, .inl l9), (10, .inl l10)] → tw_W p l e R s m args below meth c σ H locs (tw_E below G (tw_Qi G Q) X args s R) (F0 m 149 ls [])) (l0 : Option Nat) (l1 : Int32) (l3 : Int32) (l5 : Option Nat) (l6 : Int32) (l7 : Int32) (l8 : Option Nat) (l9 : Int32) (l10 : Int32) (σ : Tst) (H : Heap) (locs : List Loc) (ls : Array Slot) (hw : w_X4_putsIn_b207 k149 Q X l0 l1 l3 l5 l6 l7 l8 l9 l10 σ) (hR : tw_R G σ H) (hS : va_S (tw_A G) s.heap H locs) (hl : tw_l ls 13 [(0, .inr l0), (1, .inl l1), (3, .inl l3), (5, .inr l5), (6, .inl l6), (7, .inl l7), (8, .inr l8), (9, .inl l9), (10, .inl l10)]) : tw_W p l e R s m args below meth c σ H locs (tw_E below G (tw_Qi G Q) X args s R) (F0 m 207 ls []) := by
  unfold w_X4_putsIn_b207 at hw
  refine tk_iinc (L' := [(10, .inl (l10 + 1)), (0, .inr l0), (1, .inl l1), (3, .inl l3), (5, .inr l5), (6, .inl l6), (7, .inl l7), (8, .inr l8), (9, .inl l9)]) (y := (l10 + 1)) C hl 8 dX4_putsIn_207 rfl rfl (by decide) rfl (fun ls hl => ?_)
  refine lv_goto (tgt := 149) C.hx C.hb dX4_putsIn_210 (by decide) ?_
  exact hk149 _ _ _ _ _ _ _ _ _ σ _ _ _ hw hR hS (tk_sub hl [1, 2, 3, 4, 5, 6, 7, 8, 0] rfl)
set_option maxHeartbeats 4000000 in
theorem wk_X4_putsIn_b179  (C : tw_C p l R s m args meth c G cX4_putsIn 13 yX4_putsIn.cls) (hr : meth.sig.returnType = (some .char)) (hmn : meth.name = yX4_putsIn.name) (hnx : (∀ x ∈ c.exceptionTable.toList, False)) (hfr : 3 ≤ R.frames) (hRl : R.locals = 40 * R.frames) {Q : Int32 → Tst → Prop} {X : String → Nat → Tst → Prop}  {k149 : Option Nat → Int32 → Int32 → Option Nat → Int32 → Int32 → Option Nat → Int32 → Int32 → Tst → Prop} (hk149 : ∀ (l0 : Option Nat) (l1 : Int32) (l3 : Int32) (l5 : Option Nat) (l6 : Int32) (l7 : Int32) (l8 : Option Nat) (l9 : Int32) (l10 : Int32) (σ : Tst) (H : Heap) (locs : List Loc) (ls : Array Slot), k149 l0 l1 l3 l5 l6 l7 l8 l9 l10 σ → tw_R G σ H → va_S (tw_A G) s.heap H locs → tw_l ls 13 [(0, .inr l0), (1, .inl l1), (3, .inl l3), (5, .inr l5), (6, .inl l6), (7, .inl l7), (8, .inr l8), (9, .inl l9), (10, .inl l10)] → tw_W p l e R s m args below meth c σ H locs (tw_E below G (tw_Qi G Q) X args s R) (F0 m 149 ls [])) (l0 : Option Nat) (l1 : Int32) (l3 : Int32) (l5 : Option Nat) (l6 : Int32) (l7 : Int32) (l8 : Option Nat) (l9 : Int32) (l10 : Int32) (s0 : Option Nat) (σ : Tst) (H : Heap) (locs : List Loc) (ls : Array Slot) (hw : w_X4_putsIn_b179 k149 Q X l0 l1 l3 l5 l6 l7 l8 l9 l10 s0 σ) (hR : tw_R G σ H) (hS : va_S (tw_A G) s.heap H locs) (hl : tw_l ls 13 [(0, .inr l0), (1, .inl l1), (3, .inl l3), (5, .inr l5), (6, .inl l6), (7, .inl l7), (8, .inr l8), (9, .inl l9), (10, .inl l10)]) : tw_W p l e R s m args below meth c σ H locs (tw_E below G (tw_Qi G Q) X args s R) (F0 m 179 ls [va_rf s0]) := by
  unfold w_X4_putsIn_b179 at hw
  refine tk_astore (L' := [(12, .inr s0), (0, .inr l0), (1, .inl l1), (3, .inl l3), (5, .inr l5), (6, .inl l6), (7, .inl l7), (8, .inr l8), (9, .inl l9), (10, .inl l10)]) C hl dX4_putsIn_179 (by decide) rfl (fun ls hl => ?_)
  refine tk_aload C hl 0 dX4_putsIn_181 rfl ?_
  refine tw_ifnull (tgt := 207) C.hx C.hb dX4_putsIn_183 (by decide) (fun c183 => ?_) (fun c183 => ?_)
  · replace hw := hw.1 c183
    exact wk_X4_putsIn_b207 C hr hmn hnx hfr hRl hk149 _ _ _ _ _ _ _ _ _ σ _ _ _ hw hR hS (tk_sub hl [1, 2, 3, 4, 5, 6, 7, 8, 9] rfl)
  · replace hw := hw.2 c183
    refine tk_aload C hl 0 dX4_putsIn_186 rfl ?_
    refine tk_grN C hR hw rfl in_X20 (by decide) q2458 (fun _ h => h) dX4_putsIn_188 (fun x1 hw => ?_)
    refine tk_aload C hl 4 dX4_putsIn_191 rfl ?_
    refine lv_acmp_ne (tgt := 207) C.hx C.hb dX4_putsIn_193 (by decide) (fun c193 => ?_) (fun c193 => ?_)
    · replace hw := hw.2 c193
      exact wk_X4_putsIn_b207 C hr hmn hnx hfr hRl hk149 _ _ _ _ _ _ _ _ _ σ _ _ _ hw hR hS (tk_sub hl [1, 2, 3, 4, 5, 6, 7, 8, 9] rfl)
    · replace hw := hw.1 c193
      refine tk_aload C hl 4 dX4_putsIn_196 rfl ?_
      refine tk_aload C hl 0 dX4_putsIn_198 rfl ?_
      obtain ⟨hv, hw⟩ := hw
      refine tw_cbi C hS (tk_runVN (As := [.inr s0]) C hR hS (wk_X20_placeOf l C.hst G (R.frames - 1) (by omega) _ _ _ _ σ hw) hv rfl q2514 q2496 qs57 q112 q2497 pd_X20_placeOf ⟨by omega, by omega⟩ hl.1 rfl (tw_r8 [] (Nat.le_of_ble_eq_true rfl)) dX4_putsIn_200) (fun E q σ H locs hX hR hS hi => tw_out C hR hS (fun x hx => (hnx x hx).elim) hi hX) (fun x2 σ H locs hw hR hS => ?_)
      refine lv_iconst (v := 1) C.hx C.hb dX4_putsIn_203 (by decide) ?_
      refine lv_iadd C.hx C.hb dX4_putsIn_204 ?_
      refine tk_istore (L' := [(7, .inl (x2 + 1)), (12, .inr s0), (0, .inr l0), (1, .inl l1), (3, .inl l3), (5, .inr l5), (6, .inl l6), (8, .inr l8), (9, .inl l9), (10, .inl l10)]) C hl dX4_putsIn_205 (by decide) rfl (fun ls hl => ?_)
      exact wk_X4_putsIn_b207 C hr hmn hnx hfr hRl hk149 _ _ _ _ _ _ _ _ _ σ _ _ _ hw hR hS (tk_sub hl [2, 3, 4, 5, 6, 0, 7, 8, 9] rfl)
set_option maxHeartbeats 4000000 in
theorem wk_X4_putsIn_b252  (C : tw_C p l R s m args meth c G cX4_putsIn 13 yX4_putsIn.cls) (hr : meth.sig.returnType = (some .char)) (hmn : meth.name = yX4_putsIn.name) (hnx : (∀ x ∈ c.exceptionTable.toList, False)) (hfr : 3 ≤ R.frames) (hRl : R.locals = 40 * R.frames) {Q : Int32 → Tst → Prop} {X : String → Nat → Tst → Prop}  (l0 : Option Nat) (l3 : Int32) (l5 : Option Nat) (l6 : Int32) (l7 : Int32) (s0 : Option Nat) (s1 : Int32) (s2 : Option Nat) (σ : Tst) (H : Heap) (locs : List Loc) (ls : Array Slot) (hw : w_X4_putsIn_b252 Q X l0 l3 l5 l6 l7 s0 s1 s2 σ) (hR : tw_R G σ H) (hS : va_S (tw_A G) s.heap H locs) (hl : tw_l ls 13 [(0, .inr l0), (3, .inl l3), (5, .inr l5), (6, .inl l6), (7, .inl l7)]) : tw_W p l e R s m args below meth c σ H locs (tw_E below G (tw_Qi G Q) X args s R) (F0 m 252 ls [va_rf s2, .int s1, va_rf s0]) := by
  unfold w_X4_putsIn_b252 at hw
  refine tk_sr C hR hS hw dX4_putsIn_252 (fun σ H locs hw hR hS => ?_)
  refine tk_aload C hl 2 dX4_putsIn_253 rfl ?_
  refine tk_aload_n C hl 0 dX4_putsIn_255 rfl ?_
  refine tk_gr C hR hw rfl in_X4 (by decide) q2077 (fun _ h => h) dX4_putsIn_256 (fun x1 hw => ?_)
  refine tk_iload_n C hl 1 dX4_putsIn_259 rfl ?_
  refine tk_lr C hR hw dX4_putsIn_260 (fun x2 hw => ?_)
  refine tk_iload C hl 4 dX4_putsIn_261 rfl ?_
  obtain ⟨hv, hw⟩ := hw
  refine tw_cbv C hS (tk_runVN (As := [.inr x2, .inl l7]) C hR hS (wk_X20_puts l C.hst G (R.frames - 1) (by omega) _ _ _ _ _ σ hw) hv rfl q2474 q2476 qs52 q112 q2477 pd_X20_puts ⟨by omega, by omega⟩ hl.1 rfl (tw_r8 [] (Nat.le_of_ble_eq_true rfl)) dX4_putsIn_263) (fun E q σ H locs hX hR hS hi => tw_out C hR hS (fun x hx => (hnx x hx).elim) hi hX) (fun σ H locs hw hR hS => ?_)
  refine tk_aload_n C hl 0 dX4_putsIn_266 rfl ?_
  refine tw_dup (x := .inr l0) C.hx C.hb dX4_putsIn_267 ?_
  refine tk_gi C hR hw rfl in_X4 (by decide) q2080 (fun _ h => h) dX4_putsIn_268 (fun x4 hw => ?_)
  refine tk_iload C hl 3 dX4_putsIn_271 rfl ?_
  refine lv_iadd C.hx C.hb dX4_putsIn_273 ?_
  refine tk_p (x := .inl (x4 + l6)) C hR hS hw (by decide) rfl in_X4 tyX4 tyX4_ok nmX4 (by decide) q2080 (fun _ h => h) rfl (tw_ni _) dX4_putsIn_274 (fun σ H locs hw hR hS => ?_)
  refine lv_bipush (v := 45) C.hx C.hb dX4_putsIn_277 (by decide) ?_
  obtain ⟨hok, hw⟩ := hw
  exact tw_iret C hR hS hr hok dX4_putsIn_279 hw
set_option maxHeartbeats 4000000 in
theorem wk_X4_putsIn_b149  (C : tw_C p l R s m args meth c G cX4_putsIn 13 yX4_putsIn.cls) (hr : meth.sig.returnType = (some .char)) (hmn : meth.name = yX4_putsIn.name) (hnx : (∀ x ∈ c.exceptionTable.toList, False)) (hfr : 3 ≤ R.frames) (hRl : R.locals = 40 * R.frames) {Q : Int32 → Tst → Prop} {X : String → Nat → Tst → Prop}  : ∀ (n : Nat) (l0 : Option Nat) (l1 : Int32) (l3 : Int32) (l5 : Option Nat) (l6 : Int32) (l7 : Int32) (l8 : Option Nat) (l9 : Int32) (l10 : Int32) (σ : Tst) (H : Heap) (locs : List Loc) (ls : Array Slot), w_X4_putsIn_b149 Q X n l0 l1 l3 l5 l6 l7 l8 l9 l10 σ → tw_R G σ H → va_S (tw_A G) s.heap H locs → tw_l ls 13 [(0, .inr l0), (1, .inl l1), (3, .inl l3), (5, .inr l5), (6, .inl l6), (7, .inl l7), (8, .inr l8), (9, .inl l9), (10, .inl l10)] → tw_W p l e R s m args below meth c σ H locs (tw_E below G (tw_Qi G Q) X args s R) (F0 m 149 ls []) := by
  intro n
  induction n with
  | zero => intro l0 l1 l3 l5 l6 l7 l8 l9 l10 σ H locs ls hw; exact False.elim hw
  | succ n hk149 =>
    intro l0 l1 l3 l5 l6 l7 l8 l9 l10 σ H locs ls hw hR hS hl
    rw [w_X4_putsIn_b149] at hw
    refine tk_iload C hl 8 dX4_putsIn_149 rfl ?_
    refine tk_iload C hl 7 dX4_putsIn_151 rfl ?_
    refine lv_icmp_ge (tgt := 213) C.hx C.hb dX4_putsIn_153 (by decide) (fun c153 => ?_) (fun c153 => ?_)
    · replace hw := hw.1 c153
      refine tk_aload_n C hl 0 dX4_putsIn_213 rfl ?_
      refine tk_gr C hR hw rfl in_X4 (by decide) q2077 (fun _ h => h) dX4_putsIn_214 (fun x1 hw => ?_)
      refine tk_iload_n C hl 2 dX4_putsIn_217 rfl ?_
      refine tk_aload_n C hl 0 dX4_putsIn_218 rfl ?_
      refine tk_gr C hR hw rfl in_X4 (by decide) q2070 (fun _ h => h) dX4_putsIn_219 (fun x2 hw => ?_)
      refine tk_iload_n C hl 1 dX4_putsIn_222 rfl ?_
      refine tk_lc C hR hw dX4_putsIn_223 (fun x3 hw => ?_)
      refine lv_bipush (v := 109) C.hx C.hb dX4_putsIn_224 (by decide) ?_
      refine lv_icmp_ne (tgt := 242) C.hx C.hb dX4_putsIn_226 (by decide) (fun c226 => ?_) (fun c226 => ?_)
      · replace hw := hw.2 c226
        refine tk_aload_n C hl 0 dX4_putsIn_242 rfl ?_
        refine tk_gr C hR hw rfl in_X4 (by decide) q2069 (fun _ h => h) dX4_putsIn_243 (fun x4 hw => ?_)
        refine tk_iload_n C hl 2 dX4_putsIn_246 rfl ?_
        refine tw_cbq C hS (tw_runS (As := [.inr x4, .inl l3]) C hR hS (wk_X4_links l C.hst G (R.frames - 1) (by omega) _ _ _ _ σ hw) q2442 q2443 q74 q2444 pd_X4_links ⟨by omega, by omega⟩ hl.1 rfl (tw_r8 [.inl l3, .inr x1] (Nat.le_of_ble_eq_true rfl)) dX4_putsIn_247) (fun E q σ H locs hX hR hS hi => tw_out C hR hS (fun x hx => (hnx x hx).elim) hi hX) (fun x5 σ H locs hw hR hS => ?_)
        refine lv_iconst (v := 0) C.hx C.hb dX4_putsIn_250 (by decide) ?_
        refine tk_lr C hR hw dX4_putsIn_251 (fun x6 hw => ?_)
        exact wk_X4_putsIn_b252 C hr hmn hnx hfr hRl _ _ _ _ _ _ _ _ σ _ _ _ hw hR hS (tk_sub hl [0, 2, 3, 4, 5] rfl)
      · replace hw := hw.1 c226
        refine tk_aload_n C hl 0 dX4_putsIn_229 rfl ?_
        refine tk_aload_n C hl 0 dX4_putsIn_230 rfl ?_
        refine tk_gr C hR hw rfl in_X4 (by decide) q2071 (fun _ h => h) dX4_putsIn_231 (fun x7 hw => ?_)
        refine tk_iload_n C hl 1 dX4_putsIn_234 rfl ?_
        refine tk_li C hR hw dX4_putsIn_235 (fun x8 hw => ?_)
        obtain ⟨hv, hw⟩ := hw
        refine tw_cbq C hS (tk_runV (As := [.inl x8]) C hR hS (wk_X4_image l C.hst G (R.frames - 1) (by omega) _ _ _ _ σ hw) hv rfl q2486 q2488 qs55 q74 q2489 pd_X4_image ⟨by omega, by omega⟩ hl.1 rfl (tw_r8 [.inl l3, .inr x1] (Nat.le_of_ble_eq_true rfl)) dX4_putsIn_236) (fun E q σ H locs hX hR hS hi => tw_out C hR hS (fun x hx => (hnx x hx).elim) hi hX) (fun x9 σ H locs hw hR hS => ?_)
        refine lv_goto (tgt := 252) C.hx C.hb dX4_putsIn_239 (by decide) ?_
        exact wk_X4_putsIn_b252 C hr hmn hnx hfr hRl _ _ _ _ _ _ _ _ σ _ _ _ hw hR hS (tk_sub hl [0, 2, 3, 4, 5] rfl)
    · replace hw := hw.2 c153
      refine tk_aload C hl 6 dX4_putsIn_156 rfl ?_
      refine tk_iload C hl 8 dX4_putsIn_158 rfl ?_
      refine tk_li C hR hw dX4_putsIn_160 (fun x10 hw => ?_)
      refine tk_istore (L' := [(11, .inl x10), (0, .inr l0), (1, .inl l1), (3, .inl l3), (5, .inr l5), (6, .inl l6), (7, .inl l7), (8, .inr l8), (9, .inl l9), (10, .inl l10)]) C hl dX4_putsIn_161 (by decide) rfl (fun ls hl => ?_)
      refine tk_iload C hl 0 dX4_putsIn_163 rfl ?_
      refine tk_iload_n C hl 3 dX4_putsIn_165 rfl ?_
      refine lv_icmp_ge (tgt := 178) C.hx C.hb dX4_putsIn_166 (by decide) (fun c166 => ?_) (fun c166 => ?_)
      · replace hw := hw.1 c166
        refine lv_null C.hx C.hb dX4_putsIn_178 ?_
        refine W.eq (g2 := F0 m 179 ls (va_rf none :: [])) rfl ?_
        exact wk_X4_putsIn_b179 C hr hmn hnx hfr hRl hk149 _ _ _ _ _ _ _ _ _ _ σ _ _ _ hw hR hS (tk_sub hl [1, 2, 3, 4, 5, 6, 7, 8, 9] rfl)
      · replace hw := hw.2 c166
        refine tk_aload_n C hl 1 dX4_putsIn_169 rfl ?_
        refine tk_iload C hl 0 dX4_putsIn_170 rfl ?_
        obtain ⟨hv, hw⟩ := hw
        refine tw_cbq C hS (tk_runV (As := [.inl x10]) C hR hS (wk_X4_counterpart l C.hst G (R.frames - 1) (by omega) _ _ _ _ σ hw) hv rfl q2510 q2512 qs61 q74 q2513 pd_X4_counterpart ⟨by omega, by omega⟩ hl.1 rfl (tw_r8 [] (Nat.le_of_ble_eq_true rfl)) dX4_putsIn_172) (fun E q σ H locs hX hR hS hi => tw_out C hR hS (fun x hx => (hnx x hx).elim) hi hX) (fun x11 σ H locs hw hR hS => ?_)
        refine lv_goto (tgt := 179) C.hx C.hb dX4_putsIn_175 (by decide) ?_
        exact wk_X4_putsIn_b179 C hr hmn hnx hfr hRl hk149 _ _ _ _ _ _ _ _ _ _ σ _ _ _ hw hR hS (tk_sub hl [1, 2, 3, 4, 5, 6, 7, 8, 9] rfl)
set_option maxHeartbeats 4000000 in
theorem wk_X4_putsIn_b110  (C : tw_C p l R s m args meth c G cX4_putsIn 13 yX4_putsIn.cls) (hr : meth.sig.returnType = (some .char)) (hmn : meth.name = yX4_putsIn.name) (hnx : (∀ x ∈ c.exceptionTable.toList, False)) (hfr : 3 ≤ R.frames) (hRl : R.locals = 40 * R.frames) {Q : Int32 → Tst → Prop} {X : String → Nat → Tst → Prop}  (l0 : Option Nat) (l1 : Int32) (l3 : Int32) (l4 : Int32) (l5 : Option Nat) (s0 : Int32) (σ : Tst) (H : Heap) (locs : List Loc) (ls : Array Slot) (hw : w_X4_putsIn_b110 Q X l0 l1 l3 l4 l5 s0 σ) (hR : tw_R G σ H) (hS : va_S (tw_A G) s.heap H locs) (hl : tw_l ls 13 [(0, .inr l0), (1, .inl l1), (3, .inl l3), (4, .inl l4), (5, .inr l5)]) : tw_W p l e R s m args below meth c σ H locs (tw_E below G (tw_Qi G Q) X args s R) (F0 m 110 ls [.int s0]) := by
  unfold w_X4_putsIn_b110 at hw
  refine tk_istore (L' := [(6, .inl s0), (0, .inr l0), (1, .inl l1), (3, .inl l3), (4, .inl l4), (5, .inr l5)]) C hl dX4_putsIn_110 (by decide) rfl (fun ls hl => ?_)
  refine tk_aload_n C hl 1 dX4_putsIn_112 rfl ?_
  refine tk_gi C hR hw rfl in_X4 (by decide) q2080 (fun _ h => h) dX4_putsIn_113 (fun x1 hw => ?_)
  refine tk_iload C hl 0 dX4_putsIn_116 rfl ?_
  refine lv_iadd C.hx C.hb dX4_putsIn_118 ?_
  refine lv_bipush (v := 20) C.hx C.hb dX4_putsIn_119 (by decide) ?_
  refine lv_icmp_le (tgt := 127) C.hx C.hb dX4_putsIn_121 (by decide) (fun c121 => ?_) (fun c121 => ?_)
  · replace hw := hw.1 c121
    refine lv_iconst (v := 0) C.hx C.hb dX4_putsIn_127 (by decide) ?_
    refine tk_istore (L' := [(7, .inl 0), (6, .inl s0), (0, .inr l0), (1, .inl l1), (3, .inl l3), (4, .inl l4), (5, .inr l5)]) C hl dX4_putsIn_128 (by decide) rfl (fun ls hl => ?_)
    refine tk_aload_n C hl 2 dX4_putsIn_130 rfl ?_
    refine tk_gr C hR hw rfl in_X4 (by decide) q2069 (fun _ h => h) dX4_putsIn_131 (fun x2 hw => ?_)
    refine tk_iload C hl 5 dX4_putsIn_134 rfl ?_
    obtain ⟨hv, hw⟩ := hw
    refine tw_cbq C hS (tk_runVN (As := [.inl l4]) C hR hS (wk_X5_kids l C.hst G (R.frames - 1) (by omega) _ _ _ _ σ hw) hv rfl q2217 q2219 qs34 q75 q2220 pd_X5_kids ⟨by omega, by omega⟩ hl.1 rfl (tw_r8 [] (Nat.le_of_ble_eq_true rfl)) dX4_putsIn_136) (fun E q σ H locs hX hR hS hi => tw_out C hR hS (fun x hx => (hnx x hx).elim) hi hX) (fun x3 σ H locs hw hR hS => ?_)
    refine tk_astore (L' := [(8, .inr x3), (7, .inl 0), (6, .inl s0), (0, .inr l0), (1, .inl l1), (3, .inl l3), (4, .inl l4), (5, .inr l5)]) C hl dX4_putsIn_139 (by decide) rfl (fun ls hl => ?_)
    refine tk_aload C hl 0 dX4_putsIn_141 rfl ?_
    refine tk_al C hR hw dX4_putsIn_143 (fun x4 hw => ?_)
    refine tk_istore (L' := [(9, .inl x4), (8, .inr x3), (7, .inl 0), (6, .inl s0), (0, .inr l0), (1, .inl l1), (3, .inl l3), (4, .inl l4), (5, .inr l5)]) C hl dX4_putsIn_144 (by decide) rfl (fun ls hl => ?_)
    refine lv_iconst (v := 0) C.hx C.hb dX4_putsIn_146 (by decide) ?_
    refine tk_istore (L' := [(10, .inl 0), (9, .inl x4), (8, .inr x3), (7, .inl 0), (6, .inl s0), (0, .inr l0), (1, .inl l1), (3, .inl l3), (4, .inl l4), (5, .inr l5)]) C hl dX4_putsIn_147 (by decide) rfl (fun ls hl => ?_)
    obtain ⟨z, hw⟩ := hw
    exact wk_X4_putsIn_b149 C hr hmn hnx hfr hRl z _ _ _ _ _ _ _ _ _ σ _ _ _ hw hR hS (tk_sub hl [5, 6, 7, 9, 4, 3, 2, 1, 0] rfl)
  · replace hw := hw.2 c121
    refine lv_bipush (v := 102) C.hx C.hb dX4_putsIn_124 (by decide) ?_
    obtain ⟨hok, hw⟩ := hw
    exact tw_iret C hR hS hr hok dX4_putsIn_126 hw
set_option maxHeartbeats 4000000 in
theorem wk_X4_putsIn (l : Launch) (hl0 : l.stackTraces = false) (G : Tgl) (fr : Nat)  (hfr : 3 ≤ fr) (l0 : Option Nat) (l1 : Int32) (l2 : Option Nat) (Q : Int32 → Tst → Prop) (X : String → Nat → Tst → Prop) (σ : Tst) (hw : w_X4_putsIn l0 l1 l2 Q X σ) : tw_M l yX4_putsIn (ws_ yX4_putsIn cX4_putsIn 13 (some .char)) fr (40 * fr) G σ [.inr l0, .inl l1, .inr l2] (tw_Qi G Q) X := by
  unfold w_X4_putsIn at hw
  refine tw_of (ret := (some .char)) hl0 (by decide) (Nat.le_of_ble_eq_true rfl) (fun p e R s m args below meth c hRf hRl C hr hmn hnx hR hS ls hl => ?_)
  have hfr : 3 ≤ R.frames := by rw [hRf]; exact hfr
  have hRl : R.locals = 40 * R.frames := by rw [hRl, hRf]
  have hl : tw_l ls 13 [(0, .inr l0), (1, .inl l1), (2, .inr l2)] := hl
  refine tk_aload_n C hl 0 dX4_putsIn_0 rfl ?_
  refine tk_gr C hR hw rfl in_X4 (by decide) q2072 (fun _ h => h) dX4_putsIn_1 (fun x1 hw => ?_)
  refine tk_iload_n C hl 1 dX4_putsIn_4 rfl ?_
  refine tk_li C hR hw dX4_putsIn_5 (fun x2 hw => ?_)
  refine tk_istore_n (L' := [(3, .inl x2), (0, .inr l0), (1, .inl l1), (2, .inr l2)]) C hl dX4_putsIn_6 (by decide) rfl (fun ls hl => ?_)
  refine tk_aload_n C hl 1 dX4_putsIn_7 rfl ?_
  refine tk_gr C hR hw rfl in_X4 (by decide) q2069 (fun _ h => h) dX4_putsIn_8 (fun x3 hw => ?_)
  refine tk_grN C hR hw rfl in_X5 (by decide) q2025 (fun _ h => h) dX4_putsIn_11 (fun x4 hw => ?_)
  refine tk_iload_n C hl 0 dX4_putsIn_14 rfl ?_
  refine tk_li C hR hw dX4_putsIn_15 (fun x5 hw => ?_)
  refine tk_istore (L' := [(4, .inl x5), (3, .inl x2), (0, .inr l0), (1, .inl l1), (2, .inr l2)]) C hl dX4_putsIn_16 (by decide) rfl (fun ls hl => ?_)
  refine tk_aload_n C hl 2 dX4_putsIn_18 rfl ?_
  refine tk_aload_n C hl 2 dX4_putsIn_19 rfl ?_
  refine tk_gr C hR hw rfl in_X4 (by decide) q2074 (fun _ h => h) dX4_putsIn_20 (fun x6 hw => ?_)
  refine tk_iload C hl 0 dX4_putsIn_23 rfl ?_
  refine tk_li C hR hw dX4_putsIn_25 (fun x7 hw => ?_)
  obtain ⟨hv, hw⟩ := hw
  refine tw_cbq C hS (tk_runV (As := [.inl x7]) C hR hS (wk_X4_image l C.hst G (R.frames - 1) (by omega) _ _ _ _ σ hw) hv rfl q2486 q2488 qs55 q74 q2489 pd_X4_image ⟨by omega, by omega⟩ hl.1 rfl (tw_r8 [] (Nat.le_of_ble_eq_true rfl)) dX4_putsIn_26) (fun E q σ H locs hX hR hS hi => tw_out C hR hS (fun x hx => (hnx x hx).elim) hi hX) (fun x8 σ H locs hw hR hS => ?_)
  refine tk_astore (L' := [(5, .inr x8), (4, .inl x5), (3, .inl x2), (0, .inr l0), (1, .inl l1), (2, .inr l2)]) C hl dX4_putsIn_29 (by decide) rfl (fun ls hl => ?_)
  refine tk_aload C hl 0 dX4_putsIn_31 rfl ?_
  refine tw_ifnonnull (tgt := 39) C.hx C.hb dX4_putsIn_33 (by decide) (fun c33 => ?_) (fun c33 => ?_)
  · replace hw := hw.2 c33
    refine tk_aload C hl 0 dX4_putsIn_39 rfl ?_
    refine tk_aload_n C hl 3 dX4_putsIn_41 rfl ?_
    refine tk_gr C hR hw rfl in_X4 (by decide) q2069 (fun _ h => h) dX4_putsIn_42 (fun x9 hw => ?_)
    refine tk_grN C hR hw rfl in_X5 (by decide) q2021 (fun _ h => h) dX4_putsIn_45 (fun x10 hw => ?_)
    refine tk_iload_n C hl 2 dX4_putsIn_48 rfl ?_
    refine tk_li C hR hw dX4_putsIn_49 (fun x11 hw => ?_)
    obtain ⟨hv, hw⟩ := hw
    refine tw_cbi C hS (tk_runVN (As := [.inl x11]) C hR hS (wk_X20_hasKey l C.hst G (R.frames - 1) (by omega) _ _ _ _ σ hw) hv rfl q2506 q2508 qs60 q112 q2509 pd_X20_hasKey ⟨by omega, by omega⟩ hl.1 rfl (tw_r8 [] (Nat.le_of_ble_eq_true rfl)) dX4_putsIn_50) (fun E q σ H locs hX hR hS hi => tw_out C hR hS (fun x hx => (hnx x hx).elim) hi hX) (fun x12 σ H locs hw hR hS => ?_)
    refine lv_if_eq (tgt := 59) C.hx C.hb dX4_putsIn_53 (by decide) (fun c53 => ?_) (fun c53 => ?_)
    · replace hw := hw.1 c53
      refine tk_aload_n C hl 3 dX4_putsIn_59 rfl ?_
      refine tk_gr C hR hw rfl in_X4 (by decide) q2070 (fun _ h => h) dX4_putsIn_60 (fun x13 hw => ?_)
      refine tk_iload_n C hl 4 dX4_putsIn_63 rfl ?_
      refine tk_lc C hR hw dX4_putsIn_64 (fun x14 hw => ?_)
      refine lv_bipush (v := 109) C.hx C.hb dX4_putsIn_65 (by decide) ?_
      refine lv_icmp_ne (tgt := 100) C.hx C.hb dX4_putsIn_67 (by decide) (fun c67 => ?_) (fun c67 => ?_)
      · replace hw := hw.2 c67
        refine tk_aload_n C hl 3 dX4_putsIn_100 rfl ?_
        refine tk_gr C hR hw rfl in_X4 (by decide) q2069 (fun _ h => h) dX4_putsIn_101 (fun x15 hw => ?_)
        refine tk_iload_n C hl 2 dX4_putsIn_104 rfl ?_
        obtain ⟨hv, hw⟩ := hw
        refine tw_cbi C hS (tk_runVN (As := [.inl x2]) C hR hS (wk_X5_end l C.hst G (R.frames - 1) (by omega) _ _ _ _ σ hw) hv rfl q2262 q2264 qs37 q75 q2265 pd_X5_end ⟨by omega, by omega⟩ hl.1 rfl (tw_r8 [] (Nat.le_of_ble_eq_true rfl)) dX4_putsIn_105) (fun E q σ H locs hX hR hS hi => tw_out C hR hS (fun x hx => (hnx x hx).elim) hi hX) (fun x16 σ H locs hw hR hS => ?_)
        refine tk_iload_n C hl 2 dX4_putsIn_108 rfl ?_
        refine lv_isub C.hx C.hb dX4_putsIn_109 ?_
        exact wk_X4_putsIn_b110 C hr hmn hnx hfr hRl _ _ _ _ _ _ σ _ _ _ hw hR hS (tk_sub hl [3, 4, 2, 1, 0] rfl)
      · replace hw := hw.1 c67
        refine tk_aload_n C hl 5 dX4_putsIn_70 rfl ?_
        refine tk_aload_n C hl 3 dX4_putsIn_71 rfl ?_
        refine tk_gr C hR hw rfl in_X4 (by decide) q2065 (fun _ h => h) dX4_putsIn_72 (fun x17 hw => ?_)
        refine tk_aload_n C hl 3 dX4_putsIn_75 rfl ?_
        refine tk_gr C hR hw rfl in_X4 (by decide) q2071 (fun _ h => h) dX4_putsIn_76 (fun x18 hw => ?_)
        refine tk_iload_n C hl 4 dX4_putsIn_79 rfl ?_
        refine tk_li C hR hw dX4_putsIn_80 (fun x19 hw => ?_)
        refine tk_li C hR hw dX4_putsIn_81 (fun x20 hw => ?_)
        obtain ⟨hv, hw⟩ := hw
        refine tw_cbi C hS (tk_runVN (As := [.inl x20]) C hR hS (wk_X5_end l C.hst G (R.frames - 1) (by omega) _ _ _ _ σ hw) hv rfl q2262 q2264 qs37 q75 q2265 pd_X5_end ⟨by omega, by omega⟩ hl.1 rfl (tw_r8 [] (Nat.le_of_ble_eq_true rfl)) dX4_putsIn_82) (fun E q σ H locs hX hR hS hi => tw_out C hR hS (fun x hx => (hnx x hx).elim) hi hX) (fun x21 σ H locs hw hR hS => ?_)
        refine tk_aload_n C hl 3 dX4_putsIn_85 rfl ?_
        refine tk_gr C hR hw rfl in_X4 (by decide) q2065 (fun _ h => h) dX4_putsIn_86 (fun x22 hw => ?_)
        refine tk_aload_n C hl 3 dX4_putsIn_89 rfl ?_
        refine tk_gr C hR hw rfl in_X4 (by decide) q2071 (fun _ h => h) dX4_putsIn_90 (fun x23 hw => ?_)
        refine tk_iload_n C hl 4 dX4_putsIn_93 rfl ?_
        refine tk_li C hR hw dX4_putsIn_94 (fun x24 hw => ?_)
        refine tk_li C hR hw dX4_putsIn_95 (fun x25 hw => ?_)
        refine lv_isub C.hx C.hb dX4_putsIn_96 ?_
        refine lv_goto (tgt := 110) C.hx C.hb dX4_putsIn_97 (by decide) ?_
        exact wk_X4_putsIn_b110 C hr hmn hnx hfr hRl _ _ _ _ _ _ σ _ _ _ hw hR hS (tk_sub hl [3, 4, 2, 1, 0] rfl)
    · replace hw := hw.2 c53
      refine lv_bipush (v := 107) C.hx C.hb dX4_putsIn_56 (by decide) ?_
      obtain ⟨hok, hw⟩ := hw
      exact tw_iret C hR hS hr hok dX4_putsIn_58 hw
  · replace hw := hw.1 c33
    refine lv_bipush (v := 103) C.hx C.hb dX4_putsIn_36 (by decide) ?_
    obtain ⟨hok, hw⟩ := hw
    exact tw_iret C hR hS hr hok dX4_putsIn_38 hw
-- TreeDifferModel.applies(IILTreeDifferModel$Tree;)C
def w_X4_applies_b88 (Q : Int32 → Tst → Prop) (X : String → Nat → Tst → Prop) (s0 : Int32) (σ : Tst) : Prop := narrow .char (.int s0) = .int s0 ∧ Q s0 σ
def w_X4_applies_b86 (Q : Int32 → Tst → Prop) (X : String → Nat → Tst → Prop) (σ : Tst) : Prop := w_X4_applies_b88 Q X 45 σ
def w_X4_applies_b77 (Q : Int32 → Tst → Prop) (X : String → Nat → Tst → Prop) (l0 : Option Nat) (l2 : Int32) (l3 : Option Nat) (σ : Tst) : Prop := w_rc σ l0 cX4 <| w_X4_putsIn l0 l2 l3 (fun x1 σ => w_X4_applies_b88 Q X x1 σ) X σ
def w_X4_applies_b58 (Q : Int32 → Tst → Prop) (X : String → Nat → Tst → Prop) (l0 : Option Nat) (l1 : Int32) (l2 : Int32) (l3 : Option Nat) (l4 : Int32) (σ : Tst) : Prop := w_if (l1 = 2) (w_if (l4 = 105) (w_X4_applies_b77 Q X l0 l2 l3 σ) (w_if (l4 = 109) (w_X4_applies_b77 Q X l0 l2 l3 σ) (w_X4_applies_b86 Q X σ))) (w_X4_applies_b86 Q X σ)
def w_X4_applies_b52 (Q : Int32 → Tst → Prop) (X : String → Nat → Tst → Prop) (l0 : Option Nat) (l2 : Int32) (σ : Tst) : Prop := w_rc σ l0 cX4 <| w_X4_changes l0 l2 (fun x1 σ => narrow .char (.int x1) = .int x1 ∧ Q x1 σ) X σ
def w_X4_applies_b33 (Q : Int32 → Tst → Prop) (X : String → Nat → Tst → Prop) (l0 : Option Nat) (l1 : Int32) (l2 : Int32) (l3 : Option Nat) (l4 : Int32) (σ : Tst) : Prop := w_if (l1 = 1) (w_if (l4 = 108) (w_X4_applies_b52 Q X l0 l2 σ) (w_if (l4 = 118) (w_X4_applies_b52 Q X l0 l2 σ) (w_X4_applies_b58 Q X l0 l1 l2 l3 l4 σ))) (w_X4_applies_b58 Q X l0 l1 l2 l3 l4 σ)
def w_X4_applies_b26 (Q : Int32 → Tst → Prop) (X : String → Nat → Tst → Prop) (l0 : Option Nat) (l2 : Int32) (l3 : Option Nat) (σ : Tst) : Prop := w_rc σ l0 cX4 <| w_X4_takesOut l0 l2 l3 (fun x1 σ => narrow .char (.int x1) = .int x1 ∧ Q x1 σ) X σ
def w_X4_applies (l0 : Option Nat) (l1 : Int32) (l2 : Int32) (l3 : Option Nat) (Q : Int32 → Tst → Prop) (X : String → Nat → Tst → Prop) (σ : Tst) : Prop := w_gr σ l0 cX4 18 fun x1 => w_lc σ x1 l2 fun x2 => w_if (l1 = 0) (w_if (x2 = 100) (w_X4_applies_b26 Q X l0 l2 l3 σ) (w_if (x2 = 109) (w_X4_applies_b26 Q X l0 l2 l3 σ) (w_X4_applies_b33 Q X l0 l1 l2 l3 x2 σ))) (w_X4_applies_b33 Q X l0 l1 l2 l3 x2 σ)
set_option maxHeartbeats 4000000 in
theorem wk_X4_applies_b88  (C : tw_C p l R s m args meth c G cX4_applies 5 yX4_applies.cls) (hr : meth.sig.returnType = (some .char)) (hmn : meth.name = yX4_applies.name) (hnx : (∀ x ∈ c.exceptionTable.toList, False)) (hfr : 4 ≤ R.frames) (hRl : R.locals = 40 * R.frames) {Q : Int32 → Tst → Prop} {X : String → Nat → Tst → Prop}  (s0 : Int32) (σ : Tst) (H : Heap) (locs : List Loc) (ls : Array Slot) (hw : w_X4_applies_b88 Q X s0 σ) (hR : tw_R G σ H) (hS : va_S (tw_A G) s.heap H locs) (hl : tw_l ls 5 []) : tw_W p l e R s m args below meth c σ H locs (tw_E below G (tw_Qi G Q) X args s R) (F0 m 88 ls [.int s0]) := by
  unfold w_X4_applies_b88 at hw
  obtain ⟨hok, hw⟩ := hw
  exact tw_iret C hR hS hr hok dX4_applies_88 hw
set_option maxHeartbeats 4000000 in
theorem wk_X4_applies_b86  (C : tw_C p l R s m args meth c G cX4_applies 5 yX4_applies.cls) (hr : meth.sig.returnType = (some .char)) (hmn : meth.name = yX4_applies.name) (hnx : (∀ x ∈ c.exceptionTable.toList, False)) (hfr : 4 ≤ R.frames) (hRl : R.locals = 40 * R.frames) {Q : Int32 → Tst → Prop} {X : String → Nat → Tst → Prop}   (σ : Tst) (H : Heap) (locs : List Loc) (ls : Array Slot) (hw : w_X4_applies_b86 Q X  σ) (hR : tw_R G σ H) (hS : va_S (tw_A G) s.heap H locs) (hl : tw_l ls 5 []) : tw_W p l e R s m args below meth c σ H locs (tw_E below G (tw_Qi G Q) X args s R) (F0 m 86 ls []) := by
  unfold w_X4_applies_b86 at hw
  refine lv_bipush (v := 45) C.hx C.hb dX4_applies_86 (by decide) ?_
  exact wk_X4_applies_b88 C hr hmn hnx hfr hRl _ σ _ _ _ hw hR hS (tk_sub hl [] rfl)
set_option maxHeartbeats 4000000 in
theorem wk_X4_applies_b77  (C : tw_C p l R s m args meth c G cX4_applies 5 yX4_applies.cls) (hr : meth.sig.returnType = (some .char)) (hmn : meth.name = yX4_applies.name) (hnx : (∀ x ∈ c.exceptionTable.toList, False)) (hfr : 4 ≤ R.frames) (hRl : R.locals = 40 * R.frames) {Q : Int32 → Tst → Prop} {X : String → Nat → Tst → Prop}  (l0 : Option Nat) (l2 : Int32) (l3 : Option Nat) (σ : Tst) (H : Heap) (locs : List Loc) (ls : Array Slot) (hw : w_X4_applies_b77 Q X l0 l2 l3 σ) (hR : tw_R G σ H) (hS : va_S (tw_A G) s.heap H locs) (hl : tw_l ls 5 [(0, .inr l0), (2, .inl l2), (3, .inr l3)]) : tw_W p l e R s m args below meth c σ H locs (tw_E below G (tw_Qi G Q) X args s R) (F0 m 77 ls []) := by
  unfold w_X4_applies_b77 at hw
  refine tk_aload_n C hl 0 dX4_applies_77 rfl ?_
  refine tk_iload_n C hl 1 dX4_applies_78 rfl ?_
  refine tk_aload_n C hl 2 dX4_applies_79 rfl ?_
  obtain ⟨hv, hw⟩ := hw
  refine tw_cbi C hS (tk_runV (As := [.inl l2, .inr l3]) C hR hS (wk_X4_putsIn l C.hst G (R.frames - 1) (by omega) _ _ _ _ _ σ hw) hv rfl q2502 q2504 qs59 q74 q2505 pd_X4_putsIn ⟨by omega, by omega⟩ hl.1 rfl (tw_r8 [] (Nat.le_of_ble_eq_true rfl)) dX4_applies_80) (fun E q σ H locs hX hR hS hi => tw_out C hR hS (fun x hx => (hnx x hx).elim) hi hX) (fun x1 σ H locs hw hR hS => ?_)
  refine lv_goto (tgt := 88) C.hx C.hb dX4_applies_83 (by decide) ?_
  exact wk_X4_applies_b88 C hr hmn hnx hfr hRl _ σ _ _ _ hw hR hS (tk_sub hl [] rfl)
set_option maxHeartbeats 4000000 in
theorem wk_X4_applies_b58  (C : tw_C p l R s m args meth c G cX4_applies 5 yX4_applies.cls) (hr : meth.sig.returnType = (some .char)) (hmn : meth.name = yX4_applies.name) (hnx : (∀ x ∈ c.exceptionTable.toList, False)) (hfr : 4 ≤ R.frames) (hRl : R.locals = 40 * R.frames) {Q : Int32 → Tst → Prop} {X : String → Nat → Tst → Prop}  (l0 : Option Nat) (l1 : Int32) (l2 : Int32) (l3 : Option Nat) (l4 : Int32) (σ : Tst) (H : Heap) (locs : List Loc) (ls : Array Slot) (hw : w_X4_applies_b58 Q X l0 l1 l2 l3 l4 σ) (hR : tw_R G σ H) (hS : va_S (tw_A G) s.heap H locs) (hl : tw_l ls 5 [(0, .inr l0), (1, .inl l1), (2, .inl l2), (3, .inr l3), (4, .inl l4)]) : tw_W p l e R s m args below meth c σ H locs (tw_E below G (tw_Qi G Q) X args s R) (F0 m 58 ls []) := by
  unfold w_X4_applies_b58 at hw
  refine tk_iload_n C hl 1 dX4_applies_58 rfl ?_
  refine lv_iconst (v := 2) C.hx C.hb dX4_applies_59 (by decide) ?_
  refine lv_icmp_ne (tgt := 86) C.hx C.hb dX4_applies_60 (by decide) (fun c60 => ?_) (fun c60 => ?_)
  · replace hw := hw.2 c60
    exact wk_X4_applies_b86 C hr hmn hnx hfr hRl σ _ _ _ hw hR hS (tk_sub hl [] rfl)
  · replace hw := hw.1 c60
    refine tk_iload C hl 4 dX4_applies_63 rfl ?_
    refine lv_bipush (v := 105) C.hx C.hb dX4_applies_65 (by decide) ?_
    refine lv_icmp_eq (tgt := 77) C.hx C.hb dX4_applies_67 (by decide) (fun c67 => ?_) (fun c67 => ?_)
    · replace hw := hw.1 c67
      exact wk_X4_applies_b77 C hr hmn hnx hfr hRl _ _ _ σ _ _ _ hw hR hS (tk_sub hl [0, 2, 3] rfl)
    · replace hw := hw.2 c67
      refine tk_iload C hl 4 dX4_applies_70 rfl ?_
      refine lv_bipush (v := 109) C.hx C.hb dX4_applies_72 (by decide) ?_
      refine lv_icmp_ne (tgt := 86) C.hx C.hb dX4_applies_74 (by decide) (fun c74 => ?_) (fun c74 => ?_)
      · replace hw := hw.2 c74
        exact wk_X4_applies_b86 C hr hmn hnx hfr hRl σ _ _ _ hw hR hS (tk_sub hl [] rfl)
      · replace hw := hw.1 c74
        exact wk_X4_applies_b77 C hr hmn hnx hfr hRl _ _ _ σ _ _ _ hw hR hS (tk_sub hl [0, 2, 3] rfl)
set_option maxHeartbeats 4000000 in
theorem wk_X4_applies_b52  (C : tw_C p l R s m args meth c G cX4_applies 5 yX4_applies.cls) (hr : meth.sig.returnType = (some .char)) (hmn : meth.name = yX4_applies.name) (hnx : (∀ x ∈ c.exceptionTable.toList, False)) (hfr : 4 ≤ R.frames) (hRl : R.locals = 40 * R.frames) {Q : Int32 → Tst → Prop} {X : String → Nat → Tst → Prop}  (l0 : Option Nat) (l2 : Int32) (σ : Tst) (H : Heap) (locs : List Loc) (ls : Array Slot) (hw : w_X4_applies_b52 Q X l0 l2 σ) (hR : tw_R G σ H) (hS : va_S (tw_A G) s.heap H locs) (hl : tw_l ls 5 [(0, .inr l0), (2, .inl l2)]) : tw_W p l e R s m args below meth c σ H locs (tw_E below G (tw_Qi G Q) X args s R) (F0 m 52 ls []) := by
  unfold w_X4_applies_b52 at hw
  refine tk_aload_n C hl 0 dX4_applies_52 rfl ?_
  refine tk_iload_n C hl 1 dX4_applies_53 rfl ?_
  obtain ⟨hv, hw⟩ := hw
  refine tw_cbi C hS (tk_runV (As := [.inl l2]) C hR hS (wk_X4_changes l C.hst G (R.frames - 1) (by omega) _ _ _ _ σ hw) hv rfl q2498 q2500 qs58 q74 q2501 pd_X4_changes ⟨by omega, by omega⟩ hl.1 rfl (tw_r8 [] (Nat.le_of_ble_eq_true rfl)) dX4_applies_54) (fun E q σ H locs hX hR hS hi => tw_out C hR hS (fun x hx => (hnx x hx).elim) hi hX) (fun x1 σ H locs hw hR hS => ?_)
  obtain ⟨hok, hw⟩ := hw
  exact tw_iret C hR hS hr hok dX4_applies_57 hw
set_option maxHeartbeats 4000000 in
theorem wk_X4_applies_b33  (C : tw_C p l R s m args meth c G cX4_applies 5 yX4_applies.cls) (hr : meth.sig.returnType = (some .char)) (hmn : meth.name = yX4_applies.name) (hnx : (∀ x ∈ c.exceptionTable.toList, False)) (hfr : 4 ≤ R.frames) (hRl : R.locals = 40 * R.frames) {Q : Int32 → Tst → Prop} {X : String → Nat → Tst → Prop}  (l0 : Option Nat) (l1 : Int32) (l2 : Int32) (l3 : Option Nat) (l4 : Int32) (σ : Tst) (H : Heap) (locs : List Loc) (ls : Array Slot) (hw : w_X4_applies_b33 Q X l0 l1 l2 l3 l4 σ) (hR : tw_R G σ H) (hS : va_S (tw_A G) s.heap H locs) (hl : tw_l ls 5 [(0, .inr l0), (1, .inl l1), (2, .inl l2), (3, .inr l3), (4, .inl l4)]) : tw_W p l e R s m args below meth c σ H locs (tw_E below G (tw_Qi G Q) X args s R) (F0 m 33 ls []) := by
  unfold w_X4_applies_b33 at hw
  refine tk_iload_n C hl 1 dX4_applies_33 rfl ?_
  refine lv_iconst (v := 1) C.hx C.hb dX4_applies_34 (by decide) ?_
  refine lv_icmp_ne (tgt := 58) C.hx C.hb dX4_applies_35 (by decide) (fun c35 => ?_) (fun c35 => ?_)
  · replace hw := hw.2 c35
    exact wk_X4_applies_b58 C hr hmn hnx hfr hRl _ _ _ _ _ σ _ _ _ hw hR hS (tk_sub hl [0, 1, 2, 3, 4] rfl)
  · replace hw := hw.1 c35
    refine tk_iload C hl 4 dX4_applies_38 rfl ?_
    refine lv_bipush (v := 108) C.hx C.hb dX4_applies_40 (by decide) ?_
    refine lv_icmp_eq (tgt := 52) C.hx C.hb dX4_applies_42 (by decide) (fun c42 => ?_) (fun c42 => ?_)
    · replace hw := hw.1 c42
      exact wk_X4_applies_b52 C hr hmn hnx hfr hRl _ _ σ _ _ _ hw hR hS (tk_sub hl [0, 2] rfl)
    · replace hw := hw.2 c42
      refine tk_iload C hl 4 dX4_applies_45 rfl ?_
      refine lv_bipush (v := 118) C.hx C.hb dX4_applies_47 (by decide) ?_
      refine lv_icmp_ne (tgt := 58) C.hx C.hb dX4_applies_49 (by decide) (fun c49 => ?_) (fun c49 => ?_)
      · replace hw := hw.2 c49
        exact wk_X4_applies_b58 C hr hmn hnx hfr hRl _ _ _ _ _ σ _ _ _ hw hR hS (tk_sub hl [0, 1, 2, 3, 4] rfl)
      · replace hw := hw.1 c49
        exact wk_X4_applies_b52 C hr hmn hnx hfr hRl _ _ σ _ _ _ hw hR hS (tk_sub hl [0, 2] rfl)
set_option maxHeartbeats 4000000 in
theorem wk_X4_applies_b26  (C : tw_C p l R s m args meth c G cX4_applies 5 yX4_applies.cls) (hr : meth.sig.returnType = (some .char)) (hmn : meth.name = yX4_applies.name) (hnx : (∀ x ∈ c.exceptionTable.toList, False)) (hfr : 4 ≤ R.frames) (hRl : R.locals = 40 * R.frames) {Q : Int32 → Tst → Prop} {X : String → Nat → Tst → Prop}  (l0 : Option Nat) (l2 : Int32) (l3 : Option Nat) (σ : Tst) (H : Heap) (locs : List Loc) (ls : Array Slot) (hw : w_X4_applies_b26 Q X l0 l2 l3 σ) (hR : tw_R G σ H) (hS : va_S (tw_A G) s.heap H locs) (hl : tw_l ls 5 [(0, .inr l0), (2, .inl l2), (3, .inr l3)]) : tw_W p l e R s m args below meth c σ H locs (tw_E below G (tw_Qi G Q) X args s R) (F0 m 26 ls []) := by
  unfold w_X4_applies_b26 at hw
  refine tk_aload_n C hl 0 dX4_applies_26 rfl ?_
  refine tk_iload_n C hl 1 dX4_applies_27 rfl ?_
  refine tk_aload_n C hl 2 dX4_applies_28 rfl ?_
  obtain ⟨hv, hw⟩ := hw
  refine tw_cbi C hS (tk_runV (As := [.inl l2, .inr l3]) C hR hS (wk_X4_takesOut l C.hst G (R.frames - 1) (by omega) _ _ _ _ _ σ hw) hv rfl q2482 q2484 qs54 q74 q2485 pd_X4_takesOut ⟨by omega, by omega⟩ hl.1 rfl (tw_r8 [] (Nat.le_of_ble_eq_true rfl)) dX4_applies_29) (fun E q σ H locs hX hR hS hi => tw_out C hR hS (fun x hx => (hnx x hx).elim) hi hX) (fun x1 σ H locs hw hR hS => ?_)
  obtain ⟨hok, hw⟩ := hw
  exact tw_iret C hR hS hr hok dX4_applies_32 hw
set_option maxHeartbeats 4000000 in
theorem wk_X4_applies (l : Launch) (hl0 : l.stackTraces = false) (G : Tgl) (fr : Nat)  (hfr : 4 ≤ fr) (l0 : Option Nat) (l1 : Int32) (l2 : Int32) (l3 : Option Nat) (Q : Int32 → Tst → Prop) (X : String → Nat → Tst → Prop) (σ : Tst) (hw : w_X4_applies l0 l1 l2 l3 Q X σ) : tw_M l yX4_applies (ws_ yX4_applies cX4_applies 5 (some .char)) fr (40 * fr) G σ [.inr l0, .inl l1, .inl l2, .inr l3] (tw_Qi G Q) X := by
  unfold w_X4_applies at hw
  refine tw_of (ret := (some .char)) hl0 (by decide) (Nat.le_of_ble_eq_true rfl) (fun p e R s m args below meth c hRf hRl C hr hmn hnx hR hS ls hl => ?_)
  have hfr : 4 ≤ R.frames := by rw [hRf]; exact hfr
  have hRl : R.locals = 40 * R.frames := by rw [hRl, hRf]
  have hl : tw_l ls 5 [(0, .inr l0), (1, .inl l1), (2, .inl l2), (3, .inr l3)] := hl
  refine tk_aload_n C hl 0 dX4_applies_0 rfl ?_
  refine tk_gr C hR hw rfl in_X4 (by decide) q2070 (fun _ h => h) dX4_applies_1 (fun x1 hw => ?_)
  refine tk_iload_n C hl 2 dX4_applies_4 rfl ?_
  refine tk_lc C hR hw dX4_applies_5 (fun x2 hw => ?_)
  refine tk_istore (L' := [(4, .inl x2), (0, .inr l0), (1, .inl l1), (2, .inl l2), (3, .inr l3)]) C hl dX4_applies_6 (by decide) rfl (fun ls hl => ?_)
  refine tk_iload_n C hl 2 dX4_applies_8 rfl ?_
  refine lv_if_ne (tgt := 33) C.hx C.hb dX4_applies_9 (by decide) (fun c9 => ?_) (fun c9 => ?_)
  · replace hw := hw.2 c9
    exact wk_X4_applies_b33 C hr hmn hnx hfr hRl _ _ _ _ _ σ _ _ _ hw hR hS (tk_sub hl [1, 2, 3, 4, 0] rfl)
  · replace hw := hw.1 c9
    refine tk_iload C hl 0 dX4_applies_12 rfl ?_
    refine lv_bipush (v := 100) C.hx C.hb dX4_applies_14 (by decide) ?_
    refine lv_icmp_eq (tgt := 26) C.hx C.hb dX4_applies_16 (by decide) (fun c16 => ?_) (fun c16 => ?_)
    · replace hw := hw.1 c16
      exact wk_X4_applies_b26 C hr hmn hnx hfr hRl _ _ _ σ _ _ _ hw hR hS (tk_sub hl [1, 3, 4] rfl)
    · replace hw := hw.2 c16
      refine tk_iload C hl 0 dX4_applies_19 rfl ?_
      refine lv_bipush (v := 109) C.hx C.hb dX4_applies_21 (by decide) ?_
      refine lv_icmp_ne (tgt := 33) C.hx C.hb dX4_applies_23 (by decide) (fun c23 => ?_) (fun c23 => ?_)
      · replace hw := hw.2 c23
        exact wk_X4_applies_b33 C hr hmn hnx hfr hRl _ _ _ _ _ σ _ _ _ hw hR hS (tk_sub hl [1, 2, 3, 4, 0] rfl)
      · replace hw := hw.1 c23
        exact wk_X4_applies_b26 C hr hmn hnx hfr hRl _ _ _ σ _ _ _ hw hR hS (tk_sub hl [1, 3, 4] rfl)
-- TreeDifferModel.flattens(LTreeDifferModel$Item;I)V
def w_X4_flattens_b31 (rf_X4_flattens : (Option Nat) → (Option Nat) → Int32 → (Tst → Prop) → (String → Nat → Tst → Prop) → Tst → Prop) (Q : Tst → Prop) (X : String → Nat → Tst → Prop) : Nat → Option Nat → Option Nat → Int32 → Int32 → Tst → Prop
  | 0, _, _, _, _, _ => False
  | n + 1, l0, l1, l3, l4, σ => w_gi σ l1 cX20 3 fun x1 => w_if (x1 ≤ l4) (Q σ) (w_gr σ l1 cX20 5 fun x2 => w_lr σ x2 l4 fun x3 => w_rc σ l0 cX4 <| rf_X4_flattens l0 x3 l3 (fun σ => (w_X4_flattens_b31 rf_X4_flattens Q X n) l0 l1 l3 (l4 + 1) σ) X σ)
def w_X4_flattens : Nat → Option Nat → Option Nat → Int32 → (Tst → Prop) → (String → Nat → Tst → Prop) → Tst → Prop
  | 0, _, _, _, _, _, _ => False
  | d + 1, l0, l1, l2, Q, X, σ => w_gr σ l0 cX4 8 fun x1 => w_gi σ x1 cX5 4 fun x2 => w_gr σ l0 cX4 8 fun x3 => w_gi σ l1 cX20 0 fun x4 => w_gi σ l1 cX20 1 fun x5 => w_gi σ l1 cX20 2 fun x6 => w_rc σ x3 cX5 <| w_X5_adds x3 x4 x5 x6 l2 (fun σ => ∃ z, w_X4_flattens_b31 (w_X4_flattens d) Q X z l0 l1 x2 0 σ) X σ
set_option maxHeartbeats 4000000 in
theorem wk_X4_flattens_b31 {rf_X4_flattens : (Option Nat) → (Option Nat) → Int32 → (Tst → Prop) → (String → Nat → Tst → Prop) → Tst → Prop} {frf_X4_flattens : Nat}  (C : tw_C p l R s m args meth c G cX4_flattens 5 yX4_flattens.cls) (hr : meth.sig.returnType = none) (hmn : meth.name = yX4_flattens.name) (hnx : (∀ x ∈ c.exceptionTable.toList, False)) (hfr : 3 ≤ R.frames ∧ frf_X4_flattens + 1 ≤ R.frames) (hRl : R.locals = 40 * R.frames) {Q : Tst → Prop} {X : String → Nat → Tst → Prop} (hrf_X4_flattens : ∀ fr : Nat, frf_X4_flattens ≤ fr → ∀ (a0 : Option Nat) (a1 : Option Nat) (a2 : Int32) (Q : Tst → Prop) (X : String → Nat → Tst → Prop) (σ : Tst), rf_X4_flattens a0 a1 a2 Q X σ → tw_M l yX4_flattens (ws_ yX4_flattens cX4_flattens 5 none) fr (40 * fr) G σ [.inr a0, .inr a1, .inl a2] (tw_Qv G Q) X) : ∀ (n : Nat) (l0 : Option Nat) (l1 : Option Nat) (l3 : Int32) (l4 : Int32) (σ : Tst) (H : Heap) (locs : List Loc) (ls : Array Slot), w_X4_flattens_b31 rf_X4_flattens Q X n l0 l1 l3 l4 σ → tw_R G σ H → va_S (tw_A G) s.heap H locs → tw_l ls 5 [(0, .inr l0), (1, .inr l1), (3, .inl l3), (4, .inl l4)] → tw_W p l e R s m args below meth c σ H locs (tw_E below G (tw_Qv G Q) X args s R) (F0 m 31 ls []) := by
  intro n
  induction n with
  | zero => intro l0 l1 l3 l4 σ H locs ls hw; exact False.elim hw
  | succ n hk31 =>
    intro l0 l1 l3 l4 σ H locs ls hw hR hS hl
    rw [w_X4_flattens_b31] at hw
    refine tk_iload C hl 3 dX4_flattens_31 rfl ?_
    refine tk_aload_n C hl 1 dX4_flattens_33 rfl ?_
    refine tk_giN C hR hw rfl in_X20 (by decide) q2456 (fun _ h => h) dX4_flattens_34 (fun x1 hw => ?_)
    refine lv_icmp_ge (tgt := 58) C.hx C.hb dX4_flattens_37 (by decide) (fun c37 => ?_) (fun c37 => ?_)
    · replace hw := hw.1 c37
      exact tw_vret C hR hS hr dX4_flattens_58 hw
    · replace hw := hw.2 c37
      refine tk_aload_n C hl 0 dX4_flattens_40 rfl ?_
      refine tk_aload_n C hl 1 dX4_flattens_41 rfl ?_
      refine tk_grN C hR hw rfl in_X20 (by decide) q2460 (fun _ h => h) dX4_flattens_42 (fun x2 hw => ?_)
      refine tk_iload C hl 3 dX4_flattens_45 rfl ?_
      refine tk_lr C hR hw dX4_flattens_47 (fun x3 hw => ?_)
      refine tk_iload_n C hl 2 dX4_flattens_48 rfl ?_
      obtain ⟨hv, hw⟩ := hw
      refine tw_cbv C hS (tk_runV (As := [.inr x3, .inl l3]) C hR hS (hrf_X4_flattens (R.frames - 1) (by omega) _ _ _ _ _ σ hw) hv rfl q2515 q2517 qs62 q74 q2518 pd_X4_flattens ⟨by omega, by omega⟩ hl.1 rfl (tw_r8 [] (Nat.le_of_ble_eq_true rfl)) dX4_flattens_49) (fun E q σ H locs hX hR hS hi => tw_out C hR hS (fun x hx => (hnx x hx).elim) hi hX) (fun σ H locs hw hR hS => ?_)
      refine tk_iinc (L' := [(4, .inl (l4 + 1)), (0, .inr l0), (1, .inr l1), (3, .inl l3)]) (y := (l4 + 1)) C hl 3 dX4_flattens_52 rfl rfl (by decide) rfl (fun ls hl => ?_)
      refine lv_goto (tgt := 31) C.hx C.hb dX4_flattens_55 (by decide) ?_
      exact hk31 _ _ _ _ σ _ _ _ hw hR hS (tk_sub hl [1, 2, 3, 0] rfl)
set_option maxHeartbeats 4000000 in
theorem wk_X4_flattens (l : Launch) (hl0 : l.stackTraces = false) (G : Tgl)  : ∀ (d fr : Nat), 3 + 1 * d ≤ fr → ∀ (l0 : Option Nat) (l1 : Option Nat) (l2 : Int32) (Q : Tst → Prop) (X : String → Nat → Tst → Prop) (σ : Tst), w_X4_flattens d l0 l1 l2 Q X σ → tw_M l yX4_flattens (ws_ yX4_flattens cX4_flattens 5 none) fr (40 * fr) G σ [.inr l0, .inr l1, .inl l2] (tw_Qv G Q) X := by
  intro d
  induction d with
  | zero => intro fr hfr l0 l1 l2 Q X σ hw; exact False.elim hw
  | succ d ih =>
    intro fr hfr l0 l1 l2 Q X σ hw
    have hrf_X4_flattens := fun (fr : Nat) (h : 3 + 1 * d ≤ fr) => ih fr (by omega)
    rw [w_X4_flattens] at hw
    generalize hg : w_X4_flattens d = rf_X4_flattens at hw hrf_X4_flattens
    clear hg ih
    obtain ⟨frf_X4_flattens, hfrf_X4_flattens⟩ : ∃ f, f = 3 + 1 * d := ⟨_, rfl⟩
    rw [← hfrf_X4_flattens] at hrf_X4_flattens
    have hfr : 3 ≤ fr ∧ frf_X4_flattens + 1 ≤ fr := by refine ⟨?_, ?_⟩ <;> omega
    refine tw_of (ret := none) hl0 (by decide) (Nat.le_of_ble_eq_true rfl) (fun p e R s m args below meth c hRf hRl C hr hmn hnx hR hS ls hl => ?_)
    have hfr : 3 ≤ R.frames ∧ frf_X4_flattens + 1 ≤ R.frames := by rw [hRf]; exact hfr
    have hRl : R.locals = 40 * R.frames := by rw [hRl, hRf]
    have hl : tw_l ls 5 [(0, .inr l0), (1, .inr l1), (2, .inl l2)] := hl
    refine tk_aload_n C hl 0 dX4_flattens_0 rfl ?_
    refine tk_gr C hR hw rfl in_X4 (by decide) q2060 (fun _ h => h) dX4_flattens_1 (fun x1 hw => ?_)
    refine tk_giN C hR hw rfl in_X5 (by decide) q2027 (fun _ h => h) dX4_flattens_4 (fun x2 hw => ?_)
    refine tk_istore_n (L' := [(3, .inl x2), (0, .inr l0), (1, .inr l1), (2, .inl l2)]) C hl dX4_flattens_7 (by decide) rfl (fun ls hl => ?_)
    refine tk_aload_n C hl 1 dX4_flattens_8 rfl ?_
    refine tk_gr C hR hw rfl in_X4 (by decide) q2060 (fun _ h => h) dX4_flattens_9 (fun x3 hw => ?_)
    refine tk_aload_n C hl 2 dX4_flattens_12 rfl ?_
    refine tk_giN C hR hw rfl in_X20 (by decide) q2451 (fun _ h => h) dX4_flattens_13 (fun x4 hw => ?_)
    refine tk_aload_n C hl 2 dX4_flattens_16 rfl ?_
    refine tk_giN C hR hw rfl in_X20 (by decide) q2453 (fun _ h => h) dX4_flattens_17 (fun x5 hw => ?_)
    refine tk_aload_n C hl 2 dX4_flattens_20 rfl ?_
    refine tk_giN C hR hw rfl in_X20 (by decide) q2454 (fun _ h => h) dX4_flattens_21 (fun x6 hw => ?_)
    refine tk_iload_n C hl 3 dX4_flattens_24 rfl ?_
    obtain ⟨hv, hw⟩ := hw
    refine tw_cbv C hS (tk_runVN (As := [.inl x4, .inl x5, .inl x6, .inl l2]) C hR hS (wk_X5_adds l C.hst G (R.frames - 1) (by omega) _ _ _ _ _ _ _ σ hw) hv rfl q2044 q2046 qs22 q75 q2047 pd_X5_adds ⟨by omega, by omega⟩ hl.1 rfl (tw_r8 [] (Nat.le_of_ble_eq_true rfl)) dX4_flattens_25) (fun E q σ H locs hX hR hS hi => tw_out C hR hS (fun x hx => (hnx x hx).elim) hi hX) (fun σ H locs hw hR hS => ?_)
    refine lv_iconst (v := 0) C.hx C.hb dX4_flattens_28 (by decide) ?_
    refine tk_istore (L' := [(4, .inl 0), (3, .inl x2), (0, .inr l0), (1, .inr l1), (2, .inl l2)]) C hl dX4_flattens_29 (by decide) rfl (fun ls hl => ?_)
    obtain ⟨z, hw⟩ := hw
    exact wk_X4_flattens_b31 C hr hmn hnx hfr hRl hrf_X4_flattens z _ _ _ _ σ _ _ _ hw hR hS (tk_sub hl [2, 3, 1, 0] rfl)
-- TreeDifferModel.patches(LTreeDifferModel$Tree;)I
def w_X4_patches_b56 (k49 : Option Nat → Option Nat → Int32 → Tst → Prop) (Q : Int32 → Tst → Prop) (X : String → Nat → Tst → Prop) : Nat → Option Nat → Option Nat → Int32 → Int32 → Tst → Prop
  | 0, _, _, _, _, _ => False
  | n + 1, l0, l1, l2, l3, σ => w_gi σ l0 cX4 24 fun x1 => w_if (x1 ≤ l3) (k49 l0 l1 (l2 + 1) σ) (w_rc σ l0 cX4 <| w_X4_applies l0 l2 l3 l1 (fun x2 σ => w_ok .char x2 ∧ w_p σ l0 cX4 30 (.inl x2) fun σ => w_gi σ l0 cX4 30 fun x3 => w_if (x3 = 45) ((w_X4_patches_b56 k49 Q X n) l0 l1 l2 (l3 + 1) σ) (Q l3 σ)) X σ)
def w_X4_patches_b49 (Q : Int32 → Tst → Prop) (X : String → Nat → Tst → Prop) : Nat → Option Nat → Option Nat → Int32 → Tst → Prop
  | 0, _, _, _, _ => False
  | n + 1, l0, l1, l2, σ => w_if (3 ≤ l2) (w_gr σ l0 cX4 8 fun x1 => w_p σ x1 cX5 4 (.inl 0) fun σ => w_gr σ l0 cX4 26 fun x2 => w_lr σ x2 0 fun x3 => w_rc σ l0 cX4 <| w_X4_flattens 64 l0 x3 (-1) (fun σ => Q (-1) σ) X σ) (∃ z, w_X4_patches_b56 (w_X4_patches_b49 Q X n) Q X z l0 l1 l2 0 σ)
def w_X4_patches_b28 (Q : Int32 → Tst → Prop) (X : String → Nat → Tst → Prop) : Nat → Option Nat → Option Nat → Int32 → Tst → Prop
  | 0, _, _, _, _ => False
  | n + 1, l0, l1, l2, σ => w_if (20 ≤ l2) (∃ z, w_X4_patches_b49 Q X z l0 l1 0 σ) (w_gr σ l0 cX4 25 fun x1 => w_sr σ x1 l2 none fun σ => (w_X4_patches_b28 Q X n) l0 l1 (l2 + 1) σ)
def w_X4_patches (l0 : Option Nat) (l1 : Option Nat) (Q : Int32 → Tst → Prop) (X : String → Nat → Tst → Prop) (σ : Tst) : Prop := w_gr σ l0 cX4 16 fun x1 => w_rc σ l0 cX4 <| w_X4_matches l0 x1 l1 (fun σ => w_X4_links l1 0 (fun x3 σ => w_p σ l0 cX4 26 (.inr x3) fun σ => w_gi σ l1 cX5 4 fun x4 => w_p σ l0 cX4 28 (.inl x4) fun σ => ∃ z, w_X4_patches_b28 Q X z l0 l1 0 σ) X σ) X σ
set_option maxHeartbeats 4000000 in
theorem wk_X4_patches_b56  (C : tw_C p l R s m args meth c G cX4_patches 4 yX4_patches.cls) (hr : meth.sig.returnType = (some .int)) (hmn : meth.name = yX4_patches.name) (hnx : (∀ x ∈ c.exceptionTable.toList, False)) (hfr : 69 ≤ R.frames) (hRl : R.locals = 40 * R.frames) {Q : Int32 → Tst → Prop} {X : String → Nat → Tst → Prop}  {k49 : Option Nat → Option Nat → Int32 → Tst → Prop} (hk49 : ∀ (l0 : Option Nat) (l1 : Option Nat) (l2 : Int32) (σ : Tst) (H : Heap) (locs : List Loc) (ls : Array Slot), k49 l0 l1 l2 σ → tw_R G σ H → va_S (tw_A G) s.heap H locs → tw_l ls 4 [(0, .inr l0), (1, .inr l1), (2, .inl l2)] → tw_W p l e R s m args below meth c σ H locs (tw_E below G (tw_Qi G Q) X args s R) (F0 m 49 ls [])) : ∀ (n : Nat) (l0 : Option Nat) (l1 : Option Nat) (l2 : Int32) (l3 : Int32) (σ : Tst) (H : Heap) (locs : List Loc) (ls : Array Slot), w_X4_patches_b56 k49 Q X n l0 l1 l2 l3 σ → tw_R G σ H → va_S (tw_A G) s.heap H locs → tw_l ls 4 [(0, .inr l0), (1, .inr l1), (2, .inl l2), (3, .inl l3)] → tw_W p l e R s m args below meth c σ H locs (tw_E below G (tw_Qi G Q) X args s R) (F0 m 56 ls []) := by
  intro n
  induction n with
  | zero => intro l0 l1 l2 l3 σ H locs ls hw; exact False.elim hw
  | succ n hk56 =>
    intro l0 l1 l2 l3 σ H locs ls hw hR hS hl
    rw [w_X4_patches_b56] at hw
    refine tk_iload_n C hl 3 dX4_patches_56 rfl ?_
    refine tk_aload_n C hl 0 dX4_patches_57 rfl ?_
    refine tk_gi C hR hw rfl in_X4 (by decide) q2076 (fun _ h => h) dX4_patches_58 (fun x1 hw => ?_)
    refine lv_icmp_ge (tgt := 92) C.hx C.hb dX4_patches_61 (by decide) (fun c61 => ?_) (fun c61 => ?_)
    · replace hw := hw.1 c61
      refine tk_iinc (L' := [(2, .inl (l2 + 1)), (0, .inr l0), (1, .inr l1), (3, .inl l3)]) (y := (l2 + 1)) C hl 2 dX4_patches_92 rfl rfl (by decide) rfl (fun ls hl => ?_)
      refine lv_goto (tgt := 49) C.hx C.hb dX4_patches_95 (by decide) ?_
      exact hk49 _ _ _ σ _ _ _ hw hR hS (tk_sub hl [1, 2, 0] rfl)
    · replace hw := hw.2 c61
      refine tk_aload_n C hl 0 dX4_patches_64 rfl ?_
      refine tk_aload_n C hl 0 dX4_patches_65 rfl ?_
      refine tk_iload_n C hl 2 dX4_patches_66 rfl ?_
      refine tk_iload_n C hl 3 dX4_patches_67 rfl ?_
      refine tk_aload_n C hl 1 dX4_patches_68 rfl ?_
      obtain ⟨hv, hw⟩ := hw
      refine tw_cbi C hS (tk_runV (As := [.inl l2, .inl l3, .inr l1]) C hR hS (wk_X4_applies l C.hst G (R.frames - 1) (by omega) _ _ _ _ _ _ σ hw) hv rfl q2478 q2480 qs53 q74 q2481 pd_X4_applies ⟨by omega, by omega⟩ hl.1 rfl (tw_r8 [.inr l0] (Nat.le_of_ble_eq_true rfl)) dX4_patches_69) (fun E q σ H locs hX hR hS hi => tw_out C hR hS (fun x hx => (hnx x hx).elim) hi hX) (fun x2 σ H locs hw hR hS => ?_)
      obtain ⟨hok, hw⟩ := hw
      refine tk_p (x := .inl x2) C hR hS hw (by decide) rfl in_X4 tyX4 tyX4_ok nmX4 (by decide) q2082 (fun _ h => h) rfl hok dX4_patches_72 (fun σ H locs hw hR hS => ?_)
      refine tk_aload_n C hl 0 dX4_patches_75 rfl ?_
      refine tk_gi C hR hw rfl in_X4 (by decide) q2082 (fun _ h => h) dX4_patches_76 (fun x3 hw => ?_)
      refine lv_bipush (v := 45) C.hx C.hb dX4_patches_79 (by decide) ?_
      refine lv_icmp_eq (tgt := 86) C.hx C.hb dX4_patches_81 (by decide) (fun c81 => ?_) (fun c81 => ?_)
      · replace hw := hw.1 c81
        refine tk_iinc (L' := [(3, .inl (l3 + 1)), (0, .inr l0), (1, .inr l1), (2, .inl l2)]) (y := (l3 + 1)) C hl 3 dX4_patches_86 rfl rfl (by decide) rfl (fun ls hl => ?_)
        refine lv_goto (tgt := 56) C.hx C.hb dX4_patches_89 (by decide) ?_
        exact hk56 _ _ _ _ σ _ _ _ hw hR hS (tk_sub hl [1, 2, 3, 0] rfl)
      · replace hw := hw.2 c81
        refine tk_iload_n C hl 3 dX4_patches_84 rfl ?_
        exact tw_iret C hR hS hr rfl dX4_patches_85 hw
set_option maxHeartbeats 4000000 in
theorem wk_X4_patches_b49  (C : tw_C p l R s m args meth c G cX4_patches 4 yX4_patches.cls) (hr : meth.sig.returnType = (some .int)) (hmn : meth.name = yX4_patches.name) (hnx : (∀ x ∈ c.exceptionTable.toList, False)) (hfr : 69 ≤ R.frames) (hRl : R.locals = 40 * R.frames) {Q : Int32 → Tst → Prop} {X : String → Nat → Tst → Prop}  : ∀ (n : Nat) (l0 : Option Nat) (l1 : Option Nat) (l2 : Int32) (σ : Tst) (H : Heap) (locs : List Loc) (ls : Array Slot), w_X4_patches_b49 Q X n l0 l1 l2 σ → tw_R G σ H → va_S (tw_A G) s.heap H locs → tw_l ls 4 [(0, .inr l0), (1, .inr l1), (2, .inl l2)] → tw_W p l e R s m args below meth c σ H locs (tw_E below G (tw_Qi G Q) X args s R) (F0 m 49 ls []) := by
  intro n
  induction n with
  | zero => intro l0 l1 l2 σ H locs ls hw; exact False.elim hw
  | succ n hk49 =>
    intro l0 l1 l2 σ H locs ls hw hR hS hl
    rw [w_X4_patches_b49] at hw
    refine tk_iload_n C hl 2 dX4_patches_49 rfl ?_
    refine lv_iconst (v := 3) C.hx C.hb dX4_patches_50 (by decide) ?_
    refine lv_icmp_ge (tgt := 98) C.hx C.hb dX4_patches_51 (by decide) (fun c51 => ?_) (fun c51 => ?_)
    · replace hw := hw.1 c51
      refine tk_aload_n C hl 0 dX4_patches_98 rfl ?_
      refine tk_gr C hR hw rfl in_X4 (by decide) q2060 (fun _ h => h) dX4_patches_99 (fun x1 hw => ?_)
      refine lv_iconst (v := 0) C.hx C.hb dX4_patches_102 (by decide) ?_
      refine tk_pN (x := .inl 0) C hR hS hw (by decide) rfl in_X5 tyX5 tyX5_ok nmX5 (by decide) q2027 (fun _ h => h) rfl (tw_ni _) dX4_patches_103 (fun σ H locs hw hR hS => ?_)
      refine tk_aload_n C hl 0 dX4_patches_106 rfl ?_
      refine tk_aload_n C hl 0 dX4_patches_107 rfl ?_
      refine tk_gr C hR hw rfl in_X4 (by decide) q2078 (fun _ h => h) dX4_patches_108 (fun x2 hw => ?_)
      refine lv_iconst (v := 0) C.hx C.hb dX4_patches_111 (by decide) ?_
      refine tk_lr C hR hw dX4_patches_112 (fun x3 hw => ?_)
      refine lv_iconst (v := (-1)) C.hx C.hb dX4_patches_113 (by decide) ?_
      obtain ⟨hv, hw⟩ := hw
      refine tw_cbv C hS (tk_runV (As := [.inr x3, .inl (-1)]) C hR hS (wk_X4_flattens l C.hst G 64 (R.frames - 1) (by omega) _ _ _ _ _ σ hw) hv rfl q2515 q2517 qs62 q74 q2518 pd_X4_flattens ⟨by omega, by omega⟩ hl.1 rfl (tw_r8 [] (Nat.le_of_ble_eq_true rfl)) dX4_patches_114) (fun E q σ H locs hX hR hS hi => tw_out C hR hS (fun x hx => (hnx x hx).elim) hi hX) (fun σ H locs hw hR hS => ?_)
      refine lv_iconst (v := (-1)) C.hx C.hb dX4_patches_117 (by decide) ?_
      exact tw_iret C hR hS hr rfl dX4_patches_118 hw
    · replace hw := hw.2 c51
      refine lv_iconst (v := 0) C.hx C.hb dX4_patches_54 (by decide) ?_
      refine tk_istore_n (L' := [(3, .inl 0), (0, .inr l0), (1, .inr l1), (2, .inl l2)]) C hl dX4_patches_55 (by decide) rfl (fun ls hl => ?_)
      obtain ⟨z, hw⟩ := hw
      exact wk_X4_patches_b56 C hr hmn hnx hfr hRl hk49 z _ _ _ _ σ _ _ _ hw hR hS (tk_sub hl [1, 2, 3, 0] rfl)
set_option maxHeartbeats 4000000 in
theorem wk_X4_patches_b28  (C : tw_C p l R s m args meth c G cX4_patches 4 yX4_patches.cls) (hr : meth.sig.returnType = (some .int)) (hmn : meth.name = yX4_patches.name) (hnx : (∀ x ∈ c.exceptionTable.toList, False)) (hfr : 69 ≤ R.frames) (hRl : R.locals = 40 * R.frames) {Q : Int32 → Tst → Prop} {X : String → Nat → Tst → Prop}  : ∀ (n : Nat) (l0 : Option Nat) (l1 : Option Nat) (l2 : Int32) (σ : Tst) (H : Heap) (locs : List Loc) (ls : Array Slot), w_X4_patches_b28 Q X n l0 l1 l2 σ → tw_R G σ H → va_S (tw_A G) s.heap H locs → tw_l ls 4 [(0, .inr l0), (1, .inr l1), (2, .inl l2)] → tw_W p l e R s m args below meth c σ H locs (tw_E below G (tw_Qi G Q) X args s R) (F0 m 28 ls []) := by
  intro n
  induction n with
  | zero => intro l0 l1 l2 σ H locs ls hw; exact False.elim hw
  | succ n hk28 =>
    intro l0 l1 l2 σ H locs ls hw hR hS hl
    rw [w_X4_patches_b28] at hw
    refine tk_iload_n C hl 2 dX4_patches_28 rfl ?_
    refine lv_bipush (v := 20) C.hx C.hb dX4_patches_29 (by decide) ?_
    refine lv_icmp_ge (tgt := 47) C.hx C.hb dX4_patches_31 (by decide) (fun c31 => ?_) (fun c31 => ?_)
    · replace hw := hw.1 c31
      refine lv_iconst (v := 0) C.hx C.hb dX4_patches_47 (by decide) ?_
      refine tk_istore_n (L' := [(2, .inl 0), (0, .inr l0), (1, .inr l1)]) C hl dX4_patches_48 (by decide) rfl (fun ls hl => ?_)
      obtain ⟨z, hw⟩ := hw
      exact wk_X4_patches_b49 C hr hmn hnx hfr hRl z _ _ _ σ _ _ _ hw hR hS (tk_sub hl [1, 2, 0] rfl)
    · replace hw := hw.2 c31
      refine tk_aload_n C hl 0 dX4_patches_34 rfl ?_
      refine tk_gr C hR hw rfl in_X4 (by decide) q2077 (fun _ h => h) dX4_patches_35 (fun x1 hw => ?_)
      refine tk_iload_n C hl 2 dX4_patches_38 rfl ?_
      refine lv_null C.hx C.hb dX4_patches_39 ?_
      refine W.eq (g2 := F0 m 40 ls (va_rf none :: [.int l2, va_rf x1])) rfl ?_
      refine tk_sr C hR hS hw dX4_patches_40 (fun σ H locs hw hR hS => ?_)
      refine tk_iinc (L' := [(2, .inl (l2 + 1)), (0, .inr l0), (1, .inr l1)]) (y := (l2 + 1)) C hl 2 dX4_patches_41 rfl rfl (by decide) rfl (fun ls hl => ?_)
      refine lv_goto (tgt := 28) C.hx C.hb dX4_patches_44 (by decide) ?_
      exact hk28 _ _ _ σ _ _ _ hw hR hS (tk_sub hl [1, 2, 0] rfl)
set_option maxHeartbeats 4000000 in
theorem wk_X4_patches (l : Launch) (hl0 : l.stackTraces = false) (G : Tgl) (fr : Nat)  (hfr : 69 ≤ fr) (l0 : Option Nat) (l1 : Option Nat) (Q : Int32 → Tst → Prop) (X : String → Nat → Tst → Prop) (σ : Tst) (hw : w_X4_patches l0 l1 Q X σ) : tw_M l yX4_patches (ws_ yX4_patches cX4_patches 4 (some .int)) fr (40 * fr) G σ [.inr l0, .inr l1] (tw_Qi G Q) X := by
  unfold w_X4_patches at hw
  refine tw_of (ret := (some .int)) hl0 (by decide) (Nat.le_of_ble_eq_true rfl) (fun p e R s m args below meth c hRf hRl C hr hmn hnx hR hS ls hl => ?_)
  have hfr : 69 ≤ R.frames := by rw [hRf]; exact hfr
  have hRl : R.locals = 40 * R.frames := by rw [hRl, hRf]
  have hl : tw_l ls 4 [(0, .inr l0), (1, .inr l1)] := hl
  refine tk_aload_n C hl 0 dX4_patches_0 rfl ?_
  refine tk_aload_n C hl 0 dX4_patches_1 rfl ?_
  refine tk_gr C hR hw rfl in_X4 (by decide) q2068 (fun _ h => h) dX4_patches_2 (fun x1 hw => ?_)
  refine tk_aload_n C hl 1 dX4_patches_5 rfl ?_
  obtain ⟨hv, hw⟩ := hw
  refine tw_cbv C hS (tk_runV (As := [.inr x1, .inr l1]) C hR hS (wk_X4_matches l C.hst G (R.frames - 1) (by omega) _ _ _ _ _ σ hw) hv rfl q2378 q2380 qs44 q74 q2381 pd_X4_matches ⟨by omega, by omega⟩ hl.1 rfl (tw_r8 [] (Nat.le_of_ble_eq_true rfl)) dX4_patches_6) (fun E q σ H locs hX hR hS hi => tw_out C hR hS (fun x hx => (hnx x hx).elim) hi hX) (fun σ H locs hw hR hS => ?_)
  refine tk_aload_n C hl 0 dX4_patches_9 rfl ?_
  refine tk_aload_n C hl 1 dX4_patches_10 rfl ?_
  refine lv_iconst (v := 0) C.hx C.hb dX4_patches_11 (by decide) ?_
  refine tw_cbq C hS (tw_runS (As := [.inr l1, .inl 0]) C hR hS (wk_X4_links l C.hst G (R.frames - 1) (by omega) _ _ _ _ σ hw) q2442 q2443 q74 q2444 pd_X4_links ⟨by omega, by omega⟩ hl.1 rfl (tw_r8 [.inr l0] (Nat.le_of_ble_eq_true rfl)) dX4_patches_12) (fun E q σ H locs hX hR hS hi => tw_out C hR hS (fun x hx => (hnx x hx).elim) hi hX) (fun x3 σ H locs hw hR hS => ?_)
  refine tk_p (x := .inr x3) C hR hS hw (by decide) rfl in_X4 tyX4 tyX4_ok nmX4 (by decide) q2078 (fun _ h => h) rfl (tw_nrA _ _) dX4_patches_15 (fun σ H locs hw hR hS => ?_)
  refine tk_aload_n C hl 0 dX4_patches_18 rfl ?_
  refine tk_aload_n C hl 1 dX4_patches_19 rfl ?_
  refine tk_giN C hR hw rfl in_X5 (by decide) q2027 (fun _ h => h) dX4_patches_20 (fun x4 hw => ?_)
  refine tk_p (x := .inl x4) C hR hS hw (by decide) rfl in_X4 tyX4 tyX4_ok nmX4 (by decide) q2080 (fun _ h => h) rfl (tw_ni _) dX4_patches_23 (fun σ H locs hw hR hS => ?_)
  refine lv_iconst (v := 0) C.hx C.hb dX4_patches_26 (by decide) ?_
  refine tk_istore_n (L' := [(2, .inl 0), (0, .inr l0), (1, .inr l1)]) C hl dX4_patches_27 (by decide) rfl (fun ls hl => ?_)
  obtain ⟨z, hw⟩ := hw
  exact wk_X4_patches_b28 C hr hmn hnx hfr hRl z _ _ _ σ _ _ _ hw hR hS (tk_sub hl [1, 2, 0] rfl)
-- TreeDifferModel.givesTarget()Z
def w_X4_givesTarget_b42 (Q : Int32 → Tst → Prop) (X : String → Nat → Tst → Prop) (s0 : Int32) (σ : Tst) : Prop := narrow .boolean (.int s0) = .int s0 ∧ Q s0 σ
def w_X4_givesTarget_b41 (Q : Int32 → Tst → Prop) (X : String → Nat → Tst → Prop) (σ : Tst) : Prop := w_X4_givesTarget_b42 Q X 0 σ
def w_X4_givesTarget (l0 : Option Nat) (Q : Int32 → Tst → Prop) (X : String → Nat → Tst → Prop) (σ : Tst) : Prop := w_rc σ l0 cX4 <| w_X4_isNoScript l0 (fun x1 σ => w_if (x1 = 0) (w_gr σ l0 cX4 16 fun x2 => w_rc σ l0 cX4 <| w_X4_patches l0 x2 (fun x3 σ => w_if (0 ≤ x3) (w_X4_givesTarget_b41 Q X σ) (w_gr σ l0 cX4 8 fun x4 => w_gr σ l0 cX4 17 fun x5 => w_X4_areLike x4 0 x5 0 0 (fun x6 σ => w_if (x6 = 0) (w_X4_givesTarget_b41 Q X σ) (w_X4_givesTarget_b42 Q X 1 σ)) X σ)) X σ) (narrow .boolean (.int 0) = .int 0 ∧ Q 0 σ)) X σ
set_option maxHeartbeats 4000000 in
theorem wk_X4_givesTarget_b42  (C : tw_C p l R s m args meth c G cX4_givesTarget 1 yX4_givesTarget.cls) (hr : meth.sig.returnType = (some .boolean)) (hmn : meth.name = yX4_givesTarget.name) (hnx : (∀ x ∈ c.exceptionTable.toList, False)) (hfr : 70 ≤ R.frames) (hRl : R.locals = 40 * R.frames) {Q : Int32 → Tst → Prop} {X : String → Nat → Tst → Prop}  (s0 : Int32) (σ : Tst) (H : Heap) (locs : List Loc) (ls : Array Slot) (hw : w_X4_givesTarget_b42 Q X s0 σ) (hR : tw_R G σ H) (hS : va_S (tw_A G) s.heap H locs) (hl : tw_l ls 1 []) : tw_W p l e R s m args below meth c σ H locs (tw_E below G (tw_Qi G Q) X args s R) (F0 m 42 ls [.int s0]) := by
  unfold w_X4_givesTarget_b42 at hw
  obtain ⟨hok, hw⟩ := hw
  exact tw_iret C hR hS hr hok dX4_givesTarget_42 hw
set_option maxHeartbeats 4000000 in
theorem wk_X4_givesTarget_b41  (C : tw_C p l R s m args meth c G cX4_givesTarget 1 yX4_givesTarget.cls) (hr : meth.sig.returnType = (some .boolean)) (hmn : meth.name = yX4_givesTarget.name) (hnx : (∀ x ∈ c.exceptionTable.toList, False)) (hfr : 70 ≤ R.frames) (hRl : R.locals = 40 * R.frames) {Q : Int32 → Tst → Prop} {X : String → Nat → Tst → Prop}   (σ : Tst) (H : Heap) (locs : List Loc) (ls : Array Slot) (hw : w_X4_givesTarget_b41 Q X  σ) (hR : tw_R G σ H) (hS : va_S (tw_A G) s.heap H locs) (hl : tw_l ls 1 []) : tw_W p l e R s m args below meth c σ H locs (tw_E below G (tw_Qi G Q) X args s R) (F0 m 41 ls []) := by
  unfold w_X4_givesTarget_b41 at hw
  refine lv_iconst (v := 0) C.hx C.hb dX4_givesTarget_41 (by decide) ?_
  exact wk_X4_givesTarget_b42 C hr hmn hnx hfr hRl _ σ _ _ _ hw hR hS (tk_sub hl [] rfl)
set_option maxHeartbeats 4000000 in
theorem wk_X4_givesTarget (l : Launch) (hl0 : l.stackTraces = false) (G : Tgl) (fr : Nat)  (hfr : 70 ≤ fr) (l0 : Option Nat) (Q : Int32 → Tst → Prop) (X : String → Nat → Tst → Prop) (σ : Tst) (hw : w_X4_givesTarget l0 Q X σ) : tw_M l yX4_givesTarget (ws_ yX4_givesTarget cX4_givesTarget 1 (some .boolean)) fr (40 * fr) G σ [.inr l0] (tw_Qi G Q) X := by
  unfold w_X4_givesTarget at hw
  refine tw_of (ret := (some .boolean)) hl0 (by decide) (Nat.le_of_ble_eq_true rfl) (fun p e R s m args below meth c hRf hRl C hr hmn hnx hR hS ls hl => ?_)
  have hfr : 70 ≤ R.frames := by rw [hRf]; exact hfr
  have hRl : R.locals = 40 * R.frames := by rw [hRl, hRf]
  have hl : tw_l ls 1 [(0, .inr l0)] := hl
  refine tk_aload_n C hl 0 dX4_givesTarget_0 rfl ?_
  obtain ⟨hv, hw⟩ := hw
  refine tw_cbi C hS (tk_runV (As := []) C hR hS (wk_X4_isNoScript l C.hst G (R.frames - 1) (by omega) _ _ _ σ hw) hv rfl q2398 q2400 qs48 q74 q2401 pd_X4_isNoScript ⟨by omega, by omega⟩ hl.1 rfl (tw_r8 [] (Nat.le_of_ble_eq_true rfl)) dX4_givesTarget_1) (fun E q σ H locs hX hR hS hi => tw_out C hR hS (fun x hx => (hnx x hx).elim) hi hX) (fun x1 σ H locs hw hR hS => ?_)
  refine lv_if_eq (tgt := 9) C.hx C.hb dX4_givesTarget_4 (by decide) (fun c4 => ?_) (fun c4 => ?_)
  · replace hw := hw.1 c4
    refine tk_aload_n C hl 0 dX4_givesTarget_9 rfl ?_
    refine tk_aload_n C hl 0 dX4_givesTarget_10 rfl ?_
    refine tk_gr C hR hw rfl in_X4 (by decide) q2068 (fun _ h => h) dX4_givesTarget_11 (fun x2 hw => ?_)
    obtain ⟨hv, hw⟩ := hw
    refine tw_cbi C hS (tk_runV (As := [.inr x2]) C hR hS (wk_X4_patches l C.hst G (R.frames - 1) (by omega) _ _ _ _ σ hw) hv rfl q2438 q2440 qs51 q74 q2441 pd_X4_patches ⟨by omega, by omega⟩ hl.1 rfl (tw_r8 [] (Nat.le_of_ble_eq_true rfl)) dX4_givesTarget_14) (fun E q σ H locs hX hR hS hi => tw_out C hR hS (fun x hx => (hnx x hx).elim) hi hX) (fun x3 σ H locs hw hR hS => ?_)
    refine lv_if_ge (tgt := 41) C.hx C.hb dX4_givesTarget_17 (by decide) (fun c17 => ?_) (fun c17 => ?_)
    · replace hw := hw.1 c17
      exact wk_X4_givesTarget_b41 C hr hmn hnx hfr hRl σ _ _ _ hw hR hS (tk_sub hl [] rfl)
    · replace hw := hw.2 c17
      refine tk_aload_n C hl 0 dX4_givesTarget_20 rfl ?_
      refine tk_gr C hR hw rfl in_X4 (by decide) q2060 (fun _ h => h) dX4_givesTarget_21 (fun x4 hw => ?_)
      refine lv_iconst (v := 0) C.hx C.hb dX4_givesTarget_24 (by decide) ?_
      refine tk_aload_n C hl 0 dX4_givesTarget_25 rfl ?_
      refine tk_gr C hR hw rfl in_X4 (by decide) q2069 (fun _ h => h) dX4_givesTarget_26 (fun x5 hw => ?_)
      refine lv_iconst (v := 0) C.hx C.hb dX4_givesTarget_29 (by decide) ?_
      refine lv_iconst (v := 0) C.hx C.hb dX4_givesTarget_30 (by decide) ?_
      refine tw_cbi C hS (tw_runS (As := [.inr x4, .inl 0, .inr x5, .inl 0, .inl 0]) C hR hS (wk_X4_areLike l C.hst G (R.frames - 1) (by omega) _ _ _ _ _ _ _ σ hw) q2337 q2338 q74 q2339 pd_X4_areLike ⟨by omega, by omega⟩ hl.1 rfl (tw_r8 [] (Nat.le_of_ble_eq_true rfl)) dX4_givesTarget_31) (fun E q σ H locs hX hR hS hi => tw_out C hR hS (fun x hx => (hnx x hx).elim) hi hX) (fun x6 σ H locs hw hR hS => ?_)
      refine lv_if_eq (tgt := 41) C.hx C.hb dX4_givesTarget_34 (by decide) (fun c34 => ?_) (fun c34 => ?_)
      · replace hw := hw.1 c34
        exact wk_X4_givesTarget_b41 C hr hmn hnx hfr hRl σ _ _ _ hw hR hS (tk_sub hl [] rfl)
      · replace hw := hw.2 c34
        refine lv_iconst (v := 1) C.hx C.hb dX4_givesTarget_37 (by decide) ?_
        refine lv_goto (tgt := 42) C.hx C.hb dX4_givesTarget_38 (by decide) ?_
        exact wk_X4_givesTarget_b42 C hr hmn hnx hfr hRl _ σ _ _ _ hw hR hS (tk_sub hl [] rfl)
  · replace hw := hw.2 c4
    refine lv_iconst (v := 0) C.hx C.hb dX4_givesTarget_7 (by decide) ?_
    obtain ⟨hok, hw⟩ := hw
    exact tw_iret C hR hS hr hok dX4_givesTarget_8 hw
-- TreeDifferModel.patch(I)I
def w_X4_patch (l0 : Option Nat) (l1 : Int32) (Q : Int32 → Tst → Prop) (X : String → Nat → Tst → Prop) (σ : Tst) : Prop := w_p σ l0 cX4 1 (.inl 0) fun σ => w_X4_isTree l1 (fun x1 σ => w_if (x1 = 0) (w_rc σ l0 cX4 <| w_X4_fails l0 1 (fun x15 σ => Q x15 σ) X σ) (w_gi σ l0 cX4 23 fun x2 => w_if (x2 = 0) (w_rc σ l0 cX4 <| w_X4_fails l0 2 (fun x14 σ => Q x14 σ) X σ) (w_gr σ l0 cX4 0 fun x3 => w_lr σ x3 l1 fun x4 => w_rc σ l0 cX4 <| w_X4_patches l0 x4 (fun x5 σ => w_if (x5 < 0) (w_gr σ l0 cX4 0 fun x6 => w_lr σ x6 l1 fun x7 => w_gr σ l0 cX4 8 fun x8 => w_rc σ x7 cX5 <| w_X5_copies x7 x8 (fun σ => w_gr σ l0 cX4 8 fun x10 => w_gi σ x10 cX5 4 fun x11 => Q x11 σ) X σ) (w_p σ l0 cX4 27 (.inl x5) fun σ => w_gi σ l0 cX4 30 fun x12 => w_ok .char x12 ∧ w_p σ l0 cX4 29 (.inl x12) fun σ => w_rc σ l0 cX4 <| w_X4_fails l0 3 (fun x13 σ => Q x13 σ) X σ)) X σ))) X σ
set_option maxHeartbeats 4000000 in
theorem wk_X4_patch (l : Launch) (hl0 : l.stackTraces = false) (G : Tgl) (fr : Nat)  (hfr : 70 ≤ fr) (l0 : Option Nat) (l1 : Int32) (Q : Int32 → Tst → Prop) (X : String → Nat → Tst → Prop) (σ : Tst) (hw : w_X4_patch l0 l1 Q X σ) : tw_M l yX4_patch (ws_ yX4_patch cX4_patch 3 (some .int)) fr (40 * fr) G σ [.inr l0, .inl l1] (tw_Qi G Q) X := by
  unfold w_X4_patch at hw
  refine tw_of (ret := (some .int)) hl0 (by decide) (Nat.le_of_ble_eq_true rfl) (fun p e R s m args below meth c hRf hRl C hr hmn hnx hR hS ls hl => ?_)
  have hfr : 70 ≤ R.frames := by rw [hRf]; exact hfr
  have hRl : R.locals = 40 * R.frames := by rw [hRl, hRf]
  have hl : tw_l ls 3 [(0, .inr l0), (1, .inl l1)] := hl
  refine tk_aload_n C hl 0 dX4_patch_0 rfl ?_
  refine lv_iconst (v := 0) C.hx C.hb dX4_patch_1 (by decide) ?_
  refine tk_p (x := .inl 0) C hR hS hw (by decide) rfl in_X4 tyX4 tyX4_ok nmX4 (by decide) q2053 (fun _ h => h) rfl (tw_ni _) dX4_patch_2 (fun σ H locs hw hR hS => ?_)
  refine tk_iload_n C hl 1 dX4_patch_5 rfl ?_
  refine tw_cbi C hS (tw_runS (As := [.inl l1]) C hR hS (wk_X4_isTree l C.hst G (R.frames - 1) (by omega) _ _ _ σ hw) q2163 q2164 q74 q2165 pd_X4_isTree ⟨by omega, by omega⟩ hl.1 rfl (tw_r8 [] (Nat.le_of_ble_eq_true rfl)) dX4_patch_6) (fun E q σ H locs hX hR hS hi => tw_out C hR hS (fun x hx => (hnx x hx).elim) hi hX) (fun x1 σ H locs hw hR hS => ?_)
  refine lv_if_ne (tgt := 18) C.hx C.hb dX4_patch_9 (by decide) (fun c9 => ?_) (fun c9 => ?_)
  · replace hw := hw.2 c9
    refine tk_aload_n C hl 0 dX4_patch_18 rfl ?_
    refine tk_gi C hR hw rfl in_X4 (by decide) q2075 (fun _ h => h) dX4_patch_19 (fun x2 hw => ?_)
    refine lv_if_ne (tgt := 31) C.hx C.hb dX4_patch_22 (by decide) (fun c22 => ?_) (fun c22 => ?_)
    · replace hw := hw.2 c22
      refine tk_aload_n C hl 0 dX4_patch_31 rfl ?_
      refine tk_aload_n C hl 0 dX4_patch_32 rfl ?_
      refine tk_gr C hR hw rfl in_X4 (by decide) q2052 (fun _ h => h) dX4_patch_33 (fun x3 hw => ?_)
      refine tk_iload_n C hl 1 dX4_patch_36 rfl ?_
      refine tk_lr C hR hw dX4_patch_37 (fun x4 hw => ?_)
      obtain ⟨hv, hw⟩ := hw
      refine tw_cbi C hS (tk_runV (As := [.inr x4]) C hR hS (wk_X4_patches l C.hst G (R.frames - 1) (by omega) _ _ _ _ σ hw) hv rfl q2438 q2440 qs51 q74 q2441 pd_X4_patches ⟨by omega, by omega⟩ hl.1 rfl (tw_r8 [] (Nat.le_of_ble_eq_true rfl)) dX4_patch_38) (fun E q σ H locs hX hR hS hi => tw_out C hR hS (fun x hx => (hnx x hx).elim) hi hX) (fun x5 σ H locs hw hR hS => ?_)
      refine tk_istore_n (L' := [(2, .inl x5), (0, .inr l0), (1, .inl l1)]) C hl dX4_patch_41 (by decide) rfl (fun ls hl => ?_)
      refine tk_iload_n C hl 0 dX4_patch_42 rfl ?_
      refine lv_if_lt (tgt := 65) C.hx C.hb dX4_patch_43 (by decide) (fun c43 => ?_) (fun c43 => ?_)
      · replace hw := hw.1 c43
        refine tk_aload_n C hl 1 dX4_patch_65 rfl ?_
        refine tk_gr C hR hw rfl in_X4 (by decide) q2052 (fun _ h => h) dX4_patch_66 (fun x6 hw => ?_)
        refine tk_iload_n C hl 2 dX4_patch_69 rfl ?_
        refine tk_lr C hR hw dX4_patch_70 (fun x7 hw => ?_)
        refine tk_aload_n C hl 1 dX4_patch_71 rfl ?_
        refine tk_gr C hR hw rfl in_X4 (by decide) q2060 (fun _ h => h) dX4_patch_72 (fun x8 hw => ?_)
        obtain ⟨hv, hw⟩ := hw
        refine tw_cbv C hS (tk_runVN (As := [.inr x8]) C hR hS (wk_X5_copies l C.hst G (R.frames - 1) (by omega) _ _ _ _ σ hw) hv rfl q2193 q2195 qs31 q75 q2196 pd_X5_copies ⟨by omega, by omega⟩ hl.1 rfl (tw_r8 [] (Nat.le_of_ble_eq_true rfl)) dX4_patch_75) (fun E q σ H locs hX hR hS hi => tw_out C hR hS (fun x hx => (hnx x hx).elim) hi hX) (fun σ H locs hw hR hS => ?_)
        refine tk_aload_n C hl 1 dX4_patch_78 rfl ?_
        refine tk_gr C hR hw rfl in_X4 (by decide) q2060 (fun _ h => h) dX4_patch_79 (fun x10 hw => ?_)
        refine tk_giN C hR hw rfl in_X5 (by decide) q2027 (fun _ h => h) dX4_patch_82 (fun x11 hw => ?_)
        exact tw_iret C hR hS hr rfl dX4_patch_85 hw
      · replace hw := hw.2 c43
        refine tk_aload_n C hl 1 dX4_patch_46 rfl ?_
        refine tk_iload_n C hl 0 dX4_patch_47 rfl ?_
        refine tk_p (x := .inl x5) C hR hS hw (by decide) rfl in_X4 tyX4 tyX4_ok nmX4 (by decide) q2079 (fun _ h => h) rfl (tw_ni _) dX4_patch_48 (fun σ H locs hw hR hS => ?_)
        refine tk_aload_n C hl 1 dX4_patch_51 rfl ?_
        refine tk_aload_n C hl 1 dX4_patch_52 rfl ?_
        refine tk_gi C hR hw rfl in_X4 (by decide) q2082 (fun _ h => h) dX4_patch_53 (fun x12 hw => ?_)
        obtain ⟨hok, hw⟩ := hw
        refine tk_p (x := .inl x12) C hR hS hw (by decide) rfl in_X4 tyX4 tyX4_ok nmX4 (by decide) q2081 (fun _ h => h) rfl hok dX4_patch_56 (fun σ H locs hw hR hS => ?_)
        refine tk_aload_n C hl 1 dX4_patch_59 rfl ?_
        refine lv_iconst (v := 3) C.hx C.hb dX4_patch_60 (by decide) ?_
        obtain ⟨hv, hw⟩ := hw
        refine tw_cbi C hS (tk_runV (As := [.inl 3]) C hR hS (wk_X4_fails l C.hst G (R.frames - 1) (by omega) _ _ _ _ σ hw) hv rfl q2155 q2157 qs24 q74 q2158 pd_X4_fails ⟨by omega, by omega⟩ hl.1 rfl (tw_r8 [] (Nat.le_of_ble_eq_true rfl)) dX4_patch_61) (fun E q σ H locs hX hR hS hi => tw_out C hR hS (fun x hx => (hnx x hx).elim) hi hX) (fun x13 σ H locs hw hR hS => ?_)
        exact tw_iret C hR hS hr rfl dX4_patch_64 hw
    · replace hw := hw.1 c22
      refine tk_aload_n C hl 0 dX4_patch_25 rfl ?_
      refine lv_iconst (v := 2) C.hx C.hb dX4_patch_26 (by decide) ?_
      obtain ⟨hv, hw⟩ := hw
      refine tw_cbi C hS (tk_runV (As := [.inl 2]) C hR hS (wk_X4_fails l C.hst G (R.frames - 1) (by omega) _ _ _ _ σ hw) hv rfl q2155 q2157 qs24 q74 q2158 pd_X4_fails ⟨by omega, by omega⟩ hl.1 rfl (tw_r8 [] (Nat.le_of_ble_eq_true rfl)) dX4_patch_27) (fun E q σ H locs hX hR hS hi => tw_out C hR hS (fun x hx => (hnx x hx).elim) hi hX) (fun x14 σ H locs hw hR hS => ?_)
      exact tw_iret C hR hS hr rfl dX4_patch_30 hw
  · replace hw := hw.1 c9
    refine tk_aload_n C hl 0 dX4_patch_12 rfl ?_
    refine lv_iconst (v := 1) C.hx C.hb dX4_patch_13 (by decide) ?_
    obtain ⟨hv, hw⟩ := hw
    refine tw_cbi C hS (tk_runV (As := [.inl 1]) C hR hS (wk_X4_fails l C.hst G (R.frames - 1) (by omega) _ _ _ _ σ hw) hv rfl q2155 q2157 qs24 q74 q2158 pd_X4_fails ⟨by omega, by omega⟩ hl.1 rfl (tw_r8 [] (Nat.le_of_ble_eq_true rfl)) dX4_patch_14) (fun E q σ H locs hX hR hS hi => tw_out C hR hS (fun x hx => (hnx x hx).elim) hi hX) (fun x15 σ H locs hw hR hS => ?_)
    exact tw_iret C hR hS hr rfl dX4_patch_17 hw
-- TreeDifferModel.conflictOperation()I
def w_X4_conflictOperation_b24 (Q : Int32 → Tst → Prop) (X : String → Nat → Tst → Prop) (s0 : Int32) (σ : Tst) : Prop := Q s0 σ
def w_X4_conflictOperation (l0 : Option Nat) (Q : Int32 → Tst → Prop) (X : String → Nat → Tst → Prop) (σ : Tst) : Prop := w_p σ l0 cX4 1 (.inl 0) fun σ => w_gi σ l0 cX4 27 fun x1 => w_if (0 ≤ x1) (w_gi σ l0 cX4 27 fun x2 => w_X4_conflictOperation_b24 Q X x2 σ) (w_rc σ l0 cX4 <| w_X4_fails l0 1 (fun x3 σ => w_X4_conflictOperation_b24 Q X x3 σ) X σ)
set_option maxHeartbeats 4000000 in
theorem wk_X4_conflictOperation_b24  (C : tw_C p l R s m args meth c G cX4_conflictOperation 1 yX4_conflictOperation.cls) (hr : meth.sig.returnType = (some .int)) (hmn : meth.name = yX4_conflictOperation.name) (hnx : (∀ x ∈ c.exceptionTable.toList, False)) (hfr : 2 ≤ R.frames) (hRl : R.locals = 40 * R.frames) {Q : Int32 → Tst → Prop} {X : String → Nat → Tst → Prop}  (s0 : Int32) (σ : Tst) (H : Heap) (locs : List Loc) (ls : Array Slot) (hw : w_X4_conflictOperation_b24 Q X s0 σ) (hR : tw_R G σ H) (hS : va_S (tw_A G) s.heap H locs) (hl : tw_l ls 1 []) : tw_W p l e R s m args below meth c σ H locs (tw_E below G (tw_Qi G Q) X args s R) (F0 m 24 ls [.int s0]) := by
  unfold w_X4_conflictOperation_b24 at hw
  exact tw_iret C hR hS hr rfl dX4_conflictOperation_24 hw
set_option maxHeartbeats 4000000 in
theorem wk_X4_conflictOperation (l : Launch) (hl0 : l.stackTraces = false) (G : Tgl) (fr : Nat)  (hfr : 2 ≤ fr) (l0 : Option Nat) (Q : Int32 → Tst → Prop) (X : String → Nat → Tst → Prop) (σ : Tst) (hw : w_X4_conflictOperation l0 Q X σ) : tw_M l yX4_conflictOperation (ws_ yX4_conflictOperation cX4_conflictOperation 1 (some .int)) fr (40 * fr) G σ [.inr l0] (tw_Qi G Q) X := by
  unfold w_X4_conflictOperation at hw
  refine tw_of (ret := (some .int)) hl0 (by decide) (Nat.le_of_ble_eq_true rfl) (fun p e R s m args below meth c hRf hRl C hr hmn hnx hR hS ls hl => ?_)
  have hfr : 2 ≤ R.frames := by rw [hRf]; exact hfr
  have hRl : R.locals = 40 * R.frames := by rw [hRl, hRf]
  have hl : tw_l ls 1 [(0, .inr l0)] := hl
  refine tk_aload_n C hl 0 dX4_conflictOperation_0 rfl ?_
  refine lv_iconst (v := 0) C.hx C.hb dX4_conflictOperation_1 (by decide) ?_
  refine tk_p (x := .inl 0) C hR hS hw (by decide) rfl in_X4 tyX4 tyX4_ok nmX4 (by decide) q2053 (fun _ h => h) rfl (tw_ni _) dX4_conflictOperation_2 (fun σ H locs hw hR hS => ?_)
  refine tk_aload_n C hl 0 dX4_conflictOperation_5 rfl ?_
  refine tk_gi C hR hw rfl in_X4 (by decide) q2079 (fun _ h => h) dX4_conflictOperation_6 (fun x1 hw => ?_)
  refine lv_if_ge (tgt := 20) C.hx C.hb dX4_conflictOperation_9 (by decide) (fun c9 => ?_) (fun c9 => ?_)
  · replace hw := hw.1 c9
    refine tk_aload_n C hl 0 dX4_conflictOperation_20 rfl ?_
    refine tk_gi C hR hw rfl in_X4 (by decide) q2079 (fun _ h => h) dX4_conflictOperation_21 (fun x2 hw => ?_)
    exact wk_X4_conflictOperation_b24 C hr hmn hnx hfr hRl _ σ _ _ _ hw hR hS (tk_sub hl [] rfl)
  · replace hw := hw.2 c9
    refine tk_aload_n C hl 0 dX4_conflictOperation_12 rfl ?_
    refine lv_iconst (v := 1) C.hx C.hb dX4_conflictOperation_13 (by decide) ?_
    obtain ⟨hv, hw⟩ := hw
    refine tw_cbi C hS (tk_runV (As := [.inl 1]) C hR hS (wk_X4_fails l C.hst G (R.frames - 1) (by omega) _ _ _ _ σ hw) hv rfl q2155 q2157 qs24 q74 q2158 pd_X4_fails ⟨by omega, by omega⟩ hl.1 rfl (tw_r8 [] (Nat.le_of_ble_eq_true rfl)) dX4_conflictOperation_14) (fun E q σ H locs hX hR hS hi => tw_out C hR hS (fun x hx => (hnx x hx).elim) hi hX) (fun x3 σ H locs hw hR hS => ?_)
    refine lv_goto (tgt := 24) C.hx C.hb dX4_conflictOperation_17 (by decide) ?_
    exact wk_X4_conflictOperation_b24 C hr hmn hnx hfr hRl _ σ _ _ _ hw hR hS (tk_sub hl [] rfl)
-- TreeDifferModel.conflictReason()C
def w_X4_conflictReason_b25 (Q : Int32 → Tst → Prop) (X : String → Nat → Tst → Prop) (s0 : Int32) (σ : Tst) : Prop := narrow .char (.int s0) = .int s0 ∧ Q s0 σ
def w_X4_conflictReason (l0 : Option Nat) (Q : Int32 → Tst → Prop) (X : String → Nat → Tst → Prop) (σ : Tst) : Prop := w_p σ l0 cX4 1 (.inl 0) fun σ => w_gi σ l0 cX4 27 fun x1 => w_if (0 ≤ x1) (w_gi σ l0 cX4 29 fun x2 => w_X4_conflictReason_b25 Q X x2 σ) (w_rc σ l0 cX4 <| w_X4_fails l0 1 (fun x3 σ => w_X4_conflictReason_b25 Q X ((x3.toUInt32 % 65536).toInt32) σ) X σ)
set_option maxHeartbeats 4000000 in
theorem wk_X4_conflictReason_b25  (C : tw_C p l R s m args meth c G cX4_conflictReason 1 yX4_conflictReason.cls) (hr : meth.sig.returnType = (some .char)) (hmn : meth.name = yX4_conflictReason.name) (hnx : (∀ x ∈ c.exceptionTable.toList, False)) (hfr : 2 ≤ R.frames) (hRl : R.locals = 40 * R.frames) {Q : Int32 → Tst → Prop} {X : String → Nat → Tst → Prop}  (s0 : Int32) (σ : Tst) (H : Heap) (locs : List Loc) (ls : Array Slot) (hw : w_X4_conflictReason_b25 Q X s0 σ) (hR : tw_R G σ H) (hS : va_S (tw_A G) s.heap H locs) (hl : tw_l ls 1 []) : tw_W p l e R s m args below meth c σ H locs (tw_E below G (tw_Qi G Q) X args s R) (F0 m 25 ls [.int s0]) := by
  unfold w_X4_conflictReason_b25 at hw
  obtain ⟨hok, hw⟩ := hw
  exact tw_iret C hR hS hr hok dX4_conflictReason_25 hw
set_option maxHeartbeats 4000000 in
theorem wk_X4_conflictReason (l : Launch) (hl0 : l.stackTraces = false) (G : Tgl) (fr : Nat)  (hfr : 2 ≤ fr) (l0 : Option Nat) (Q : Int32 → Tst → Prop) (X : String → Nat → Tst → Prop) (σ : Tst) (hw : w_X4_conflictReason l0 Q X σ) : tw_M l yX4_conflictReason (ws_ yX4_conflictReason cX4_conflictReason 1 (some .char)) fr (40 * fr) G σ [.inr l0] (tw_Qi G Q) X := by
  unfold w_X4_conflictReason at hw
  refine tw_of (ret := (some .char)) hl0 (by decide) (Nat.le_of_ble_eq_true rfl) (fun p e R s m args below meth c hRf hRl C hr hmn hnx hR hS ls hl => ?_)
  have hfr : 2 ≤ R.frames := by rw [hRf]; exact hfr
  have hRl : R.locals = 40 * R.frames := by rw [hRl, hRf]
  have hl : tw_l ls 1 [(0, .inr l0)] := hl
  refine tk_aload_n C hl 0 dX4_conflictReason_0 rfl ?_
  refine lv_iconst (v := 0) C.hx C.hb dX4_conflictReason_1 (by decide) ?_
  refine tk_p (x := .inl 0) C hR hS hw (by decide) rfl in_X4 tyX4 tyX4_ok nmX4 (by decide) q2053 (fun _ h => h) rfl (tw_ni _) dX4_conflictReason_2 (fun σ H locs hw hR hS => ?_)
  refine tk_aload_n C hl 0 dX4_conflictReason_5 rfl ?_
  refine tk_gi C hR hw rfl in_X4 (by decide) q2079 (fun _ h => h) dX4_conflictReason_6 (fun x1 hw => ?_)
  refine lv_if_ge (tgt := 21) C.hx C.hb dX4_conflictReason_9 (by decide) (fun c9 => ?_) (fun c9 => ?_)
  · replace hw := hw.1 c9
    refine tk_aload_n C hl 0 dX4_conflictReason_21 rfl ?_
    refine tk_gi C hR hw rfl in_X4 (by decide) q2081 (fun _ h => h) dX4_conflictReason_22 (fun x2 hw => ?_)
    exact wk_X4_conflictReason_b25 C hr hmn hnx hfr hRl _ σ _ _ _ hw hR hS (tk_sub hl [] rfl)
  · replace hw := hw.2 c9
    refine tk_aload_n C hl 0 dX4_conflictReason_12 rfl ?_
    refine lv_iconst (v := 1) C.hx C.hb dX4_conflictReason_13 (by decide) ?_
    obtain ⟨hv, hw⟩ := hw
    refine tw_cbi C hS (tk_runV (As := [.inl 1]) C hR hS (wk_X4_fails l C.hst G (R.frames - 1) (by omega) _ _ _ _ σ hw) hv rfl q2155 q2157 qs24 q74 q2158 pd_X4_fails ⟨by omega, by omega⟩ hl.1 rfl (tw_r8 [] (Nat.le_of_ble_eq_true rfl)) dX4_conflictReason_14) (fun E q σ H locs hX hR hS hi => tw_out C hR hS (fun x hx => (hnx x hx).elim) hi hX) (fun x3 σ H locs hw hR hS => ?_)
    refine lv_i2c (v := (x3.toUInt32 % 65536).toInt32) C.hx C.hb dX4_conflictReason_17 rfl ?_
    refine lv_goto (tgt := 25) C.hx C.hb dX4_conflictReason_18 (by decide) ?_
    exact wk_X4_conflictReason_b25 C hr hmn hnx hfr hRl _ σ _ _ _ hw hR hS (tk_sub hl [] rfl)
-- TreeDifferModel.isConsistent()Z
def w_X4_isConsistent (l0 : Option Nat) (Q : Int32 → Tst → Prop) (X : String → Nat → Tst → Prop) (σ : Tst) : Prop := w_p σ l0 cX4 1 (.inl 0) fun σ => narrow .boolean (.int 1) = .int 1 ∧ Q 1 σ
set_option maxHeartbeats 4000000 in
theorem wk_X4_isConsistent (l : Launch) (hl0 : l.stackTraces = false) (G : Tgl) (fr : Nat)  (hfr : 1 ≤ fr) (l0 : Option Nat) (Q : Int32 → Tst → Prop) (X : String → Nat → Tst → Prop) (σ : Tst) (hw : w_X4_isConsistent l0 Q X σ) : tw_M l yX4_isConsistent (ws_ yX4_isConsistent cX4_isConsistent 1 (some .boolean)) fr (40 * fr) G σ [.inr l0] (tw_Qi G Q) X := by
  unfold w_X4_isConsistent at hw
  refine tw_of (ret := (some .boolean)) hl0 (by decide) (Nat.le_of_ble_eq_true rfl) (fun p e R s m args below meth c hRf hRl C hr hmn hnx hR hS ls hl => ?_)
  have hfr : 1 ≤ R.frames := by rw [hRf]; exact hfr
  have hRl : R.locals = 40 * R.frames := by rw [hRl, hRf]
  have hl : tw_l ls 1 [(0, .inr l0)] := hl
  refine tk_aload_n C hl 0 dX4_isConsistent_0 rfl ?_
  refine lv_iconst (v := 0) C.hx C.hb dX4_isConsistent_1 (by decide) ?_
  refine tk_p (x := .inl 0) C hR hS hw (by decide) rfl in_X4 tyX4 tyX4_ok nmX4 (by decide) q2053 (fun _ h => h) rfl (tw_ni _) dX4_isConsistent_2 (fun σ H locs hw hR hS => ?_)
  refine lv_iconst (v := 1) C.hx C.hb dX4_isConsistent_5 (by decide) ?_
  obtain ⟨hok, hw⟩ := hw
  exact tw_iret C hR hS hr hok dX4_isConsistent_6 hw
-- java/lang/Exception.<init>()V
def w_J8_init (l0 : Option Nat) (Q : Tst → Prop) (X : String → Nat → Tst → Prop) (σ : Tst) : Prop := w_ti σ l0 fun σ => Q σ
set_option maxHeartbeats 4000000 in
theorem wk_J8_init (l : Launch) (hl0 : l.stackTraces = false) (G : Tgl) (fr : Nat)  (hfr : 3 ≤ fr) (l0 : Option Nat) (Q : Tst → Prop) (X : String → Nat → Tst → Prop) (σ : Tst) (hw : w_J8_init l0 Q X σ) : tw_M l yJ8_init (ws_ yJ8_init cJ8_init 1 none) fr (40 * fr) G σ [.inr l0] (tw_Qv G Q) X := by
  unfold w_J8_init at hw
  refine tw_of (ret := none) hl0 (by decide) (Nat.le_of_ble_eq_true rfl) (fun p e R s m args below meth c hRf hRl C hr hmn hnx hR hS ls hl => ?_)
  have hfr : 3 ≤ R.frames := by rw [hRf]; exact hfr
  have hRl : R.locals = 40 * R.frames := by rw [hRl, hRf]
  have hl : tw_l ls 1 [(0, .inr l0)] := hl
  refine tk_aload_n C hl 0 dJ8_init_0 rfl ?_
  refine tk_ti C hR hS hw q412 hl.1 (by omega) hRl (tw_r8 [] (Nat.le_of_ble_eq_true rfl)) dJ8_init_1 (fun σ H locs hw hR hS => ?_)
  exact tw_vret C hR hS hr dJ8_init_4 hw
-- java/lang/RuntimeException.<init>()V
def w_J9_init (l0 : Option Nat) (Q : Tst → Prop) (X : String → Nat → Tst → Prop) (σ : Tst) : Prop := w_rf l0 <| w_J8_init l0 (fun σ => Q σ) X σ
set_option maxHeartbeats 4000000 in
theorem wk_J9_init (l : Launch) (hl0 : l.stackTraces = false) (G : Tgl) (fr : Nat)  (hfr : 4 ≤ fr) (l0 : Option Nat) (Q : Tst → Prop) (X : String → Nat → Tst → Prop) (σ : Tst) (hw : w_J9_init l0 Q X σ) : tw_M l yJ9_init (ws_ yJ9_init cJ9_init 1 none) fr (40 * fr) G σ [.inr l0] (tw_Qv G Q) X := by
  unfold w_J9_init at hw
  refine tw_of (ret := none) hl0 (by decide) (Nat.le_of_ble_eq_true rfl) (fun p e R s m args below meth c hRf hRl C hr hmn hnx hR hS ls hl => ?_)
  have hfr : 4 ≤ R.frames := by rw [hRf]; exact hfr
  have hRl : R.locals = 40 * R.frames := by rw [hRl, hRf]
  have hl : tw_l ls 1 [(0, .inr l0)] := hl
  refine tk_aload_n C hl 0 dJ9_init_0 rfl ?_
  obtain ⟨hv, hw⟩ := hw
  refine tw_cbv C hS (tk_runI (As := []) hv C hR hS (wk_J8_init l C.hst G (R.frames - 1) (by omega) _ _ _ σ hw) q409 q410 q77 q411 rfl pd_J8_init ⟨by omega, by omega⟩ hl.1 rfl (tw_r8 [] (Nat.le_of_ble_eq_true rfl)) dJ9_init_1) (fun E q σ H locs hX hR hS hi => tw_out C hR hS (fun x hx => (hnx x hx).elim) hi hX) (fun σ H locs hw hR hS => ?_)
  exact tw_vret C hR hS hr dJ9_init_4 hw
-- java/lang/IllegalStateException.<init>()V
def w_J10_init_3 (l0 : Option Nat) (Q : Tst → Prop) (X : String → Nat → Tst → Prop) (σ : Tst) : Prop := w_rf l0 <| w_J9_init l0 (fun σ => Q σ) X σ
set_option maxHeartbeats 4000000 in
theorem wk_J10_init_3 (l : Launch) (hl0 : l.stackTraces = false) (G : Tgl) (fr : Nat)  (hfr : 5 ≤ fr) (l0 : Option Nat) (Q : Tst → Prop) (X : String → Nat → Tst → Prop) (σ : Tst) (hw : w_J10_init_3 l0 Q X σ) : tw_M l yJ10_init_3 (ws_ yJ10_init_3 cJ10_init_3 1 none) fr (40 * fr) G σ [.inr l0] (tw_Qv G Q) X := by
  unfold w_J10_init_3 at hw
  refine tw_of (ret := none) hl0 (by decide) (Nat.le_of_ble_eq_true rfl) (fun p e R s m args below meth c hRf hRl C hr hmn hnx hR hS ls hl => ?_)
  have hfr : 5 ≤ R.frames := by rw [hRf]; exact hfr
  have hRl : R.locals = 40 * R.frames := by rw [hRl, hRf]
  have hl : tw_l ls 1 [(0, .inr l0)] := hl
  refine tk_aload_n C hl 0 dJ10_init_3_0 rfl ?_
  obtain ⟨hv, hw⟩ := hw
  refine tw_cbv C hS (tk_runI (As := []) hv C hR hS (wk_J9_init l C.hst G (R.frames - 1) (by omega) _ _ _ σ hw) q1370 q407 q78 q408 rfl pd_J9_init ⟨by omega, by omega⟩ hl.1 rfl (tw_r8 [] (Nat.le_of_ble_eq_true rfl)) dJ10_init_3_1) (fun E q σ H locs hX hR hS hi => tw_out C hR hS (fun x hx => (hnx x hx).elim) hi hX) (fun σ H locs hw hR hS => ?_)
  exact tw_vret C hR hS hr dJ10_init_3_4 hw
-- TreeDiffer.requireState(Z)V
def w_X1_requireState (l0 : Int32) (Q : Tst → Prop) (X : String → Nat → Tst → Prop) (σ : Tst) : Prop := w_if (l0 = 0) (w_nw σ cJ10 6 [.inr none, .inr none, .inr none, .inr none, .inr none, .inl 0] fun q1 σ => w_rf q1 <| w_J10_init_3 q1 (fun σ => w_th σ q1 X) X σ) (Q σ)
set_option maxHeartbeats 4000000 in
theorem wk_X1_requireState (l : Launch) (hl0 : l.stackTraces = false) (G : Tgl) (fr : Nat)  (hfr : 6 ≤ fr) (l0 : Int32) (Q : Tst → Prop) (X : String → Nat → Tst → Prop) (σ : Tst) (hw : w_X1_requireState l0 Q X σ) : tw_M l yX1_requireState (ws_ yX1_requireState cX1_requireState 1 none) fr (40 * fr) G σ [.inl l0] (tw_Qv G Q) X := by
  unfold w_X1_requireState at hw
  refine tw_of (ret := none) hl0 (by decide) (Nat.le_of_ble_eq_true rfl) (fun p e R s m args below meth c hRf hRl C hr hmn hnx hR hS ls hl => ?_)
  have hfr : 6 ≤ R.frames := by rw [hRf]; exact hfr
  have hRl : R.locals = 40 * R.frames := by rw [hRl, hRf]
  have hl : tw_l ls 1 [(0, .inl l0)] := hl
  refine tk_iload_n C hl 0 dX1_requireState_0 rfl ?_
  refine lv_if_ne (tgt := 12) C.hx C.hb dX1_requireState_1 (by decide) (fun c1 => ?_) (fun c1 => ?_)
  · replace hw := hw.2 c1
    exact tw_vret C hR hS hr dX1_requireState_12 hw
  · replace hw := hw.1 c1
    refine tk_nw C hR hS hw rfl in_J10 tyJ10 tyJ10_ok q1366 q489 q79 (fun j hj => by rcases (show j = 0 ∨ j = 1 ∨ j = 2 ∨ j = 3 ∨ j = 4 ∨ j = 5 by omega) with rfl | rfl | rfl | rfl | rfl | rfl <;> rfl) dX1_requireState_4 (fun q1 σ H hw hR hS => ?_)
    refine tw_dup (x := .inr q1) C.hx C.hb dX1_requireState_7 ?_
    obtain ⟨hv, hw⟩ := hw
    refine tw_cbv C hS (tk_runI (As := []) hv C hR hS (wk_J10_init_3 l C.hst G (R.frames - 1) (by omega) _ _ _ σ hw) q1367 q1368 q79 q1369 rfl pd_J10_init_3 ⟨by omega, by omega⟩ hl.1 rfl (tw_r8 [.inr q1] (Nat.le_of_ble_eq_true rfl)) dX1_requireState_8) (fun E q σ H locs hX hR hS hi => tw_out C hR hS (fun x hx => (hnx x hx).elim) hi hX) (fun σ H locs hw hR hS => ?_)
    exact tk_th C hR hS hw (fun x hx => (hnx x hx).elim) dX1_requireState_11
-- TreeDiffer.type(C)I
def w_X1_type_b17 (Q : Int32 → Tst → Prop) (X : String → Nat → Tst → Prop) (l0 : Option Nat) (l1 : Int32) (s0 : Int32) (σ : Tst) : Prop := w_X1_requireState s0 (fun σ => w_gr σ l0 cX1 1 fun x2 => w_rc σ x2 cJ1 <| w_J1_append_3 x2 l1 (fun x3 σ => w_gr σ l0 cX1 1 fun x4 => w_rc σ x4 cJ1 <| w_J1_length x4 (fun x5 σ => Q x5 σ) X σ) X σ) X σ
def w_X1_type (l0 : Option Nat) (l1 : Int32) (Q : Int32 → Tst → Prop) (X : String → Nat → Tst → Prop) (σ : Tst) : Prop := w_gr σ l0 cX1 1 fun x1 => w_rc σ x1 cJ1 <| w_J1_length x1 (fun x2 σ => w_if (80 ≤ x2) (w_X1_type_b17 Q X l0 l1 0 σ) (w_X1_type_b17 Q X l0 l1 1 σ)) X σ
set_option maxHeartbeats 4000000 in
theorem wk_X1_type_b17  (C : tw_C p l R s m args meth c G cX1_type 2 yX1_type.cls) (hr : meth.sig.returnType = (some .int)) (hmn : meth.name = yX1_type.name) (hnx : (∀ x ∈ c.exceptionTable.toList, False)) (hfr : 9 ≤ R.frames) (hRl : R.locals = 40 * R.frames) {Q : Int32 → Tst → Prop} {X : String → Nat → Tst → Prop}  (l0 : Option Nat) (l1 : Int32) (s0 : Int32) (σ : Tst) (H : Heap) (locs : List Loc) (ls : Array Slot) (hw : w_X1_type_b17 Q X l0 l1 s0 σ) (hR : tw_R G σ H) (hS : va_S (tw_A G) s.heap H locs) (hl : tw_l ls 2 [(0, .inr l0), (1, .inl l1)]) : tw_W p l e R s m args below meth c σ H locs (tw_E below G (tw_Qi G Q) X args s R) (F0 m 17 ls [.int s0]) := by
  unfold w_X1_type_b17 at hw
  refine tw_cbv C hS (tw_runS (As := [.inl s0]) C hR hS (wk_X1_requireState l C.hst G (R.frames - 1) (by omega) _ _ _ σ hw) q1363 q1364 q64 q1365 pd_X1_requireState ⟨by omega, by omega⟩ hl.1 rfl (tw_r8 [] (Nat.le_of_ble_eq_true rfl)) dX1_type_17) (fun E q σ H locs hX hR hS hi => tw_out C hR hS (fun x hx => (hnx x hx).elim) hi hX) (fun σ H locs hw hR hS => ?_)
  refine tk_aload_n C hl 0 dX1_type_20 rfl ?_
  refine tk_gr C hR hw rfl in_X1 (by decide) q247 (fun _ h => h) dX1_type_21 (fun x2 hw => ?_)
  refine tk_iload_n C hl 1 dX1_type_24 rfl ?_
  obtain ⟨hv, hw⟩ := hw
  refine tw_cbq C hS (tk_runV (As := [.inl l1]) C hR hS (wk_J1_append_3 l C.hst G (R.frames - 1) (by omega) _ _ _ _ σ hw) hv rfl q1371 q1372 q1373 q66 q1374 pd_J1_append_3 ⟨by omega, by omega⟩ hl.1 rfl (tw_r8 [] (Nat.le_of_ble_eq_true rfl)) dX1_type_25) (fun E q σ H locs hX hR hS hi => tw_out C hR hS (fun x hx => (hnx x hx).elim) hi hX) (fun x3 σ H locs hw hR hS => ?_)
  refine tw_pop (x := .inr x3) C.hx C.hb dX1_type_28 ?_
  refine tk_aload_n C hl 0 dX1_type_29 rfl ?_
  refine tk_gr C hR hw rfl in_X1 (by decide) q247 (fun _ h => h) dX1_type_30 (fun x4 hw => ?_)
  obtain ⟨hv, hw⟩ := hw
  refine tw_cbi C hS (tk_runV (As := []) C hR hS (wk_J1_length l C.hst G (R.frames - 1) (by omega) _ _ _ σ hw) hv rfl q1362 q863 q2546 q66 q864 pd_J1_length ⟨by omega, by omega⟩ hl.1 rfl (tw_r8 [] (Nat.le_of_ble_eq_true rfl)) dX1_type_33) (fun E q σ H locs hX hR hS hi => tw_out C hR hS (fun x hx => (hnx x hx).elim) hi hX) (fun x5 σ H locs hw hR hS => ?_)
  exact tw_iret C hR hS hr rfl dX1_type_36 hw
set_option maxHeartbeats 4000000 in
theorem wk_X1_type (l : Launch) (hl0 : l.stackTraces = false) (G : Tgl) (fr : Nat)  (hfr : 9 ≤ fr) (l0 : Option Nat) (l1 : Int32) (Q : Int32 → Tst → Prop) (X : String → Nat → Tst → Prop) (σ : Tst) (hw : w_X1_type l0 l1 Q X σ) : tw_M l yX1_type (ws_ yX1_type cX1_type 2 (some .int)) fr (40 * fr) G σ [.inr l0, .inl l1] (tw_Qi G Q) X := by
  unfold w_X1_type at hw
  refine tw_of (ret := (some .int)) hl0 (by decide) (Nat.le_of_ble_eq_true rfl) (fun p e R s m args below meth c hRf hRl C hr hmn hnx hR hS ls hl => ?_)
  have hfr : 9 ≤ R.frames := by rw [hRf]; exact hfr
  have hRl : R.locals = 40 * R.frames := by rw [hRl, hRf]
  have hl : tw_l ls 2 [(0, .inr l0), (1, .inl l1)] := hl
  refine tk_aload_n C hl 0 dX1_type_0 rfl ?_
  refine tk_gr C hR hw rfl in_X1 (by decide) q247 (fun _ h => h) dX1_type_1 (fun x1 hw => ?_)
  obtain ⟨hv, hw⟩ := hw
  refine tw_cbi C hS (tk_runV (As := []) C hR hS (wk_J1_length l C.hst G (R.frames - 1) (by omega) _ _ _ σ hw) hv rfl q1362 q863 q2546 q66 q864 pd_J1_length ⟨by omega, by omega⟩ hl.1 rfl (tw_r8 [] (Nat.le_of_ble_eq_true rfl)) dX1_type_4) (fun E q σ H locs hX hR hS hi => tw_out C hR hS (fun x hx => (hnx x hx).elim) hi hX) (fun x2 σ H locs hw hR hS => ?_)
  refine lv_bipush (v := 80) C.hx C.hb dX1_type_7 (by decide) ?_
  refine lv_icmp_ge (tgt := 16) C.hx C.hb dX1_type_9 (by decide) (fun c9 => ?_) (fun c9 => ?_)
  · replace hw := hw.1 c9
    refine lv_iconst (v := 0) C.hx C.hb dX1_type_16 (by decide) ?_
    exact wk_X1_type_b17 C hr hmn hnx hfr hRl _ _ _ σ _ _ _ hw hR hS (tk_sub hl [0, 1] rfl)
  · replace hw := hw.2 c9
    refine lv_iconst (v := 1) C.hx C.hb dX1_type_12 (by decide) ?_
    refine lv_goto (tgt := 17) C.hx C.hb dX1_type_13 (by decide) ?_
    exact wk_X1_type_b17 C hr hmn hnx hfr hRl _ _ _ σ _ _ _ hw hR hS (tk_sub hl [0, 1] rfl)
-- TreeDifferLaw.type(LTreeDiffer;C[J)I
def w_X0_type_b12 (Q : Int32 → Tst → Prop) (X : String → Nat → Tst → Prop) (s0 : Option Nat) (σ : Tst) : Prop := Q 1 σ
def w_X0_type (l0 : Option Nat) (l1 : Int32) (l2 : Option Nat) (Q : Int32 → Tst → Prop) (X : String → Nat → Tst → Prop) (σ : Tst) : Prop := w_rc σ l0 cX1 <| w_X1_type l0 l1 (fun x1 σ => w_sl σ l2 0 (x1.toInt64) fun σ => Q 0 σ) (fun E q σ => w_if (E = "java/lang/IllegalStateException") (w_X0_type_b12 Q X (some q) σ) (False)) σ
set_option maxHeartbeats 4000000 in
theorem wk_X0_type_b12  (C : tw_C p l R s m args meth c G cX0_type 4 yX0_type.cls) (hr : meth.sig.returnType = (some .int)) (hmn : meth.name = yX0_type.name) (hnx : (c.exceptionTable.toList = tableOf [(0, 9, 12, 13)])) (hfr : 10 ≤ R.frames) (hRl : R.locals = 40 * R.frames) {Q : Int32 → Tst → Prop} {X : String → Nat → Tst → Prop}  (s0 : Option Nat) (σ : Tst) (H : Heap) (locs : List Loc) (ls : Array Slot) (hw : w_X0_type_b12 Q X s0 σ) (hR : tw_R G σ H) (hS : va_S (tw_A G) s.heap H locs) (hl : tw_l ls 4 []) : tw_W p l e R s m args below meth c σ H locs (tw_E below G (tw_Qi G Q) X args s R) (F0 m 12 ls [va_rf s0]) := by
  unfold w_X0_type_b12 at hw
  refine tk_astore_n (L' := [(3, .inr s0)]) C hl dX0_type_12 (by decide) rfl (fun ls hl => ?_)
  refine lv_iconst (v := 1) C.hx C.hb dX0_type_13 (by decide) ?_
  exact tw_iret C hR hS hr rfl dX0_type_14 hw
set_option maxHeartbeats 4000000 in
theorem wk_X0_type (l : Launch) (hl0 : l.stackTraces = false) (G : Tgl) (fr : Nat)  (hfr : 10 ≤ fr) (l0 : Option Nat) (l1 : Int32) (l2 : Option Nat) (Q : Int32 → Tst → Prop) (X : String → Nat → Tst → Prop) (σ : Tst) (hw : w_X0_type l0 l1 l2 Q X σ) : tw_M l yX0_type (wsW_ yX0_type cX0_type 4 (some .int) [(0, 9, 12, 13)]) fr (40 * fr) G σ [.inr l0, .inl l1, .inr l2] (tw_Qi G Q) X := by
  unfold w_X0_type at hw
  refine tw_ofW (ret := (some .int)) (hh := [(0, 9, 12, 13)]) hl0 (by decide) (Nat.le_of_ble_eq_true rfl) (fun p e R s m args below meth c hRf hRl C hr hmn hnx hR hS ls hl => ?_)
  have hfr : 10 ≤ R.frames := by rw [hRf]; exact hfr
  have hRl : R.locals = 40 * R.frames := by rw [hRl, hRf]
  have hl : tw_l ls 4 [(0, .inr l0), (1, .inl l1), (2, .inr l2)] := hl
  refine tk_aload_n C hl 2 dX0_type_0 rfl ?_
  refine lv_iconst (v := 0) C.hx C.hb dX0_type_1 (by decide) ?_
  refine tk_aload_n C hl 0 dX0_type_2 rfl ?_
  refine tk_iload_n C hl 1 dX0_type_3 rfl ?_
  obtain ⟨hv, hw⟩ := hw
  refine tw_cbi C hS (tk_runV (As := [.inl l1]) C hR hS (wk_X1_type l C.hst G (R.frames - 1) (by omega) _ _ _ _ σ hw) hv rfl q1358 q1359 q1360 q64 q1361 pd_X1_type ⟨by omega, by omega⟩ hl.1 rfl (tw_r8 [.inl 0, .inr l2] (Nat.le_of_ble_eq_true rfl)) dX0_type_4) (fun E q σ H locs hX hR hS hi => ?_) (fun x1 σ H locs hw hR hS => ?_)
  · by_cases cE0 : E = "java/lang/IllegalStateException"
    · replace hX := hX.1 cE0
      subst cE0
      refine tw_catch C hnx [] (0, 9, 12, 13) [] rfl (fun z hz => nomatch hz) rfl (by decide) q1357 q490 hi ?_
      exact wk_X0_type_b12 C hr hmn hnx hfr hRl _ σ _ _ _ hX hR hS (tk_sub hl [] rfl)
    replace hX := hX.2 cE0
    exact hX.elim
  refine lv_i2l (v := x1.toInt64) C.hx C.hb dX0_type_7 rfl ?_
  refine tk_sl C hR hS hw dX0_type_8 (fun σ H locs hw hR hS => ?_)
  refine lv_goto (tgt := 15) C.hx C.hb dX0_type_9 (by decide) ?_
  refine lv_iconst (v := 0) C.hx C.hb dX0_type_15 (by decide) ?_
  exact tw_iret C hR hS hr rfl dX0_type_16 hw
-- TreeDiffer.isBetween(III)Z
def w_X1_isBetween_b15 (Q : Int32 → Tst → Prop) (X : String → Nat → Tst → Prop) (s0 : Int32) (σ : Tst) : Prop := narrow .boolean (.int s0) = .int s0 ∧ Q s0 σ
def w_X1_isBetween_b14 (Q : Int32 → Tst → Prop) (X : String → Nat → Tst → Prop) (σ : Tst) : Prop := w_X1_isBetween_b15 Q X 0 σ
def w_X1_isBetween (l0 : Int32) (l1 : Int32) (l2 : Int32) (Q : Int32 → Tst → Prop) (X : String → Nat → Tst → Prop) (σ : Tst) : Prop := w_if (l0 < l1) (w_X1_isBetween_b14 Q X σ) (w_if (l2 < l0) (w_X1_isBetween_b14 Q X σ) (w_X1_isBetween_b15 Q X 1 σ))
set_option maxHeartbeats 4000000 in
theorem wk_X1_isBetween_b15  (C : tw_C p l R s m args meth c G cX1_isBetween 3 yX1_isBetween.cls) (hr : meth.sig.returnType = (some .boolean)) (hmn : meth.name = yX1_isBetween.name) (hnx : (∀ x ∈ c.exceptionTable.toList, False)) (hfr : 1 ≤ R.frames) (hRl : R.locals = 40 * R.frames) {Q : Int32 → Tst → Prop} {X : String → Nat → Tst → Prop}  (s0 : Int32) (σ : Tst) (H : Heap) (locs : List Loc) (ls : Array Slot) (hw : w_X1_isBetween_b15 Q X s0 σ) (hR : tw_R G σ H) (hS : va_S (tw_A G) s.heap H locs) (hl : tw_l ls 3 []) : tw_W p l e R s m args below meth c σ H locs (tw_E below G (tw_Qi G Q) X args s R) (F0 m 15 ls [.int s0]) := by
  unfold w_X1_isBetween_b15 at hw
  obtain ⟨hok, hw⟩ := hw
  exact tw_iret C hR hS hr hok dX1_isBetween_15 hw
set_option maxHeartbeats 4000000 in
theorem wk_X1_isBetween_b14  (C : tw_C p l R s m args meth c G cX1_isBetween 3 yX1_isBetween.cls) (hr : meth.sig.returnType = (some .boolean)) (hmn : meth.name = yX1_isBetween.name) (hnx : (∀ x ∈ c.exceptionTable.toList, False)) (hfr : 1 ≤ R.frames) (hRl : R.locals = 40 * R.frames) {Q : Int32 → Tst → Prop} {X : String → Nat → Tst → Prop}   (σ : Tst) (H : Heap) (locs : List Loc) (ls : Array Slot) (hw : w_X1_isBetween_b14 Q X  σ) (hR : tw_R G σ H) (hS : va_S (tw_A G) s.heap H locs) (hl : tw_l ls 3 []) : tw_W p l e R s m args below meth c σ H locs (tw_E below G (tw_Qi G Q) X args s R) (F0 m 14 ls []) := by
  unfold w_X1_isBetween_b14 at hw
  refine lv_iconst (v := 0) C.hx C.hb dX1_isBetween_14 (by decide) ?_
  exact wk_X1_isBetween_b15 C hr hmn hnx hfr hRl _ σ _ _ _ hw hR hS (tk_sub hl [] rfl)
set_option maxHeartbeats 4000000 in
theorem wk_X1_isBetween (l : Launch) (hl0 : l.stackTraces = false) (G : Tgl) (fr : Nat)  (hfr : 1 ≤ fr) (l0 : Int32) (l1 : Int32) (l2 : Int32) (Q : Int32 → Tst → Prop) (X : String → Nat → Tst → Prop) (σ : Tst) (hw : w_X1_isBetween l0 l1 l2 Q X σ) : tw_M l yX1_isBetween (ws_ yX1_isBetween cX1_isBetween 3 (some .boolean)) fr (40 * fr) G σ [.inl l0, .inl l1, .inl l2] (tw_Qi G Q) X := by
  unfold w_X1_isBetween at hw
  refine tw_of (ret := (some .boolean)) hl0 (by decide) (Nat.le_of_ble_eq_true rfl) (fun p e R s m args below meth c hRf hRl C hr hmn hnx hR hS ls hl => ?_)
  have hfr : 1 ≤ R.frames := by rw [hRf]; exact hfr
  have hRl : R.locals = 40 * R.frames := by rw [hRl, hRf]
  have hl : tw_l ls 3 [(0, .inl l0), (1, .inl l1), (2, .inl l2)] := hl
  refine tk_iload_n C hl 0 dX1_isBetween_0 rfl ?_
  refine tk_iload_n C hl 1 dX1_isBetween_1 rfl ?_
  refine lv_icmp_lt (tgt := 14) C.hx C.hb dX1_isBetween_2 (by decide) (fun c2 => ?_) (fun c2 => ?_)
  · replace hw := hw.1 c2
    exact wk_X1_isBetween_b14 C hr hmn hnx hfr hRl σ _ _ _ hw hR hS (tk_sub hl [] rfl)
  · replace hw := hw.2 c2
    refine tk_iload_n C hl 0 dX1_isBetween_5 rfl ?_
    refine tk_iload_n C hl 2 dX1_isBetween_6 rfl ?_
    refine lv_icmp_gt (tgt := 14) C.hx C.hb dX1_isBetween_7 (by decide) (fun c7 => ?_) (fun c7 => ?_)
    · replace hw := hw.1 c7
      exact wk_X1_isBetween_b14 C hr hmn hnx hfr hRl σ _ _ _ hw hR hS (tk_sub hl [] rfl)
    · replace hw := hw.2 c7
      refine lv_iconst (v := 1) C.hx C.hb dX1_isBetween_10 (by decide) ?_
      refine lv_goto (tgt := 15) C.hx C.hb dX1_isBetween_11 (by decide) ?_
      exact wk_X1_isBetween_b15 C hr hmn hnx hfr hRl _ σ _ _ _ hw hR hS (tk_sub hl [] rfl)
-- java/lang/IndexOutOfBoundsException.<init>()V
def w_J16_init_2 (l0 : Option Nat) (Q : Tst → Prop) (X : String → Nat → Tst → Prop) (σ : Tst) : Prop := w_rf l0 <| w_J9_init l0 (fun σ => Q σ) X σ
set_option maxHeartbeats 4000000 in
theorem wk_J16_init_2 (l : Launch) (hl0 : l.stackTraces = false) (G : Tgl) (fr : Nat)  (hfr : 5 ≤ fr) (l0 : Option Nat) (Q : Tst → Prop) (X : String → Nat → Tst → Prop) (σ : Tst) (hw : w_J16_init_2 l0 Q X σ) : tw_M l yJ16_init_2 (ws_ yJ16_init_2 cJ16_init_2 1 none) fr (40 * fr) G σ [.inr l0] (tw_Qv G Q) X := by
  unfold w_J16_init_2 at hw
  refine tw_of (ret := none) hl0 (by decide) (Nat.le_of_ble_eq_true rfl) (fun p e R s m args below meth c hRf hRl C hr hmn hnx hR hS ls hl => ?_)
  have hfr : 5 ≤ R.frames := by rw [hRf]; exact hfr
  have hRl : R.locals = 40 * R.frames := by rw [hRl, hRf]
  have hl : tw_l ls 1 [(0, .inr l0)] := hl
  refine tk_aload_n C hl 0 dJ16_init_2_0 rfl ?_
  obtain ⟨hv, hw⟩ := hw
  refine tw_cbv C hS (tk_runI (As := []) hv C hR hS (wk_J9_init l C.hst G (R.frames - 1) (by omega) _ _ _ σ hw) q1426 q407 q78 q408 rfl pd_J9_init ⟨by omega, by omega⟩ hl.1 rfl (tw_r8 [] (Nat.le_of_ble_eq_true rfl)) dJ16_init_2_1) (fun E q σ H locs hX hR hS hi => tw_out C hR hS (fun x hx => (hnx x hx).elim) hi hX) (fun σ H locs hw hR hS => ?_)
  exact tw_vret C hR hS hr dJ16_init_2_4 hw
-- TreeDiffer.requireIndex(Z)V
def w_X1_requireIndex (l0 : Int32) (Q : Tst → Prop) (X : String → Nat → Tst → Prop) (σ : Tst) : Prop := w_if (l0 = 0) (w_nw σ cJ16 6 [.inr none, .inr none, .inr none, .inr none, .inr none, .inl 0] fun q1 σ => w_rf q1 <| w_J16_init_2 q1 (fun σ => w_th σ q1 X) X σ) (Q σ)
set_option maxHeartbeats 4000000 in
theorem wk_X1_requireIndex (l : Launch) (hl0 : l.stackTraces = false) (G : Tgl) (fr : Nat)  (hfr : 6 ≤ fr) (l0 : Int32) (Q : Tst → Prop) (X : String → Nat → Tst → Prop) (σ : Tst) (hw : w_X1_requireIndex l0 Q X σ) : tw_M l yX1_requireIndex (ws_ yX1_requireIndex cX1_requireIndex 1 none) fr (40 * fr) G σ [.inl l0] (tw_Qv G Q) X := by
  unfold w_X1_requireIndex at hw
  refine tw_of (ret := none) hl0 (by decide) (Nat.le_of_ble_eq_true rfl) (fun p e R s m args below meth c hRf hRl C hr hmn hnx hR hS ls hl => ?_)
  have hfr : 6 ≤ R.frames := by rw [hRf]; exact hfr
  have hRl : R.locals = 40 * R.frames := by rw [hRl, hRf]
  have hl : tw_l ls 1 [(0, .inl l0)] := hl
  refine tk_iload_n C hl 0 dX1_requireIndex_0 rfl ?_
  refine lv_if_ne (tgt := 12) C.hx C.hb dX1_requireIndex_1 (by decide) (fun c1 => ?_) (fun c1 => ?_)
  · replace hw := hw.2 c1
    exact tw_vret C hR hS hr dX1_requireIndex_12 hw
  · replace hw := hw.1 c1
    refine tk_nw C hR hS hw rfl in_J16 tyJ16 tyJ16_ok q1422 q686 q86 (fun j hj => by rcases (show j = 0 ∨ j = 1 ∨ j = 2 ∨ j = 3 ∨ j = 4 ∨ j = 5 by omega) with rfl | rfl | rfl | rfl | rfl | rfl <;> rfl) dX1_requireIndex_4 (fun q1 σ H hw hR hS => ?_)
    refine tw_dup (x := .inr q1) C.hx C.hb dX1_requireIndex_7 ?_
    obtain ⟨hv, hw⟩ := hw
    refine tw_cbv C hS (tk_runI (As := []) hv C hR hS (wk_J16_init_2 l C.hst G (R.frames - 1) (by omega) _ _ _ σ hw) q1423 q1424 q86 q1425 rfl pd_J16_init_2 ⟨by omega, by omega⟩ hl.1 rfl (tw_r8 [.inr q1] (Nat.le_of_ble_eq_true rfl)) dX1_requireIndex_8) (fun E q σ H locs hX hR hS hi => tw_out C hR hS (fun x hx => (hnx x hx).elim) hi hX) (fun σ H locs hw hR hS => ?_)
    exact tk_th C hR hS hw (fun x hx => (hnx x hx).elim) dX1_requireIndex_11
-- TreeDiffer$Reader.<init>(LTreeDiffer;)V
def w_X6_init (l0 : Option Nat) (l1 : Option Nat) (Q : Tst → Prop) (X : String → Nat → Tst → Prop) (σ : Tst) : Prop := w_p σ l0 cX6 2 (.inr l1) fun σ => w_rf l0 <| Q σ
set_option maxHeartbeats 4000000 in
theorem wk_X6_init (l : Launch) (hl0 : l.stackTraces = false) (G : Tgl) (fr : Nat)  (hfr : 1 ≤ fr) (l0 : Option Nat) (l1 : Option Nat) (Q : Tst → Prop) (X : String → Nat → Tst → Prop) (σ : Tst) (hw : w_X6_init l0 l1 Q X σ) : tw_M l yX6_init (ws_ yX6_init cX6_init 2 none) fr (40 * fr) G σ [.inr l0, .inr l1] (tw_Qv G Q) X := by
  unfold w_X6_init at hw
  refine tw_of (ret := none) hl0 (by decide) (Nat.le_of_ble_eq_true rfl) (fun p e R s m args below meth c hRf hRl C hr hmn hnx hR hS ls hl => ?_)
  have hfr : 1 ≤ R.frames := by rw [hRf]; exact hfr
  have hRl : R.locals = 40 * R.frames := by rw [hRl, hRf]
  have hl : tw_l ls 2 [(0, .inr l0), (1, .inr l1)] := hl
  refine tk_aload_n C hl 0 dX6_init_0 rfl ?_
  refine tk_aload_n C hl 1 dX6_init_1 rfl ?_
  refine tk_pF (x := .inr l1) C hR hS hw (Or.inl (by decide)) rfl in_X6 tyX6 tyX6_ok nmX6 (by decide) q1435 (fun _ h => h) rfl hmn rfl (tw_nr _ _) dX6_init_2 (fun σ H locs hw hR hS => ?_)
  refine tk_aload_n C hl 0 dX6_init_5 rfl ?_
  refine tk_obj C hw q1432 q119 q120 hl.1 (tw_r8 [] (Nat.le_of_ble_eq_true rfl)) (by omega) (by omega) dX6_init_6 (fun hw => ?_)
  exact tw_vret C hR hS hr dX6_init_9 hw
-- java/lang/AbstractStringBuilder.charAt(I)C
def w_J0_charAt (l0 : Option Nat) (l1 : Int32) (Q : Int32 → Tst → Prop) (X : String → Nat → Tst → Prop) (σ : Tst) : Prop := w_gi σ l0 cJ1 1 fun x1 => w_gr σ l0 cJ1 0 fun x2 => w_gi σ l0 cJ1 3 fun x3 => w_al σ x2 fun x4 => w_J2_checkIndex l1 (if (x4 >>> (x1 &&& 31)) < x3 then (x4 >>> (x1 &&& 31)) else x3) (fun σ => w_if (x1 = 0) (w_lb σ x2 l1 fun x7 => narrow .char (.int (((x7 &&& 255).toUInt32 % 65536).toInt32)) = .int (((x7 &&& 255).toUInt32 % 65536).toInt32) ∧ Q (((x7 &&& 255).toUInt32 % 65536).toInt32) σ) (w_J3_getChar x2 l1 (fun x6 σ => narrow .char (.int x6) = .int x6 ∧ Q x6 σ) X σ)) X σ
set_option maxHeartbeats 4000000 in
theorem wk_J0_charAt (l : Launch) (hl0 : l.stackTraces = false) (G : Tgl) (fr : Nat)  (hfr : 3 ≤ fr) (l0 : Option Nat) (l1 : Int32) (Q : Int32 → Tst → Prop) (X : String → Nat → Tst → Prop) (σ : Tst) (hw : w_J0_charAt l0 l1 Q X σ) : tw_M l yJ0_charAt (ws_ yJ0_charAt cJ0_charAt 5 (some .char)) fr (40 * fr) G σ [.inr l0, .inl l1] (tw_Qi G Q) X := by
  unfold w_J0_charAt at hw
  refine tw_of (ret := (some .char)) hl0 (by decide) (Nat.le_of_ble_eq_true rfl) (fun p e R s m args below meth c hRf hRl C hr hmn hnx hR hS ls hl => ?_)
  have hfr : 3 ≤ R.frames := by rw [hRf]; exact hfr
  have hRl : R.locals = 40 * R.frames := by rw [hRl, hRf]
  have hl : tw_l ls 5 [(0, .inr l0), (1, .inl l1)] := hl
  refine tk_aload_n C hl 0 dJ0_charAt_0 rfl ?_
  refine tk_gi C hR hw rfl in_J1 (by decide) q142 (fun _ h => h) dJ0_charAt_1 (fun x1 hw => ?_)
  refine tk_istore_n (L' := [(2, .inl x1), (0, .inr l0), (1, .inl l1)]) C hl dJ0_charAt_4 (by decide) rfl (fun ls hl => ?_)
  refine tk_aload_n C hl 1 dJ0_charAt_5 rfl ?_
  refine tk_gr C hR hw rfl in_J1 (by decide) q141 (fun _ h => h) dJ0_charAt_6 (fun x2 hw => ?_)
  refine tk_astore_n (L' := [(3, .inr x2), (2, .inl x1), (0, .inr l0), (1, .inl l1)]) C hl dJ0_charAt_9 (by decide) rfl (fun ls hl => ?_)
  refine tk_aload_n C hl 2 dJ0_charAt_10 rfl ?_
  refine tk_gi C hR hw rfl in_J1 (by decide) q145 (fun _ h => h) dJ0_charAt_11 (fun x3 hw => ?_)
  refine tk_aload_n C hl 0 dJ0_charAt_14 rfl ?_
  refine tk_al C hR hw dJ0_charAt_15 (fun x4 hw => ?_)
  refine tk_iload_n C hl 1 dJ0_charAt_16 rfl ?_
  refine lv_ishr C.hx C.hb dJ0_charAt_17 ?_
  refine tk_min C q1463 hl.1 (by omega) hRl (tw_r8 [] (Nat.le_of_ble_eq_true rfl)) dJ0_charAt_18 ?_
  refine tk_istore (L' := [(4, .inl (if (x4 >>> (x1 &&& 31)) < x3 then (x4 >>> (x1 &&& 31)) else x3)), (3, .inr x2), (2, .inl x1), (0, .inr l0), (1, .inl l1)]) C hl dJ0_charAt_21 (by decide) rfl (fun ls hl => ?_)
  refine tk_iload_n C hl 4 dJ0_charAt_23 rfl ?_
  refine tk_iload C hl 0 dJ0_charAt_24 rfl ?_
  refine tw_cbv C hS (tw_runS (As := [.inl l1, .inl (if (x4 >>> (x1 &&& 31)) < x3 then (x4 >>> (x1 &&& 31)) else x3)]) C hR hS (wk_J2_checkIndex l C.hst G (R.frames - 1) (by omega) _ _ _ _ σ hw) q1464 q1388 q67 q1389 pd_J2_checkIndex ⟨by omega, by omega⟩ hl.1 rfl (tw_r8 [] (Nat.le_of_ble_eq_true rfl)) dJ0_charAt_26) (fun E q σ H locs hX hR hS hi => tw_out C hR hS (fun x hx => (hnx x hx).elim) hi hX) (fun σ H locs hw hR hS => ?_)
  refine tk_iload_n C hl 2 dJ0_charAt_29 rfl ?_
  refine lv_if_ne (tgt := 42) C.hx C.hb dJ0_charAt_30 (by decide) (fun c30 => ?_) (fun c30 => ?_)
  · replace hw := hw.2 c30
    refine tk_aload_n C hl 1 dJ0_charAt_42 rfl ?_
    refine tk_iload_n C hl 4 dJ0_charAt_43 rfl ?_
    refine tw_cbi C hS (tw_runS (As := [.inr x2, .inl l1]) C hR hS (wk_J3_getChar l C.hst G (R.frames - 1) (by omega) _ _ _ _ σ hw) q1465 q905 q68 q906 pd_J3_getChar ⟨by omega, by omega⟩ hl.1 rfl (tw_r8 [] (Nat.le_of_ble_eq_true rfl)) dJ0_charAt_44) (fun E q σ H locs hX hR hS hi => tw_out C hR hS (fun x hx => (hnx x hx).elim) hi hX) (fun x6 σ H locs hw hR hS => ?_)
    obtain ⟨hok, hw⟩ := hw
    exact tw_iret C hR hS hr hok dJ0_charAt_47 hw
  · replace hw := hw.1 c30
    refine tk_aload_n C hl 1 dJ0_charAt_33 rfl ?_
    refine tk_iload_n C hl 4 dJ0_charAt_34 rfl ?_
    refine tk_lb C hR hw dJ0_charAt_35 (fun x7 hw => ?_)
    refine lv_sipush (v := 255) C.hx C.hb dJ0_charAt_36 (by decide) ?_
    refine lv_iand C.hx C.hb dJ0_charAt_39 ?_
    refine lv_i2c (v := ((x7 &&& 255).toUInt32 % 65536).toInt32) C.hx C.hb dJ0_charAt_40 rfl ?_
    obtain ⟨hok, hw⟩ := hw
    exact tw_iret C hR hS hr hok dJ0_charAt_41 hw
-- java/lang/StringBuilder.charAt(I)C
def w_J1_charAt (l0 : Option Nat) (l1 : Int32) (Q : Int32 → Tst → Prop) (X : String → Nat → Tst → Prop) (σ : Tst) : Prop := w_rc σ l0 cJ1 <| w_J0_charAt l0 l1 (fun x1 σ => narrow .char (.int x1) = .int x1 ∧ Q x1 σ) X σ
set_option maxHeartbeats 4000000 in
theorem wk_J1_charAt (l : Launch) (hl0 : l.stackTraces = false) (G : Tgl) (fr : Nat)  (hfr : 4 ≤ fr) (l0 : Option Nat) (l1 : Int32) (Q : Int32 → Tst → Prop) (X : String → Nat → Tst → Prop) (σ : Tst) (hw : w_J1_charAt l0 l1 Q X σ) : tw_M l yJ1_charAt (ws_ yJ1_charAt cJ1_charAt 2 (some .char)) fr (40 * fr) G σ [.inr l0, .inl l1] (tw_Qi G Q) X := by
  unfold w_J1_charAt at hw
  refine tw_of (ret := (some .char)) hl0 (by decide) (Nat.le_of_ble_eq_true rfl) (fun p e R s m args below meth c hRf hRl C hr hmn hnx hR hS ls hl => ?_)
  have hfr : 4 ≤ R.frames := by rw [hRf]; exact hfr
  have hRl : R.locals = 40 * R.frames := by rw [hRl, hRf]
  have hl : tw_l ls 2 [(0, .inr l0), (1, .inl l1)] := hl
  refine tk_aload_n C hl 0 dJ1_charAt_0 rfl ?_
  refine tk_iload_n C hl 1 dJ1_charAt_1 rfl ?_
  obtain ⟨hv, hw⟩ := hw
  refine tw_cbi C hS (tk_runSU (As := [.inl l1]) (Cn := "java/lang/StringBuilder") C hR hS (wk_J0_charAt l C.hst G (R.frames - 1) (by omega) _ _ _ _ σ hw) hv rfl q1460 q2548 q154 q1461 q65 q1462 (by decide) (by exact (by decide +kernel : (parseMethodDescriptor "(I)C").map (fun d => d.parameters.length) = some 1)) ⟨by omega, by omega⟩ hl.1 rfl (tw_r8 [] (Nat.le_of_ble_eq_true rfl)) dJ1_charAt_2) (fun E q σ H locs hX hR hS hi => tw_out C hR hS (fun x hx => (hnx x hx).elim) hi hX) (fun x1 σ H locs hw hR hS => ?_)
  obtain ⟨hok, hw⟩ := hw
  exact tw_iret C hR hS hr hok dJ1_charAt_5 hw
-- TreeDiffer$Reader.next()C
def w_X6_next_b35 (Q : Int32 → Tst → Prop) (X : String → Nat → Tst → Prop) (s0 : Int32) (σ : Tst) : Prop := narrow .char (.int s0) = .int s0 ∧ Q s0 σ
def w_X6_next (l0 : Option Nat) (Q : Int32 → Tst → Prop) (X : String → Nat → Tst → Prop) (σ : Tst) : Prop := w_gi σ l0 cX6 0 fun x1 => w_gr σ l0 cX6 2 fun x2 => w_gr σ x2 cX1 1 fun x3 => w_rc σ x3 cJ1 <| w_J1_length x3 (fun x4 σ => w_if (x4 ≤ x1) (w_X6_next_b35 Q X 0 σ) (w_gr σ l0 cX6 2 fun x5 => w_gr σ x5 cX1 1 fun x6 => w_gi σ l0 cX6 0 fun x7 => w_rc σ x6 cJ1 <| w_J1_charAt x6 x7 (fun x8 σ => w_X6_next_b35 Q X x8 σ) X σ)) X σ
set_option maxHeartbeats 4000000 in
theorem wk_X6_next_b35  (C : tw_C p l R s m args meth c G cX6_next 1 yX6_next.cls) (hr : meth.sig.returnType = (some .char)) (hmn : meth.name = yX6_next.name) (hnx : (∀ x ∈ c.exceptionTable.toList, False)) (hfr : 5 ≤ R.frames) (hRl : R.locals = 40 * R.frames) {Q : Int32 → Tst → Prop} {X : String → Nat → Tst → Prop}  (s0 : Int32) (σ : Tst) (H : Heap) (locs : List Loc) (ls : Array Slot) (hw : w_X6_next_b35 Q X s0 σ) (hR : tw_R G σ H) (hS : va_S (tw_A G) s.heap H locs) (hl : tw_l ls 1 []) : tw_W p l e R s m args below meth c σ H locs (tw_E below G (tw_Qi G Q) X args s R) (F0 m 35 ls [.int s0]) := by
  unfold w_X6_next_b35 at hw
  obtain ⟨hok, hw⟩ := hw
  exact tw_iret C hR hS hr hok dX6_next_35 hw
set_option maxHeartbeats 4000000 in
theorem wk_X6_next (l : Launch) (hl0 : l.stackTraces = false) (G : Tgl) (fr : Nat)  (hfr : 5 ≤ fr) (l0 : Option Nat) (Q : Int32 → Tst → Prop) (X : String → Nat → Tst → Prop) (σ : Tst) (hw : w_X6_next l0 Q X σ) : tw_M l yX6_next (ws_ yX6_next cX6_next 1 (some .char)) fr (40 * fr) G σ [.inr l0] (tw_Qi G Q) X := by
  unfold w_X6_next at hw
  refine tw_of (ret := (some .char)) hl0 (by decide) (Nat.le_of_ble_eq_true rfl) (fun p e R s m args below meth c hRf hRl C hr hmn hnx hR hS ls hl => ?_)
  have hfr : 5 ≤ R.frames := by rw [hRf]; exact hfr
  have hRl : R.locals = 40 * R.frames := by rw [hRl, hRf]
  have hl : tw_l ls 1 [(0, .inr l0)] := hl
  refine tk_aload_n C hl 0 dX6_next_0 rfl ?_
  refine tk_gi C hR hw rfl in_X6 (by decide) q1433 (fun _ h => h) dX6_next_1 (fun x1 hw => ?_)
  refine tk_aload_n C hl 0 dX6_next_4 rfl ?_
  refine tk_gr C hR hw rfl in_X6 (by decide) q1435 (fun _ h => h) dX6_next_5 (fun x2 hw => ?_)
  refine tk_grN C hR hw rfl in_X1 (by decide) q248 (fun _ h => h) dX6_next_8 (fun x3 hw => ?_)
  obtain ⟨hv, hw⟩ := hw
  refine tw_cbi C hS (tk_runV (As := []) C hR hS (wk_J1_length l C.hst G (R.frames - 1) (by omega) _ _ _ σ hw) hv rfl q1455 q863 q2546 q66 q864 pd_J1_length ⟨by omega, by omega⟩ hl.1 rfl (tw_r8 [.inl x1] (Nat.le_of_ble_eq_true rfl)) dX6_next_11) (fun E q σ H locs hX hR hS hi => tw_out C hR hS (fun x hx => (hnx x hx).elim) hi hX) (fun x4 σ H locs hw hR hS => ?_)
  refine lv_icmp_ge (tgt := 34) C.hx C.hb dX6_next_14 (by decide) (fun c14 => ?_) (fun c14 => ?_)
  · replace hw := hw.1 c14
    refine lv_iconst (v := 0) C.hx C.hb dX6_next_34 (by decide) ?_
    exact wk_X6_next_b35 C hr hmn hnx hfr hRl _ σ _ _ _ hw hR hS (tk_sub hl [] rfl)
  · replace hw := hw.2 c14
    refine tk_aload_n C hl 0 dX6_next_17 rfl ?_
    refine tk_gr C hR hw rfl in_X6 (by decide) q1435 (fun _ h => h) dX6_next_18 (fun x5 hw => ?_)
    refine tk_grN C hR hw rfl in_X1 (by decide) q248 (fun _ h => h) dX6_next_21 (fun x6 hw => ?_)
    refine tk_aload_n C hl 0 dX6_next_24 rfl ?_
    refine tk_gi C hR hw rfl in_X6 (by decide) q1433 (fun _ h => h) dX6_next_25 (fun x7 hw => ?_)
    obtain ⟨hv, hw⟩ := hw
    refine tw_cbi C hS (tk_runV (As := [.inl x7]) C hR hS (wk_J1_charAt l C.hst G (R.frames - 1) (by omega) _ _ _ _ σ hw) hv rfl q1456 q1457 q1458 q66 q1459 pd_J1_charAt ⟨by omega, by omega⟩ hl.1 rfl (tw_r8 [] (Nat.le_of_ble_eq_true rfl)) dX6_next_28) (fun E q σ H locs hX hR hS hi => tw_out C hR hS (fun x hx => (hnx x hx).elim) hi hX) (fun x8 σ H locs hw hR hS => ?_)
    refine lv_goto (tgt := 35) C.hx C.hb dX6_next_31 (by decide) ?_
    exact wk_X6_next_b35 C hr hmn hnx hfr hRl _ σ _ _ _ hw hR hS (tk_sub hl [] rfl)
-- TreeDiffer.isLetter(C)Z
def w_X1_isLetter_b17 (Q : Int32 → Tst → Prop) (X : String → Nat → Tst → Prop) (s0 : Int32) (σ : Tst) : Prop := narrow .boolean (.int s0) = .int s0 ∧ Q s0 σ
def w_X1_isLetter_b16 (Q : Int32 → Tst → Prop) (X : String → Nat → Tst → Prop) (σ : Tst) : Prop := w_X1_isLetter_b17 Q X 0 σ
def w_X1_isLetter (l0 : Int32) (Q : Int32 → Tst → Prop) (X : String → Nat → Tst → Prop) (σ : Tst) : Prop := w_if (l0 < 97) (w_X1_isLetter_b16 Q X σ) (w_if (122 < l0) (w_X1_isLetter_b16 Q X σ) (w_X1_isLetter_b17 Q X 1 σ))
set_option maxHeartbeats 4000000 in
theorem wk_X1_isLetter_b17  (C : tw_C p l R s m args meth c G cX1_isLetter 1 yX1_isLetter.cls) (hr : meth.sig.returnType = (some .boolean)) (hmn : meth.name = yX1_isLetter.name) (hnx : (∀ x ∈ c.exceptionTable.toList, False)) (hfr : 1 ≤ R.frames) (hRl : R.locals = 40 * R.frames) {Q : Int32 → Tst → Prop} {X : String → Nat → Tst → Prop}  (s0 : Int32) (σ : Tst) (H : Heap) (locs : List Loc) (ls : Array Slot) (hw : w_X1_isLetter_b17 Q X s0 σ) (hR : tw_R G σ H) (hS : va_S (tw_A G) s.heap H locs) (hl : tw_l ls 1 []) : tw_W p l e R s m args below meth c σ H locs (tw_E below G (tw_Qi G Q) X args s R) (F0 m 17 ls [.int s0]) := by
  unfold w_X1_isLetter_b17 at hw
  obtain ⟨hok, hw⟩ := hw
  exact tw_iret C hR hS hr hok dX1_isLetter_17 hw
set_option maxHeartbeats 4000000 in
theorem wk_X1_isLetter_b16  (C : tw_C p l R s m args meth c G cX1_isLetter 1 yX1_isLetter.cls) (hr : meth.sig.returnType = (some .boolean)) (hmn : meth.name = yX1_isLetter.name) (hnx : (∀ x ∈ c.exceptionTable.toList, False)) (hfr : 1 ≤ R.frames) (hRl : R.locals = 40 * R.frames) {Q : Int32 → Tst → Prop} {X : String → Nat → Tst → Prop}   (σ : Tst) (H : Heap) (locs : List Loc) (ls : Array Slot) (hw : w_X1_isLetter_b16 Q X  σ) (hR : tw_R G σ H) (hS : va_S (tw_A G) s.heap H locs) (hl : tw_l ls 1 []) : tw_W p l e R s m args below meth c σ H locs (tw_E below G (tw_Qi G Q) X args s R) (F0 m 16 ls []) := by
  unfold w_X1_isLetter_b16 at hw
  refine lv_iconst (v := 0) C.hx C.hb dX1_isLetter_16 (by decide) ?_
  exact wk_X1_isLetter_b17 C hr hmn hnx hfr hRl _ σ _ _ _ hw hR hS (tk_sub hl [] rfl)
set_option maxHeartbeats 4000000 in
theorem wk_X1_isLetter (l : Launch) (hl0 : l.stackTraces = false) (G : Tgl) (fr : Nat)  (hfr : 1 ≤ fr) (l0 : Int32) (Q : Int32 → Tst → Prop) (X : String → Nat → Tst → Prop) (σ : Tst) (hw : w_X1_isLetter l0 Q X σ) : tw_M l yX1_isLetter (ws_ yX1_isLetter cX1_isLetter 1 (some .boolean)) fr (40 * fr) G σ [.inl l0] (tw_Qi G Q) X := by
  unfold w_X1_isLetter at hw
  refine tw_of (ret := (some .boolean)) hl0 (by decide) (Nat.le_of_ble_eq_true rfl) (fun p e R s m args below meth c hRf hRl C hr hmn hnx hR hS ls hl => ?_)
  have hfr : 1 ≤ R.frames := by rw [hRf]; exact hfr
  have hRl : R.locals = 40 * R.frames := by rw [hRl, hRf]
  have hl : tw_l ls 1 [(0, .inl l0)] := hl
  refine tk_iload_n C hl 0 dX1_isLetter_0 rfl ?_
  refine lv_bipush (v := 97) C.hx C.hb dX1_isLetter_1 (by decide) ?_
  refine lv_icmp_lt (tgt := 16) C.hx C.hb dX1_isLetter_3 (by decide) (fun c3 => ?_) (fun c3 => ?_)
  · replace hw := hw.1 c3
    exact wk_X1_isLetter_b16 C hr hmn hnx hfr hRl σ _ _ _ hw hR hS (tk_sub hl [] rfl)
  · replace hw := hw.2 c3
    refine tk_iload_n C hl 0 dX1_isLetter_6 rfl ?_
    refine lv_bipush (v := 122) C.hx C.hb dX1_isLetter_7 (by decide) ?_
    refine lv_icmp_gt (tgt := 16) C.hx C.hb dX1_isLetter_9 (by decide) (fun c9 => ?_) (fun c9 => ?_)
    · replace hw := hw.1 c9
      exact wk_X1_isLetter_b16 C hr hmn hnx hfr hRl σ _ _ _ hw hR hS (tk_sub hl [] rfl)
    · replace hw := hw.2 c9
      refine lv_iconst (v := 1) C.hx C.hb dX1_isLetter_12 (by decide) ?_
      refine lv_goto (tgt := 17) C.hx C.hb dX1_isLetter_13 (by decide) ?_
      exact wk_X1_isLetter_b17 C hr hmn hnx hfr hRl _ σ _ _ _ hw hR hS (tk_sub hl [] rfl)
-- TreeDiffer$WrongText.<init>(I)V
def w_X7_init (l0 : Option Nat) (l1 : Int32) (Q : Tst → Prop) (X : String → Nat → Tst → Prop) (σ : Tst) : Prop := w_rf l0 <| w_J8_init l0 (fun σ => w_p σ l0 cX7 6 (.inl l1) fun σ => Q σ) X σ
set_option maxHeartbeats 4000000 in
theorem wk_X7_init (l : Launch) (hl0 : l.stackTraces = false) (G : Tgl) (fr : Nat)  (hfr : 4 ≤ fr) (l0 : Option Nat) (l1 : Int32) (Q : Tst → Prop) (X : String → Nat → Tst → Prop) (σ : Tst) (hw : w_X7_init l0 l1 Q X σ) : tw_M l yX7_init (ws_ yX7_init cX7_init 2 none) fr (40 * fr) G σ [.inr l0, .inl l1] (tw_Qv G Q) X := by
  unfold w_X7_init at hw
  refine tw_of (ret := none) hl0 (by decide) (Nat.le_of_ble_eq_true rfl) (fun p e R s m args below meth c hRf hRl C hr hmn hnx hR hS ls hl => ?_)
  have hfr : 4 ≤ R.frames := by rw [hRf]; exact hfr
  have hRl : R.locals = 40 * R.frames := by rw [hRl, hRf]
  have hl : tw_l ls 2 [(0, .inr l0), (1, .inl l1)] := hl
  refine tk_aload_n C hl 0 dX7_init_0 rfl ?_
  obtain ⟨hv, hw⟩ := hw
  refine tw_cbv C hS (tk_runI (As := []) hv C hR hS (wk_J8_init l C.hst G (R.frames - 1) (by omega) _ _ _ σ hw) q1481 q410 q77 q411 rfl pd_J8_init ⟨by omega, by omega⟩ hl.1 rfl (tw_r8 [] (Nat.le_of_ble_eq_true rfl)) dX7_init_1) (fun E q σ H locs hX hR hS hi => tw_out C hR hS (fun x hx => (hnx x hx).elim) hi hX) (fun σ H locs hw hR hS => ?_)
  refine tk_aload_n C hl 0 dX7_init_4 rfl ?_
  refine tk_iload_n C hl 1 dX7_init_5 rfl ?_
  refine tk_pF (x := .inl l1) C hR hS hw (Or.inl (by decide)) rfl in_X7 tyX7 tyX7_ok nmX7 (by decide) q1482 (fun _ h => h) rfl hmn rfl (tw_ni _) dX7_init_6 (fun σ H locs hw hR hS => ?_)
  exact tw_vret C hR hS hr dX7_init_9 hw
-- TreeDiffer$Reader.expect(CC)C
def w_X6_expect_b32 (Q : Int32 → Tst → Prop) (X : String → Nat → Tst → Prop) (l0 : Option Nat) (σ : Tst) : Prop := w_nw σ cX7 7 [.inr none, .inr none, .inr none, .inr none, .inr none, .inl 0, .inl 0] fun q1 σ => w_gi σ l0 cX6 0 fun x2 => w_rf q1 <| w_X7_init q1 x2 (fun σ => w_th σ q1 X) X σ
def w_X6_expect (l0 : Option Nat) (l1 : Int32) (l2 : Int32) (Q : Int32 → Tst → Prop) (X : String → Nat → Tst → Prop) (σ : Tst) : Prop := w_rc σ l0 cX6 <| w_X6_next l0 (fun x1 σ => w_gi σ l0 cX6 0 fun x2 => w_gr σ l0 cX6 2 fun x3 => w_gr σ x3 cX1 1 fun x4 => w_rc σ x4 cJ1 <| w_J1_length x4 (fun x5 σ => w_if (x2 = x5) (w_X6_expect_b32 Q X l0 σ) (w_if (x1 < l1) (w_X6_expect_b32 Q X l0 σ) (w_if (x1 ≤ l2) (w_gi σ l0 cX6 0 fun x6 => w_p σ l0 cX6 0 (.inl (x6 + 1)) fun σ => narrow .char (.int x1) = .int x1 ∧ Q x1 σ) (w_X6_expect_b32 Q X l0 σ)))) X σ) X σ
set_option maxHeartbeats 4000000 in
theorem wk_X6_expect_b32  (C : tw_C p l R s m args meth c G cX6_expect 4 yX6_expect.cls) (hr : meth.sig.returnType = (some .char)) (hmn : meth.name = yX6_expect.name) (hnx : (∀ x ∈ c.exceptionTable.toList, False)) (hfr : 6 ≤ R.frames) (hRl : R.locals = 40 * R.frames) {Q : Int32 → Tst → Prop} {X : String → Nat → Tst → Prop}  (l0 : Option Nat) (σ : Tst) (H : Heap) (locs : List Loc) (ls : Array Slot) (hw : w_X6_expect_b32 Q X l0 σ) (hR : tw_R G σ H) (hS : va_S (tw_A G) s.heap H locs) (hl : tw_l ls 4 [(0, .inr l0)]) : tw_W p l e R s m args below meth c σ H locs (tw_E below G (tw_Qi G Q) X args s R) (F0 m 32 ls []) := by
  unfold w_X6_expect_b32 at hw
  refine tk_nw C hR hS hw rfl in_X7 tyX7 tyX7_ok q1469 q1470 q89 (fun j hj => by rcases (show j = 0 ∨ j = 1 ∨ j = 2 ∨ j = 3 ∨ j = 4 ∨ j = 5 ∨ j = 6 by omega) with rfl | rfl | rfl | rfl | rfl | rfl | rfl <;> rfl) dX6_expect_32 (fun q1 σ H hw hR hS => ?_)
  refine tw_dup (x := .inr q1) C.hx C.hb dX6_expect_35 ?_
  refine tk_aload_n C hl 0 dX6_expect_36 rfl ?_
  refine tk_gi C hR hw rfl in_X6 (by decide) q1433 (fun _ h => h) dX6_expect_37 (fun x2 hw => ?_)
  obtain ⟨hv, hw⟩ := hw
  refine tw_cbv C hS (tk_runI (As := [.inl x2]) hv C hR hS (wk_X7_init l C.hst G (R.frames - 1) (by omega) _ _ _ _ σ hw) q1478 q1479 q89 q1480 rfl pd_X7_init ⟨by omega, by omega⟩ hl.1 rfl (tw_r8 [.inr q1] (Nat.le_of_ble_eq_true rfl)) dX6_expect_40) (fun E q σ H locs hX hR hS hi => tw_out C hR hS (fun x hx => (hnx x hx).elim) hi hX) (fun σ H locs hw hR hS => ?_)
  exact tk_th C hR hS hw (fun x hx => (hnx x hx).elim) dX6_expect_43
set_option maxHeartbeats 4000000 in
theorem wk_X6_expect (l : Launch) (hl0 : l.stackTraces = false) (G : Tgl) (fr : Nat)  (hfr : 6 ≤ fr) (l0 : Option Nat) (l1 : Int32) (l2 : Int32) (Q : Int32 → Tst → Prop) (X : String → Nat → Tst → Prop) (σ : Tst) (hw : w_X6_expect l0 l1 l2 Q X σ) : tw_M l yX6_expect (ws_ yX6_expect cX6_expect 4 (some .char)) fr (40 * fr) G σ [.inr l0, .inl l1, .inl l2] (tw_Qi G Q) X := by
  unfold w_X6_expect at hw
  refine tw_of (ret := (some .char)) hl0 (by decide) (Nat.le_of_ble_eq_true rfl) (fun p e R s m args below meth c hRf hRl C hr hmn hnx hR hS ls hl => ?_)
  have hfr : 6 ≤ R.frames := by rw [hRf]; exact hfr
  have hRl : R.locals = 40 * R.frames := by rw [hRl, hRf]
  have hl : tw_l ls 4 [(0, .inr l0), (1, .inl l1), (2, .inl l2)] := hl
  refine tk_aload_n C hl 0 dX6_expect_0 rfl ?_
  obtain ⟨hv, hw⟩ := hw
  refine tw_cbi C hS (tk_runV (As := []) C hR hS (wk_X6_next l C.hst G (R.frames - 1) (by omega) _ _ _ σ hw) hv rfl q1451 q1453 qs13 q88 q1454 pd_X6_next ⟨by omega, by omega⟩ hl.1 rfl (tw_r8 [] (Nat.le_of_ble_eq_true rfl)) dX6_expect_1) (fun E q σ H locs hX hR hS hi => tw_out C hR hS (fun x hx => (hnx x hx).elim) hi hX) (fun x1 σ H locs hw hR hS => ?_)
  refine tk_istore_n (L' := [(3, .inl x1), (0, .inr l0), (1, .inl l1), (2, .inl l2)]) C hl dX6_expect_4 (by decide) rfl (fun ls hl => ?_)
  refine tk_aload_n C hl 1 dX6_expect_5 rfl ?_
  refine tk_gi C hR hw rfl in_X6 (by decide) q1433 (fun _ h => h) dX6_expect_6 (fun x2 hw => ?_)
  refine tk_aload_n C hl 1 dX6_expect_9 rfl ?_
  refine tk_gr C hR hw rfl in_X6 (by decide) q1435 (fun _ h => h) dX6_expect_10 (fun x3 hw => ?_)
  refine tk_grN C hR hw rfl in_X1 (by decide) q248 (fun _ h => h) dX6_expect_13 (fun x4 hw => ?_)
  obtain ⟨hv, hw⟩ := hw
  refine tw_cbi C hS (tk_runV (As := []) C hR hS (wk_J1_length l C.hst G (R.frames - 1) (by omega) _ _ _ σ hw) hv rfl q1455 q863 q2546 q66 q864 pd_J1_length ⟨by omega, by omega⟩ hl.1 rfl (tw_r8 [.inl x2] (Nat.le_of_ble_eq_true rfl)) dX6_expect_16) (fun E q σ H locs hX hR hS hi => tw_out C hR hS (fun x hx => (hnx x hx).elim) hi hX) (fun x5 σ H locs hw hR hS => ?_)
  refine lv_icmp_eq (tgt := 32) C.hx C.hb dX6_expect_19 (by decide) (fun c19 => ?_) (fun c19 => ?_)
  · replace hw := hw.1 c19
    exact wk_X6_expect_b32 C hr hmn hnx hfr hRl _ σ _ _ _ hw hR hS (tk_sub hl [1] rfl)
  · replace hw := hw.2 c19
    refine tk_iload_n C hl 0 dX6_expect_22 rfl ?_
    refine tk_iload_n C hl 2 dX6_expect_23 rfl ?_
    refine lv_icmp_lt (tgt := 32) C.hx C.hb dX6_expect_24 (by decide) (fun c24 => ?_) (fun c24 => ?_)
    · replace hw := hw.1 c24
      exact wk_X6_expect_b32 C hr hmn hnx hfr hRl _ σ _ _ _ hw hR hS (tk_sub hl [1] rfl)
    · replace hw := hw.2 c24
      refine tk_iload_n C hl 0 dX6_expect_27 rfl ?_
      refine tk_iload_n C hl 3 dX6_expect_28 rfl ?_
      refine lv_icmp_le (tgt := 44) C.hx C.hb dX6_expect_29 (by decide) (fun c29 => ?_) (fun c29 => ?_)
      · replace hw := hw.1 c29
        refine tk_aload_n C hl 1 dX6_expect_44 rfl ?_
        refine tw_dup (x := .inr l0) C.hx C.hb dX6_expect_45 ?_
        refine tk_gi C hR hw rfl in_X6 (by decide) q1433 (fun _ h => h) dX6_expect_46 (fun x6 hw => ?_)
        refine lv_iconst (v := 1) C.hx C.hb dX6_expect_49 (by decide) ?_
        refine lv_iadd C.hx C.hb dX6_expect_50 ?_
        refine tk_p (x := .inl (x6 + 1)) C hR hS hw (by decide) rfl in_X6 tyX6 tyX6_ok nmX6 (by decide) q1433 (fun _ h => h) rfl (tw_ni _) dX6_expect_51 (fun σ H locs hw hR hS => ?_)
        refine tk_iload_n C hl 0 dX6_expect_54 rfl ?_
        obtain ⟨hok, hw⟩ := hw
        exact tw_iret C hR hS hr hok dX6_expect_55 hw
      · replace hw := hw.2 c29
        exact wk_X6_expect_b32 C hr hmn hnx hfr hRl _ σ _ _ _ hw hR hS (tk_sub hl [1] rfl)
-- TreeDiffer$Reader.take(C)Z
def w_X6_take_b45 (Q : Int32 → Tst → Prop) (X : String → Nat → Tst → Prop) (l2 : Int32) (s0 : Option Nat) (s1 : Int32) (s2 : Int32) (σ : Tst) : Prop := w_p σ s0 cX6 0 (.inl (s1 + s2)) fun σ => narrow .boolean (.int l2) = .int l2 ∧ Q l2 σ
def w_X6_take_b30 (Q : Int32 → Tst → Prop) (X : String → Nat → Tst → Prop) (l0 : Option Nat) (s0 : Int32) (σ : Tst) : Prop := w_gi σ l0 cX6 0 fun x1 => w_if (s0 = 0) (w_X6_take_b45 Q X s0 l0 x1 0 σ) (w_X6_take_b45 Q X s0 l0 x1 1 σ)
def w_X6_take_b29 (Q : Int32 → Tst → Prop) (X : String → Nat → Tst → Prop) (l0 : Option Nat) (σ : Tst) : Prop := w_X6_take_b30 Q X l0 0 σ
def w_X6_take (l0 : Option Nat) (l1 : Int32) (Q : Int32 → Tst → Prop) (X : String → Nat → Tst → Prop) (σ : Tst) : Prop := w_gi σ l0 cX6 0 fun x1 => w_gr σ l0 cX6 2 fun x2 => w_gr σ x2 cX1 1 fun x3 => w_rc σ x3 cJ1 <| w_J1_length x3 (fun x4 σ => w_if (x4 ≤ x1) (w_X6_take_b29 Q X l0 σ) (w_rc σ l0 cX6 <| w_X6_next l0 (fun x5 σ => w_if (x5 = l1) (w_X6_take_b30 Q X l0 1 σ) (w_X6_take_b29 Q X l0 σ)) X σ)) X σ
set_option maxHeartbeats 4000000 in
theorem wk_X6_take_b45  (C : tw_C p l R s m args meth c G cX6_take 3 yX6_take.cls) (hr : meth.sig.returnType = (some .boolean)) (hmn : meth.name = yX6_take.name) (hnx : (∀ x ∈ c.exceptionTable.toList, False)) (hfr : 6 ≤ R.frames) (hRl : R.locals = 40 * R.frames) {Q : Int32 → Tst → Prop} {X : String → Nat → Tst → Prop}  (l2 : Int32) (s0 : Option Nat) (s1 : Int32) (s2 : Int32) (σ : Tst) (H : Heap) (locs : List Loc) (ls : Array Slot) (hw : w_X6_take_b45 Q X l2 s0 s1 s2 σ) (hR : tw_R G σ H) (hS : va_S (tw_A G) s.heap H locs) (hl : tw_l ls 3 [(2, .inl l2)]) : tw_W p l e R s m args below meth c σ H locs (tw_E below G (tw_Qi G Q) X args s R) (F0 m 45 ls [.int s2, .int s1, va_rf s0]) := by
  unfold w_X6_take_b45 at hw
  refine lv_iadd C.hx C.hb dX6_take_45 ?_
  refine tk_p (x := .inl (s1 + s2)) C hR hS hw (by decide) rfl in_X6 tyX6 tyX6_ok nmX6 (by decide) q1433 (fun _ h => h) rfl (tw_ni _) dX6_take_46 (fun σ H locs hw hR hS => ?_)
  refine tk_iload_n C hl 0 dX6_take_49 rfl ?_
  obtain ⟨hok, hw⟩ := hw
  exact tw_iret C hR hS hr hok dX6_take_50 hw
set_option maxHeartbeats 4000000 in
theorem wk_X6_take_b30  (C : tw_C p l R s m args meth c G cX6_take 3 yX6_take.cls) (hr : meth.sig.returnType = (some .boolean)) (hmn : meth.name = yX6_take.name) (hnx : (∀ x ∈ c.exceptionTable.toList, False)) (hfr : 6 ≤ R.frames) (hRl : R.locals = 40 * R.frames) {Q : Int32 → Tst → Prop} {X : String → Nat → Tst → Prop}  (l0 : Option Nat) (s0 : Int32) (σ : Tst) (H : Heap) (locs : List Loc) (ls : Array Slot) (hw : w_X6_take_b30 Q X l0 s0 σ) (hR : tw_R G σ H) (hS : va_S (tw_A G) s.heap H locs) (hl : tw_l ls 3 [(0, .inr l0)]) : tw_W p l e R s m args below meth c σ H locs (tw_E below G (tw_Qi G Q) X args s R) (F0 m 30 ls [.int s0]) := by
  unfold w_X6_take_b30 at hw
  refine tk_istore_n (L' := [(2, .inl s0), (0, .inr l0)]) C hl dX6_take_30 (by decide) rfl (fun ls hl => ?_)
  refine tk_aload_n C hl 1 dX6_take_31 rfl ?_
  refine tw_dup (x := .inr l0) C.hx C.hb dX6_take_32 ?_
  refine tk_gi C hR hw rfl in_X6 (by decide) q1433 (fun _ h => h) dX6_take_33 (fun x1 hw => ?_)
  refine tk_iload_n C hl 0 dX6_take_36 rfl ?_
  refine lv_if_eq (tgt := 44) C.hx C.hb dX6_take_37 (by decide) (fun c37 => ?_) (fun c37 => ?_)
  · replace hw := hw.1 c37
    refine lv_iconst (v := 0) C.hx C.hb dX6_take_44 (by decide) ?_
    exact wk_X6_take_b45 C hr hmn hnx hfr hRl _ _ _ _ σ _ _ _ hw hR hS (tk_sub hl [0] rfl)
  · replace hw := hw.2 c37
    refine lv_iconst (v := 1) C.hx C.hb dX6_take_40 (by decide) ?_
    refine lv_goto (tgt := 45) C.hx C.hb dX6_take_41 (by decide) ?_
    exact wk_X6_take_b45 C hr hmn hnx hfr hRl _ _ _ _ σ _ _ _ hw hR hS (tk_sub hl [0] rfl)
set_option maxHeartbeats 4000000 in
theorem wk_X6_take_b29  (C : tw_C p l R s m args meth c G cX6_take 3 yX6_take.cls) (hr : meth.sig.returnType = (some .boolean)) (hmn : meth.name = yX6_take.name) (hnx : (∀ x ∈ c.exceptionTable.toList, False)) (hfr : 6 ≤ R.frames) (hRl : R.locals = 40 * R.frames) {Q : Int32 → Tst → Prop} {X : String → Nat → Tst → Prop}  (l0 : Option Nat) (σ : Tst) (H : Heap) (locs : List Loc) (ls : Array Slot) (hw : w_X6_take_b29 Q X l0 σ) (hR : tw_R G σ H) (hS : va_S (tw_A G) s.heap H locs) (hl : tw_l ls 3 [(0, .inr l0)]) : tw_W p l e R s m args below meth c σ H locs (tw_E below G (tw_Qi G Q) X args s R) (F0 m 29 ls []) := by
  unfold w_X6_take_b29 at hw
  refine lv_iconst (v := 0) C.hx C.hb dX6_take_29 (by decide) ?_
  exact wk_X6_take_b30 C hr hmn hnx hfr hRl _ _ σ _ _ _ hw hR hS (tk_sub hl [0] rfl)
set_option maxHeartbeats 4000000 in
theorem wk_X6_take (l : Launch) (hl0 : l.stackTraces = false) (G : Tgl) (fr : Nat)  (hfr : 6 ≤ fr) (l0 : Option Nat) (l1 : Int32) (Q : Int32 → Tst → Prop) (X : String → Nat → Tst → Prop) (σ : Tst) (hw : w_X6_take l0 l1 Q X σ) : tw_M l yX6_take (ws_ yX6_take cX6_take 3 (some .boolean)) fr (40 * fr) G σ [.inr l0, .inl l1] (tw_Qi G Q) X := by
  unfold w_X6_take at hw
  refine tw_of (ret := (some .boolean)) hl0 (by decide) (Nat.le_of_ble_eq_true rfl) (fun p e R s m args below meth c hRf hRl C hr hmn hnx hR hS ls hl => ?_)
  have hfr : 6 ≤ R.frames := by rw [hRf]; exact hfr
  have hRl : R.locals = 40 * R.frames := by rw [hRl, hRf]
  have hl : tw_l ls 3 [(0, .inr l0), (1, .inl l1)] := hl
  refine tk_aload_n C hl 0 dX6_take_0 rfl ?_
  refine tk_gi C hR hw rfl in_X6 (by decide) q1433 (fun _ h => h) dX6_take_1 (fun x1 hw => ?_)
  refine tk_aload_n C hl 0 dX6_take_4 rfl ?_
  refine tk_gr C hR hw rfl in_X6 (by decide) q1435 (fun _ h => h) dX6_take_5 (fun x2 hw => ?_)
  refine tk_grN C hR hw rfl in_X1 (by decide) q248 (fun _ h => h) dX6_take_8 (fun x3 hw => ?_)
  obtain ⟨hv, hw⟩ := hw
  refine tw_cbi C hS (tk_runV (As := []) C hR hS (wk_J1_length l C.hst G (R.frames - 1) (by omega) _ _ _ σ hw) hv rfl q1455 q863 q2546 q66 q864 pd_J1_length ⟨by omega, by omega⟩ hl.1 rfl (tw_r8 [.inl x1] (Nat.le_of_ble_eq_true rfl)) dX6_take_11) (fun E q σ H locs hX hR hS hi => tw_out C hR hS (fun x hx => (hnx x hx).elim) hi hX) (fun x4 σ H locs hw hR hS => ?_)
  refine lv_icmp_ge (tgt := 29) C.hx C.hb dX6_take_14 (by decide) (fun c14 => ?_) (fun c14 => ?_)
  · replace hw := hw.1 c14
    exact wk_X6_take_b29 C hr hmn hnx hfr hRl _ σ _ _ _ hw hR hS (tk_sub hl [0] rfl)
  · replace hw := hw.2 c14
    refine tk_aload_n C hl 0 dX6_take_17 rfl ?_
    obtain ⟨hv, hw⟩ := hw
    refine tw_cbi C hS (tk_runV (As := []) C hR hS (wk_X6_next l C.hst G (R.frames - 1) (by omega) _ _ _ σ hw) hv rfl q1451 q1453 qs13 q88 q1454 pd_X6_next ⟨by omega, by omega⟩ hl.1 rfl (tw_r8 [] (Nat.le_of_ble_eq_true rfl)) dX6_take_18) (fun E q σ H locs hX hR hS hi => tw_out C hR hS (fun x hx => (hnx x hx).elim) hi hX) (fun x5 σ H locs hw hR hS => ?_)
    refine tk_iload_n C hl 1 dX6_take_21 rfl ?_
    refine lv_icmp_ne (tgt := 29) C.hx C.hb dX6_take_22 (by decide) (fun c22 => ?_) (fun c22 => ?_)
    · replace hw := hw.2 c22
      exact wk_X6_take_b29 C hr hmn hnx hfr hRl _ σ _ _ _ hw hR hS (tk_sub hl [0] rfl)
    · replace hw := hw.1 c22
      refine lv_iconst (v := 1) C.hx C.hb dX6_take_25 (by decide) ?_
      refine lv_goto (tgt := 30) C.hx C.hb dX6_take_26 (by decide) ?_
      exact wk_X6_take_b30 C hr hmn hnx hfr hRl _ _ σ _ _ _ hw hR hS (tk_sub hl [0] rfl)
-- TreeDiffer$Reader.readNode(LTreeDiffer$Node;)LTreeDiffer$Node;
def w_X6_readNode_b212 (rf_X6_readNode : (Option Nat) → (Option Nat) → (Option Nat → Tst → Prop) → (String → Nat → Tst → Prop) → Tst → Prop) (Q : Option Nat → Tst → Prop) (X : String → Nat → Tst → Prop) (l2 : Option Nat) (σ : Tst) : Prop := Q l2 σ
def w_X6_readNode_b197 (rf_X6_readNode : (Option Nat) → (Option Nat) → (Option Nat → Tst → Prop) → (String → Nat → Tst → Prop) → Tst → Prop) (Q : Option Nat → Tst → Prop) (X : String → Nat → Tst → Prop) : Nat → Option Nat → Option Nat → Tst → Prop
  | 0, _, _, _ => False
  | n + 1, l0, l2, σ => w_rc σ l0 cX6 <| rf_X6_readNode l0 l2 (fun x1 σ => w_rc σ l0 cX6 <| w_X6_take l0 41 (fun x2 σ => w_if (x2 = 0) ((w_X6_readNode_b197 rf_X6_readNode Q X n) l0 l2 σ) (w_X6_readNode_b212 rf_X6_readNode Q X l2 σ)) X σ) X σ
def w_X6_readNode_b188 (rf_X6_readNode : (Option Nat) → (Option Nat) → (Option Nat → Tst → Prop) → (String → Nat → Tst → Prop) → Tst → Prop) (Q : Option Nat → Tst → Prop) (X : String → Nat → Tst → Prop) (l0 : Option Nat) (l2 : Option Nat) (σ : Tst) : Prop := w_rc σ l0 cX6 <| w_X6_take l0 40 (fun x1 σ => w_if (x1 = 0) (w_X6_readNode_b212 rf_X6_readNode Q X l2 σ) (∃ z, w_X6_readNode_b197 rf_X6_readNode Q X z l0 l2 σ)) X σ
def w_X6_readNode_b123 (rf_X6_readNode : (Option Nat) → (Option Nat) → (Option Nat → Tst → Prop) → (String → Nat → Tst → Prop) → Tst → Prop) (Q : Option Nat → Tst → Prop) (X : String → Nat → Tst → Prop) (l0 : Option Nat) (l2 : Option Nat) (σ : Tst) : Prop := w_rc σ l0 cX6 <| w_X6_take l0 61 (fun x1 σ => w_if (x1 = 0) (w_X6_readNode_b188 rf_X6_readNode Q X l0 l2 σ) (w_rc σ l0 cX6 <| w_X6_expect l0 48 57 (fun x2 σ => w_p σ l2 cX3 2 (.inl (x2 - 48)) fun σ => w_rc σ l0 cX6 <| w_X6_next l0 (fun x3 σ => w_if (x3 < 48) (w_X6_readNode_b188 rf_X6_readNode Q X l0 l2 σ) (w_rc σ l0 cX6 <| w_X6_next l0 (fun x4 σ => w_if (57 < x4) (w_X6_readNode_b188 rf_X6_readNode Q X l0 l2 σ) (w_gi σ l2 cX3 2 fun x5 => w_rc σ l0 cX6 <| w_X6_expect l0 48 57 (fun x6 σ => w_p σ l2 cX3 2 (.inl (((10 * x5) + x6) - 48)) fun σ => w_X6_readNode_b188 rf_X6_readNode Q X l0 l2 σ) X σ)) X σ)) X σ) X σ)) X σ
def w_X6_readNode_b109 (rf_X6_readNode : (Option Nat) → (Option Nat) → (Option Nat → Tst → Prop) → (String → Nat → Tst → Prop) → Tst → Prop) (Q : Option Nat → Tst → Prop) (X : String → Nat → Tst → Prop) (l0 : Option Nat) (l1 : Option Nat) (l2 : Option Nat) (σ : Tst) : Prop := w_gr σ l1 cX3 4 fun x1 => w_rc σ x1 cJ6 <| w_J6_size x1 (fun x2 σ => w_rc σ l1 cX3 <| w_X3_add l1 x2 l2 (fun σ => w_X6_readNode_b123 rf_X6_readNode Q X l0 l2 σ) X σ) X σ
def w_X6_readNode_b31 (rf_X6_readNode : (Option Nat) → (Option Nat) → (Option Nat → Tst → Prop) → (String → Nat → Tst → Prop) → Tst → Prop) (Q : Option Nat → Tst → Prop) (X : String → Nat → Tst → Prop) (l0 : Option Nat) (l1 : Option Nat) (σ : Tst) : Prop := w_nw σ cX3 7 [.inl 0, .inl 0, .inl 0, .inr none, .inr none, .inr none, .inr none] fun q1 σ => w_rc σ l0 cX6 <| w_X6_expect l0 97 122 (fun x2 σ => w_rf q1 <| w_X3_init q1 x2 (fun σ => w_gi σ l0 cX6 1 fun x4 => w_p σ l0 cX6 1 (.inl (x4 + 1)) fun σ => w_if (l1 = none) (w_X6_readNode_b123 rf_X6_readNode Q X l0 q1 σ) (w_rc σ l0 cX6 <| w_X6_take l0 35 (fun x5 σ => w_if (x5 = 0) (w_X6_readNode_b109 rf_X6_readNode Q X l0 l1 q1 σ) (w_rc σ l0 cX6 <| w_X6_expect l0 49 57 (fun x6 σ => w_rc σ l1 cX3 <| w_X3_hasChildWithKey l1 (x6 - 48) (fun x7 σ => w_if (x7 = 0) (w_p σ q1 cX3 1 (.inl (x6 - 48)) fun σ => w_X6_readNode_b109 rf_X6_readNode Q X l0 l1 q1 σ) (w_nw σ cX7 7 [.inr none, .inr none, .inr none, .inr none, .inr none, .inl 0, .inl 0] fun q8 σ => w_gi σ l0 cX6 0 fun x9 => w_rf q8 <| w_X7_init q8 (x9 - 1) (fun σ => w_th σ q8 X) X σ)) X σ) X σ)) X σ)) X σ) X σ
def w_X6_readNode : Nat → Option Nat → Option Nat → (Option Nat → Tst → Prop) → (String → Nat → Tst → Prop) → Tst → Prop
  | 0, _, _, _, _, _ => False
  | d + 1, l0, l1, Q, X, σ => w_gi σ l0 cX6 1 fun x1 => w_if (x1 = 20) (w_rc σ l0 cX6 <| w_X6_next l0 (fun x2 σ => w_X1_isLetter x2 (fun x3 σ => w_if (x3 = 0) (w_X6_readNode_b31 (w_X6_readNode d) Q X l0 l1 σ) (w_nw σ cX7 7 [.inr none, .inr none, .inr none, .inr none, .inr none, .inl 0, .inl 0] fun q4 σ => w_gi σ l0 cX6 0 fun x5 => w_rf q4 <| w_X7_init q4 x5 (fun σ => w_th σ q4 X) X σ)) X σ) X σ) (w_X6_readNode_b31 (w_X6_readNode d) Q X l0 l1 σ)
set_option maxHeartbeats 4000000 in
theorem wk_X6_readNode_b212 {rf_X6_readNode : (Option Nat) → (Option Nat) → (Option Nat → Tst → Prop) → (String → Nat → Tst → Prop) → Tst → Prop} {frf_X6_readNode : Nat}  (C : tw_C p l R s m args meth c G cX6_readNode 4 yX6_readNode.cls) (hr : meth.sig.returnType = (some (.object "TreeDiffer$Node"))) (hmn : meth.name = yX6_readNode.name) (hnx : (∀ x ∈ c.exceptionTable.toList, False)) (hfr : 7 ≤ R.frames ∧ frf_X6_readNode + 1 ≤ R.frames) (hRl : R.locals = 40 * R.frames) {Q : Option Nat → Tst → Prop} {X : String → Nat → Tst → Prop} (hrf_X6_readNode : ∀ fr : Nat, frf_X6_readNode ≤ fr → ∀ (a0 : Option Nat) (a1 : Option Nat) (Q : Option Nat → Tst → Prop) (X : String → Nat → Tst → Prop) (σ : Tst), rf_X6_readNode a0 a1 Q X σ → tw_M l yX6_readNode (ws_ yX6_readNode cX6_readNode 4 (some (.object "TreeDiffer$Node"))) fr (40 * fr) G σ [.inr a0, .inr a1] (tw_Qq G Q) X) (l2 : Option Nat) (σ : Tst) (H : Heap) (locs : List Loc) (ls : Array Slot) (hw : w_X6_readNode_b212 rf_X6_readNode Q X l2 σ) (hR : tw_R G σ H) (hS : va_S (tw_A G) s.heap H locs) (hl : tw_l ls 4 [(2, .inr l2)]) : tw_W p l e R s m args below meth c σ H locs (tw_E below G (tw_Qq G Q) X args s R) (F0 m 212 ls []) := by
  unfold w_X6_readNode_b212 at hw
  refine tk_aload_n C hl 0 dX6_readNode_212 rfl ?_
  exact tw_aret C hR hS hr (Or.inl ⟨_, rfl⟩) dX6_readNode_213 hw
set_option maxHeartbeats 4000000 in
theorem wk_X6_readNode_b197 {rf_X6_readNode : (Option Nat) → (Option Nat) → (Option Nat → Tst → Prop) → (String → Nat → Tst → Prop) → Tst → Prop} {frf_X6_readNode : Nat}  (C : tw_C p l R s m args meth c G cX6_readNode 4 yX6_readNode.cls) (hr : meth.sig.returnType = (some (.object "TreeDiffer$Node"))) (hmn : meth.name = yX6_readNode.name) (hnx : (∀ x ∈ c.exceptionTable.toList, False)) (hfr : 7 ≤ R.frames ∧ frf_X6_readNode + 1 ≤ R.frames) (hRl : R.locals = 40 * R.frames) {Q : Option Nat → Tst → Prop} {X : String → Nat → Tst → Prop} (hrf_X6_readNode : ∀ fr : Nat, frf_X6_readNode ≤ fr → ∀ (a0 : Option Nat) (a1 : Option Nat) (Q : Option Nat → Tst → Prop) (X : String → Nat → Tst → Prop) (σ : Tst), rf_X6_readNode a0 a1 Q X σ → tw_M l yX6_readNode (ws_ yX6_readNode cX6_readNode 4 (some (.object "TreeDiffer$Node"))) fr (40 * fr) G σ [.inr a0, .inr a1] (tw_Qq G Q) X) : ∀ (n : Nat) (l0 : Option Nat) (l2 : Option Nat) (σ : Tst) (H : Heap) (locs : List Loc) (ls : Array Slot), w_X6_readNode_b197 rf_X6_readNode Q X n l0 l2 σ → tw_R G σ H → va_S (tw_A G) s.heap H locs → tw_l ls 4 [(0, .inr l0), (2, .inr l2)] → tw_W p l e R s m args below meth c σ H locs (tw_E below G (tw_Qq G Q) X args s R) (F0 m 197 ls []) := by
  intro n
  induction n with
  | zero => intro l0 l2 σ H locs ls hw; exact False.elim hw
  | succ n hk197 =>
    intro l0 l2 σ H locs ls hw hR hS hl
    rw [w_X6_readNode_b197] at hw
    refine tk_aload_n C hl 0 dX6_readNode_197 rfl ?_
    refine tk_aload_n C hl 1 dX6_readNode_198 rfl ?_
    obtain ⟨hv, hw⟩ := hw
    refine tw_cbq C hS (tk_runV (As := [.inr l2]) C hR hS (hrf_X6_readNode (R.frames - 1) (by omega) _ _ _ _ σ hw) hv rfl q1447 q1449 qs12 q88 q1450 pd_X6_readNode ⟨by omega, by omega⟩ hl.1 rfl (tw_r8 [] (Nat.le_of_ble_eq_true rfl)) dX6_readNode_199) (fun E q σ H locs hX hR hS hi => tw_out C hR hS (fun x hx => (hnx x hx).elim) hi hX) (fun x1 σ H locs hw hR hS => ?_)
    refine tk_astore_n (L' := [(3, .inr x1), (0, .inr l0), (2, .inr l2)]) C hl dX6_readNode_202 (by decide) rfl (fun ls hl => ?_)
    refine tk_aload_n C hl 1 dX6_readNode_203 rfl ?_
    refine lv_bipush (v := 41) C.hx C.hb dX6_readNode_204 (by decide) ?_
    obtain ⟨hv, hw⟩ := hw
    refine tw_cbi C hS (tk_runV (As := [.inl 41]) C hR hS (wk_X6_take l C.hst G (R.frames - 1) (by omega) _ _ _ _ σ hw) hv rfl q1494 q1496 qs15 q88 q1497 pd_X6_take ⟨by omega, by omega⟩ hl.1 rfl (tw_r8 [] (Nat.le_of_ble_eq_true rfl)) dX6_readNode_206) (fun E q σ H locs hX hR hS hi => tw_out C hR hS (fun x hx => (hnx x hx).elim) hi hX) (fun x2 σ H locs hw hR hS => ?_)
    refine lv_if_eq (tgt := 197) C.hx C.hb dX6_readNode_209 (by decide) (fun c209 => ?_) (fun c209 => ?_)
    · replace hw := hw.1 c209
      exact hk197 _ _ σ _ _ _ hw hR hS (tk_sub hl [1, 2] rfl)
    · replace hw := hw.2 c209
      exact wk_X6_readNode_b212 C hr hmn hnx hfr hRl hrf_X6_readNode _ σ _ _ _ hw hR hS (tk_sub hl [2] rfl)
set_option maxHeartbeats 4000000 in
theorem wk_X6_readNode_b188 {rf_X6_readNode : (Option Nat) → (Option Nat) → (Option Nat → Tst → Prop) → (String → Nat → Tst → Prop) → Tst → Prop} {frf_X6_readNode : Nat}  (C : tw_C p l R s m args meth c G cX6_readNode 4 yX6_readNode.cls) (hr : meth.sig.returnType = (some (.object "TreeDiffer$Node"))) (hmn : meth.name = yX6_readNode.name) (hnx : (∀ x ∈ c.exceptionTable.toList, False)) (hfr : 7 ≤ R.frames ∧ frf_X6_readNode + 1 ≤ R.frames) (hRl : R.locals = 40 * R.frames) {Q : Option Nat → Tst → Prop} {X : String → Nat → Tst → Prop} (hrf_X6_readNode : ∀ fr : Nat, frf_X6_readNode ≤ fr → ∀ (a0 : Option Nat) (a1 : Option Nat) (Q : Option Nat → Tst → Prop) (X : String → Nat → Tst → Prop) (σ : Tst), rf_X6_readNode a0 a1 Q X σ → tw_M l yX6_readNode (ws_ yX6_readNode cX6_readNode 4 (some (.object "TreeDiffer$Node"))) fr (40 * fr) G σ [.inr a0, .inr a1] (tw_Qq G Q) X) (l0 : Option Nat) (l2 : Option Nat) (σ : Tst) (H : Heap) (locs : List Loc) (ls : Array Slot) (hw : w_X6_readNode_b188 rf_X6_readNode Q X l0 l2 σ) (hR : tw_R G σ H) (hS : va_S (tw_A G) s.heap H locs) (hl : tw_l ls 4 [(0, .inr l0), (2, .inr l2)]) : tw_W p l e R s m args below meth c σ H locs (tw_E below G (tw_Qq G Q) X args s R) (F0 m 188 ls []) := by
  unfold w_X6_readNode_b188 at hw
  refine tk_aload_n C hl 0 dX6_readNode_188 rfl ?_
  refine lv_bipush (v := 40) C.hx C.hb dX6_readNode_189 (by decide) ?_
  obtain ⟨hv, hw⟩ := hw
  refine tw_cbi C hS (tk_runV (As := [.inl 40]) C hR hS (wk_X6_take l C.hst G (R.frames - 1) (by omega) _ _ _ _ σ hw) hv rfl q1494 q1496 qs15 q88 q1497 pd_X6_take ⟨by omega, by omega⟩ hl.1 rfl (tw_r8 [] (Nat.le_of_ble_eq_true rfl)) dX6_readNode_191) (fun E q σ H locs hX hR hS hi => tw_out C hR hS (fun x hx => (hnx x hx).elim) hi hX) (fun x1 σ H locs hw hR hS => ?_)
  refine lv_if_eq (tgt := 212) C.hx C.hb dX6_readNode_194 (by decide) (fun c194 => ?_) (fun c194 => ?_)
  · replace hw := hw.1 c194
    exact wk_X6_readNode_b212 C hr hmn hnx hfr hRl hrf_X6_readNode _ σ _ _ _ hw hR hS (tk_sub hl [1] rfl)
  · replace hw := hw.2 c194
    obtain ⟨z, hw⟩ := hw
    exact wk_X6_readNode_b197 C hr hmn hnx hfr hRl hrf_X6_readNode z _ _ σ _ _ _ hw hR hS (tk_sub hl [0, 1] rfl)
set_option maxHeartbeats 4000000 in
theorem wk_X6_readNode_b123 {rf_X6_readNode : (Option Nat) → (Option Nat) → (Option Nat → Tst → Prop) → (String → Nat → Tst → Prop) → Tst → Prop} {frf_X6_readNode : Nat}  (C : tw_C p l R s m args meth c G cX6_readNode 4 yX6_readNode.cls) (hr : meth.sig.returnType = (some (.object "TreeDiffer$Node"))) (hmn : meth.name = yX6_readNode.name) (hnx : (∀ x ∈ c.exceptionTable.toList, False)) (hfr : 7 ≤ R.frames ∧ frf_X6_readNode + 1 ≤ R.frames) (hRl : R.locals = 40 * R.frames) {Q : Option Nat → Tst → Prop} {X : String → Nat → Tst → Prop} (hrf_X6_readNode : ∀ fr : Nat, frf_X6_readNode ≤ fr → ∀ (a0 : Option Nat) (a1 : Option Nat) (Q : Option Nat → Tst → Prop) (X : String → Nat → Tst → Prop) (σ : Tst), rf_X6_readNode a0 a1 Q X σ → tw_M l yX6_readNode (ws_ yX6_readNode cX6_readNode 4 (some (.object "TreeDiffer$Node"))) fr (40 * fr) G σ [.inr a0, .inr a1] (tw_Qq G Q) X) (l0 : Option Nat) (l2 : Option Nat) (σ : Tst) (H : Heap) (locs : List Loc) (ls : Array Slot) (hw : w_X6_readNode_b123 rf_X6_readNode Q X l0 l2 σ) (hR : tw_R G σ H) (hS : va_S (tw_A G) s.heap H locs) (hl : tw_l ls 4 [(0, .inr l0), (2, .inr l2)]) : tw_W p l e R s m args below meth c σ H locs (tw_E below G (tw_Qq G Q) X args s R) (F0 m 123 ls []) := by
  unfold w_X6_readNode_b123 at hw
  refine tk_aload_n C hl 0 dX6_readNode_123 rfl ?_
  refine lv_bipush (v := 61) C.hx C.hb dX6_readNode_124 (by decide) ?_
  obtain ⟨hv, hw⟩ := hw
  refine tw_cbi C hS (tk_runV (As := [.inl 61]) C hR hS (wk_X6_take l C.hst G (R.frames - 1) (by omega) _ _ _ _ σ hw) hv rfl q1494 q1496 qs15 q88 q1497 pd_X6_take ⟨by omega, by omega⟩ hl.1 rfl (tw_r8 [] (Nat.le_of_ble_eq_true rfl)) dX6_readNode_126) (fun E q σ H locs hX hR hS hi => tw_out C hR hS (fun x hx => (hnx x hx).elim) hi hX) (fun x1 σ H locs hw hR hS => ?_)
  refine lv_if_eq (tgt := 188) C.hx C.hb dX6_readNode_129 (by decide) (fun c129 => ?_) (fun c129 => ?_)
  · replace hw := hw.1 c129
    exact wk_X6_readNode_b188 C hr hmn hnx hfr hRl hrf_X6_readNode _ _ σ _ _ _ hw hR hS (tk_sub hl [0, 1] rfl)
  · replace hw := hw.2 c129
    refine tk_aload_n C hl 1 dX6_readNode_132 rfl ?_
    refine tk_aload_n C hl 0 dX6_readNode_133 rfl ?_
    refine lv_bipush (v := 48) C.hx C.hb dX6_readNode_134 (by decide) ?_
    refine lv_bipush (v := 57) C.hx C.hb dX6_readNode_136 (by decide) ?_
    obtain ⟨hv, hw⟩ := hw
    refine tw_cbi C hS (tk_runV (As := [.inl 48, .inl 57]) C hR hS (wk_X6_expect l C.hst G (R.frames - 1) (by omega) _ _ _ _ _ σ hw) hv rfl q1489 q1491 qs14 q88 q1492 pd_X6_expect ⟨by omega, by omega⟩ hl.1 rfl (tw_r8 [.inr l2] (Nat.le_of_ble_eq_true rfl)) dX6_readNode_138) (fun E q σ H locs hX hR hS hi => tw_out C hR hS (fun x hx => (hnx x hx).elim) hi hX) (fun x2 σ H locs hw hR hS => ?_)
    refine lv_bipush (v := 48) C.hx C.hb dX6_readNode_141 (by decide) ?_
    refine lv_isub C.hx C.hb dX6_readNode_143 ?_
    refine tk_pN (x := .inl (x2 - 48)) C hR hS hw (by decide) rfl in_X3 tyX3 tyX3_ok nmX3 (by decide) q203 (fun _ h => h) rfl (tw_ni _) dX6_readNode_144 (fun σ H locs hw hR hS => ?_)
    refine tk_aload_n C hl 0 dX6_readNode_147 rfl ?_
    obtain ⟨hv, hw⟩ := hw
    refine tw_cbi C hS (tk_runV (As := []) C hR hS (wk_X6_next l C.hst G (R.frames - 1) (by omega) _ _ _ σ hw) hv rfl q1451 q1453 qs13 q88 q1454 pd_X6_next ⟨by omega, by omega⟩ hl.1 rfl (tw_r8 [] (Nat.le_of_ble_eq_true rfl)) dX6_readNode_148) (fun E q σ H locs hX hR hS hi => tw_out C hR hS (fun x hx => (hnx x hx).elim) hi hX) (fun x3 σ H locs hw hR hS => ?_)
    refine lv_bipush (v := 48) C.hx C.hb dX6_readNode_151 (by decide) ?_
    refine lv_icmp_lt (tgt := 188) C.hx C.hb dX6_readNode_153 (by decide) (fun c153 => ?_) (fun c153 => ?_)
    · replace hw := hw.1 c153
      exact wk_X6_readNode_b188 C hr hmn hnx hfr hRl hrf_X6_readNode _ _ σ _ _ _ hw hR hS (tk_sub hl [0, 1] rfl)
    · replace hw := hw.2 c153
      refine tk_aload_n C hl 0 dX6_readNode_156 rfl ?_
      obtain ⟨hv, hw⟩ := hw
      refine tw_cbi C hS (tk_runV (As := []) C hR hS (wk_X6_next l C.hst G (R.frames - 1) (by omega) _ _ _ σ hw) hv rfl q1451 q1453 qs13 q88 q1454 pd_X6_next ⟨by omega, by omega⟩ hl.1 rfl (tw_r8 [] (Nat.le_of_ble_eq_true rfl)) dX6_readNode_157) (fun E q σ H locs hX hR hS hi => tw_out C hR hS (fun x hx => (hnx x hx).elim) hi hX) (fun x4 σ H locs hw hR hS => ?_)
      refine lv_bipush (v := 57) C.hx C.hb dX6_readNode_160 (by decide) ?_
      refine lv_icmp_gt (tgt := 188) C.hx C.hb dX6_readNode_162 (by decide) (fun c162 => ?_) (fun c162 => ?_)
      · replace hw := hw.1 c162
        exact wk_X6_readNode_b188 C hr hmn hnx hfr hRl hrf_X6_readNode _ _ σ _ _ _ hw hR hS (tk_sub hl [0, 1] rfl)
      · replace hw := hw.2 c162
        refine tk_aload_n C hl 1 dX6_readNode_165 rfl ?_
        refine lv_bipush (v := 10) C.hx C.hb dX6_readNode_166 (by decide) ?_
        refine tk_aload_n C hl 1 dX6_readNode_168 rfl ?_
        refine tk_giN C hR hw rfl in_X3 (by decide) q203 (fun _ h => h) dX6_readNode_169 (fun x5 hw => ?_)
        refine lv_imul C.hx C.hb dX6_readNode_172 ?_
        refine tk_aload_n C hl 0 dX6_readNode_173 rfl ?_
        refine lv_bipush (v := 48) C.hx C.hb dX6_readNode_174 (by decide) ?_
        refine lv_bipush (v := 57) C.hx C.hb dX6_readNode_176 (by decide) ?_
        obtain ⟨hv, hw⟩ := hw
        refine tw_cbi C hS (tk_runV (As := [.inl 48, .inl 57]) C hR hS (wk_X6_expect l C.hst G (R.frames - 1) (by omega) _ _ _ _ _ σ hw) hv rfl q1489 q1491 qs14 q88 q1492 pd_X6_expect ⟨by omega, by omega⟩ hl.1 rfl (tw_r8 [.inl (10 * x5), .inr l2] (Nat.le_of_ble_eq_true rfl)) dX6_readNode_178) (fun E q σ H locs hX hR hS hi => tw_out C hR hS (fun x hx => (hnx x hx).elim) hi hX) (fun x6 σ H locs hw hR hS => ?_)
        refine lv_iadd C.hx C.hb dX6_readNode_181 ?_
        refine lv_bipush (v := 48) C.hx C.hb dX6_readNode_182 (by decide) ?_
        refine lv_isub C.hx C.hb dX6_readNode_184 ?_
        refine tk_pN (x := .inl (((10 * x5) + x6) - 48)) C hR hS hw (by decide) rfl in_X3 tyX3 tyX3_ok nmX3 (by decide) q203 (fun _ h => h) rfl (tw_ni _) dX6_readNode_185 (fun σ H locs hw hR hS => ?_)
        exact wk_X6_readNode_b188 C hr hmn hnx hfr hRl hrf_X6_readNode _ _ σ _ _ _ hw hR hS (tk_sub hl [0, 1] rfl)
set_option maxHeartbeats 4000000 in
theorem wk_X6_readNode_b109 {rf_X6_readNode : (Option Nat) → (Option Nat) → (Option Nat → Tst → Prop) → (String → Nat → Tst → Prop) → Tst → Prop} {frf_X6_readNode : Nat}  (C : tw_C p l R s m args meth c G cX6_readNode 4 yX6_readNode.cls) (hr : meth.sig.returnType = (some (.object "TreeDiffer$Node"))) (hmn : meth.name = yX6_readNode.name) (hnx : (∀ x ∈ c.exceptionTable.toList, False)) (hfr : 7 ≤ R.frames ∧ frf_X6_readNode + 1 ≤ R.frames) (hRl : R.locals = 40 * R.frames) {Q : Option Nat → Tst → Prop} {X : String → Nat → Tst → Prop} (hrf_X6_readNode : ∀ fr : Nat, frf_X6_readNode ≤ fr → ∀ (a0 : Option Nat) (a1 : Option Nat) (Q : Option Nat → Tst → Prop) (X : String → Nat → Tst → Prop) (σ : Tst), rf_X6_readNode a0 a1 Q X σ → tw_M l yX6_readNode (ws_ yX6_readNode cX6_readNode 4 (some (.object "TreeDiffer$Node"))) fr (40 * fr) G σ [.inr a0, .inr a1] (tw_Qq G Q) X) (l0 : Option Nat) (l1 : Option Nat) (l2 : Option Nat) (σ : Tst) (H : Heap) (locs : List Loc) (ls : Array Slot) (hw : w_X6_readNode_b109 rf_X6_readNode Q X l0 l1 l2 σ) (hR : tw_R G σ H) (hS : va_S (tw_A G) s.heap H locs) (hl : tw_l ls 4 [(0, .inr l0), (1, .inr l1), (2, .inr l2)]) : tw_W p l e R s m args below meth c σ H locs (tw_E below G (tw_Qq G Q) X args s R) (F0 m 109 ls []) := by
  unfold w_X6_readNode_b109 at hw
  refine tk_aload_n C hl 1 dX6_readNode_109 rfl ?_
  refine tk_aload_n C hl 1 dX6_readNode_110 rfl ?_
  refine tk_grN C hR hw rfl in_X3 (by decide) q212 (fun _ h => h) dX6_readNode_111 (fun x1 hw => ?_)
  obtain ⟨hv, hw⟩ := hw
  refine tw_cbi5 C hS (tk_runF (As := []) (x := ⟨"java/util/List", "size", "()I"⟩) C hR hS (wk_J6_size l C.hst G (R.frames - 1) (by omega) _ _ _ σ hw) hv rfl q1500 q447 q449 q73 q451 (by decide +kernel) (show tw_pd ⟨"java/util/List", "size", "()I"⟩ 0 by decide +kernel) ⟨by omega, by omega⟩ hl.1 rfl (tw_r8 [.inr l1] (Nat.le_of_ble_eq_true rfl)) dX6_readNode_114) (fun E q σ H locs hX hR hS hi => tw_out C hR hS (fun x hx => (hnx x hx).elim) hi hX) (fun x2 σ H locs hw hR hS => ?_)
  refine tk_aload_n C hl 2 dX6_readNode_119 rfl ?_
  obtain ⟨hv, hw⟩ := hw
  refine tw_cbv C hS (tk_runV (As := [.inl x2, .inr l2]) C hR hS (wk_X3_add l C.hst G (R.frames - 1) (by omega) _ _ _ _ _ σ hw) hv rfl q1501 q669 q670 q70 q671 pd_X3_add ⟨by omega, by omega⟩ hl.1 rfl (tw_r8 [] (Nat.le_of_ble_eq_true rfl)) dX6_readNode_120) (fun E q σ H locs hX hR hS hi => tw_out C hR hS (fun x hx => (hnx x hx).elim) hi hX) (fun σ H locs hw hR hS => ?_)
  exact wk_X6_readNode_b123 C hr hmn hnx hfr hRl hrf_X6_readNode _ _ σ _ _ _ hw hR hS (tk_sub hl [0, 2] rfl)
set_option maxHeartbeats 4000000 in
theorem wk_X6_readNode_b31 {rf_X6_readNode : (Option Nat) → (Option Nat) → (Option Nat → Tst → Prop) → (String → Nat → Tst → Prop) → Tst → Prop} {frf_X6_readNode : Nat}  (C : tw_C p l R s m args meth c G cX6_readNode 4 yX6_readNode.cls) (hr : meth.sig.returnType = (some (.object "TreeDiffer$Node"))) (hmn : meth.name = yX6_readNode.name) (hnx : (∀ x ∈ c.exceptionTable.toList, False)) (hfr : 7 ≤ R.frames ∧ frf_X6_readNode + 1 ≤ R.frames) (hRl : R.locals = 40 * R.frames) {Q : Option Nat → Tst → Prop} {X : String → Nat → Tst → Prop} (hrf_X6_readNode : ∀ fr : Nat, frf_X6_readNode ≤ fr → ∀ (a0 : Option Nat) (a1 : Option Nat) (Q : Option Nat → Tst → Prop) (X : String → Nat → Tst → Prop) (σ : Tst), rf_X6_readNode a0 a1 Q X σ → tw_M l yX6_readNode (ws_ yX6_readNode cX6_readNode 4 (some (.object "TreeDiffer$Node"))) fr (40 * fr) G σ [.inr a0, .inr a1] (tw_Qq G Q) X) (l0 : Option Nat) (l1 : Option Nat) (σ : Tst) (H : Heap) (locs : List Loc) (ls : Array Slot) (hw : w_X6_readNode_b31 rf_X6_readNode Q X l0 l1 σ) (hR : tw_R G σ H) (hS : va_S (tw_A G) s.heap H locs) (hl : tw_l ls 4 [(0, .inr l0), (1, .inr l1)]) : tw_W p l e R s m args below meth c σ H locs (tw_E below G (tw_Qq G Q) X args s R) (F0 m 31 ls []) := by
  unfold w_X6_readNode_b31 at hw
  refine tk_nw C hR hS hw rfl in_X3 tyX3 tyX3_ok q1488 q158 q70 (fun j hj => by rcases (show j = 0 ∨ j = 1 ∨ j = 2 ∨ j = 3 ∨ j = 4 ∨ j = 5 ∨ j = 6 by omega) with rfl | rfl | rfl | rfl | rfl | rfl | rfl <;> rfl) dX6_readNode_31 (fun q1 σ H hw hR hS => ?_)
  refine tw_dup (x := .inr q1) C.hx C.hb dX6_readNode_34 ?_
  refine tk_aload_n C hl 0 dX6_readNode_35 rfl ?_
  refine lv_bipush (v := 97) C.hx C.hb dX6_readNode_36 (by decide) ?_
  refine lv_bipush (v := 122) C.hx C.hb dX6_readNode_38 (by decide) ?_
  obtain ⟨hv, hw⟩ := hw
  refine tw_cbi C hS (tk_runV (As := [.inl 97, .inl 122]) C hR hS (wk_X6_expect l C.hst G (R.frames - 1) (by omega) _ _ _ _ _ σ hw) hv rfl q1489 q1491 qs14 q88 q1492 pd_X6_expect ⟨by omega, by omega⟩ hl.1 rfl (tw_r8 [.inr q1, .inr q1] (Nat.le_of_ble_eq_true rfl)) dX6_readNode_40) (fun E q σ H locs hX hR hS hi => tw_out C hR hS (fun x hx => (hnx x hx).elim) hi hX) (fun x2 σ H locs hw hR hS => ?_)
  obtain ⟨hv, hw⟩ := hw
  refine tw_cbv C hS (tk_runI (As := [.inl x2]) hv C hR hS (wk_X3_init l C.hst G (R.frames - 1) (by omega) _ _ _ _ σ hw) q1493 q160 q70 q161 rfl pd_X3_init ⟨by omega, by omega⟩ hl.1 rfl (tw_r8 [.inr q1] (Nat.le_of_ble_eq_true rfl)) dX6_readNode_43) (fun E q σ H locs hX hR hS hi => tw_out C hR hS (fun x hx => (hnx x hx).elim) hi hX) (fun σ H locs hw hR hS => ?_)
  refine tk_astore_n (L' := [(2, .inr q1), (0, .inr l0), (1, .inr l1)]) C hl dX6_readNode_46 (by decide) rfl (fun ls hl => ?_)
  refine tk_aload_n C hl 1 dX6_readNode_47 rfl ?_
  refine tw_dup (x := .inr l0) C.hx C.hb dX6_readNode_48 ?_
  refine tk_gi C hR hw rfl in_X6 (by decide) q1434 (fun _ h => h) dX6_readNode_49 (fun x4 hw => ?_)
  refine lv_iconst (v := 1) C.hx C.hb dX6_readNode_52 (by decide) ?_
  refine lv_iadd C.hx C.hb dX6_readNode_53 ?_
  refine tk_p (x := .inl (x4 + 1)) C hR hS hw (by decide) rfl in_X6 tyX6 tyX6_ok nmX6 (by decide) q1434 (fun _ h => h) rfl (tw_ni _) dX6_readNode_54 (fun σ H locs hw hR hS => ?_)
  refine tk_aload_n C hl 2 dX6_readNode_57 rfl ?_
  refine tw_ifnull (tgt := 123) C.hx C.hb dX6_readNode_58 (by decide) (fun c58 => ?_) (fun c58 => ?_)
  · replace hw := hw.1 c58
    exact wk_X6_readNode_b123 C hr hmn hnx hfr hRl hrf_X6_readNode _ _ σ _ _ _ hw hR hS (tk_sub hl [1, 0] rfl)
  · replace hw := hw.2 c58
    refine tk_aload_n C hl 1 dX6_readNode_61 rfl ?_
    refine lv_bipush (v := 35) C.hx C.hb dX6_readNode_62 (by decide) ?_
    obtain ⟨hv, hw⟩ := hw
    refine tw_cbi C hS (tk_runV (As := [.inl 35]) C hR hS (wk_X6_take l C.hst G (R.frames - 1) (by omega) _ _ _ _ σ hw) hv rfl q1494 q1496 qs15 q88 q1497 pd_X6_take ⟨by omega, by omega⟩ hl.1 rfl (tw_r8 [] (Nat.le_of_ble_eq_true rfl)) dX6_readNode_64) (fun E q σ H locs hX hR hS hi => tw_out C hR hS (fun x hx => (hnx x hx).elim) hi hX) (fun x5 σ H locs hw hR hS => ?_)
    refine lv_if_eq (tgt := 109) C.hx C.hb dX6_readNode_67 (by decide) (fun c67 => ?_) (fun c67 => ?_)
    · replace hw := hw.1 c67
      exact wk_X6_readNode_b109 C hr hmn hnx hfr hRl hrf_X6_readNode _ _ _ σ _ _ _ hw hR hS (tk_sub hl [1, 2, 0] rfl)
    · replace hw := hw.2 c67
      refine tk_aload_n C hl 1 dX6_readNode_70 rfl ?_
      refine lv_bipush (v := 49) C.hx C.hb dX6_readNode_71 (by decide) ?_
      refine lv_bipush (v := 57) C.hx C.hb dX6_readNode_73 (by decide) ?_
      obtain ⟨hv, hw⟩ := hw
      refine tw_cbi C hS (tk_runV (As := [.inl 49, .inl 57]) C hR hS (wk_X6_expect l C.hst G (R.frames - 1) (by omega) _ _ _ _ _ σ hw) hv rfl q1489 q1491 qs14 q88 q1492 pd_X6_expect ⟨by omega, by omega⟩ hl.1 rfl (tw_r8 [] (Nat.le_of_ble_eq_true rfl)) dX6_readNode_75) (fun E q σ H locs hX hR hS hi => tw_out C hR hS (fun x hx => (hnx x hx).elim) hi hX) (fun x6 σ H locs hw hR hS => ?_)
      refine lv_bipush (v := 48) C.hx C.hb dX6_readNode_78 (by decide) ?_
      refine lv_isub C.hx C.hb dX6_readNode_80 ?_
      refine tk_istore_n (L' := [(3, .inl (x6 - 48)), (2, .inr q1), (0, .inr l0), (1, .inr l1)]) C hl dX6_readNode_81 (by decide) rfl (fun ls hl => ?_)
      refine tk_aload_n C hl 3 dX6_readNode_82 rfl ?_
      refine tk_iload_n C hl 0 dX6_readNode_83 rfl ?_
      obtain ⟨hv, hw⟩ := hw
      refine tw_cbi C hS (tk_runV (As := [.inl (x6 - 48)]) C hR hS (wk_X3_hasChildWithKey l C.hst G (R.frames - 1) (by omega) _ _ _ _ σ hw) hv rfl q1498 q1172 q1173 q70 q1174 pd_X3_hasChildWithKey ⟨by omega, by omega⟩ hl.1 rfl (tw_r8 [] (Nat.le_of_ble_eq_true rfl)) dX6_readNode_84) (fun E q σ H locs hX hR hS hi => tw_out C hR hS (fun x hx => (hnx x hx).elim) hi hX) (fun x7 σ H locs hw hR hS => ?_)
      refine lv_if_eq (tgt := 104) C.hx C.hb dX6_readNode_87 (by decide) (fun c87 => ?_) (fun c87 => ?_)
      · replace hw := hw.1 c87
        refine tk_aload_n C hl 1 dX6_readNode_104 rfl ?_
        refine tk_iload_n C hl 0 dX6_readNode_105 rfl ?_
        refine tk_pN (x := .inl (x6 - 48)) C hR hS hw (by decide) rfl in_X3 tyX3 tyX3_ok nmX3 (by decide) q198 (fun _ h => h) rfl (tw_ni _) dX6_readNode_106 (fun σ H locs hw hR hS => ?_)
        exact wk_X6_readNode_b109 C hr hmn hnx hfr hRl hrf_X6_readNode _ _ _ σ _ _ _ hw hR hS (tk_sub hl [2, 3, 1] rfl)
      · replace hw := hw.2 c87
        refine tk_nw C hR hS hw rfl in_X7 tyX7 tyX7_ok q1469 q1470 q89 (fun j hj => by rcases (show j = 0 ∨ j = 1 ∨ j = 2 ∨ j = 3 ∨ j = 4 ∨ j = 5 ∨ j = 6 by omega) with rfl | rfl | rfl | rfl | rfl | rfl | rfl <;> rfl) dX6_readNode_90 (fun q8 σ H hw hR hS => ?_)
        refine tw_dup (x := .inr q8) C.hx C.hb dX6_readNode_93 ?_
        refine tk_aload_n C hl 2 dX6_readNode_94 rfl ?_
        refine tk_gi C hR hw rfl in_X6 (by decide) q1433 (fun _ h => h) dX6_readNode_95 (fun x9 hw => ?_)
        refine lv_iconst (v := 1) C.hx C.hb dX6_readNode_98 (by decide) ?_
        refine lv_isub C.hx C.hb dX6_readNode_99 ?_
        obtain ⟨hv, hw⟩ := hw
        refine tw_cbv C hS (tk_runI (As := [.inl (x9 - 1)]) hv C hR hS (wk_X7_init l C.hst G (R.frames - 1) (by omega) _ _ _ _ σ hw) q1478 q1479 q89 q1480 rfl pd_X7_init ⟨by omega, by omega⟩ hl.1 rfl (tw_r8 [.inr q8] (Nat.le_of_ble_eq_true rfl)) dX6_readNode_100) (fun E q σ H locs hX hR hS hi => tw_out C hR hS (fun x hx => (hnx x hx).elim) hi hX) (fun σ H locs hw hR hS => ?_)
        exact tk_th C hR hS hw (fun x hx => (hnx x hx).elim) dX6_readNode_103
set_option maxHeartbeats 4000000 in
theorem wk_X6_readNode (l : Launch) (hl0 : l.stackTraces = false) (G : Tgl)  : ∀ (d fr : Nat), 7 + 1 * d ≤ fr → ∀ (l0 : Option Nat) (l1 : Option Nat) (Q : Option Nat → Tst → Prop) (X : String → Nat → Tst → Prop) (σ : Tst), w_X6_readNode d l0 l1 Q X σ → tw_M l yX6_readNode (ws_ yX6_readNode cX6_readNode 4 (some (.object "TreeDiffer$Node"))) fr (40 * fr) G σ [.inr l0, .inr l1] (tw_Qq G Q) X := by
  intro d
  induction d with
  | zero => intro fr hfr l0 l1 Q X σ hw; exact False.elim hw
  | succ d ih =>
    intro fr hfr l0 l1 Q X σ hw
    have hrf_X6_readNode := fun (fr : Nat) (h : 7 + 1 * d ≤ fr) => ih fr (by omega)
    rw [w_X6_readNode] at hw
    generalize hg : w_X6_readNode d = rf_X6_readNode at hw hrf_X6_readNode
    clear hg ih
    obtain ⟨frf_X6_readNode, hfrf_X6_readNode⟩ : ∃ f, f = 7 + 1 * d := ⟨_, rfl⟩
    rw [← hfrf_X6_readNode] at hrf_X6_readNode
    have hfr : 7 ≤ fr ∧ frf_X6_readNode + 1 ≤ fr := by refine ⟨?_, ?_⟩ <;> omega
    refine tw_of (ret := (some (.object "TreeDiffer$Node"))) hl0 (by decide) (Nat.le_of_ble_eq_true rfl) (fun p e R s m args below meth c hRf hRl C hr hmn hnx hR hS ls hl => ?_)
    have hfr : 7 ≤ R.frames ∧ frf_X6_readNode + 1 ≤ R.frames := by rw [hRf]; exact hfr
    have hRl : R.locals = 40 * R.frames := by rw [hRl, hRf]
    have hl : tw_l ls 4 [(0, .inr l0), (1, .inr l1)] := hl
    refine tk_aload_n C hl 0 dX6_readNode_0 rfl ?_
    refine tk_gi C hR hw rfl in_X6 (by decide) q1434 (fun _ h => h) dX6_readNode_1 (fun x1 hw => ?_)
    refine lv_bipush (v := 20) C.hx C.hb dX6_readNode_4 (by decide) ?_
    refine lv_icmp_ne (tgt := 31) C.hx C.hb dX6_readNode_6 (by decide) (fun c6 => ?_) (fun c6 => ?_)
    · replace hw := hw.2 c6
      exact wk_X6_readNode_b31 C hr hmn hnx hfr hRl hrf_X6_readNode _ _ σ _ _ _ hw hR hS (tk_sub hl [0, 1] rfl)
    · replace hw := hw.1 c6
      refine tk_aload_n C hl 0 dX6_readNode_9 rfl ?_
      obtain ⟨hv, hw⟩ := hw
      refine tw_cbi C hS (tk_runV (As := []) C hR hS (wk_X6_next l C.hst G (R.frames - 1) (by omega) _ _ _ σ hw) hv rfl q1451 q1453 qs13 q88 q1454 pd_X6_next ⟨by omega, by omega⟩ hl.1 rfl (tw_r8 [] (Nat.le_of_ble_eq_true rfl)) dX6_readNode_10) (fun E q σ H locs hX hR hS hi => tw_out C hR hS (fun x hx => (hnx x hx).elim) hi hX) (fun x2 σ H locs hw hR hS => ?_)
      refine tw_cbi C hS (tw_runSN (As := [.inl x2]) C hR hS (wk_X1_isLetter l C.hst G (R.frames - 1) (by omega) _ _ _ σ hw) q1466 q1467 q64 q1468 pd_X1_isLetter ⟨by omega, by omega⟩ hl.1 rfl (tw_r8 [] (Nat.le_of_ble_eq_true rfl)) dX6_readNode_13) (fun E q σ H locs hX hR hS hi => tw_out C hR hS (fun x hx => (hnx x hx).elim) hi hX) (fun x3 σ H locs hw hR hS => ?_)
      refine lv_if_eq (tgt := 31) C.hx C.hb dX6_readNode_16 (by decide) (fun c16 => ?_) (fun c16 => ?_)
      · replace hw := hw.1 c16
        exact wk_X6_readNode_b31 C hr hmn hnx hfr hRl hrf_X6_readNode _ _ σ _ _ _ hw hR hS (tk_sub hl [0, 1] rfl)
      · replace hw := hw.2 c16
        refine tk_nw C hR hS hw rfl in_X7 tyX7 tyX7_ok q1469 q1470 q89 (fun j hj => by rcases (show j = 0 ∨ j = 1 ∨ j = 2 ∨ j = 3 ∨ j = 4 ∨ j = 5 ∨ j = 6 by omega) with rfl | rfl | rfl | rfl | rfl | rfl | rfl <;> rfl) dX6_readNode_19 (fun q4 σ H hw hR hS => ?_)
        refine tw_dup (x := .inr q4) C.hx C.hb dX6_readNode_22 ?_
        refine tk_aload_n C hl 0 dX6_readNode_23 rfl ?_
        refine tk_gi C hR hw rfl in_X6 (by decide) q1433 (fun _ h => h) dX6_readNode_24 (fun x5 hw => ?_)
        obtain ⟨hv, hw⟩ := hw
        refine tw_cbv C hS (tk_runI (As := [.inl x5]) hv C hR hS (wk_X7_init l C.hst G (R.frames - 1) (by omega) _ _ _ _ σ hw) q1478 q1479 q89 q1480 rfl pd_X7_init ⟨by omega, by omega⟩ hl.1 rfl (tw_r8 [.inr q4] (Nat.le_of_ble_eq_true rfl)) dX6_readNode_27) (fun E q σ H locs hX hR hS hi => tw_out C hR hS (fun x hx => (hnx x hx).elim) hi hX) (fun σ H locs hw hR hS => ?_)
        exact tk_th C hR hS hw (fun x hx => (hnx x hx).elim) dX6_readNode_30
-- TreeDiffer$Tree.<init>(LTreeDiffer$Node;)V
def w_X2_init (l0 : Option Nat) (l1 : Option Nat) (Q : Tst → Prop) (X : String → Nat → Tst → Prop) (σ : Tst) : Prop := w_rf l0 <| w_p σ l0 cX2 0 (.inr l1) fun σ => Q σ
set_option maxHeartbeats 4000000 in
theorem wk_X2_init (l : Launch) (hl0 : l.stackTraces = false) (G : Tgl) (fr : Nat)  (hfr : 1 ≤ fr) (l0 : Option Nat) (l1 : Option Nat) (Q : Tst → Prop) (X : String → Nat → Tst → Prop) (σ : Tst) (hw : w_X2_init l0 l1 Q X σ) : tw_M l yX2_init (ws_ yX2_init cX2_init 2 none) fr (40 * fr) G σ [.inr l0, .inr l1] (tw_Qv G Q) X := by
  unfold w_X2_init at hw
  refine tw_of (ret := none) hl0 (by decide) (Nat.le_of_ble_eq_true rfl) (fun p e R s m args below meth c hRf hRl C hr hmn hnx hR hS ls hl => ?_)
  have hfr : 1 ≤ R.frames := by rw [hRf]; exact hfr
  have hRl : R.locals = 40 * R.frames := by rw [hRl, hRf]
  have hl : tw_l ls 2 [(0, .inr l0), (1, .inr l1)] := hl
  refine tk_aload_n C hl 0 dX2_init_0 rfl ?_
  refine tk_obj C hw q238 q119 q120 hl.1 (tw_r8 [] (Nat.le_of_ble_eq_true rfl)) (by omega) (by omega) dX2_init_1 (fun hw => ?_)
  refine tk_aload_n C hl 0 dX2_init_4 rfl ?_
  refine tk_aload_n C hl 1 dX2_init_5 rfl ?_
  refine tk_pF (x := .inr l1) C hR hS hw (Or.inl (by decide)) rfl in_X2 tyX2 tyX2_ok nmX2 (by decide) q239 (fun _ h => h) rfl hmn rfl (tw_nr _ _) dX2_init_6 (fun σ H locs hw hR hS => ?_)
  exact tw_vret C hR hS hr dX2_init_9 hw
-- TreeDiffer$Reader.read()LTreeDiffer$Tree;
def w_X6_read (l0 : Option Nat) (Q : Option Nat → Tst → Prop) (X : String → Nat → Tst → Prop) (σ : Tst) : Prop := w_rc σ l0 cX6 <| w_X6_readNode 64 l0 none (fun x1 σ => w_gi σ l0 cX6 0 fun x2 => w_gr σ l0 cX6 2 fun x3 => w_gr σ x3 cX1 1 fun x4 => w_rc σ x4 cJ1 <| w_J1_length x4 (fun x5 σ => w_if (x5 ≤ x2) (w_nw σ cX2 1 [.inr none] fun q6 σ => w_rf q6 <| w_X2_init q6 x1 (fun σ => Q q6 σ) X σ) (w_nw σ cX7 7 [.inr none, .inr none, .inr none, .inr none, .inr none, .inl 0, .inl 0] fun q8 σ => w_gi σ l0 cX6 0 fun x9 => w_rf q8 <| w_X7_init q8 x9 (fun σ => w_th σ q8 X) X σ)) X σ) X σ
set_option maxHeartbeats 4000000 in
theorem wk_X6_read (l : Launch) (hl0 : l.stackTraces = false) (G : Tgl) (fr : Nat)  (hfr : 72 ≤ fr) (l0 : Option Nat) (Q : Option Nat → Tst → Prop) (X : String → Nat → Tst → Prop) (σ : Tst) (hw : w_X6_read l0 Q X σ) : tw_M l yX6_read (ws_ yX6_read cX6_read 2 (some (.object "TreeDiffer$Tree"))) fr (40 * fr) G σ [.inr l0] (tw_Qq G Q) X := by
  unfold w_X6_read at hw
  refine tw_of (ret := (some (.object "TreeDiffer$Tree"))) hl0 (by decide) (Nat.le_of_ble_eq_true rfl) (fun p e R s m args below meth c hRf hRl C hr hmn hnx hR hS ls hl => ?_)
  have hfr : 72 ≤ R.frames := by rw [hRf]; exact hfr
  have hRl : R.locals = 40 * R.frames := by rw [hRl, hRf]
  have hl : tw_l ls 2 [(0, .inr l0)] := hl
  refine tk_aload_n C hl 0 dX6_read_0 rfl ?_
  refine lv_null C.hx C.hb dX6_read_1 ?_
  refine W.eq (g2 := F0 m 2 ls (va_rf none :: [va_rf l0])) rfl ?_
  obtain ⟨hv, hw⟩ := hw
  refine tw_cbq C hS (tk_runV (As := [.inr none]) C hR hS (wk_X6_readNode l C.hst G 64 (R.frames - 1) (by omega) _ _ _ _ σ hw) hv rfl q1447 q1449 qs12 q88 q1450 pd_X6_readNode ⟨by omega, by omega⟩ hl.1 rfl (tw_r8 [] (Nat.le_of_ble_eq_true rfl)) dX6_read_2) (fun E q σ H locs hX hR hS hi => tw_out C hR hS (fun x hx => (hnx x hx).elim) hi hX) (fun x1 σ H locs hw hR hS => ?_)
  refine tk_astore_n (L' := [(1, .inr x1), (0, .inr l0)]) C hl dX6_read_5 (by decide) rfl (fun ls hl => ?_)
  refine tk_aload_n C hl 1 dX6_read_6 rfl ?_
  refine tk_gi C hR hw rfl in_X6 (by decide) q1433 (fun _ h => h) dX6_read_7 (fun x2 hw => ?_)
  refine tk_aload_n C hl 1 dX6_read_10 rfl ?_
  refine tk_gr C hR hw rfl in_X6 (by decide) q1435 (fun _ h => h) dX6_read_11 (fun x3 hw => ?_)
  refine tk_grN C hR hw rfl in_X1 (by decide) q248 (fun _ h => h) dX6_read_14 (fun x4 hw => ?_)
  obtain ⟨hv, hw⟩ := hw
  refine tw_cbi C hS (tk_runV (As := []) C hR hS (wk_J1_length l C.hst G (R.frames - 1) (by omega) _ _ _ σ hw) hv rfl q1455 q863 q2546 q66 q864 pd_J1_length ⟨by omega, by omega⟩ hl.1 rfl (tw_r8 [.inl x2] (Nat.le_of_ble_eq_true rfl)) dX6_read_17) (fun E q σ H locs hX hR hS hi => tw_out C hR hS (fun x hx => (hnx x hx).elim) hi hX) (fun x5 σ H locs hw hR hS => ?_)
  refine lv_icmp_ge (tgt := 35) C.hx C.hb dX6_read_20 (by decide) (fun c20 => ?_) (fun c20 => ?_)
  · replace hw := hw.1 c20
    refine tk_nw C hR hS hw rfl in_X2 tyX2 tyX2_ok q1502 q156 q69 (fun j hj => by rcases (show j = 0 by omega) with rfl; rfl) dX6_read_35 (fun q6 σ H hw hR hS => ?_)
    refine tw_dup (x := .inr q6) C.hx C.hb dX6_read_38 ?_
    refine tk_aload_n C hl 0 dX6_read_39 rfl ?_
    obtain ⟨hv, hw⟩ := hw
    refine tw_cbv C hS (tk_runI (As := [.inr x1]) hv C hR hS (wk_X2_init l C.hst G (R.frames - 1) (by omega) _ _ _ _ σ hw) q1503 q236 q69 q237 rfl pd_X2_init ⟨by omega, by omega⟩ hl.1 rfl (tw_r8 [.inr q6] (Nat.le_of_ble_eq_true rfl)) dX6_read_40) (fun E q σ H locs hX hR hS hi => tw_out C hR hS (fun x hx => (hnx x hx).elim) hi hX) (fun σ H locs hw hR hS => ?_)
    exact tw_aret C hR hS hr (Or.inl ⟨_, rfl⟩) dX6_read_43 hw
  · replace hw := hw.2 c20
    refine tk_nw C hR hS hw rfl in_X7 tyX7 tyX7_ok q1469 q1470 q89 (fun j hj => by rcases (show j = 0 ∨ j = 1 ∨ j = 2 ∨ j = 3 ∨ j = 4 ∨ j = 5 ∨ j = 6 by omega) with rfl | rfl | rfl | rfl | rfl | rfl | rfl <;> rfl) dX6_read_23 (fun q8 σ H hw hR hS => ?_)
    refine tw_dup (x := .inr q8) C.hx C.hb dX6_read_26 ?_
    refine tk_aload_n C hl 1 dX6_read_27 rfl ?_
    refine tk_gi C hR hw rfl in_X6 (by decide) q1433 (fun _ h => h) dX6_read_28 (fun x9 hw => ?_)
    obtain ⟨hv, hw⟩ := hw
    refine tw_cbv C hS (tk_runI (As := [.inl x9]) hv C hR hS (wk_X7_init l C.hst G (R.frames - 1) (by omega) _ _ _ _ σ hw) q1478 q1479 q89 q1480 rfl pd_X7_init ⟨by omega, by omega⟩ hl.1 rfl (tw_r8 [.inr q8] (Nat.le_of_ble_eq_true rfl)) dX6_read_31) (fun E q σ H locs hX hR hS hi => tw_out C hR hS (fun x hx => (hnx x hx).elim) hi hX) (fun σ H locs hw hR hS => ?_)
    exact tk_th C hR hS hw (fun x hx => (hnx x hx).elim) dX6_read_34
-- java/util/Arrays.rangeCheck(III)V
def w_J13_rangeCheck (l0 : Int32) (l1 : Int32) (l2 : Int32) (Q : Tst → Prop) (X : String → Nat → Tst → Prop) (σ : Tst) : Prop := w_if (l1 ≤ l2) (w_if (0 ≤ l1) (w_if (l2 ≤ l0) (Q σ) (False)) (False)) (False)
set_option maxHeartbeats 4000000 in
theorem wk_J13_rangeCheck (l : Launch) (hl0 : l.stackTraces = false) (G : Tgl) (fr : Nat)  (hfr : 1 ≤ fr) (l0 : Int32) (l1 : Int32) (l2 : Int32) (Q : Tst → Prop) (X : String → Nat → Tst → Prop) (σ : Tst) (hw : w_J13_rangeCheck l0 l1 l2 Q X σ) : tw_M l yJ13_rangeCheck (ws_ yJ13_rangeCheck cJ13_rangeCheck 3 none) fr (40 * fr) G σ [.inl l0, .inl l1, .inl l2] (tw_Qv G Q) X := by
  unfold w_J13_rangeCheck at hw
  refine tw_of (ret := none) hl0 (by decide) (Nat.le_of_ble_eq_true rfl) (fun p e R s m args below meth c hRf hRl C hr hmn hnx hR hS ls hl => ?_)
  have hfr : 1 ≤ R.frames := by rw [hRf]; exact hfr
  have hRl : R.locals = 40 * R.frames := by rw [hRl, hRf]
  have hl : tw_l ls 3 [(0, .inl l0), (1, .inl l1), (2, .inl l2)] := hl
  refine tk_iload_n C hl 1 dJ13_rangeCheck_0 rfl ?_
  refine tk_iload_n C hl 2 dJ13_rangeCheck_1 rfl ?_
  refine lv_icmp_le (tgt := 46) C.hx C.hb dJ13_rangeCheck_2 (by decide) (fun c2 => ?_) (fun c2 => ?_)
  · replace hw := hw.1 c2
    refine tk_iload_n C hl 1 dJ13_rangeCheck_46 rfl ?_
    refine lv_if_ge (tgt := 59) C.hx C.hb dJ13_rangeCheck_47 (by decide) (fun c47 => ?_) (fun c47 => ?_)
    · replace hw := hw.1 c47
      refine tk_iload_n C hl 2 dJ13_rangeCheck_59 rfl ?_
      refine tk_iload_n C hl 0 dJ13_rangeCheck_60 rfl ?_
      refine lv_icmp_le (tgt := 73) C.hx C.hb dJ13_rangeCheck_61 (by decide) (fun c61 => ?_) (fun c61 => ?_)
      · replace hw := hw.1 c61
        exact tw_vret C hR hS hr dJ13_rangeCheck_73 hw
      · replace hw := hw.2 c61
        exact hw.elim
    · replace hw := hw.2 c47
      exact hw.elim
  · replace hw := hw.2 c2
    exact hw.elim
end GW26
