set_option maxRecDepth 100000
section GW22
variable {p : Program} {l : Launch} {e : Env} {R : Room} {s : State} {m : MethodId} {args : Array Value} {below : List Frame} {meth : Method} {c : Code} {H : Heap} {locs : List Loc} {G : Tgl}
-- java/lang/StringBuilder.append(C)Ljava/lang/StringBuilder;
def w_J1_append_3 (l0 : Option Nat) (l1 : Int32) (Q : Option Nat → Tst → Prop) (X : String → Nat → Tst → Prop) (σ : Tst) : Prop := w_rc σ l0 cJ1 <| w_J0_append_3 l0 l1 (fun x1 σ => Q l0 σ) X σ
set_option maxHeartbeats 4000000 in
theorem wk_J1_append_3 (l : Launch) (hl0 : l.stackTraces = false) (G : Tgl) (fr : Nat)  (hfr : 8 ≤ fr) (l0 : Option Nat) (l1 : Int32) (Q : Option Nat → Tst → Prop) (X : String → Nat → Tst → Prop) (σ : Tst) (hw : w_J1_append_3 l0 l1 Q X σ) : tw_M l yJ1_append_3 (ws_ yJ1_append_3 cJ1_append_3 2 (some (.object "java/lang/StringBuilder"))) fr (40 * fr) G σ [.inr l0, .inl l1] (tw_Qq G Q) X := by
  unfold w_J1_append_3 at hw
  refine tw_of (ret := (some (.object "java/lang/StringBuilder"))) hl0 (by decide) (Nat.le_of_ble_eq_true rfl) (fun p e R s m args below meth c hRf hRl C hr hmn hnx hR hS ls hl => ?_)
  have hfr : 8 ≤ R.frames := by rw [hRf]; exact hfr
  have hRl : R.locals = 40 * R.frames := by rw [hRl, hRf]
  have hl : tw_l ls 2 [(0, .inr l0), (1, .inl l1)] := hl
  refine tk_aload_n C hl 0 dJ1_append_3_0 rfl ?_
  refine tk_iload_n C hl 1 dJ1_append_3_1 rfl ?_
  obtain ⟨hv, hw⟩ := hw
  refine tw_cbq C hS (tk_runSU (As := [.inl l1]) (Cn := "java/lang/StringBuilder") C hR hS (wk_J0_append_3 l C.hst G (R.frames - 1) (by omega) _ _ _ _ σ hw) hv rfl q1375 q2547 q154 q1376 q65 q1377 (by decide) (by exact (by decide +kernel : (parseMethodDescriptor "(C)Ljava/lang/AbstractStringBuilder;").map (fun d => d.parameters.length) = some 1)) ⟨by omega, by omega⟩ hl.1 rfl (tw_r8 [] (Nat.le_of_ble_eq_true rfl)) dJ1_append_3_2) (fun E q σ H locs hX hR hS hi => tw_out C hR hS (fun x hx => (hnx x hx).elim) hi hX) (fun x1 σ H locs hw hR hS => ?_)
  refine tw_pop (x := .inr x1) C.hx C.hb dJ1_append_3_5 ?_
  refine tk_aload_n C hl 0 dJ1_append_3_6 rfl ?_
  exact tw_aret C hR hS hr (Or.inl ⟨_, rfl⟩) dJ1_append_3_7 hw
-- java/lang/Integer.stringSize(I)I
def w_J22_stringSize_b16 (Q : Int32 → Tst → Prop) (X : String → Nat → Tst → Prop) : Nat → Int32 → Int32 → Int32 → Int32 → Tst → Prop
  | 0, _, _, _, _, _ => False
  | n + 1, l0, l1, l2, l3, σ => w_if (10 ≤ l3) (Q (10 + l1) σ) (w_if (l0 ≤ l2) ((w_J22_stringSize_b16 Q X n) l0 l1 (10 * l2) (l3 + 1) σ) (Q (l3 + l1) σ))
def w_J22_stringSize_b11 (Q : Int32 → Tst → Prop) (X : String → Nat → Tst → Prop) (l0 : Int32) (l1 : Int32) (σ : Tst) : Prop := ∃ z, w_J22_stringSize_b16 Q X z l0 l1 (-10) 1 σ
def w_J22_stringSize (l0 : Int32) (Q : Int32 → Tst → Prop) (X : String → Nat → Tst → Prop) (σ : Tst) : Prop := w_if (l0 < 0) (w_J22_stringSize_b11 Q X l0 1 σ) (w_J22_stringSize_b11 Q X (-l0) 0 σ)
set_option maxHeartbeats 4000000 in
theorem wk_J22_stringSize_b16  (C : tw_C p l R s m args meth c G cJ22_stringSize 4 yJ22_stringSize.cls) (hr : meth.sig.returnType = (some .int)) (hmn : meth.name = yJ22_stringSize.name) (hnx : (∀ x ∈ c.exceptionTable.toList, False)) (hfr : 1 ≤ R.frames) (hRl : R.locals = 40 * R.frames) {Q : Int32 → Tst → Prop} {X : String → Nat → Tst → Prop}  : ∀ (n : Nat) (l0 : Int32) (l1 : Int32) (l2 : Int32) (l3 : Int32) (σ : Tst) (H : Heap) (locs : List Loc) (ls : Array Slot), w_J22_stringSize_b16 Q X n l0 l1 l2 l3 σ → tw_R G σ H → va_S (tw_A G) s.heap H locs → tw_l ls 4 [(0, .inl l0), (1, .inl l1), (2, .inl l2), (3, .inl l3)] → tw_W p l e R s m args below meth c σ H locs (tw_E below G (tw_Qi G Q) X args s R) (F0 m 16 ls []) := by
  intro n
  induction n with
  | zero => intro l0 l1 l2 l3 σ H locs ls hw; exact False.elim hw
  | succ n hk16 =>
    intro l0 l1 l2 l3 σ H locs ls hw hR hS hl
    rw [w_J22_stringSize_b16] at hw
    refine tk_iload_n C hl 3 dJ22_stringSize_16 rfl ?_
    refine lv_bipush (v := 10) C.hx C.hb dJ22_stringSize_17 (by decide) ?_
    refine lv_icmp_ge (tgt := 42) C.hx C.hb dJ22_stringSize_19 (by decide) (fun c19 => ?_) (fun c19 => ?_)
    · replace hw := hw.1 c19
      refine lv_bipush (v := 10) C.hx C.hb dJ22_stringSize_42 (by decide) ?_
      refine tk_iload_n C hl 1 dJ22_stringSize_44 rfl ?_
      refine lv_iadd C.hx C.hb dJ22_stringSize_45 ?_
      exact tw_iret C hR hS hr rfl dJ22_stringSize_46 hw
    · replace hw := hw.2 c19
      refine tk_iload_n C hl 0 dJ22_stringSize_22 rfl ?_
      refine tk_iload_n C hl 2 dJ22_stringSize_23 rfl ?_
      refine lv_icmp_le (tgt := 31) C.hx C.hb dJ22_stringSize_24 (by decide) (fun c24 => ?_) (fun c24 => ?_)
      · replace hw := hw.1 c24
        refine lv_bipush (v := 10) C.hx C.hb dJ22_stringSize_31 (by decide) ?_
        refine tk_iload_n C hl 2 dJ22_stringSize_33 rfl ?_
        refine lv_imul C.hx C.hb dJ22_stringSize_34 ?_
        refine tk_istore_n (L' := [(2, .inl (10 * l2)), (0, .inl l0), (1, .inl l1), (3, .inl l3)]) C hl dJ22_stringSize_35 (by decide) rfl (fun ls hl => ?_)
        refine tk_iinc (L' := [(3, .inl (l3 + 1)), (2, .inl (10 * l2)), (0, .inl l0), (1, .inl l1)]) (y := (l3 + 1)) C hl 3 dJ22_stringSize_36 rfl rfl (by decide) rfl (fun ls hl => ?_)
        refine lv_goto (tgt := 16) C.hx C.hb dJ22_stringSize_39 (by decide) ?_
        exact hk16 _ _ _ _ σ _ _ _ hw hR hS (tk_sub hl [2, 3, 1, 0] rfl)
      · replace hw := hw.2 c24
        refine tk_iload_n C hl 3 dJ22_stringSize_27 rfl ?_
        refine tk_iload_n C hl 1 dJ22_stringSize_28 rfl ?_
        refine lv_iadd C.hx C.hb dJ22_stringSize_29 ?_
        exact tw_iret C hR hS hr rfl dJ22_stringSize_30 hw
set_option maxHeartbeats 4000000 in
theorem wk_J22_stringSize_b11  (C : tw_C p l R s m args meth c G cJ22_stringSize 4 yJ22_stringSize.cls) (hr : meth.sig.returnType = (some .int)) (hmn : meth.name = yJ22_stringSize.name) (hnx : (∀ x ∈ c.exceptionTable.toList, False)) (hfr : 1 ≤ R.frames) (hRl : R.locals = 40 * R.frames) {Q : Int32 → Tst → Prop} {X : String → Nat → Tst → Prop}  (l0 : Int32) (l1 : Int32) (σ : Tst) (H : Heap) (locs : List Loc) (ls : Array Slot) (hw : w_J22_stringSize_b11 Q X l0 l1 σ) (hR : tw_R G σ H) (hS : va_S (tw_A G) s.heap H locs) (hl : tw_l ls 4 [(0, .inl l0), (1, .inl l1)]) : tw_W p l e R s m args below meth c σ H locs (tw_E below G (tw_Qi G Q) X args s R) (F0 m 11 ls []) := by
  unfold w_J22_stringSize_b11 at hw
  refine lv_bipush (v := (-10)) C.hx C.hb dJ22_stringSize_11 (by decide) ?_
  refine tk_istore_n (L' := [(2, .inl (-10)), (0, .inl l0), (1, .inl l1)]) C hl dJ22_stringSize_13 (by decide) rfl (fun ls hl => ?_)
  refine lv_iconst (v := 1) C.hx C.hb dJ22_stringSize_14 (by decide) ?_
  refine tk_istore_n (L' := [(3, .inl 1), (2, .inl (-10)), (0, .inl l0), (1, .inl l1)]) C hl dJ22_stringSize_15 (by decide) rfl (fun ls hl => ?_)
  obtain ⟨z, hw⟩ := hw
  exact wk_J22_stringSize_b16 C hr hmn hnx hfr hRl z _ _ _ _ σ _ _ _ hw hR hS (tk_sub hl [2, 3, 1, 0] rfl)
set_option maxHeartbeats 4000000 in
theorem wk_J22_stringSize (l : Launch) (hl0 : l.stackTraces = false) (G : Tgl) (fr : Nat)  (hfr : 1 ≤ fr) (l0 : Int32) (Q : Int32 → Tst → Prop) (X : String → Nat → Tst → Prop) (σ : Tst) (hw : w_J22_stringSize l0 Q X σ) : tw_M l yJ22_stringSize (ws_ yJ22_stringSize cJ22_stringSize 4 (some .int)) fr (40 * fr) G σ [.inl l0] (tw_Qi G Q) X := by
  unfold w_J22_stringSize at hw
  refine tw_of (ret := (some .int)) hl0 (by decide) (Nat.le_of_ble_eq_true rfl) (fun p e R s m args below meth c hRf hRl C hr hmn hnx hR hS ls hl => ?_)
  have hfr : 1 ≤ R.frames := by rw [hRf]; exact hfr
  have hRl : R.locals = 40 * R.frames := by rw [hRl, hRf]
  have hl : tw_l ls 4 [(0, .inl l0)] := hl
  refine lv_iconst (v := 1) C.hx C.hb dJ22_stringSize_0 (by decide) ?_
  refine tk_istore_n (L' := [(1, .inl 1), (0, .inl l0)]) C hl dJ22_stringSize_1 (by decide) rfl (fun ls hl => ?_)
  refine tk_iload_n C hl 1 dJ22_stringSize_2 rfl ?_
  refine lv_if_lt (tgt := 11) C.hx C.hb dJ22_stringSize_3 (by decide) (fun c3 => ?_) (fun c3 => ?_)
  · replace hw := hw.1 c3
    exact wk_J22_stringSize_b11 C hr hmn hnx hfr hRl _ _ σ _ _ _ hw hR hS (tk_sub hl [1, 0] rfl)
  · replace hw := hw.2 c3
    refine lv_iconst (v := 0) C.hx C.hb dJ22_stringSize_6 (by decide) ?_
    refine tk_istore_n (L' := [(1, .inl 0), (0, .inl l0)]) C hl dJ22_stringSize_7 (by decide) rfl (fun ls hl => ?_)
    refine tk_iload_n C hl 1 dJ22_stringSize_8 rfl ?_
    refine lv_ineg C.hx C.hb dJ22_stringSize_9 ?_
    refine tk_istore_n (L' := [(0, .inl (-l0)), (1, .inl 0)]) C hl dJ22_stringSize_10 (by decide) rfl (fun ls hl => ?_)
    exact wk_J22_stringSize_b11 C hr hmn hnx hfr hRl _ _ σ _ _ _ hw hR hS (tk_sub hl [0, 1] rfl)
-- java/lang/Integer.getChars(II[B)I
def w_J22_getChars_b118 (Q : Int32 → Tst → Prop) (X : String → Nat → Tst → Prop) (l5 : Int32) (σ : Tst) : Prop := Q l5 σ
def w_J22_getChars_b104 (Q : Int32 → Tst → Prop) (X : String → Nat → Tst → Prop) (l2 : Option Nat) (l5 : Int32) (l6 : Int32) (σ : Tst) : Prop := w_if (l6 = 0) (w_J22_getChars_b118 Q X l5 σ) (w_sb σ l2 (l5 + (-1)) 45 fun σ => w_J22_getChars_b118 Q X (l5 + (-1)) σ)
def w_J22_getChars_b22 (Q : Int32 → Tst → Prop) (X : String → Nat → Tst → Prop) : Nat → Int32 → Option Nat → Int32 → Int32 → Tst → Prop
  | 0, _, _, _, _, _ => False
  | n + 1, l0, l2, l5, l6, σ => w_if ((-100) < l0) (w_k σ 1 fun x1 => w_lb σ x1 (-l0) fun x2 => w_sb σ l2 (l5 + (-1)) x2 fun σ => w_if ((-9) ≤ l0) (w_J22_getChars_b104 Q X l2 (l5 + (-1)) l6 σ) (w_k σ 2 fun x3 => w_lb σ x3 (-l0) fun x4 => w_sb σ l2 ((l5 + (-1)) + (-1)) x4 fun σ => w_J22_getChars_b104 Q X l2 ((l5 + (-1)) + (-1)) l6 σ)) (¬ (100 : Int32) = 0 ∧ w_k σ 1 fun x5 => w_lb σ x5 (((l0 / 100) * 100) - l0) fun x6 => w_sb σ l2 (l5 + (-1)) x6 fun σ => w_k σ 2 fun x7 => w_lb σ x7 (((l0 / 100) * 100) - l0) fun x8 => w_sb σ l2 ((l5 + (-1)) + (-1)) x8 fun σ => (w_J22_getChars_b22 Q X n) (l0 / 100) l2 ((l5 + (-1)) + (-1)) l6 σ)
def w_J22_getChars_b12 (Q : Int32 → Tst → Prop) (X : String → Nat → Tst → Prop) (l0 : Int32) (l2 : Option Nat) (l5 : Int32) (s0 : Int32) (σ : Tst) : Prop := w_if (s0 = 0) (∃ z, w_J22_getChars_b22 Q X z (-l0) l2 l5 s0 σ) (∃ z, w_J22_getChars_b22 Q X z l0 l2 l5 s0 σ)
def w_J22_getChars (l0 : Int32) (l1 : Int32) (l2 : Option Nat) (Q : Int32 → Tst → Prop) (X : String → Nat → Tst → Prop) (σ : Tst) : Prop := w_if (0 ≤ l0) (w_J22_getChars_b12 Q X l0 l2 l1 0 σ) (w_J22_getChars_b12 Q X l0 l2 l1 1 σ)
set_option maxHeartbeats 4000000 in
theorem wk_J22_getChars_b118  (C : tw_C p l R s m args meth c G cJ22_getChars 7 yJ22_getChars.cls) (hr : meth.sig.returnType = (some .int)) (hmn : meth.name = yJ22_getChars.name) (hnx : (∀ x ∈ c.exceptionTable.toList, False)) (hfr : 1 ≤ R.frames) (hRl : R.locals = 40 * R.frames) {Q : Int32 → Tst → Prop} {X : String → Nat → Tst → Prop}  (l5 : Int32) (σ : Tst) (H : Heap) (locs : List Loc) (ls : Array Slot) (hw : w_J22_getChars_b118 Q X l5 σ) (hR : tw_R G σ H) (hS : va_S (tw_A G) s.heap H locs) (hl : tw_l ls 7 [(5, .inl l5)]) : tw_W p l e R s m args below meth c σ H locs (tw_E below G (tw_Qi G Q) X args s R) (F0 m 118 ls []) := by
  unfold w_J22_getChars_b118 at hw
  refine tk_iload C hl 0 dJ22_getChars_118 rfl ?_
  exact tw_iret C hR hS hr rfl dJ22_getChars_120 hw
set_option maxHeartbeats 4000000 in
theorem wk_J22_getChars_b104  (C : tw_C p l R s m args meth c G cJ22_getChars 7 yJ22_getChars.cls) (hr : meth.sig.returnType = (some .int)) (hmn : meth.name = yJ22_getChars.name) (hnx : (∀ x ∈ c.exceptionTable.toList, False)) (hfr : 1 ≤ R.frames) (hRl : R.locals = 40 * R.frames) {Q : Int32 → Tst → Prop} {X : String → Nat → Tst → Prop}  (l2 : Option Nat) (l5 : Int32) (l6 : Int32) (σ : Tst) (H : Heap) (locs : List Loc) (ls : Array Slot) (hw : w_J22_getChars_b104 Q X l2 l5 l6 σ) (hR : tw_R G σ H) (hS : va_S (tw_A G) s.heap H locs) (hl : tw_l ls 7 [(2, .inr l2), (5, .inl l5), (6, .inl l6)]) : tw_W p l e R s m args below meth c σ H locs (tw_E below G (tw_Qi G Q) X args s R) (F0 m 104 ls []) := by
  unfold w_J22_getChars_b104 at hw
  refine tk_iload C hl 2 dJ22_getChars_104 rfl ?_
  refine lv_if_eq (tgt := 118) C.hx C.hb dJ22_getChars_106 (by decide) (fun c106 => ?_) (fun c106 => ?_)
  · replace hw := hw.1 c106
    exact wk_J22_getChars_b118 C hr hmn hnx hfr hRl _ σ _ _ _ hw hR hS (tk_sub hl [1] rfl)
  · replace hw := hw.2 c106
    refine tk_aload_n C hl 0 dJ22_getChars_109 rfl ?_
    refine tk_iinc (L' := [(5, .inl (l5 + (-1))), (2, .inr l2), (6, .inl l6)]) (y := (l5 + (-1))) C hl 1 dJ22_getChars_110 rfl rfl (by decide) rfl (fun ls hl => ?_)
    refine tk_iload C hl 0 dJ22_getChars_113 rfl ?_
    refine lv_bipush (v := 45) C.hx C.hb dJ22_getChars_115 (by decide) ?_
    refine tk_sb C hR hS hw dJ22_getChars_117 (fun σ H locs hw hR hS => ?_)
    exact wk_J22_getChars_b118 C hr hmn hnx hfr hRl _ σ _ _ _ hw hR hS (tk_sub hl [0] rfl)
set_option maxHeartbeats 4000000 in
theorem wk_J22_getChars_b22  (C : tw_C p l R s m args meth c G cJ22_getChars 7 yJ22_getChars.cls) (hr : meth.sig.returnType = (some .int)) (hmn : meth.name = yJ22_getChars.name) (hnx : (∀ x ∈ c.exceptionTable.toList, False)) (hfr : 1 ≤ R.frames) (hRl : R.locals = 40 * R.frames) {Q : Int32 → Tst → Prop} {X : String → Nat → Tst → Prop}  : ∀ (n : Nat) (l0 : Int32) (l2 : Option Nat) (l5 : Int32) (l6 : Int32) (σ : Tst) (H : Heap) (locs : List Loc) (ls : Array Slot), w_J22_getChars_b22 Q X n l0 l2 l5 l6 σ → tw_R G σ H → va_S (tw_A G) s.heap H locs → tw_l ls 7 [(0, .inl l0), (2, .inr l2), (5, .inl l5), (6, .inl l6)] → tw_W p l e R s m args below meth c σ H locs (tw_E below G (tw_Qi G Q) X args s R) (F0 m 22 ls []) := by
  intro n
  induction n with
  | zero => intro l0 l2 l5 l6 σ H locs ls hw; exact False.elim hw
  | succ n hk22 =>
    intro l0 l2 l5 l6 σ H locs ls hw hR hS hl
    rw [w_J22_getChars_b22] at hw
    refine tk_iload_n C hl 0 dJ22_getChars_22 rfl ?_
    refine lv_bipush (v := (-100)) C.hx C.hb dJ22_getChars_23 (by decide) ?_
    refine lv_icmp_gt (tgt := 72) C.hx C.hb dJ22_getChars_25 (by decide) (fun c25 => ?_) (fun c25 => ?_)
    · replace hw := hw.1 c25
      refine tk_aload_n C hl 1 dJ22_getChars_72 rfl ?_
      refine tk_iinc (L' := [(5, .inl (l5 + (-1))), (0, .inl l0), (2, .inr l2), (6, .inl l6)]) (y := (l5 + (-1))) C hl 2 dJ22_getChars_73 rfl rfl (by decide) rfl (fun ls hl => ?_)
      refine tk_iload C hl 0 dJ22_getChars_76 rfl ?_
      refine tk_gk (n := 1) C hR hS hw 1 rfl q828 (fun _ h => h) dJ22_getChars_78 (fun x1 hw => ?_)
      refine tk_iload_n C hl 1 dJ22_getChars_81 rfl ?_
      refine lv_ineg C.hx C.hb dJ22_getChars_82 ?_
      refine tk_lb C hR hw dJ22_getChars_83 (fun x2 hw => ?_)
      refine tk_sb C hR hS hw dJ22_getChars_84 (fun σ H locs hw hR hS => ?_)
      refine tk_iload_n C hl 1 dJ22_getChars_85 rfl ?_
      refine lv_bipush (v := (-9)) C.hx C.hb dJ22_getChars_86 (by decide) ?_
      refine lv_icmp_ge (tgt := 104) C.hx C.hb dJ22_getChars_88 (by decide) (fun c88 => ?_) (fun c88 => ?_)
      · replace hw := hw.1 c88
        exact wk_J22_getChars_b104 C hr hmn hnx hfr hRl _ _ _ σ _ _ _ hw hR hS (tk_sub hl [2, 0, 3] rfl)
      · replace hw := hw.2 c88
        refine tk_aload_n C hl 2 dJ22_getChars_91 rfl ?_
        refine tk_iinc (L' := [(5, .inl ((l5 + (-1)) + (-1))), (0, .inl l0), (2, .inr l2), (6, .inl l6)]) (y := ((l5 + (-1)) + (-1))) C hl 0 dJ22_getChars_92 rfl rfl (by decide) rfl (fun ls hl => ?_)
        refine tk_iload C hl 0 dJ22_getChars_95 rfl ?_
        refine tk_gk (n := 2) C hR hS hw 2 rfl q830 (fun _ h => h) dJ22_getChars_97 (fun x3 hw => ?_)
        refine tk_iload_n C hl 1 dJ22_getChars_100 rfl ?_
        refine lv_ineg C.hx C.hb dJ22_getChars_101 ?_
        refine tk_lb C hR hw dJ22_getChars_102 (fun x4 hw => ?_)
        refine tk_sb C hR hS hw dJ22_getChars_103 (fun σ H locs hw hR hS => ?_)
        exact wk_J22_getChars_b104 C hr hmn hnx hfr hRl _ _ _ σ _ _ _ hw hR hS (tk_sub hl [2, 0, 3] rfl)
    · replace hw := hw.2 c25
      refine tk_iload_n C hl 0 dJ22_getChars_28 rfl ?_
      refine lv_bipush (v := 100) C.hx C.hb dJ22_getChars_29 (by decide) ?_
      obtain ⟨hne, hw⟩ := hw
      refine lv_idiv C.hx C.hb dJ22_getChars_31 hne ?_
      refine tk_istore_n (L' := [(3, .inl (l0 / 100)), (0, .inl l0), (2, .inr l2), (5, .inl l5), (6, .inl l6)]) C hl dJ22_getChars_32 (by decide) rfl (fun ls hl => ?_)
      refine tk_iload_n C hl 0 dJ22_getChars_33 rfl ?_
      refine lv_bipush (v := 100) C.hx C.hb dJ22_getChars_34 (by decide) ?_
      refine lv_imul C.hx C.hb dJ22_getChars_36 ?_
      refine tk_iload_n C hl 1 dJ22_getChars_37 rfl ?_
      refine lv_isub C.hx C.hb dJ22_getChars_38 ?_
      refine tk_istore (L' := [(4, .inl (((l0 / 100) * 100) - l0)), (3, .inl (l0 / 100)), (0, .inl l0), (2, .inr l2), (5, .inl l5), (6, .inl l6)]) C hl dJ22_getChars_39 (by decide) rfl (fun ls hl => ?_)
      refine tk_iload_n C hl 1 dJ22_getChars_41 rfl ?_
      refine tk_istore_n (L' := [(0, .inl (l0 / 100)), (4, .inl (((l0 / 100) * 100) - l0)), (3, .inl (l0 / 100)), (2, .inr l2), (5, .inl l5), (6, .inl l6)]) C hl dJ22_getChars_42 (by decide) rfl (fun ls hl => ?_)
      refine tk_aload_n C hl 3 dJ22_getChars_43 rfl ?_
      refine tk_iinc (L' := [(5, .inl (l5 + (-1))), (0, .inl (l0 / 100)), (4, .inl (((l0 / 100) * 100) - l0)), (3, .inl (l0 / 100)), (2, .inr l2), (6, .inl l6)]) (y := (l5 + (-1))) C hl 4 dJ22_getChars_44 rfl rfl (by decide) rfl (fun ls hl => ?_)
      refine tk_iload C hl 0 dJ22_getChars_47 rfl ?_
      refine tk_gk (n := 1) C hR hS hw 1 rfl q828 (fun _ h => h) dJ22_getChars_49 (fun x5 hw => ?_)
      refine tk_iload C hl 2 dJ22_getChars_52 rfl ?_
      refine tk_lb C hR hw dJ22_getChars_54 (fun x6 hw => ?_)
      refine tk_sb C hR hS hw dJ22_getChars_55 (fun σ H locs hw hR hS => ?_)
      refine tk_aload_n C hl 4 dJ22_getChars_56 rfl ?_
      refine tk_iinc (L' := [(5, .inl ((l5 + (-1)) + (-1))), (0, .inl (l0 / 100)), (4, .inl (((l0 / 100) * 100) - l0)), (3, .inl (l0 / 100)), (2, .inr l2), (6, .inl l6)]) (y := ((l5 + (-1)) + (-1))) C hl 0 dJ22_getChars_57 rfl rfl (by decide) rfl (fun ls hl => ?_)
      refine tk_iload C hl 0 dJ22_getChars_60 rfl ?_
      refine tk_gk (n := 2) C hR hS hw 2 rfl q830 (fun _ h => h) dJ22_getChars_62 (fun x7 hw => ?_)
      refine tk_iload C hl 2 dJ22_getChars_65 rfl ?_
      refine tk_lb C hR hw dJ22_getChars_67 (fun x8 hw => ?_)
      refine tk_sb C hR hS hw dJ22_getChars_68 (fun σ H locs hw hR hS => ?_)
      refine lv_goto (tgt := 22) C.hx C.hb dJ22_getChars_69 (by decide) ?_
      exact hk22 _ _ _ _ σ _ _ _ hw hR hS (tk_sub hl [1, 4, 0, 5] rfl)
set_option maxHeartbeats 4000000 in
theorem wk_J22_getChars_b12  (C : tw_C p l R s m args meth c G cJ22_getChars 7 yJ22_getChars.cls) (hr : meth.sig.returnType = (some .int)) (hmn : meth.name = yJ22_getChars.name) (hnx : (∀ x ∈ c.exceptionTable.toList, False)) (hfr : 1 ≤ R.frames) (hRl : R.locals = 40 * R.frames) {Q : Int32 → Tst → Prop} {X : String → Nat → Tst → Prop}  (l0 : Int32) (l2 : Option Nat) (l5 : Int32) (s0 : Int32) (σ : Tst) (H : Heap) (locs : List Loc) (ls : Array Slot) (hw : w_J22_getChars_b12 Q X l0 l2 l5 s0 σ) (hR : tw_R G σ H) (hS : va_S (tw_A G) s.heap H locs) (hl : tw_l ls 7 [(0, .inl l0), (2, .inr l2), (5, .inl l5)]) : tw_W p l e R s m args below meth c σ H locs (tw_E below G (tw_Qi G Q) X args s R) (F0 m 12 ls [.int s0]) := by
  unfold w_J22_getChars_b12 at hw
  refine tk_istore (L' := [(6, .inl s0), (0, .inl l0), (2, .inr l2), (5, .inl l5)]) C hl dJ22_getChars_12 (by decide) rfl (fun ls hl => ?_)
  refine tk_iload C hl 0 dJ22_getChars_14 rfl ?_
  refine lv_if_ne (tgt := 22) C.hx C.hb dJ22_getChars_16 (by decide) (fun c16 => ?_) (fun c16 => ?_)
  · replace hw := hw.2 c16
    obtain ⟨z, hw⟩ := hw
    exact wk_J22_getChars_b22 C hr hmn hnx hfr hRl z _ _ _ _ σ _ _ _ hw hR hS (tk_sub hl [1, 2, 3, 0] rfl)
  · replace hw := hw.1 c16
    refine tk_iload_n C hl 1 dJ22_getChars_19 rfl ?_
    refine lv_ineg C.hx C.hb dJ22_getChars_20 ?_
    refine tk_istore_n (L' := [(0, .inl (-l0)), (6, .inl s0), (2, .inr l2), (5, .inl l5)]) C hl dJ22_getChars_21 (by decide) rfl (fun ls hl => ?_)
    obtain ⟨z, hw⟩ := hw
    exact wk_J22_getChars_b22 C hr hmn hnx hfr hRl z _ _ _ _ σ _ _ _ hw hR hS (tk_sub hl [0, 2, 3, 1] rfl)
set_option maxHeartbeats 4000000 in
theorem wk_J22_getChars (l : Launch) (hl0 : l.stackTraces = false) (G : Tgl) (fr : Nat)  (hfr : 1 ≤ fr) (l0 : Int32) (l1 : Int32) (l2 : Option Nat) (Q : Int32 → Tst → Prop) (X : String → Nat → Tst → Prop) (σ : Tst) (hw : w_J22_getChars l0 l1 l2 Q X σ) : tw_M l yJ22_getChars (ws_ yJ22_getChars cJ22_getChars 7 (some .int)) fr (40 * fr) G σ [.inl l0, .inl l1, .inr l2] (tw_Qi G Q) X := by
  unfold w_J22_getChars at hw
  refine tw_of (ret := (some .int)) hl0 (by decide) (Nat.le_of_ble_eq_true rfl) (fun p e R s m args below meth c hRf hRl C hr hmn hnx hR hS ls hl => ?_)
  have hfr : 1 ≤ R.frames := by rw [hRf]; exact hfr
  have hRl : R.locals = 40 * R.frames := by rw [hRl, hRf]
  have hl : tw_l ls 7 [(0, .inl l0), (1, .inl l1), (2, .inr l2)] := hl
  refine tk_iload_n C hl 1 dJ22_getChars_0 rfl ?_
  refine tk_istore (L' := [(5, .inl l1), (0, .inl l0), (1, .inl l1), (2, .inr l2)]) C hl dJ22_getChars_1 (by decide) rfl (fun ls hl => ?_)
  refine tk_iload_n C hl 1 dJ22_getChars_3 rfl ?_
  refine lv_if_ge (tgt := 11) C.hx C.hb dJ22_getChars_4 (by decide) (fun c4 => ?_) (fun c4 => ?_)
  · replace hw := hw.1 c4
    refine lv_iconst (v := 0) C.hx C.hb dJ22_getChars_11 (by decide) ?_
    exact wk_J22_getChars_b12 C hr hmn hnx hfr hRl _ _ _ _ σ _ _ _ hw hR hS (tk_sub hl [1, 3, 0] rfl)
  · replace hw := hw.2 c4
    refine lv_iconst (v := 1) C.hx C.hb dJ22_getChars_7 (by decide) ?_
    refine lv_goto (tgt := 12) C.hx C.hb dJ22_getChars_8 (by decide) ?_
    exact wk_J22_getChars_b12 C hr hmn hnx hfr hRl _ _ _ _ σ _ _ _ hw hR hS (tk_sub hl [1, 3, 0] rfl)
-- jdk/internal/util/Preconditions.checkFromToIndex(IIILjava/util/function/BiFunction;)I
def w_J15_checkFromToIndex_b14 (Q : Int32 → Tst → Prop) (X : String → Nat → Tst → Prop) (σ : Tst) : Prop := False
def w_J15_checkFromToIndex (l0 : Int32) (l1 : Int32) (l2 : Int32) (l3 : Option Nat) (Q : Int32 → Tst → Prop) (X : String → Nat → Tst → Prop) (σ : Tst) : Prop := w_if (l0 < 0) (w_J15_checkFromToIndex_b14 Q X σ) (w_if (l1 < l0) (w_J15_checkFromToIndex_b14 Q X σ) (w_if (l1 ≤ l2) (Q l0 σ) (w_J15_checkFromToIndex_b14 Q X σ)))
set_option maxHeartbeats 4000000 in
theorem wk_J15_checkFromToIndex_b14  (C : tw_C p l R s m args meth c G cJ15_checkFromToIndex 4 yJ15_checkFromToIndex.cls) (hr : meth.sig.returnType = (some .int)) (hmn : meth.name = yJ15_checkFromToIndex.name) (hnx : (∀ x ∈ c.exceptionTable.toList, False)) (hfr : 1 ≤ R.frames) (hRl : R.locals = 40 * R.frames) {Q : Int32 → Tst → Prop} {X : String → Nat → Tst → Prop}   (σ : Tst) (H : Heap) (locs : List Loc) (ls : Array Slot) (hw : w_J15_checkFromToIndex_b14 Q X  σ) (hR : tw_R G σ H) (hS : va_S (tw_A G) s.heap H locs) (hl : tw_l ls 4 []) : tw_W p l e R s m args below meth c σ H locs (tw_E below G (tw_Qi G Q) X args s R) (F0 m 14 ls []) := by
  unfold w_J15_checkFromToIndex_b14 at hw
  exact hw.elim
set_option maxHeartbeats 4000000 in
theorem wk_J15_checkFromToIndex (l : Launch) (hl0 : l.stackTraces = false) (G : Tgl) (fr : Nat)  (hfr : 1 ≤ fr) (l0 : Int32) (l1 : Int32) (l2 : Int32) (l3 : Option Nat) (Q : Int32 → Tst → Prop) (X : String → Nat → Tst → Prop) (σ : Tst) (hw : w_J15_checkFromToIndex l0 l1 l2 l3 Q X σ) : tw_M l yJ15_checkFromToIndex (ws_ yJ15_checkFromToIndex cJ15_checkFromToIndex 4 (some .int)) fr (40 * fr) G σ [.inl l0, .inl l1, .inl l2, .inr l3] (tw_Qi G Q) X := by
  unfold w_J15_checkFromToIndex at hw
  refine tw_of (ret := (some .int)) hl0 (by decide) (Nat.le_of_ble_eq_true rfl) (fun p e R s m args below meth c hRf hRl C hr hmn hnx hR hS ls hl => ?_)
  have hfr : 1 ≤ R.frames := by rw [hRf]; exact hfr
  have hRl : R.locals = 40 * R.frames := by rw [hRl, hRf]
  have hl : tw_l ls 4 [(0, .inl l0), (1, .inl l1), (2, .inl l2), (3, .inr l3)] := hl
  refine tk_iload_n C hl 0 dJ15_checkFromToIndex_0 rfl ?_
  refine lv_if_lt (tgt := 14) C.hx C.hb dJ15_checkFromToIndex_1 (by decide) (fun c1 => ?_) (fun c1 => ?_)
  · replace hw := hw.1 c1
    exact wk_J15_checkFromToIndex_b14 C hr hmn hnx hfr hRl σ _ _ _ hw hR hS (tk_sub hl [] rfl)
  · replace hw := hw.2 c1
    refine tk_iload_n C hl 0 dJ15_checkFromToIndex_4 rfl ?_
    refine tk_iload_n C hl 1 dJ15_checkFromToIndex_5 rfl ?_
    refine lv_icmp_gt (tgt := 14) C.hx C.hb dJ15_checkFromToIndex_6 (by decide) (fun c6 => ?_) (fun c6 => ?_)
    · replace hw := hw.1 c6
      exact wk_J15_checkFromToIndex_b14 C hr hmn hnx hfr hRl σ _ _ _ hw hR hS (tk_sub hl [] rfl)
    · replace hw := hw.2 c6
      refine tk_iload_n C hl 1 dJ15_checkFromToIndex_9 rfl ?_
      refine tk_iload_n C hl 2 dJ15_checkFromToIndex_10 rfl ?_
      refine lv_icmp_le (tgt := 22) C.hx C.hb dJ15_checkFromToIndex_11 (by decide) (fun c11 => ?_) (fun c11 => ?_)
      · replace hw := hw.1 c11
        refine tk_iload_n C hl 0 dJ15_checkFromToIndex_22 rfl ?_
        exact tw_iret C hR hS hr rfl dJ15_checkFromToIndex_23 hw
      · replace hw := hw.2 c11
        exact wk_J15_checkFromToIndex_b14 C hr hmn hnx hfr hRl σ _ _ _ hw hR hS (tk_sub hl [] rfl)
-- java/lang/String.checkBoundsBeginEnd(III)V
def w_J2_checkBoundsBeginEnd (l0 : Int32) (l1 : Int32) (l2 : Int32) (Q : Tst → Prop) (X : String → Nat → Tst → Prop) (σ : Tst) : Prop := w_k σ 4 fun x1 => w_J15_checkFromToIndex l0 l1 l2 x1 (fun x2 σ => Q σ) X σ
set_option maxHeartbeats 4000000 in
theorem wk_J2_checkBoundsBeginEnd (l : Launch) (hl0 : l.stackTraces = false) (G : Tgl) (fr : Nat)  (hfr : 2 ≤ fr) (l0 : Int32) (l1 : Int32) (l2 : Int32) (Q : Tst → Prop) (X : String → Nat → Tst → Prop) (σ : Tst) (hw : w_J2_checkBoundsBeginEnd l0 l1 l2 Q X σ) : tw_M l yJ2_checkBoundsBeginEnd (ws_ yJ2_checkBoundsBeginEnd cJ2_checkBoundsBeginEnd 3 none) fr (40 * fr) G σ [.inl l0, .inl l1, .inl l2] (tw_Qv G Q) X := by
  unfold w_J2_checkBoundsBeginEnd at hw
  refine tw_of (ret := none) hl0 (by decide) (Nat.le_of_ble_eq_true rfl) (fun p e R s m args below meth c hRf hRl C hr hmn hnx hR hS ls hl => ?_)
  have hfr : 2 ≤ R.frames := by rw [hRf]; exact hfr
  have hRl : R.locals = 40 * R.frames := by rw [hRl, hRf]
  have hl : tw_l ls 3 [(0, .inl l0), (1, .inl l1), (2, .inl l2)] := hl
  refine tk_iload_n C hl 0 dJ2_checkBoundsBeginEnd_0 rfl ?_
  refine tk_iload_n C hl 1 dJ2_checkBoundsBeginEnd_1 rfl ?_
  refine tk_iload_n C hl 2 dJ2_checkBoundsBeginEnd_2 rfl ?_
  refine tk_gk (n := 4) C hR hS hw 7 rfl q758 (fun _ h => h) dJ2_checkBoundsBeginEnd_3 (fun x1 hw => ?_)
  refine tw_cbi C hS (tw_runS (As := [.inl l0, .inl l1, .inl l2, .inr x1]) C hR hS (wk_J15_checkFromToIndex l C.hst G (R.frames - 1) (by omega) _ _ _ _ _ _ σ hw) q760 q761 q85 q762 pd_J15_checkFromToIndex ⟨by omega, by omega⟩ hl.1 rfl (tw_r8 [] (Nat.le_of_ble_eq_true rfl)) dJ2_checkBoundsBeginEnd_6) (fun E q σ H locs hX hR hS hi => tw_out C hR hS (fun x hx => (hnx x hx).elim) hi hX) (fun x2 σ H locs hw hR hS => ?_)
  refine tw_pop (x := .inl x2) C.hx C.hb dJ2_checkBoundsBeginEnd_9 ?_
  exact tw_vret C hR hS hr dJ2_checkBoundsBeginEnd_10 hw
-- java/lang/StringUTF16.checkBoundsBeginEnd(II[B)V
def w_J3_checkBoundsBeginEnd (l0 : Int32) (l1 : Int32) (l2 : Option Nat) (Q : Tst → Prop) (X : String → Nat → Tst → Prop) (σ : Tst) : Prop := w_J3_length l2 (fun x1 σ => w_J2_checkBoundsBeginEnd l0 l1 x1 (fun σ => Q σ) X σ) X σ
set_option maxHeartbeats 4000000 in
theorem wk_J3_checkBoundsBeginEnd (l : Launch) (hl0 : l.stackTraces = false) (G : Tgl) (fr : Nat)  (hfr : 3 ≤ fr) (l0 : Int32) (l1 : Int32) (l2 : Option Nat) (Q : Tst → Prop) (X : String → Nat → Tst → Prop) (σ : Tst) (hw : w_J3_checkBoundsBeginEnd l0 l1 l2 Q X σ) : tw_M l yJ3_checkBoundsBeginEnd (ws_ yJ3_checkBoundsBeginEnd cJ3_checkBoundsBeginEnd 3 none) fr (40 * fr) G σ [.inl l0, .inl l1, .inr l2] (tw_Qv G Q) X := by
  unfold w_J3_checkBoundsBeginEnd at hw
  refine tw_of (ret := none) hl0 (by decide) (Nat.le_of_ble_eq_true rfl) (fun p e R s m args below meth c hRf hRl C hr hmn hnx hR hS ls hl => ?_)
  have hfr : 3 ≤ R.frames := by rw [hRf]; exact hfr
  have hRl : R.locals = 40 * R.frames := by rw [hRl, hRf]
  have hl : tw_l ls 3 [(0, .inl l0), (1, .inl l1), (2, .inr l2)] := hl
  refine tk_iload_n C hl 0 dJ3_checkBoundsBeginEnd_0 rfl ?_
  refine tk_iload_n C hl 1 dJ3_checkBoundsBeginEnd_1 rfl ?_
  refine tk_aload_n C hl 2 dJ3_checkBoundsBeginEnd_2 rfl ?_
  refine tw_cbi C hS (tw_runS (As := [.inr l2]) C hR hS (wk_J3_length l C.hst G (R.frames - 1) (by omega) _ _ _ σ hw) q752 q753 q68 q754 pd_J3_length ⟨by omega, by omega⟩ hl.1 rfl (tw_r8 [.inl l1, .inl l0] (Nat.le_of_ble_eq_true rfl)) dJ3_checkBoundsBeginEnd_3) (fun E q σ H locs hX hR hS hi => tw_out C hR hS (fun x hx => (hnx x hx).elim) hi hX) (fun x1 σ H locs hw hR hS => ?_)
  refine tw_cbv C hS (tw_runS (As := [.inl l0, .inl l1, .inl x1]) C hR hS (wk_J2_checkBoundsBeginEnd l C.hst G (R.frames - 1) (by omega) _ _ _ _ _ σ hw) q755 q756 q67 q757 pd_J2_checkBoundsBeginEnd ⟨by omega, by omega⟩ hl.1 rfl (tw_r8 [] (Nat.le_of_ble_eq_true rfl)) dJ3_checkBoundsBeginEnd_6) (fun E q σ H locs hX hR hS hi => tw_out C hR hS (fun x hx => (hnx x hx).elim) hi hX) (fun σ H locs hw hR hS => ?_)
  exact tw_vret C hR hS hr dJ3_checkBoundsBeginEnd_9 hw
-- java/lang/StringUTF16.getChars(II[B)I
def w_J3_getChars_2_b128 (Q : Int32 → Tst → Prop) (X : String → Nat → Tst → Prop) (l5 : Int32) (σ : Tst) : Prop := Q l5 σ
def w_J3_getChars_2_b112 (Q : Int32 → Tst → Prop) (X : String → Nat → Tst → Prop) (l2 : Option Nat) (l5 : Int32) (l6 : Int32) (σ : Tst) : Prop := w_if (l6 = 0) (w_J3_getChars_2_b128 Q X l5 σ) (w_J3_putChar l2 (l5 + (-1)) 45 (fun σ => w_J3_getChars_2_b128 Q X (l5 + (-1)) σ) X σ)
def w_J3_getChars_2_b22 (Q : Int32 → Tst → Prop) (X : String → Nat → Tst → Prop) : Nat → Int32 → Option Nat → Int32 → Int32 → Tst → Prop
  | 0, _, _, _, _, _ => False
  | n + 1, l0, l2, l5, l6, σ => w_if ((-100) < l0) (w_k σ 1 fun x1 => w_lb σ x1 (-l0) fun x2 => w_J3_putChar l2 (l5 + (-1)) x2 (fun σ => w_if ((-9) ≤ l0) (w_J3_getChars_2_b112 Q X l2 (l5 + (-1)) l6 σ) (w_k σ 2 fun x4 => w_lb σ x4 (-l0) fun x5 => w_J3_putChar l2 ((l5 + (-1)) + (-1)) x5 (fun σ => w_J3_getChars_2_b112 Q X l2 ((l5 + (-1)) + (-1)) l6 σ) X σ)) X σ) (¬ (100 : Int32) = 0 ∧ w_k σ 1 fun x7 => w_lb σ x7 (((l0 / 100) * 100) - l0) fun x8 => w_J3_putChar l2 (l5 + (-1)) x8 (fun σ => w_k σ 2 fun x10 => w_lb σ x10 (((l0 / 100) * 100) - l0) fun x11 => w_J3_putChar l2 ((l5 + (-1)) + (-1)) x11 (fun σ => (w_J3_getChars_2_b22 Q X n) (l0 / 100) l2 ((l5 + (-1)) + (-1)) l6 σ) X σ) X σ)
def w_J3_getChars_2_b12 (Q : Int32 → Tst → Prop) (X : String → Nat → Tst → Prop) (l0 : Int32) (l2 : Option Nat) (l5 : Int32) (s0 : Int32) (σ : Tst) : Prop := w_if (s0 = 0) (∃ z, w_J3_getChars_2_b22 Q X z (-l0) l2 l5 s0 σ) (∃ z, w_J3_getChars_2_b22 Q X z l0 l2 l5 s0 σ)
def w_J3_getChars_2 (l0 : Int32) (l1 : Int32) (l2 : Option Nat) (Q : Int32 → Tst → Prop) (X : String → Nat → Tst → Prop) (σ : Tst) : Prop := w_if (0 ≤ l0) (w_J3_getChars_2_b12 Q X l0 l2 l1 0 σ) (w_J3_getChars_2_b12 Q X l0 l2 l1 1 σ)
set_option maxHeartbeats 4000000 in
theorem wk_J3_getChars_2_b128  (C : tw_C p l R s m args meth c G cJ3_getChars_2 7 yJ3_getChars_2.cls) (hr : meth.sig.returnType = (some .int)) (hmn : meth.name = yJ3_getChars_2.name) (hnx : (∀ x ∈ c.exceptionTable.toList, False)) (hfr : 3 ≤ R.frames) (hRl : R.locals = 40 * R.frames) {Q : Int32 → Tst → Prop} {X : String → Nat → Tst → Prop}  (l5 : Int32) (σ : Tst) (H : Heap) (locs : List Loc) (ls : Array Slot) (hw : w_J3_getChars_2_b128 Q X l5 σ) (hR : tw_R G σ H) (hS : va_S (tw_A G) s.heap H locs) (hl : tw_l ls 7 [(5, .inl l5)]) : tw_W p l e R s m args below meth c σ H locs (tw_E below G (tw_Qi G Q) X args s R) (F0 m 128 ls []) := by
  unfold w_J3_getChars_2_b128 at hw
  refine tk_iload C hl 0 dJ3_getChars_2_128 rfl ?_
  exact tw_iret C hR hS hr rfl dJ3_getChars_2_130 hw
set_option maxHeartbeats 4000000 in
theorem wk_J3_getChars_2_b112  (C : tw_C p l R s m args meth c G cJ3_getChars_2 7 yJ3_getChars_2.cls) (hr : meth.sig.returnType = (some .int)) (hmn : meth.name = yJ3_getChars_2.name) (hnx : (∀ x ∈ c.exceptionTable.toList, False)) (hfr : 3 ≤ R.frames) (hRl : R.locals = 40 * R.frames) {Q : Int32 → Tst → Prop} {X : String → Nat → Tst → Prop}  (l2 : Option Nat) (l5 : Int32) (l6 : Int32) (σ : Tst) (H : Heap) (locs : List Loc) (ls : Array Slot) (hw : w_J3_getChars_2_b112 Q X l2 l5 l6 σ) (hR : tw_R G σ H) (hS : va_S (tw_A G) s.heap H locs) (hl : tw_l ls 7 [(2, .inr l2), (5, .inl l5), (6, .inl l6)]) : tw_W p l e R s m args below meth c σ H locs (tw_E below G (tw_Qi G Q) X args s R) (F0 m 112 ls []) := by
  unfold w_J3_getChars_2_b112 at hw
  refine tk_iload C hl 2 dJ3_getChars_2_112 rfl ?_
  refine lv_if_eq (tgt := 128) C.hx C.hb dJ3_getChars_2_114 (by decide) (fun c114 => ?_) (fun c114 => ?_)
  · replace hw := hw.1 c114
    exact wk_J3_getChars_2_b128 C hr hmn hnx hfr hRl _ σ _ _ _ hw hR hS (tk_sub hl [1] rfl)
  · replace hw := hw.2 c114
    refine tk_aload_n C hl 0 dJ3_getChars_2_117 rfl ?_
    refine tk_iinc (L' := [(5, .inl (l5 + (-1))), (2, .inr l2), (6, .inl l6)]) (y := (l5 + (-1))) C hl 1 dJ3_getChars_2_118 rfl rfl (by decide) rfl (fun ls hl => ?_)
    refine tk_iload C hl 0 dJ3_getChars_2_121 rfl ?_
    refine lv_bipush (v := 45) C.hx C.hb dJ3_getChars_2_123 (by decide) ?_
    refine tw_cbv C hS (tw_runS (As := [.inr l2, .inl (l5 + (-1)), .inl 45]) C hR hS (wk_J3_putChar l C.hst G (R.frames - 1) (by omega) _ _ _ _ _ σ hw) q763 q764 q68 q765 pd_J3_putChar ⟨by omega, by omega⟩ hl.1 rfl (tw_r8 [] (Nat.le_of_ble_eq_true rfl)) dJ3_getChars_2_125) (fun E q σ H locs hX hR hS hi => tw_out C hR hS (fun x hx => (hnx x hx).elim) hi hX) (fun σ H locs hw hR hS => ?_)
    exact wk_J3_getChars_2_b128 C hr hmn hnx hfr hRl _ σ _ _ _ hw hR hS (tk_sub hl [0] rfl)
set_option maxHeartbeats 4000000 in
theorem wk_J3_getChars_2_b22  (C : tw_C p l R s m args meth c G cJ3_getChars_2 7 yJ3_getChars_2.cls) (hr : meth.sig.returnType = (some .int)) (hmn : meth.name = yJ3_getChars_2.name) (hnx : (∀ x ∈ c.exceptionTable.toList, False)) (hfr : 3 ≤ R.frames) (hRl : R.locals = 40 * R.frames) {Q : Int32 → Tst → Prop} {X : String → Nat → Tst → Prop}  : ∀ (n : Nat) (l0 : Int32) (l2 : Option Nat) (l5 : Int32) (l6 : Int32) (σ : Tst) (H : Heap) (locs : List Loc) (ls : Array Slot), w_J3_getChars_2_b22 Q X n l0 l2 l5 l6 σ → tw_R G σ H → va_S (tw_A G) s.heap H locs → tw_l ls 7 [(0, .inl l0), (2, .inr l2), (5, .inl l5), (6, .inl l6)] → tw_W p l e R s m args below meth c σ H locs (tw_E below G (tw_Qi G Q) X args s R) (F0 m 22 ls []) := by
  intro n
  induction n with
  | zero => intro l0 l2 l5 l6 σ H locs ls hw; exact False.elim hw
  | succ n hk22 =>
    intro l0 l2 l5 l6 σ H locs ls hw hR hS hl
    rw [w_J3_getChars_2_b22] at hw
    refine tk_iload_n C hl 0 dJ3_getChars_2_22 rfl ?_
    refine lv_bipush (v := (-100)) C.hx C.hb dJ3_getChars_2_23 (by decide) ?_
    refine lv_icmp_gt (tgt := 76) C.hx C.hb dJ3_getChars_2_25 (by decide) (fun c25 => ?_) (fun c25 => ?_)
    · replace hw := hw.1 c25
      refine tk_aload_n C hl 1 dJ3_getChars_2_76 rfl ?_
      refine tk_iinc (L' := [(5, .inl (l5 + (-1))), (0, .inl l0), (2, .inr l2), (6, .inl l6)]) (y := (l5 + (-1))) C hl 2 dJ3_getChars_2_77 rfl rfl (by decide) rfl (fun ls hl => ?_)
      refine tk_iload C hl 0 dJ3_getChars_2_80 rfl ?_
      refine tk_gk (n := 1) C hR hS hw 1 rfl q838 (fun _ h => h) dJ3_getChars_2_82 (fun x1 hw => ?_)
      refine tk_iload_n C hl 1 dJ3_getChars_2_85 rfl ?_
      refine lv_ineg C.hx C.hb dJ3_getChars_2_86 ?_
      refine tk_lb C hR hw dJ3_getChars_2_87 (fun x2 hw => ?_)
      refine tw_cbv C hS (tw_runS (As := [.inr l2, .inl (l5 + (-1)), .inl x2]) C hR hS (wk_J3_putChar l C.hst G (R.frames - 1) (by omega) _ _ _ _ _ σ hw) q763 q764 q68 q765 pd_J3_putChar ⟨by omega, by omega⟩ hl.1 rfl (tw_r8 [] (Nat.le_of_ble_eq_true rfl)) dJ3_getChars_2_88) (fun E q σ H locs hX hR hS hi => tw_out C hR hS (fun x hx => (hnx x hx).elim) hi hX) (fun σ H locs hw hR hS => ?_)
      refine tk_iload_n C hl 1 dJ3_getChars_2_91 rfl ?_
      refine lv_bipush (v := (-9)) C.hx C.hb dJ3_getChars_2_92 (by decide) ?_
      refine lv_icmp_ge (tgt := 112) C.hx C.hb dJ3_getChars_2_94 (by decide) (fun c94 => ?_) (fun c94 => ?_)
      · replace hw := hw.1 c94
        exact wk_J3_getChars_2_b112 C hr hmn hnx hfr hRl _ _ _ σ _ _ _ hw hR hS (tk_sub hl [2, 0, 3] rfl)
      · replace hw := hw.2 c94
        refine tk_aload_n C hl 2 dJ3_getChars_2_97 rfl ?_
        refine tk_iinc (L' := [(5, .inl ((l5 + (-1)) + (-1))), (0, .inl l0), (2, .inr l2), (6, .inl l6)]) (y := ((l5 + (-1)) + (-1))) C hl 0 dJ3_getChars_2_98 rfl rfl (by decide) rfl (fun ls hl => ?_)
        refine tk_iload C hl 0 dJ3_getChars_2_101 rfl ?_
        refine tk_gk (n := 2) C hR hS hw 2 rfl q839 (fun _ h => h) dJ3_getChars_2_103 (fun x4 hw => ?_)
        refine tk_iload_n C hl 1 dJ3_getChars_2_106 rfl ?_
        refine lv_ineg C.hx C.hb dJ3_getChars_2_107 ?_
        refine tk_lb C hR hw dJ3_getChars_2_108 (fun x5 hw => ?_)
        refine tw_cbv C hS (tw_runS (As := [.inr l2, .inl ((l5 + (-1)) + (-1)), .inl x5]) C hR hS (wk_J3_putChar l C.hst G (R.frames - 1) (by omega) _ _ _ _ _ σ hw) q763 q764 q68 q765 pd_J3_putChar ⟨by omega, by omega⟩ hl.1 rfl (tw_r8 [] (Nat.le_of_ble_eq_true rfl)) dJ3_getChars_2_109) (fun E q σ H locs hX hR hS hi => tw_out C hR hS (fun x hx => (hnx x hx).elim) hi hX) (fun σ H locs hw hR hS => ?_)
        exact wk_J3_getChars_2_b112 C hr hmn hnx hfr hRl _ _ _ σ _ _ _ hw hR hS (tk_sub hl [2, 0, 3] rfl)
    · replace hw := hw.2 c25
      refine tk_iload_n C hl 0 dJ3_getChars_2_28 rfl ?_
      refine lv_bipush (v := 100) C.hx C.hb dJ3_getChars_2_29 (by decide) ?_
      obtain ⟨hne, hw⟩ := hw
      refine lv_idiv C.hx C.hb dJ3_getChars_2_31 hne ?_
      refine tk_istore_n (L' := [(3, .inl (l0 / 100)), (0, .inl l0), (2, .inr l2), (5, .inl l5), (6, .inl l6)]) C hl dJ3_getChars_2_32 (by decide) rfl (fun ls hl => ?_)
      refine tk_iload_n C hl 0 dJ3_getChars_2_33 rfl ?_
      refine lv_bipush (v := 100) C.hx C.hb dJ3_getChars_2_34 (by decide) ?_
      refine lv_imul C.hx C.hb dJ3_getChars_2_36 ?_
      refine tk_iload_n C hl 1 dJ3_getChars_2_37 rfl ?_
      refine lv_isub C.hx C.hb dJ3_getChars_2_38 ?_
      refine tk_istore (L' := [(4, .inl (((l0 / 100) * 100) - l0)), (3, .inl (l0 / 100)), (0, .inl l0), (2, .inr l2), (5, .inl l5), (6, .inl l6)]) C hl dJ3_getChars_2_39 (by decide) rfl (fun ls hl => ?_)
      refine tk_iload_n C hl 1 dJ3_getChars_2_41 rfl ?_
      refine tk_istore_n (L' := [(0, .inl (l0 / 100)), (4, .inl (((l0 / 100) * 100) - l0)), (3, .inl (l0 / 100)), (2, .inr l2), (5, .inl l5), (6, .inl l6)]) C hl dJ3_getChars_2_42 (by decide) rfl (fun ls hl => ?_)
      refine tk_aload_n C hl 3 dJ3_getChars_2_43 rfl ?_
      refine tk_iinc (L' := [(5, .inl (l5 + (-1))), (0, .inl (l0 / 100)), (4, .inl (((l0 / 100) * 100) - l0)), (3, .inl (l0 / 100)), (2, .inr l2), (6, .inl l6)]) (y := (l5 + (-1))) C hl 4 dJ3_getChars_2_44 rfl rfl (by decide) rfl (fun ls hl => ?_)
      refine tk_iload C hl 0 dJ3_getChars_2_47 rfl ?_
      refine tk_gk (n := 1) C hR hS hw 1 rfl q838 (fun _ h => h) dJ3_getChars_2_49 (fun x7 hw => ?_)
      refine tk_iload C hl 2 dJ3_getChars_2_52 rfl ?_
      refine tk_lb C hR hw dJ3_getChars_2_54 (fun x8 hw => ?_)
      refine tw_cbv C hS (tw_runS (As := [.inr l2, .inl (l5 + (-1)), .inl x8]) C hR hS (wk_J3_putChar l C.hst G (R.frames - 1) (by omega) _ _ _ _ _ σ hw) q763 q764 q68 q765 pd_J3_putChar ⟨by omega, by omega⟩ hl.1 rfl (tw_r8 [] (Nat.le_of_ble_eq_true rfl)) dJ3_getChars_2_55) (fun E q σ H locs hX hR hS hi => tw_out C hR hS (fun x hx => (hnx x hx).elim) hi hX) (fun σ H locs hw hR hS => ?_)
      refine tk_aload_n C hl 4 dJ3_getChars_2_58 rfl ?_
      refine tk_iinc (L' := [(5, .inl ((l5 + (-1)) + (-1))), (0, .inl (l0 / 100)), (4, .inl (((l0 / 100) * 100) - l0)), (3, .inl (l0 / 100)), (2, .inr l2), (6, .inl l6)]) (y := ((l5 + (-1)) + (-1))) C hl 0 dJ3_getChars_2_59 rfl rfl (by decide) rfl (fun ls hl => ?_)
      refine tk_iload C hl 0 dJ3_getChars_2_62 rfl ?_
      refine tk_gk (n := 2) C hR hS hw 2 rfl q839 (fun _ h => h) dJ3_getChars_2_64 (fun x10 hw => ?_)
      refine tk_iload C hl 2 dJ3_getChars_2_67 rfl ?_
      refine tk_lb C hR hw dJ3_getChars_2_69 (fun x11 hw => ?_)
      refine tw_cbv C hS (tw_runS (As := [.inr l2, .inl ((l5 + (-1)) + (-1)), .inl x11]) C hR hS (wk_J3_putChar l C.hst G (R.frames - 1) (by omega) _ _ _ _ _ σ hw) q763 q764 q68 q765 pd_J3_putChar ⟨by omega, by omega⟩ hl.1 rfl (tw_r8 [] (Nat.le_of_ble_eq_true rfl)) dJ3_getChars_2_70) (fun E q σ H locs hX hR hS hi => tw_out C hR hS (fun x hx => (hnx x hx).elim) hi hX) (fun σ H locs hw hR hS => ?_)
      refine lv_goto (tgt := 22) C.hx C.hb dJ3_getChars_2_73 (by decide) ?_
      exact hk22 _ _ _ _ σ _ _ _ hw hR hS (tk_sub hl [1, 4, 0, 5] rfl)
set_option maxHeartbeats 4000000 in
theorem wk_J3_getChars_2_b12  (C : tw_C p l R s m args meth c G cJ3_getChars_2 7 yJ3_getChars_2.cls) (hr : meth.sig.returnType = (some .int)) (hmn : meth.name = yJ3_getChars_2.name) (hnx : (∀ x ∈ c.exceptionTable.toList, False)) (hfr : 3 ≤ R.frames) (hRl : R.locals = 40 * R.frames) {Q : Int32 → Tst → Prop} {X : String → Nat → Tst → Prop}  (l0 : Int32) (l2 : Option Nat) (l5 : Int32) (s0 : Int32) (σ : Tst) (H : Heap) (locs : List Loc) (ls : Array Slot) (hw : w_J3_getChars_2_b12 Q X l0 l2 l5 s0 σ) (hR : tw_R G σ H) (hS : va_S (tw_A G) s.heap H locs) (hl : tw_l ls 7 [(0, .inl l0), (2, .inr l2), (5, .inl l5)]) : tw_W p l e R s m args below meth c σ H locs (tw_E below G (tw_Qi G Q) X args s R) (F0 m 12 ls [.int s0]) := by
  unfold w_J3_getChars_2_b12 at hw
  refine tk_istore (L' := [(6, .inl s0), (0, .inl l0), (2, .inr l2), (5, .inl l5)]) C hl dJ3_getChars_2_12 (by decide) rfl (fun ls hl => ?_)
  refine tk_iload C hl 0 dJ3_getChars_2_14 rfl ?_
  refine lv_if_ne (tgt := 22) C.hx C.hb dJ3_getChars_2_16 (by decide) (fun c16 => ?_) (fun c16 => ?_)
  · replace hw := hw.2 c16
    obtain ⟨z, hw⟩ := hw
    exact wk_J3_getChars_2_b22 C hr hmn hnx hfr hRl z _ _ _ _ σ _ _ _ hw hR hS (tk_sub hl [1, 2, 3, 0] rfl)
  · replace hw := hw.1 c16
    refine tk_iload_n C hl 1 dJ3_getChars_2_19 rfl ?_
    refine lv_ineg C.hx C.hb dJ3_getChars_2_20 ?_
    refine tk_istore_n (L' := [(0, .inl (-l0)), (6, .inl s0), (2, .inr l2), (5, .inl l5)]) C hl dJ3_getChars_2_21 (by decide) rfl (fun ls hl => ?_)
    obtain ⟨z, hw⟩ := hw
    exact wk_J3_getChars_2_b22 C hr hmn hnx hfr hRl z _ _ _ _ σ _ _ _ hw hR hS (tk_sub hl [0, 2, 3, 1] rfl)
set_option maxHeartbeats 4000000 in
theorem wk_J3_getChars_2 (l : Launch) (hl0 : l.stackTraces = false) (G : Tgl) (fr : Nat)  (hfr : 3 ≤ fr) (l0 : Int32) (l1 : Int32) (l2 : Option Nat) (Q : Int32 → Tst → Prop) (X : String → Nat → Tst → Prop) (σ : Tst) (hw : w_J3_getChars_2 l0 l1 l2 Q X σ) : tw_M l yJ3_getChars_2 (ws_ yJ3_getChars_2 cJ3_getChars_2 7 (some .int)) fr (40 * fr) G σ [.inl l0, .inl l1, .inr l2] (tw_Qi G Q) X := by
  unfold w_J3_getChars_2 at hw
  refine tw_of (ret := (some .int)) hl0 (by decide) (Nat.le_of_ble_eq_true rfl) (fun p e R s m args below meth c hRf hRl C hr hmn hnx hR hS ls hl => ?_)
  have hfr : 3 ≤ R.frames := by rw [hRf]; exact hfr
  have hRl : R.locals = 40 * R.frames := by rw [hRl, hRf]
  have hl : tw_l ls 7 [(0, .inl l0), (1, .inl l1), (2, .inr l2)] := hl
  refine tk_iload_n C hl 1 dJ3_getChars_2_0 rfl ?_
  refine tk_istore (L' := [(5, .inl l1), (0, .inl l0), (1, .inl l1), (2, .inr l2)]) C hl dJ3_getChars_2_1 (by decide) rfl (fun ls hl => ?_)
  refine tk_iload_n C hl 1 dJ3_getChars_2_3 rfl ?_
  refine lv_if_ge (tgt := 11) C.hx C.hb dJ3_getChars_2_4 (by decide) (fun c4 => ?_) (fun c4 => ?_)
  · replace hw := hw.1 c4
    refine lv_iconst (v := 0) C.hx C.hb dJ3_getChars_2_11 (by decide) ?_
    exact wk_J3_getChars_2_b12 C hr hmn hnx hfr hRl _ _ _ _ σ _ _ _ hw hR hS (tk_sub hl [1, 3, 0] rfl)
  · replace hw := hw.2 c4
    refine lv_iconst (v := 1) C.hx C.hb dJ3_getChars_2_7 (by decide) ?_
    refine lv_goto (tgt := 12) C.hx C.hb dJ3_getChars_2_8 (by decide) ?_
    exact wk_J3_getChars_2_b12 C hr hmn hnx hfr hRl _ _ _ _ σ _ _ _ hw hR hS (tk_sub hl [1, 3, 0] rfl)
-- java/lang/StringUTF16.getChars(III[B)I
def w_J3_getChars_b34 (Q : Int32 → Tst → Prop) (X : String → Nat → Tst → Prop) (l4 : Int32) (σ : Tst) : Prop := Q l4 σ
def w_J3_getChars (l0 : Int32) (l1 : Int32) (l2 : Int32) (l3 : Option Nat) (Q : Int32 → Tst → Prop) (X : String → Nat → Tst → Prop) (σ : Tst) : Prop := w_J3_checkBoundsBeginEnd l1 l2 l3 (fun σ => w_J3_getChars_2 l0 l2 l3 (fun x2 σ => w_if ((1 : Int32) = 0) (w_if (l1 = x2) (w_J3_getChars_b34 Q X x2 σ) (False)) (w_J3_getChars_b34 Q X x2 σ)) X σ) X σ
set_option maxHeartbeats 4000000 in
theorem wk_J3_getChars_b34  (C : tw_C p l R s m args meth c G cJ3_getChars 5 yJ3_getChars.cls) (hr : meth.sig.returnType = (some .int)) (hmn : meth.name = yJ3_getChars.name) (hnx : (∀ x ∈ c.exceptionTable.toList, False)) (hfr : 4 ≤ R.frames) (hRl : R.locals = 40 * R.frames) {Q : Int32 → Tst → Prop} {X : String → Nat → Tst → Prop}  (l4 : Int32) (σ : Tst) (H : Heap) (locs : List Loc) (ls : Array Slot) (hw : w_J3_getChars_b34 Q X l4 σ) (hR : tw_R G σ H) (hS : va_S (tw_A G) s.heap H locs) (hl : tw_l ls 5 [(4, .inl l4)]) : tw_W p l e R s m args below meth c σ H locs (tw_E below G (tw_Qi G Q) X args s R) (F0 m 34 ls []) := by
  unfold w_J3_getChars_b34 at hw
  refine tk_iload C hl 0 dJ3_getChars_34 rfl ?_
  exact tw_iret C hR hS hr rfl dJ3_getChars_36 hw
set_option maxHeartbeats 4000000 in
theorem wk_J3_getChars (l : Launch) (hl0 : l.stackTraces = false) (G : Tgl) (fr : Nat)  (hfr : 4 ≤ fr) (l0 : Int32) (l1 : Int32) (l2 : Int32) (l3 : Option Nat) (Q : Int32 → Tst → Prop) (X : String → Nat → Tst → Prop) (σ : Tst) (hw : w_J3_getChars l0 l1 l2 l3 Q X σ) : tw_M l yJ3_getChars (ws_ yJ3_getChars cJ3_getChars 5 (some .int)) fr (40 * fr) G σ [.inl l0, .inl l1, .inl l2, .inr l3] (tw_Qi G Q) X := by
  unfold w_J3_getChars at hw
  refine tw_of (ret := (some .int)) hl0 (by decide) (Nat.le_of_ble_eq_true rfl) (fun p e R s m args below meth c hRf hRl C hr hmn hnx hR hS ls hl => ?_)
  have hfr : 4 ≤ R.frames := by rw [hRf]; exact hfr
  have hRl : R.locals = 40 * R.frames := by rw [hRl, hRf]
  have hl : tw_l ls 5 [(0, .inl l0), (1, .inl l1), (2, .inl l2), (3, .inr l3)] := hl
  refine tk_iload_n C hl 1 dJ3_getChars_0 rfl ?_
  refine tk_iload_n C hl 2 dJ3_getChars_1 rfl ?_
  refine tk_aload_n C hl 3 dJ3_getChars_2 rfl ?_
  refine tw_cbv C hS (tw_runS (As := [.inl l1, .inl l2, .inr l3]) C hR hS (wk_J3_checkBoundsBeginEnd l C.hst G (R.frames - 1) (by omega) _ _ _ _ _ σ hw) q749 q750 q68 q751 pd_J3_checkBoundsBeginEnd ⟨by omega, by omega⟩ hl.1 rfl (tw_r8 [] (Nat.le_of_ble_eq_true rfl)) dJ3_getChars_3) (fun E q σ H locs hX hR hS hi => tw_out C hR hS (fun x hx => (hnx x hx).elim) hi hX) (fun σ H locs hw hR hS => ?_)
  refine tk_iload_n C hl 0 dJ3_getChars_6 rfl ?_
  refine tk_iload_n C hl 2 dJ3_getChars_7 rfl ?_
  refine tk_aload_n C hl 3 dJ3_getChars_8 rfl ?_
  refine tw_cbi C hS (tw_runS (As := [.inl l0, .inl l2, .inr l3]) C hR hS (wk_J3_getChars_2 l C.hst G (R.frames - 1) (by omega) _ _ _ _ _ σ hw) q835 q836 q68 q837 pd_J3_getChars_2 ⟨by omega, by omega⟩ hl.1 rfl (tw_r8 [] (Nat.le_of_ble_eq_true rfl)) dJ3_getChars_9) (fun E q σ H locs hX hR hS hi => tw_out C hR hS (fun x hx => (hnx x hx).elim) hi hX) (fun x2 σ H locs hw hR hS => ?_)
  refine tk_istore (L' := [(4, .inl x2), (0, .inl l0), (1, .inl l1), (2, .inl l2), (3, .inr l3)]) C hl dJ3_getChars_12 (by decide) rfl (fun ls hl => ?_)
  refine tk_gs (x := .inl 1) C hR hS 4 rfl q766 (fun _ h => h) dJ3_getChars_14 ?_
  refine lv_if_ne (tgt := 34) C.hx C.hb dJ3_getChars_17 (by decide) (fun c17 => ?_) (fun c17 => ?_)
  · replace hw := hw.2 c17
    exact wk_J3_getChars_b34 C hr hmn hnx hfr hRl _ σ _ _ _ hw hR hS (tk_sub hl [0] rfl)
  · replace hw := hw.1 c17
    refine tk_iload_n C hl 2 dJ3_getChars_20 rfl ?_
    refine tk_iload C hl 0 dJ3_getChars_21 rfl ?_
    refine lv_icmp_eq (tgt := 34) C.hx C.hb dJ3_getChars_23 (by decide) (fun c23 => ?_) (fun c23 => ?_)
    · replace hw := hw.1 c23
      exact wk_J3_getChars_b34 C hr hmn hnx hfr hRl _ σ _ _ _ hw hR hS (tk_sub hl [0] rfl)
    · replace hw := hw.2 c23
      exact hw.elim
-- java/lang/AbstractStringBuilder.append(I)Ljava/lang/AbstractStringBuilder;
def w_J0_append_2_b48 (Q : Option Nat → Tst → Prop) (X : String → Nat → Tst → Prop) (l0 : Option Nat) (l3 : Int32) (σ : Tst) : Prop := w_p σ l0 cJ1 3 (.inl l3) fun σ => Q l0 σ
def w_J0_append_2 (l0 : Option Nat) (l1 : Int32) (Q : Option Nat → Tst → Prop) (X : String → Nat → Tst → Prop) (σ : Tst) : Prop := w_gi σ l0 cJ1 3 fun x1 => w_J22_stringSize l1 (fun x2 σ => w_rc σ l0 cJ1 <| w_J0_ensureCapacityInternal l0 (x1 + x2) (fun σ => w_rc σ l0 cJ1 <| w_J0_isLatin1 l0 (fun x4 σ => w_if (x4 = 0) (w_gr σ l0 cJ1 0 fun x5 => w_J3_getChars l1 x1 (x1 + x2) x5 (fun x6 σ => w_J0_append_2_b48 Q X l0 (x1 + x2) σ) X σ) (w_gr σ l0 cJ1 0 fun x7 => w_J22_getChars l1 (x1 + x2) x7 (fun x8 σ => w_J0_append_2_b48 Q X l0 (x1 + x2) σ) X σ)) X σ) X σ) X σ
set_option maxHeartbeats 4000000 in
theorem wk_J0_append_2_b48  (C : tw_C p l R s m args meth c G cJ0_append_2 4 yJ0_append_2.cls) (hr : meth.sig.returnType = (some (.object "java/lang/AbstractStringBuilder"))) (hmn : meth.name = yJ0_append_2.name) (hnx : (∀ x ∈ c.exceptionTable.toList, False)) (hfr : 5 ≤ R.frames) (hRl : R.locals = 40 * R.frames) {Q : Option Nat → Tst → Prop} {X : String → Nat → Tst → Prop}  (l0 : Option Nat) (l3 : Int32) (σ : Tst) (H : Heap) (locs : List Loc) (ls : Array Slot) (hw : w_J0_append_2_b48 Q X l0 l3 σ) (hR : tw_R G σ H) (hS : va_S (tw_A G) s.heap H locs) (hl : tw_l ls 4 [(0, .inr l0), (3, .inl l3)]) : tw_W p l e R s m args below meth c σ H locs (tw_E below G (tw_Qq G Q) X args s R) (F0 m 48 ls []) := by
  unfold w_J0_append_2_b48 at hw
  refine tk_aload_n C hl 0 dJ0_append_2_48 rfl ?_
  refine tk_iload_n C hl 1 dJ0_append_2_49 rfl ?_
  refine tk_p (x := .inl l3) C hR hS hw (by decide) rfl in_J1 tyJ1 tyJ1_ok nmJ1 (by decide) q145 (fun _ h => h) rfl (tw_ni _) dJ0_append_2_50 (fun σ H locs hw hR hS => ?_)
  refine tk_aload_n C hl 0 dJ0_append_2_53 rfl ?_
  exact tw_aret C hR hS hr (Or.inl ⟨_, rfl⟩) dJ0_append_2_54 hw
set_option maxHeartbeats 4000000 in
theorem wk_J0_append_2 (l : Launch) (hl0 : l.stackTraces = false) (G : Tgl) (fr : Nat)  (hfr : 5 ≤ fr) (l0 : Option Nat) (l1 : Int32) (Q : Option Nat → Tst → Prop) (X : String → Nat → Tst → Prop) (σ : Tst) (hw : w_J0_append_2 l0 l1 Q X σ) : tw_M l yJ0_append_2 (ws_ yJ0_append_2 cJ0_append_2 4 (some (.object "java/lang/AbstractStringBuilder"))) fr (40 * fr) G σ [.inr l0, .inl l1] (tw_Qq G Q) X := by
  unfold w_J0_append_2 at hw
  refine tw_of (ret := (some (.object "java/lang/AbstractStringBuilder"))) hl0 (by decide) (Nat.le_of_ble_eq_true rfl) (fun p e R s m args below meth c hRf hRl C hr hmn hnx hR hS ls hl => ?_)
  have hfr : 5 ≤ R.frames := by rw [hRf]; exact hfr
  have hRl : R.locals = 40 * R.frames := by rw [hRl, hRf]
  have hl : tw_l ls 4 [(0, .inr l0), (1, .inl l1)] := hl
  refine tk_aload_n C hl 0 dJ0_append_2_0 rfl ?_
  refine tk_gi C hR hw rfl in_J1 (by decide) q145 (fun _ h => h) dJ0_append_2_1 (fun x1 hw => ?_)
  refine tk_istore_n (L' := [(2, .inl x1), (0, .inr l0), (1, .inl l1)]) C hl dJ0_append_2_4 (by decide) rfl (fun ls hl => ?_)
  refine tk_iload_n C hl 0 dJ0_append_2_5 rfl ?_
  refine tk_iload_n C hl 2 dJ0_append_2_6 rfl ?_
  refine tw_cbi C hS (tw_runS (As := [.inl l1]) C hR hS (wk_J22_stringSize l C.hst G (R.frames - 1) (by omega) _ _ _ σ hw) q822 q823 q95 q824 pd_J22_stringSize ⟨by omega, by omega⟩ hl.1 rfl (tw_r8 [.inl x1] (Nat.le_of_ble_eq_true rfl)) dJ0_append_2_7) (fun E q σ H locs hX hR hS hi => tw_out C hR hS (fun x hx => (hnx x hx).elim) hi hX) (fun x2 σ H locs hw hR hS => ?_)
  refine lv_iadd C.hx C.hb dJ0_append_2_10 ?_
  refine tk_istore_n (L' := [(3, .inl (x1 + x2)), (2, .inl x1), (0, .inr l0), (1, .inl l1)]) C hl dJ0_append_2_11 (by decide) rfl (fun ls hl => ?_)
  refine tk_aload_n C hl 2 dJ0_append_2_12 rfl ?_
  refine tk_iload_n C hl 0 dJ0_append_2_13 rfl ?_
  obtain ⟨hv, hw⟩ := hw
  refine tw_cbv C hS (tk_runP (As := [.inl (x1 + x2)]) (Cn := "java/lang/StringBuilder") (y := yJ0_ensureCapacityInternal) C hR hS (wk_J0_ensureCapacityInternal l C.hst G (R.frames - 1) (by omega) _ _ _ _ σ hw) hv rfl q712 q714 (List.Mem.head _) q65 q715 pd_J0_ensureCapacityInternal ⟨by omega, by omega⟩ hl.1 rfl (tw_r8 [] (Nat.le_of_ble_eq_true rfl)) dJ0_append_2_14) (fun E q σ H locs hX hR hS hi => tw_out C hR hS (fun x hx => (hnx x hx).elim) hi hX) (fun σ H locs hw hR hS => ?_)
  refine tk_aload_n C hl 2 dJ0_append_2_17 rfl ?_
  obtain ⟨hv, hw⟩ := hw
  refine tw_cbi C hS (tk_runU (As := []) (Cn := "java/lang/StringBuilder") (owner := "java/lang/AbstractStringBuilder") (x := ⟨"java/lang/AbstractStringBuilder", "isLatin1", "()Z"⟩) C hR hS (wk_J0_isLatin1 l C.hst G (R.frames - 1) (by omega) _ _ _ σ hw) hv rfl q741 q743 q744 q742 q65 q745 ⟨by decide, by decide, by exact (by decide +kernel : (parseMethodDescriptor "()Z").map (fun d => d.parameters.length) = some 0)⟩ ⟨by omega, by omega⟩ hl.1 rfl (tw_r8 [] (Nat.le_of_ble_eq_true rfl)) dJ0_append_2_18) (fun E q σ H locs hX hR hS hi => tw_out C hR hS (fun x hx => (hnx x hx).elim) hi hX) (fun x4 σ H locs hw hR hS => ?_)
  refine lv_if_eq (tgt := 37) C.hx C.hb dJ0_append_2_21 (by decide) (fun c21 => ?_) (fun c21 => ?_)
  · replace hw := hw.1 c21
    refine tk_iload_n C hl 3 dJ0_append_2_37 rfl ?_
    refine tk_iload_n C hl 1 dJ0_append_2_38 rfl ?_
    refine tk_iload_n C hl 0 dJ0_append_2_39 rfl ?_
    refine tk_aload_n C hl 2 dJ0_append_2_40 rfl ?_
    refine tk_gr C hR hw rfl in_J1 (by decide) q141 (fun _ h => h) dJ0_append_2_41 (fun x5 hw => ?_)
    refine tw_cbi C hS (tw_runS (As := [.inl l1, .inl x1, .inl (x1 + x2), .inr x5]) C hR hS (wk_J3_getChars l C.hst G (R.frames - 1) (by omega) _ _ _ _ _ _ σ hw) q832 q833 q68 q834 pd_J3_getChars ⟨by omega, by omega⟩ hl.1 rfl (tw_r8 [] (Nat.le_of_ble_eq_true rfl)) dJ0_append_2_44) (fun E q σ H locs hX hR hS hi => tw_out C hR hS (fun x hx => (hnx x hx).elim) hi hX) (fun x6 σ H locs hw hR hS => ?_)
    refine tw_pop (x := .inl x6) C.hx C.hb dJ0_append_2_47 ?_
    exact wk_J0_append_2_b48 C hr hmn hnx hfr hRl _ _ σ _ _ _ hw hR hS (tk_sub hl [2, 0] rfl)
  · replace hw := hw.2 c21
    refine tk_iload_n C hl 3 dJ0_append_2_24 rfl ?_
    refine tk_iload_n C hl 0 dJ0_append_2_25 rfl ?_
    refine tk_aload_n C hl 2 dJ0_append_2_26 rfl ?_
    refine tk_gr C hR hw rfl in_J1 (by decide) q141 (fun _ h => h) dJ0_append_2_27 (fun x7 hw => ?_)
    refine tw_cbi C hS (tw_runS (As := [.inl l1, .inl (x1 + x2), .inr x7]) C hR hS (wk_J22_getChars l C.hst G (R.frames - 1) (by omega) _ _ _ _ _ σ hw) q825 q826 q95 q827 pd_J22_getChars ⟨by omega, by omega⟩ hl.1 rfl (tw_r8 [] (Nat.le_of_ble_eq_true rfl)) dJ0_append_2_30) (fun E q σ H locs hX hR hS hi => tw_out C hR hS (fun x hx => (hnx x hx).elim) hi hX) (fun x8 σ H locs hw hR hS => ?_)
    refine tw_pop (x := .inl x8) C.hx C.hb dJ0_append_2_33 ?_
    refine lv_goto (tgt := 48) C.hx C.hb dJ0_append_2_34 (by decide) ?_
    exact wk_J0_append_2_b48 C hr hmn hnx hfr hRl _ _ σ _ _ _ hw hR hS (tk_sub hl [2, 0] rfl)
-- java/lang/StringBuilder.append(I)Ljava/lang/StringBuilder;
def w_J1_append_2 (l0 : Option Nat) (l1 : Int32) (Q : Option Nat → Tst → Prop) (X : String → Nat → Tst → Prop) (σ : Tst) : Prop := w_rc σ l0 cJ1 <| w_J0_append_2 l0 l1 (fun x1 σ => Q l0 σ) X σ
set_option maxHeartbeats 4000000 in
theorem wk_J1_append_2 (l : Launch) (hl0 : l.stackTraces = false) (G : Tgl) (fr : Nat)  (hfr : 6 ≤ fr) (l0 : Option Nat) (l1 : Int32) (Q : Option Nat → Tst → Prop) (X : String → Nat → Tst → Prop) (σ : Tst) (hw : w_J1_append_2 l0 l1 Q X σ) : tw_M l yJ1_append_2 (ws_ yJ1_append_2 cJ1_append_2 2 (some (.object "java/lang/StringBuilder"))) fr (40 * fr) G σ [.inr l0, .inl l1] (tw_Qq G Q) X := by
  unfold w_J1_append_2 at hw
  refine tw_of (ret := (some (.object "java/lang/StringBuilder"))) hl0 (by decide) (Nat.le_of_ble_eq_true rfl) (fun p e R s m args below meth c hRf hRl C hr hmn hnx hR hS ls hl => ?_)
  have hfr : 6 ≤ R.frames := by rw [hRf]; exact hfr
  have hRl : R.locals = 40 * R.frames := by rw [hRl, hRf]
  have hl : tw_l ls 2 [(0, .inr l0), (1, .inl l1)] := hl
  refine tk_aload_n C hl 0 dJ1_append_2_0 rfl ?_
  refine tk_iload_n C hl 1 dJ1_append_2_1 rfl ?_
  obtain ⟨hv, hw⟩ := hw
  refine tw_cbq C hS (tk_runSU (As := [.inl l1]) (Cn := "java/lang/StringBuilder") C hR hS (wk_J0_append_2 l C.hst G (R.frames - 1) (by omega) _ _ _ _ σ hw) hv rfl q819 q2545 q154 q820 q65 q821 (by decide) (by exact (by decide +kernel : (parseMethodDescriptor "(I)Ljava/lang/AbstractStringBuilder;").map (fun d => d.parameters.length) = some 1)) ⟨by omega, by omega⟩ hl.1 rfl (tw_r8 [] (Nat.le_of_ble_eq_true rfl)) dJ1_append_2_2) (fun E q σ H locs hX hR hS hi => tw_out C hR hS (fun x hx => (hnx x hx).elim) hi hX) (fun x1 σ H locs hw hR hS => ?_)
  refine tw_pop (x := .inr x1) C.hx C.hb dJ1_append_2_5 ?_
  refine tk_aload_n C hl 0 dJ1_append_2_6 rfl ?_
  exact tw_aret C hR hS hr (Or.inl ⟨_, rfl⟩) dJ1_append_2_7 hw
-- java/util/ArrayList.isEmpty()Z
def w_J6_isEmpty_b12 (Q : Int32 → Tst → Prop) (X : String → Nat → Tst → Prop) (s0 : Int32) (σ : Tst) : Prop := narrow .boolean (.int s0) = .int s0 ∧ Q s0 σ
def w_J6_isEmpty (l0 : Option Nat) (Q : Int32 → Tst → Prop) (X : String → Nat → Tst → Prop) (σ : Tst) : Prop := w_gi σ l0 cJ6 2 fun x1 => w_if (x1 = 0) (w_J6_isEmpty_b12 Q X 1 σ) (w_J6_isEmpty_b12 Q X 0 σ)
set_option maxHeartbeats 4000000 in
theorem wk_J6_isEmpty_b12  (C : tw_C p l R s m args meth c G cJ6_isEmpty 1 yJ6_isEmpty.cls) (hr : meth.sig.returnType = (some .boolean)) (hmn : meth.name = yJ6_isEmpty.name) (hnx : (∀ x ∈ c.exceptionTable.toList, False)) (hfr : 1 ≤ R.frames) (hRl : R.locals = 40 * R.frames) {Q : Int32 → Tst → Prop} {X : String → Nat → Tst → Prop}  (s0 : Int32) (σ : Tst) (H : Heap) (locs : List Loc) (ls : Array Slot) (hw : w_J6_isEmpty_b12 Q X s0 σ) (hR : tw_R G σ H) (hS : va_S (tw_A G) s.heap H locs) (hl : tw_l ls 1 []) : tw_W p l e R s m args below meth c σ H locs (tw_E below G (tw_Qi G Q) X args s R) (F0 m 12 ls [.int s0]) := by
  unfold w_J6_isEmpty_b12 at hw
  obtain ⟨hok, hw⟩ := hw
  exact tw_iret C hR hS hr hok dJ6_isEmpty_12 hw
set_option maxHeartbeats 4000000 in
theorem wk_J6_isEmpty (l : Launch) (hl0 : l.stackTraces = false) (G : Tgl) (fr : Nat)  (hfr : 1 ≤ fr) (l0 : Option Nat) (Q : Int32 → Tst → Prop) (X : String → Nat → Tst → Prop) (σ : Tst) (hw : w_J6_isEmpty l0 Q X σ) : tw_M l yJ6_isEmpty (ws_ yJ6_isEmpty cJ6_isEmpty 1 (some .boolean)) fr (40 * fr) G σ [.inr l0] (tw_Qi G Q) X := by
  unfold w_J6_isEmpty at hw
  refine tw_of (ret := (some .boolean)) hl0 (by decide) (Nat.le_of_ble_eq_true rfl) (fun p e R s m args below meth c hRf hRl C hr hmn hnx hR hS ls hl => ?_)
  have hfr : 1 ≤ R.frames := by rw [hRf]; exact hfr
  have hRl : R.locals = 40 * R.frames := by rw [hRl, hRf]
  have hl : tw_l ls 1 [(0, .inr l0)] := hl
  refine tk_aload_n C hl 0 dJ6_isEmpty_0 rfl ?_
  refine tk_gi C hR hw rfl in_J6 (by decide) q180 (fun _ h => h) dJ6_isEmpty_1 (fun x1 hw => ?_)
  refine lv_if_ne (tgt := 11) C.hx C.hb dJ6_isEmpty_4 (by decide) (fun c4 => ?_) (fun c4 => ?_)
  · replace hw := hw.2 c4
    refine lv_iconst (v := 0) C.hx C.hb dJ6_isEmpty_11 (by decide) ?_
    exact wk_J6_isEmpty_b12 C hr hmn hnx hfr hRl _ σ _ _ _ hw hR hS (tk_sub hl [] rfl)
  · replace hw := hw.1 c4
    refine lv_iconst (v := 1) C.hx C.hb dJ6_isEmpty_7 (by decide) ?_
    refine lv_goto (tgt := 12) C.hx C.hb dJ6_isEmpty_8 (by decide) ?_
    exact wk_J6_isEmpty_b12 C hr hmn hnx hfr hRl _ σ _ _ _ hw hR hS (tk_sub hl [] rfl)
-- TreeDiffer$Node.write(Ljava/lang/StringBuilder;)V
def w_X3_write_b114 (rf_X3_write : (Option Nat) → (Option Nat) → (Tst → Prop) → (String → Nat → Tst → Prop) → Tst → Prop) (Q : Tst → Prop) (X : String → Nat → Tst → Prop) (σ : Tst) : Prop := Q σ
def w_X3_write_b80 (rf_X3_write : (Option Nat) → (Option Nat) → (Tst → Prop) → (String → Nat → Tst → Prop) → Tst → Prop) (Q : Tst → Prop) (X : String → Nat → Tst → Prop) : Nat → Option Nat → Option Nat → Tst → Prop
  | 0, _, _, _ => False
  | n + 1, l1, l2, σ => w_rc σ l2 cJ18 <| w_J18_hasNext l2 (fun x1 σ => w_if (x1 = 0) (w_rc σ l1 cJ1 <| w_J1_append_3 l1 41 (fun x2 σ => w_X3_write_b114 rf_X3_write Q X σ) X σ) (w_rc σ l2 cJ18 <| w_J18_next l2 (fun x3 σ => w_cc σ x3 cX3 <| w_rc σ x3 cX3 <| rf_X3_write x3 l1 (fun σ => (w_X3_write_b80 rf_X3_write Q X n) l1 l2 σ) X σ) X σ)) X σ
def w_X3_write_b51 (rf_X3_write : (Option Nat) → (Option Nat) → (Tst → Prop) → (String → Nat → Tst → Prop) → Tst → Prop) (Q : Tst → Prop) (X : String → Nat → Tst → Prop) (l0 : Option Nat) (l1 : Option Nat) (σ : Tst) : Prop := w_gr σ l0 cX3 4 fun x1 => w_rc σ x1 cJ6 <| w_J6_isEmpty x1 (fun x2 σ => w_if (x2 = 0) (w_rc σ l1 cJ1 <| w_J1_append_3 l1 40 (fun x3 σ => w_gr σ l0 cX3 4 fun x4 => w_rc σ x4 cJ6 <| w_J6_iterator x4 (fun x5 σ => ∃ z, w_X3_write_b80 rf_X3_write Q X z l1 x5 σ) X σ) X σ) (w_X3_write_b114 rf_X3_write Q X σ)) X σ
def w_X3_write_b30 (rf_X3_write : (Option Nat) → (Option Nat) → (Tst → Prop) → (String → Nat → Tst → Prop) → Tst → Prop) (Q : Tst → Prop) (X : String → Nat → Tst → Prop) (l0 : Option Nat) (l1 : Option Nat) (σ : Tst) : Prop := w_gi σ l0 cX3 2 fun x1 => w_if (x1 ≤ 0) (w_X3_write_b51 rf_X3_write Q X l0 l1 σ) (w_rc σ l1 cJ1 <| w_J1_append_3 l1 61 (fun x2 σ => w_gi σ l0 cX3 2 fun x3 => w_rc σ x2 cJ1 <| w_J1_append_2 x2 x3 (fun x4 σ => w_X3_write_b51 rf_X3_write Q X l0 l1 σ) X σ) X σ)
def w_X3_write : Nat → Option Nat → Option Nat → (Tst → Prop) → (String → Nat → Tst → Prop) → Tst → Prop
  | 0, _, _, _, _, _ => False
  | d + 1, l0, l1, Q, X, σ => w_gi σ l0 cX3 0 fun x1 => w_rc σ l1 cJ1 <| w_J1_append_3 l1 x1 (fun x2 σ => w_gi σ l0 cX3 1 fun x3 => w_if (x3 ≤ 0) (w_X3_write_b30 (w_X3_write d) Q X l0 l1 σ) (w_rc σ l1 cJ1 <| w_J1_append_3 l1 35 (fun x4 σ => w_gi σ l0 cX3 1 fun x5 => w_rc σ x4 cJ1 <| w_J1_append_2 x4 x5 (fun x6 σ => w_X3_write_b30 (w_X3_write d) Q X l0 l1 σ) X σ) X σ)) X σ
set_option maxHeartbeats 4000000 in
theorem wk_X3_write_b114 {rf_X3_write : (Option Nat) → (Option Nat) → (Tst → Prop) → (String → Nat → Tst → Prop) → Tst → Prop} {frf_X3_write : Nat}  (C : tw_C p l R s m args meth c G cX3_write 4 yX3_write.cls) (hr : meth.sig.returnType = none) (hmn : meth.name = yX3_write.name) (hnx : (∀ x ∈ c.exceptionTable.toList, False)) (hfr : 9 ≤ R.frames ∧ frf_X3_write + 1 ≤ R.frames) (hRl : R.locals = 40 * R.frames) {Q : Tst → Prop} {X : String → Nat → Tst → Prop} (hrf_X3_write : ∀ fr : Nat, frf_X3_write ≤ fr → ∀ (a0 : Option Nat) (a1 : Option Nat) (Q : Tst → Prop) (X : String → Nat → Tst → Prop) (σ : Tst), rf_X3_write a0 a1 Q X σ → tw_M l yX3_write (ws_ yX3_write cX3_write 4 none) fr (40 * fr) G σ [.inr a0, .inr a1] (tw_Qv G Q) X)  (σ : Tst) (H : Heap) (locs : List Loc) (ls : Array Slot) (hw : w_X3_write_b114 rf_X3_write Q X  σ) (hR : tw_R G σ H) (hS : va_S (tw_A G) s.heap H locs) (hl : tw_l ls 4 []) : tw_W p l e R s m args below meth c σ H locs (tw_E below G (tw_Qv G Q) X args s R) (F0 m 114 ls []) := by
  unfold w_X3_write_b114 at hw
  exact tw_vret C hR hS hr dX3_write_114 hw
set_option maxHeartbeats 4000000 in
theorem wk_X3_write_b80 {rf_X3_write : (Option Nat) → (Option Nat) → (Tst → Prop) → (String → Nat → Tst → Prop) → Tst → Prop} {frf_X3_write : Nat}  (C : tw_C p l R s m args meth c G cX3_write 4 yX3_write.cls) (hr : meth.sig.returnType = none) (hmn : meth.name = yX3_write.name) (hnx : (∀ x ∈ c.exceptionTable.toList, False)) (hfr : 9 ≤ R.frames ∧ frf_X3_write + 1 ≤ R.frames) (hRl : R.locals = 40 * R.frames) {Q : Tst → Prop} {X : String → Nat → Tst → Prop} (hrf_X3_write : ∀ fr : Nat, frf_X3_write ≤ fr → ∀ (a0 : Option Nat) (a1 : Option Nat) (Q : Tst → Prop) (X : String → Nat → Tst → Prop) (σ : Tst), rf_X3_write a0 a1 Q X σ → tw_M l yX3_write (ws_ yX3_write cX3_write 4 none) fr (40 * fr) G σ [.inr a0, .inr a1] (tw_Qv G Q) X) : ∀ (n : Nat) (l1 : Option Nat) (l2 : Option Nat) (σ : Tst) (H : Heap) (locs : List Loc) (ls : Array Slot), w_X3_write_b80 rf_X3_write Q X n l1 l2 σ → tw_R G σ H → va_S (tw_A G) s.heap H locs → tw_l ls 4 [(1, .inr l1), (2, .inr l2)] → tw_W p l e R s m args below meth c σ H locs (tw_E below G (tw_Qv G Q) X args s R) (F0 m 80 ls []) := by
  intro n
  induction n with
  | zero => intro l1 l2 σ H locs ls hw; exact False.elim hw
  | succ n hk80 =>
    intro l1 l2 σ H locs ls hw hR hS hl
    rw [w_X3_write_b80] at hw
    refine tk_aload_n C hl 1 dX3_write_80 rfl ?_
    obtain ⟨hv, hw⟩ := hw
    refine tw_cbi5 C hS (tk_runF (As := []) (x := ⟨"java/util/Iterator", "hasNext", "()Z"⟩) C hR hS (wk_J18_hasNext l C.hst G (R.frames - 1) (by omega) _ _ _ σ hw) hv rfl q319 q333 q335 q90 q337 (by decide +kernel) (show tw_pd ⟨"java/util/Iterator", "hasNext", "()Z"⟩ 0 by decide +kernel) ⟨by omega, by omega⟩ hl.1 rfl (tw_r8 [] (Nat.le_of_ble_eq_true rfl)) dX3_write_81) (fun E q σ H locs hX hR hS hi => tw_out C hR hS (fun x hx => (hnx x hx).elim) hi hX) (fun x1 σ H locs hw hR hS => ?_)
    refine lv_if_eq (tgt := 107) C.hx C.hb dX3_write_86 (by decide) (fun c86 => ?_) (fun c86 => ?_)
    · replace hw := hw.1 c86
      refine tk_aload_n C hl 0 dX3_write_107 rfl ?_
      refine lv_bipush (v := 41) C.hx C.hb dX3_write_108 (by decide) ?_
      obtain ⟨hv, hw⟩ := hw
      refine tw_cbq C hS (tk_runV (As := [.inl 41]) C hR hS (wk_J1_append_3 l C.hst G (R.frames - 1) (by omega) _ _ _ _ σ hw) hv rfl q1589 q1372 q1373 q66 q1374 pd_J1_append_3 ⟨by omega, by omega⟩ hl.1 rfl (tw_r8 [] (Nat.le_of_ble_eq_true rfl)) dX3_write_110) (fun E q σ H locs hX hR hS hi => tw_out C hR hS (fun x hx => (hnx x hx).elim) hi hX) (fun x2 σ H locs hw hR hS => ?_)
      refine tw_pop (x := .inr x2) C.hx C.hb dX3_write_113 ?_
      exact wk_X3_write_b114 C hr hmn hnx hfr hRl hrf_X3_write σ _ _ _ hw hR hS (tk_sub hl [] rfl)
    · replace hw := hw.2 c86
      refine tk_aload_n C hl 1 dX3_write_89 rfl ?_
      obtain ⟨hv, hw⟩ := hw
      refine tw_cbq5 C hS (tk_runF (As := []) (x := ⟨"java/util/Iterator", "next", "()Ljava/lang/Object;"⟩) C hR hS (wk_J18_next l C.hst G (R.frames - 1) (by omega) _ _ _ σ hw) hv rfl q339 q566 q568 q90 q570 (by decide +kernel) (show tw_pd ⟨"java/util/Iterator", "next", "()Ljava/lang/Object;"⟩ 0 by decide +kernel) ⟨by omega, by omega⟩ hl.1 rfl (tw_r8 [] (Nat.le_of_ble_eq_true rfl)) dX3_write_90) (fun E q σ H locs hX hR hS hi => tw_out C hR hS (fun x hx => (hnx x hx).elim) hi hX) (fun x3 σ H locs hw hR hS => ?_)
      refine tk_cc C hR hw rfl q577 (Or.inl rfl) dX3_write_95 (fun hw => ?_)
      refine tk_astore_n (L' := [(3, .inr x3), (1, .inr l1), (2, .inr l2)]) C hl dX3_write_98 (by decide) rfl (fun ls hl => ?_)
      refine tk_aload_n C hl 0 dX3_write_99 rfl ?_
      refine tk_aload_n C hl 1 dX3_write_100 rfl ?_
      obtain ⟨hv, hw⟩ := hw
      refine tw_cbv C hS (tk_runV (As := [.inr l1]) C hR hS (hrf_X3_write (R.frames - 1) (by omega) _ _ _ _ σ hw) hv rfl q1593 q1586 q1587 q70 q1588 pd_X3_write ⟨by omega, by omega⟩ hl.1 rfl (tw_r8 [] (Nat.le_of_ble_eq_true rfl)) dX3_write_101) (fun E q σ H locs hX hR hS hi => tw_out C hR hS (fun x hx => (hnx x hx).elim) hi hX) (fun σ H locs hw hR hS => ?_)
      refine lv_goto (tgt := 80) C.hx C.hb dX3_write_104 (by decide) ?_
      exact hk80 _ _ σ _ _ _ hw hR hS (tk_sub hl [1, 2] rfl)
set_option maxHeartbeats 4000000 in
theorem wk_X3_write_b51 {rf_X3_write : (Option Nat) → (Option Nat) → (Tst → Prop) → (String → Nat → Tst → Prop) → Tst → Prop} {frf_X3_write : Nat}  (C : tw_C p l R s m args meth c G cX3_write 4 yX3_write.cls) (hr : meth.sig.returnType = none) (hmn : meth.name = yX3_write.name) (hnx : (∀ x ∈ c.exceptionTable.toList, False)) (hfr : 9 ≤ R.frames ∧ frf_X3_write + 1 ≤ R.frames) (hRl : R.locals = 40 * R.frames) {Q : Tst → Prop} {X : String → Nat → Tst → Prop} (hrf_X3_write : ∀ fr : Nat, frf_X3_write ≤ fr → ∀ (a0 : Option Nat) (a1 : Option Nat) (Q : Tst → Prop) (X : String → Nat → Tst → Prop) (σ : Tst), rf_X3_write a0 a1 Q X σ → tw_M l yX3_write (ws_ yX3_write cX3_write 4 none) fr (40 * fr) G σ [.inr a0, .inr a1] (tw_Qv G Q) X) (l0 : Option Nat) (l1 : Option Nat) (σ : Tst) (H : Heap) (locs : List Loc) (ls : Array Slot) (hw : w_X3_write_b51 rf_X3_write Q X l0 l1 σ) (hR : tw_R G σ H) (hS : va_S (tw_A G) s.heap H locs) (hl : tw_l ls 4 [(0, .inr l0), (1, .inr l1)]) : tw_W p l e R s m args below meth c σ H locs (tw_E below G (tw_Qv G Q) X args s R) (F0 m 51 ls []) := by
  unfold w_X3_write_b51 at hw
  refine tk_aload_n C hl 0 dX3_write_51 rfl ?_
  refine tk_gr C hR hw rfl in_X3 (by decide) q209 (fun _ h => h) dX3_write_52 (fun x1 hw => ?_)
  obtain ⟨hv, hw⟩ := hw
  refine tw_cbi5 C hS (tk_runF (As := []) (x := ⟨"java/util/List", "isEmpty", "()Z"⟩) C hR hS (wk_J6_isEmpty l C.hst G (R.frames - 1) (by omega) _ _ _ σ hw) hv rfl q1592 q281 q283 q73 q285 (by decide +kernel) (show tw_pd ⟨"java/util/List", "isEmpty", "()Z"⟩ 0 by decide +kernel) ⟨by omega, by omega⟩ hl.1 rfl (tw_r8 [] (Nat.le_of_ble_eq_true rfl)) dX3_write_55) (fun E q σ H locs hX hR hS hi => tw_out C hR hS (fun x hx => (hnx x hx).elim) hi hX) (fun x2 σ H locs hw hR hS => ?_)
  refine lv_if_ne (tgt := 114) C.hx C.hb dX3_write_60 (by decide) (fun c60 => ?_) (fun c60 => ?_)
  · replace hw := hw.2 c60
    exact wk_X3_write_b114 C hr hmn hnx hfr hRl hrf_X3_write σ _ _ _ hw hR hS (tk_sub hl [] rfl)
  · replace hw := hw.1 c60
    refine tk_aload_n C hl 1 dX3_write_63 rfl ?_
    refine lv_bipush (v := 40) C.hx C.hb dX3_write_64 (by decide) ?_
    obtain ⟨hv, hw⟩ := hw
    refine tw_cbq C hS (tk_runV (As := [.inl 40]) C hR hS (wk_J1_append_3 l C.hst G (R.frames - 1) (by omega) _ _ _ _ σ hw) hv rfl q1589 q1372 q1373 q66 q1374 pd_J1_append_3 ⟨by omega, by omega⟩ hl.1 rfl (tw_r8 [] (Nat.le_of_ble_eq_true rfl)) dX3_write_66) (fun E q σ H locs hX hR hS hi => tw_out C hR hS (fun x hx => (hnx x hx).elim) hi hX) (fun x3 σ H locs hw hR hS => ?_)
    refine tw_pop (x := .inr x3) C.hx C.hb dX3_write_69 ?_
    refine tk_aload_n C hl 0 dX3_write_70 rfl ?_
    refine tk_gr C hR hw rfl in_X3 (by decide) q209 (fun _ h => h) dX3_write_71 (fun x4 hw => ?_)
    obtain ⟨hv, hw⟩ := hw
    refine tw_cbq5 C hS (tk_runF (As := []) (x := ⟨"java/util/List", "iterator", "()Ljava/util/Iterator;"⟩) C hR hS (wk_J6_iterator l C.hst G (R.frames - 1) (by omega) _ _ _ σ hw) hv rfl q291 q294 q296 q73 q298 (by decide +kernel) (show tw_pd ⟨"java/util/List", "iterator", "()Ljava/util/Iterator;"⟩ 0 by decide +kernel) ⟨by omega, by omega⟩ hl.1 rfl (tw_r8 [] (Nat.le_of_ble_eq_true rfl)) dX3_write_74) (fun E q σ H locs hX hR hS hi => tw_out C hR hS (fun x hx => (hnx x hx).elim) hi hX) (fun x5 σ H locs hw hR hS => ?_)
    refine tk_astore_n (L' := [(2, .inr x5), (0, .inr l0), (1, .inr l1)]) C hl dX3_write_79 (by decide) rfl (fun ls hl => ?_)
    obtain ⟨z, hw⟩ := hw
    exact wk_X3_write_b80 C hr hmn hnx hfr hRl hrf_X3_write z _ _ σ _ _ _ hw hR hS (tk_sub hl [2, 0] rfl)
set_option maxHeartbeats 4000000 in
theorem wk_X3_write_b30 {rf_X3_write : (Option Nat) → (Option Nat) → (Tst → Prop) → (String → Nat → Tst → Prop) → Tst → Prop} {frf_X3_write : Nat}  (C : tw_C p l R s m args meth c G cX3_write 4 yX3_write.cls) (hr : meth.sig.returnType = none) (hmn : meth.name = yX3_write.name) (hnx : (∀ x ∈ c.exceptionTable.toList, False)) (hfr : 9 ≤ R.frames ∧ frf_X3_write + 1 ≤ R.frames) (hRl : R.locals = 40 * R.frames) {Q : Tst → Prop} {X : String → Nat → Tst → Prop} (hrf_X3_write : ∀ fr : Nat, frf_X3_write ≤ fr → ∀ (a0 : Option Nat) (a1 : Option Nat) (Q : Tst → Prop) (X : String → Nat → Tst → Prop) (σ : Tst), rf_X3_write a0 a1 Q X σ → tw_M l yX3_write (ws_ yX3_write cX3_write 4 none) fr (40 * fr) G σ [.inr a0, .inr a1] (tw_Qv G Q) X) (l0 : Option Nat) (l1 : Option Nat) (σ : Tst) (H : Heap) (locs : List Loc) (ls : Array Slot) (hw : w_X3_write_b30 rf_X3_write Q X l0 l1 σ) (hR : tw_R G σ H) (hS : va_S (tw_A G) s.heap H locs) (hl : tw_l ls 4 [(0, .inr l0), (1, .inr l1)]) : tw_W p l e R s m args below meth c σ H locs (tw_E below G (tw_Qv G Q) X args s R) (F0 m 30 ls []) := by
  unfold w_X3_write_b30 at hw
  refine tk_aload_n C hl 0 dX3_write_30 rfl ?_
  refine tk_gi C hR hw rfl in_X3 (by decide) q201 (fun _ h => h) dX3_write_31 (fun x1 hw => ?_)
  refine lv_if_le (tgt := 51) C.hx C.hb dX3_write_34 (by decide) (fun c34 => ?_) (fun c34 => ?_)
  · replace hw := hw.1 c34
    exact wk_X3_write_b51 C hr hmn hnx hfr hRl hrf_X3_write _ _ σ _ _ _ hw hR hS (tk_sub hl [0, 1] rfl)
  · replace hw := hw.2 c34
    refine tk_aload_n C hl 1 dX3_write_37 rfl ?_
    refine lv_bipush (v := 61) C.hx C.hb dX3_write_38 (by decide) ?_
    obtain ⟨hv, hw⟩ := hw
    refine tw_cbq C hS (tk_runV (As := [.inl 61]) C hR hS (wk_J1_append_3 l C.hst G (R.frames - 1) (by omega) _ _ _ _ σ hw) hv rfl q1589 q1372 q1373 q66 q1374 pd_J1_append_3 ⟨by omega, by omega⟩ hl.1 rfl (tw_r8 [] (Nat.le_of_ble_eq_true rfl)) dX3_write_40) (fun E q σ H locs hX hR hS hi => tw_out C hR hS (fun x hx => (hnx x hx).elim) hi hX) (fun x2 σ H locs hw hR hS => ?_)
    refine tk_aload_n C hl 0 dX3_write_43 rfl ?_
    refine tk_gi C hR hw rfl in_X3 (by decide) q201 (fun _ h => h) dX3_write_44 (fun x3 hw => ?_)
    obtain ⟨hv, hw⟩ := hw
    refine tw_cbq C hS (tk_runV (As := [.inl x3]) C hR hS (wk_J1_append_2 l C.hst G (R.frames - 1) (by omega) _ _ _ _ σ hw) hv rfl q1590 q816 q817 q66 q818 pd_J1_append_2 ⟨by omega, by omega⟩ hl.1 rfl (tw_r8 [] (Nat.le_of_ble_eq_true rfl)) dX3_write_47) (fun E q σ H locs hX hR hS hi => tw_out C hR hS (fun x hx => (hnx x hx).elim) hi hX) (fun x4 σ H locs hw hR hS => ?_)
    refine tw_pop (x := .inr x4) C.hx C.hb dX3_write_50 ?_
    exact wk_X3_write_b51 C hr hmn hnx hfr hRl hrf_X3_write _ _ σ _ _ _ hw hR hS (tk_sub hl [0, 1] rfl)
set_option maxHeartbeats 4000000 in
theorem wk_X3_write (l : Launch) (hl0 : l.stackTraces = false) (G : Tgl)  : ∀ (d fr : Nat), 9 + 1 * d ≤ fr → ∀ (l0 : Option Nat) (l1 : Option Nat) (Q : Tst → Prop) (X : String → Nat → Tst → Prop) (σ : Tst), w_X3_write d l0 l1 Q X σ → tw_M l yX3_write (ws_ yX3_write cX3_write 4 none) fr (40 * fr) G σ [.inr l0, .inr l1] (tw_Qv G Q) X := by
  intro d
  induction d with
  | zero => intro fr hfr l0 l1 Q X σ hw; exact False.elim hw
  | succ d ih =>
    intro fr hfr l0 l1 Q X σ hw
    have hrf_X3_write := fun (fr : Nat) (h : 9 + 1 * d ≤ fr) => ih fr (by omega)
    rw [w_X3_write] at hw
    generalize hg : w_X3_write d = rf_X3_write at hw hrf_X3_write
    clear hg ih
    obtain ⟨frf_X3_write, hfrf_X3_write⟩ : ∃ f, f = 9 + 1 * d := ⟨_, rfl⟩
    rw [← hfrf_X3_write] at hrf_X3_write
    have hfr : 9 ≤ fr ∧ frf_X3_write + 1 ≤ fr := by refine ⟨?_, ?_⟩ <;> omega
    refine tw_of (ret := none) hl0 (by decide) (Nat.le_of_ble_eq_true rfl) (fun p e R s m args below meth c hRf hRl C hr hmn hnx hR hS ls hl => ?_)
    have hfr : 9 ≤ R.frames ∧ frf_X3_write + 1 ≤ R.frames := by rw [hRf]; exact hfr
    have hRl : R.locals = 40 * R.frames := by rw [hRl, hRf]
    have hl : tw_l ls 4 [(0, .inr l0), (1, .inr l1)] := hl
    refine tk_aload_n C hl 1 dX3_write_0 rfl ?_
    refine tk_aload_n C hl 0 dX3_write_1 rfl ?_
    refine tk_gi C hR hw rfl in_X3 (by decide) q192 (fun _ h => h) dX3_write_2 (fun x1 hw => ?_)
    obtain ⟨hv, hw⟩ := hw
    refine tw_cbq C hS (tk_runV (As := [.inl x1]) C hR hS (wk_J1_append_3 l C.hst G (R.frames - 1) (by omega) _ _ _ _ σ hw) hv rfl q1589 q1372 q1373 q66 q1374 pd_J1_append_3 ⟨by omega, by omega⟩ hl.1 rfl (tw_r8 [] (Nat.le_of_ble_eq_true rfl)) dX3_write_5) (fun E q σ H locs hX hR hS hi => tw_out C hR hS (fun x hx => (hnx x hx).elim) hi hX) (fun x2 σ H locs hw hR hS => ?_)
    refine tw_pop (x := .inr x2) C.hx C.hb dX3_write_8 ?_
    refine tk_aload_n C hl 0 dX3_write_9 rfl ?_
    refine tk_gi C hR hw rfl in_X3 (by decide) q196 (fun _ h => h) dX3_write_10 (fun x3 hw => ?_)
    refine lv_if_le (tgt := 30) C.hx C.hb dX3_write_13 (by decide) (fun c13 => ?_) (fun c13 => ?_)
    · replace hw := hw.1 c13
      exact wk_X3_write_b30 C hr hmn hnx hfr hRl hrf_X3_write _ _ σ _ _ _ hw hR hS (tk_sub hl [0, 1] rfl)
    · replace hw := hw.2 c13
      refine tk_aload_n C hl 1 dX3_write_16 rfl ?_
      refine lv_bipush (v := 35) C.hx C.hb dX3_write_17 (by decide) ?_
      obtain ⟨hv, hw⟩ := hw
      refine tw_cbq C hS (tk_runV (As := [.inl 35]) C hR hS (wk_J1_append_3 l C.hst G (R.frames - 1) (by omega) _ _ _ _ σ hw) hv rfl q1589 q1372 q1373 q66 q1374 pd_J1_append_3 ⟨by omega, by omega⟩ hl.1 rfl (tw_r8 [] (Nat.le_of_ble_eq_true rfl)) dX3_write_19) (fun E q σ H locs hX hR hS hi => tw_out C hR hS (fun x hx => (hnx x hx).elim) hi hX) (fun x4 σ H locs hw hR hS => ?_)
      refine tk_aload_n C hl 0 dX3_write_22 rfl ?_
      refine tk_gi C hR hw rfl in_X3 (by decide) q196 (fun _ h => h) dX3_write_23 (fun x5 hw => ?_)
      obtain ⟨hv, hw⟩ := hw
      refine tw_cbq C hS (tk_runV (As := [.inl x5]) C hR hS (wk_J1_append_2 l C.hst G (R.frames - 1) (by omega) _ _ _ _ σ hw) hv rfl q1590 q816 q817 q66 q818 pd_J1_append_2 ⟨by omega, by omega⟩ hl.1 rfl (tw_r8 [] (Nat.le_of_ble_eq_true rfl)) dX3_write_26) (fun E q σ H locs hX hR hS hi => tw_out C hR hS (fun x hx => (hnx x hx).elim) hi hX) (fun x6 σ H locs hw hR hS => ?_)
      refine tw_pop (x := .inr x6) C.hx C.hb dX3_write_29 ?_
      exact wk_X3_write_b30 C hr hmn hnx hfr hRl hrf_X3_write _ _ σ _ _ _ hw hR hS (tk_sub hl [0, 1] rfl)
-- TreeDiffer$Node.hash()I
def w_X3_hash_b31 (rf_X3_hash : (Option Nat) → (Int32 → Tst → Prop) → (String → Nat → Tst → Prop) → Tst → Prop) (Q : Int32 → Tst → Prop) (X : String → Nat → Tst → Prop) : Nat → Option Nat → Int32 → Option Nat → Tst → Prop
  | 0, _, _, _, _ => False
  | n + 1, l0, l1, l2, σ => w_rc σ l2 cJ18 <| w_J18_hasNext l2 (fun x1 σ => w_if (x1 = 0) (w_gr σ l0 cX3 4 fun x2 => w_rc σ x2 cJ6 <| w_J6_size x2 (fun x3 σ => Q ((31 * l1) + x3) σ) X σ) (w_rc σ l2 cJ18 <| w_J18_next l2 (fun x4 σ => w_cc σ x4 cX3 <| w_rc σ x4 cX3 <| rf_X3_hash x4 (fun x5 σ => (w_X3_hash_b31 rf_X3_hash Q X n) l0 ((31 * l1) + x5) l2 σ) X σ) X σ)) X σ
def w_X3_hash : Nat → Option Nat → (Int32 → Tst → Prop) → (String → Nat → Tst → Prop) → Tst → Prop
  | 0, _, _, _, _ => False
  | d + 1, l0, Q, X, σ => w_gi σ l0 cX3 0 fun x1 => w_gi σ l0 cX3 1 fun x2 => w_gi σ l0 cX3 2 fun x3 => w_gr σ l0 cX3 4 fun x4 => w_rc σ x4 cJ6 <| w_J6_iterator x4 (fun x5 σ => ∃ z, w_X3_hash_b31 (w_X3_hash d) Q X z l0 ((31 * ((31 * x1) + x2)) + x3) x5 σ) X σ
set_option maxHeartbeats 4000000 in
theorem wk_X3_hash_b31 {rf_X3_hash : (Option Nat) → (Int32 → Tst → Prop) → (String → Nat → Tst → Prop) → Tst → Prop} {frf_X3_hash : Nat}  (C : tw_C p l R s m args meth c G cX3_hash 4 yX3_hash.cls) (hr : meth.sig.returnType = (some .int)) (hmn : meth.name = yX3_hash.name) (hnx : (∀ x ∈ c.exceptionTable.toList, False)) (hfr : 3 ≤ R.frames ∧ frf_X3_hash + 1 ≤ R.frames) (hRl : R.locals = 40 * R.frames) {Q : Int32 → Tst → Prop} {X : String → Nat → Tst → Prop} (hrf_X3_hash : ∀ fr : Nat, frf_X3_hash ≤ fr → ∀ (a0 : Option Nat) (Q : Int32 → Tst → Prop) (X : String → Nat → Tst → Prop) (σ : Tst), rf_X3_hash a0 Q X σ → tw_M l yX3_hash (ws_ yX3_hash cX3_hash 4 (some .int)) fr (40 * fr) G σ [.inr a0] (tw_Qi G Q) X) : ∀ (n : Nat) (l0 : Option Nat) (l1 : Int32) (l2 : Option Nat) (σ : Tst) (H : Heap) (locs : List Loc) (ls : Array Slot), w_X3_hash_b31 rf_X3_hash Q X n l0 l1 l2 σ → tw_R G σ H → va_S (tw_A G) s.heap H locs → tw_l ls 4 [(0, .inr l0), (1, .inl l1), (2, .inr l2)] → tw_W p l e R s m args below meth c σ H locs (tw_E below G (tw_Qi G Q) X args s R) (F0 m 31 ls []) := by
  intro n
  induction n with
  | zero => intro l0 l1 l2 σ H locs ls hw; exact False.elim hw
  | succ n hk31 =>
    intro l0 l1 l2 σ H locs ls hw hR hS hl
    rw [w_X3_hash_b31] at hw
    refine tk_aload_n C hl 2 dX3_hash_31 rfl ?_
    obtain ⟨hv, hw⟩ := hw
    refine tw_cbi5 C hS (tk_runF (As := []) (x := ⟨"java/util/Iterator", "hasNext", "()Z"⟩) C hR hS (wk_J18_hasNext l C.hst G (R.frames - 1) (by omega) _ _ _ σ hw) hv rfl q319 q333 q335 q90 q337 (by decide +kernel) (show tw_pd ⟨"java/util/Iterator", "hasNext", "()Z"⟩ 0 by decide +kernel) ⟨by omega, by omega⟩ hl.1 rfl (tw_r8 [] (Nat.le_of_ble_eq_true rfl)) dX3_hash_32) (fun E q σ H locs hX hR hS hi => tw_out C hR hS (fun x hx => (hnx x hx).elim) hi hX) (fun x1 σ H locs hw hR hS => ?_)
    refine lv_if_eq (tgt := 63) C.hx C.hb dX3_hash_37 (by decide) (fun c37 => ?_) (fun c37 => ?_)
    · replace hw := hw.1 c37
      refine lv_bipush (v := 31) C.hx C.hb dX3_hash_63 (by decide) ?_
      refine tk_iload_n C hl 1 dX3_hash_65 rfl ?_
      refine lv_imul C.hx C.hb dX3_hash_66 ?_
      refine tk_aload_n C hl 0 dX3_hash_67 rfl ?_
      refine tk_gr C hR hw rfl in_X3 (by decide) q209 (fun _ h => h) dX3_hash_68 (fun x2 hw => ?_)
      obtain ⟨hv, hw⟩ := hw
      refine tw_cbi5 C hS (tk_runF (As := []) (x := ⟨"java/util/List", "size", "()I"⟩) C hR hS (wk_J6_size l C.hst G (R.frames - 1) (by omega) _ _ _ σ hw) hv rfl q637 q447 q449 q73 q451 (by decide +kernel) (show tw_pd ⟨"java/util/List", "size", "()I"⟩ 0 by decide +kernel) ⟨by omega, by omega⟩ hl.1 rfl (tw_r8 [.inl (31 * l1)] (Nat.le_of_ble_eq_true rfl)) dX3_hash_71) (fun E q σ H locs hX hR hS hi => tw_out C hR hS (fun x hx => (hnx x hx).elim) hi hX) (fun x3 σ H locs hw hR hS => ?_)
      refine lv_iadd C.hx C.hb dX3_hash_76 ?_
      exact tw_iret C hR hS hr rfl dX3_hash_77 hw
    · replace hw := hw.2 c37
      refine tk_aload_n C hl 2 dX3_hash_40 rfl ?_
      obtain ⟨hv, hw⟩ := hw
      refine tw_cbq5 C hS (tk_runF (As := []) (x := ⟨"java/util/Iterator", "next", "()Ljava/lang/Object;"⟩) C hR hS (wk_J18_next l C.hst G (R.frames - 1) (by omega) _ _ _ σ hw) hv rfl q339 q566 q568 q90 q570 (by decide +kernel) (show tw_pd ⟨"java/util/Iterator", "next", "()Ljava/lang/Object;"⟩ 0 by decide +kernel) ⟨by omega, by omega⟩ hl.1 rfl (tw_r8 [] (Nat.le_of_ble_eq_true rfl)) dX3_hash_41) (fun E q σ H locs hX hR hS hi => tw_out C hR hS (fun x hx => (hnx x hx).elim) hi hX) (fun x4 σ H locs hw hR hS => ?_)
      refine tk_cc C hR hw rfl q577 (Or.inl rfl) dX3_hash_46 (fun hw => ?_)
      refine tk_astore_n (L' := [(3, .inr x4), (0, .inr l0), (1, .inl l1), (2, .inr l2)]) C hl dX3_hash_49 (by decide) rfl (fun ls hl => ?_)
      refine lv_bipush (v := 31) C.hx C.hb dX3_hash_50 (by decide) ?_
      refine tk_iload_n C hl 2 dX3_hash_52 rfl ?_
      refine lv_imul C.hx C.hb dX3_hash_53 ?_
      refine tk_aload_n C hl 0 dX3_hash_54 rfl ?_
      obtain ⟨hv, hw⟩ := hw
      refine tw_cbi C hS (tk_runV (As := []) C hR hS (hrf_X3_hash (R.frames - 1) (by omega) _ _ _ σ hw) hv rfl q1776 q1773 q1774 q70 q1775 pd_X3_hash ⟨by omega, by omega⟩ hl.1 rfl (tw_r8 [.inl (31 * l1)] (Nat.le_of_ble_eq_true rfl)) dX3_hash_55) (fun E q σ H locs hX hR hS hi => tw_out C hR hS (fun x hx => (hnx x hx).elim) hi hX) (fun x5 σ H locs hw hR hS => ?_)
      refine lv_iadd C.hx C.hb dX3_hash_58 ?_
      refine tk_istore_n (L' := [(1, .inl ((31 * l1) + x5)), (3, .inr x4), (0, .inr l0), (2, .inr l2)]) C hl dX3_hash_59 (by decide) rfl (fun ls hl => ?_)
      refine lv_goto (tgt := 31) C.hx C.hb dX3_hash_60 (by decide) ?_
      exact hk31 _ _ _ σ _ _ _ hw hR hS (tk_sub hl [2, 0, 3] rfl)
set_option maxHeartbeats 4000000 in
theorem wk_X3_hash (l : Launch) (hl0 : l.stackTraces = false) (G : Tgl)  : ∀ (d fr : Nat), 3 + 1 * d ≤ fr → ∀ (l0 : Option Nat) (Q : Int32 → Tst → Prop) (X : String → Nat → Tst → Prop) (σ : Tst), w_X3_hash d l0 Q X σ → tw_M l yX3_hash (ws_ yX3_hash cX3_hash 4 (some .int)) fr (40 * fr) G σ [.inr l0] (tw_Qi G Q) X := by
  intro d
  induction d with
  | zero => intro fr hfr l0 Q X σ hw; exact False.elim hw
  | succ d ih =>
    intro fr hfr l0 Q X σ hw
    have hrf_X3_hash := fun (fr : Nat) (h : 3 + 1 * d ≤ fr) => ih fr (by omega)
    rw [w_X3_hash] at hw
    generalize hg : w_X3_hash d = rf_X3_hash at hw hrf_X3_hash
    clear hg ih
    obtain ⟨frf_X3_hash, hfrf_X3_hash⟩ : ∃ f, f = 3 + 1 * d := ⟨_, rfl⟩
    rw [← hfrf_X3_hash] at hrf_X3_hash
    have hfr : 3 ≤ fr ∧ frf_X3_hash + 1 ≤ fr := by refine ⟨?_, ?_⟩ <;> omega
    refine tw_of (ret := (some .int)) hl0 (by decide) (Nat.le_of_ble_eq_true rfl) (fun p e R s m args below meth c hRf hRl C hr hmn hnx hR hS ls hl => ?_)
    have hfr : 3 ≤ R.frames ∧ frf_X3_hash + 1 ≤ R.frames := by rw [hRf]; exact hfr
    have hRl : R.locals = 40 * R.frames := by rw [hRl, hRf]
    have hl : tw_l ls 4 [(0, .inr l0)] := hl
    refine lv_bipush (v := 31) C.hx C.hb dX3_hash_0 (by decide) ?_
    refine lv_bipush (v := 31) C.hx C.hb dX3_hash_2 (by decide) ?_
    refine tk_aload_n C hl 0 dX3_hash_4 rfl ?_
    refine tk_gi C hR hw rfl in_X3 (by decide) q192 (fun _ h => h) dX3_hash_5 (fun x1 hw => ?_)
    refine lv_imul C.hx C.hb dX3_hash_8 ?_
    refine tk_aload_n C hl 0 dX3_hash_9 rfl ?_
    refine tk_gi C hR hw rfl in_X3 (by decide) q196 (fun _ h => h) dX3_hash_10 (fun x2 hw => ?_)
    refine lv_iadd C.hx C.hb dX3_hash_13 ?_
    refine lv_imul C.hx C.hb dX3_hash_14 ?_
    refine tk_aload_n C hl 0 dX3_hash_15 rfl ?_
    refine tk_gi C hR hw rfl in_X3 (by decide) q201 (fun _ h => h) dX3_hash_16 (fun x3 hw => ?_)
    refine lv_iadd C.hx C.hb dX3_hash_19 ?_
    refine tk_istore_n (L' := [(1, .inl ((31 * ((31 * x1) + x2)) + x3)), (0, .inr l0)]) C hl dX3_hash_20 (by decide) rfl (fun ls hl => ?_)
    refine tk_aload_n C hl 1 dX3_hash_21 rfl ?_
    refine tk_gr C hR hw rfl in_X3 (by decide) q209 (fun _ h => h) dX3_hash_22 (fun x4 hw => ?_)
    obtain ⟨hv, hw⟩ := hw
    refine tw_cbq5 C hS (tk_runF (As := []) (x := ⟨"java/util/List", "iterator", "()Ljava/util/Iterator;"⟩) C hR hS (wk_J6_iterator l C.hst G (R.frames - 1) (by omega) _ _ _ σ hw) hv rfl q291 q294 q296 q73 q298 (by decide +kernel) (show tw_pd ⟨"java/util/List", "iterator", "()Ljava/util/Iterator;"⟩ 0 by decide +kernel) ⟨by omega, by omega⟩ hl.1 rfl (tw_r8 [] (Nat.le_of_ble_eq_true rfl)) dX3_hash_25) (fun E q σ H locs hX hR hS hi => tw_out C hR hS (fun x hx => (hnx x hx).elim) hi hX) (fun x5 σ H locs hw hR hS => ?_)
    refine tk_astore_n (L' := [(2, .inr x5), (1, .inl ((31 * ((31 * x1) + x2)) + x3)), (0, .inr l0)]) C hl dX3_hash_30 (by decide) rfl (fun ls hl => ?_)
    obtain ⟨z, hw⟩ := hw
    exact wk_X3_hash_b31 C hr hmn hnx hfr hRl hrf_X3_hash z _ _ _ σ _ _ _ hw hR hS (tk_sub hl [2, 1, 0] rfl)
-- TreeDifferModel$Item.<init>()V
def w_X20_init (l0 : Option Nat) (Q : Tst → Prop) (X : String → Nat → Tst → Prop) (σ : Tst) : Prop := w_rf l0 <| w_na σ 9 20 (.inr (.inr (.inr (.inr fun _ => none)))) fun q1 σ => w_p σ l0 cX20 5 (.inr q1) fun σ => Q σ
set_option maxHeartbeats 4000000 in
theorem wk_X20_init (l : Launch) (hl0 : l.stackTraces = false) (G : Tgl) (fr : Nat)  (hfr : 1 ≤ fr) (l0 : Option Nat) (Q : Tst → Prop) (X : String → Nat → Tst → Prop) (σ : Tst) (hw : w_X20_init l0 Q X σ) : tw_M l yX20_init (ws_ yX20_init cX20_init 1 none) fr (40 * fr) G σ [.inr l0] (tw_Qv G Q) X := by
  unfold w_X20_init at hw
  refine tw_of (ret := none) hl0 (by decide) (Nat.le_of_ble_eq_true rfl) (fun p e R s m args below meth c hRf hRl C hr hmn hnx hR hS ls hl => ?_)
  have hfr : 1 ≤ R.frames := by rw [hRf]; exact hfr
  have hRl : R.locals = 40 * R.frames := by rw [hRl, hRf]
  have hl : tw_l ls 1 [(0, .inr l0)] := hl
  refine tk_aload_n C hl 0 dX20_init_0 rfl ?_
  refine tk_obj C hw q2449 q119 q120 hl.1 (tw_r8 [] (Nat.le_of_ble_eq_true rfl)) (by omega) (by omega) dX20_init_1 (fun hw => ?_)
  refine tk_aload_n C hl 0 dX20_init_4 rfl ?_
  refine lv_bipush (v := 20) C.hx C.hb dX20_init_5 (by decide) ?_
  refine tk_nr (t := 9) C hR hS hw q2450 (by decide) rfl dX20_init_7 (fun q1 σ H hw hR hS => ?_)
  refine tk_pF (x := .inr q1) C hR hS hw (Or.inl (by decide)) rfl in_X20 tyX20 tyX20_ok nmX20 (by decide) q2459 (fun _ h => h) rfl hmn rfl (tw_nrA _ _) dX20_init_10 (fun σ H locs hw hR hS => ?_)
  exact tw_vret C hR hS hr dX20_init_13 hw
-- TreeDifferModel$Item.puts(LTreeDifferModel$Item;I)V
def w_X20_puts_b5 (Q : Tst → Prop) (X : String → Nat → Tst → Prop) : Nat → Option Nat → Option Nat → Int32 → Int32 → Tst → Prop
  | 0, _, _, _, _, _ => False
  | n + 1, l0, l1, l2, l3, σ => w_if (l3 ≤ l2) (w_gr σ l0 cX20 5 fun x1 => w_sr σ x1 l2 l1 fun σ => w_p σ l1 cX20 4 (.inr l0) fun σ => w_gi σ l0 cX20 3 fun x2 => w_p σ l0 cX20 3 (.inl (x2 + 1)) fun σ => Q σ) (w_gr σ l0 cX20 5 fun x3 => w_gr σ l0 cX20 5 fun x4 => w_lr σ x4 (l3 - 1) fun x5 => w_sr σ x3 l3 x5 fun σ => (w_X20_puts_b5 Q X n) l0 l1 l2 (l3 + (-1)) σ)
def w_X20_puts (l0 : Option Nat) (l1 : Option Nat) (l2 : Int32) (Q : Tst → Prop) (X : String → Nat → Tst → Prop) (σ : Tst) : Prop := w_gi σ l0 cX20 3 fun x1 => ∃ z, w_X20_puts_b5 Q X z l0 l1 l2 x1 σ
set_option maxHeartbeats 4000000 in
theorem wk_X20_puts_b5  (C : tw_C p l R s m args meth c G cX20_puts 4 yX20_puts.cls) (hr : meth.sig.returnType = none) (hmn : meth.name = yX20_puts.name) (hnx : (∀ x ∈ c.exceptionTable.toList, False)) (hfr : 1 ≤ R.frames) (hRl : R.locals = 40 * R.frames) {Q : Tst → Prop} {X : String → Nat → Tst → Prop}  : ∀ (n : Nat) (l0 : Option Nat) (l1 : Option Nat) (l2 : Int32) (l3 : Int32) (σ : Tst) (H : Heap) (locs : List Loc) (ls : Array Slot), w_X20_puts_b5 Q X n l0 l1 l2 l3 σ → tw_R G σ H → va_S (tw_A G) s.heap H locs → tw_l ls 4 [(0, .inr l0), (1, .inr l1), (2, .inl l2), (3, .inl l3)] → tw_W p l e R s m args below meth c σ H locs (tw_E below G (tw_Qv G Q) X args s R) (F0 m 5 ls []) := by
  intro n
  induction n with
  | zero => intro l0 l1 l2 l3 σ H locs ls hw; exact False.elim hw
  | succ n hk5 =>
    intro l0 l1 l2 l3 σ H locs ls hw hR hS hl
    rw [w_X20_puts_b5] at hw
    refine tk_iload_n C hl 3 dX20_puts_5 rfl ?_
    refine tk_iload_n C hl 2 dX20_puts_6 rfl ?_
    refine lv_icmp_le (tgt := 30) C.hx C.hb dX20_puts_7 (by decide) (fun c7 => ?_) (fun c7 => ?_)
    · replace hw := hw.1 c7
      refine tk_aload_n C hl 0 dX20_puts_30 rfl ?_
      refine tk_gr C hR hw rfl in_X20 (by decide) q2459 (fun _ h => h) dX20_puts_31 (fun x1 hw => ?_)
      refine tk_iload_n C hl 2 dX20_puts_34 rfl ?_
      refine tk_aload_n C hl 1 dX20_puts_35 rfl ?_
      refine tk_sr C hR hS hw dX20_puts_36 (fun σ H locs hw hR hS => ?_)
      refine tk_aload_n C hl 1 dX20_puts_37 rfl ?_
      refine tk_aload_n C hl 0 dX20_puts_38 rfl ?_
      refine tk_p (x := .inr l0) C hR hS hw (by decide) rfl in_X20 tyX20 tyX20_ok nmX20 (by decide) q2457 (fun _ h => h) rfl (tw_nr _ _) dX20_puts_39 (fun σ H locs hw hR hS => ?_)
      refine tk_aload_n C hl 0 dX20_puts_42 rfl ?_
      refine tw_dup (x := .inr l0) C.hx C.hb dX20_puts_43 ?_
      refine tk_gi C hR hw rfl in_X20 (by decide) q2455 (fun _ h => h) dX20_puts_44 (fun x2 hw => ?_)
      refine lv_iconst (v := 1) C.hx C.hb dX20_puts_47 (by decide) ?_
      refine lv_iadd C.hx C.hb dX20_puts_48 ?_
      refine tk_p (x := .inl (x2 + 1)) C hR hS hw (by decide) rfl in_X20 tyX20 tyX20_ok nmX20 (by decide) q2455 (fun _ h => h) rfl (tw_ni _) dX20_puts_49 (fun σ H locs hw hR hS => ?_)
      exact tw_vret C hR hS hr dX20_puts_52 hw
    · replace hw := hw.2 c7
      refine tk_aload_n C hl 0 dX20_puts_10 rfl ?_
      refine tk_gr C hR hw rfl in_X20 (by decide) q2459 (fun _ h => h) dX20_puts_11 (fun x3 hw => ?_)
      refine tk_iload_n C hl 3 dX20_puts_14 rfl ?_
      refine tk_aload_n C hl 0 dX20_puts_15 rfl ?_
      refine tk_gr C hR hw rfl in_X20 (by decide) q2459 (fun _ h => h) dX20_puts_16 (fun x4 hw => ?_)
      refine tk_iload_n C hl 3 dX20_puts_19 rfl ?_
      refine lv_iconst (v := 1) C.hx C.hb dX20_puts_20 (by decide) ?_
      refine lv_isub C.hx C.hb dX20_puts_21 ?_
      refine tk_lr C hR hw dX20_puts_22 (fun x5 hw => ?_)
      refine tk_sr C hR hS hw dX20_puts_23 (fun σ H locs hw hR hS => ?_)
      refine tk_iinc (L' := [(3, .inl (l3 + (-1))), (0, .inr l0), (1, .inr l1), (2, .inl l2)]) (y := (l3 + (-1))) C hl 3 dX20_puts_24 rfl rfl (by decide) rfl (fun ls hl => ?_)
      refine lv_goto (tgt := 5) C.hx C.hb dX20_puts_27 (by decide) ?_
      exact hk5 _ _ _ _ σ _ _ _ hw hR hS (tk_sub hl [1, 2, 3, 0] rfl)
set_option maxHeartbeats 4000000 in
theorem wk_X20_puts (l : Launch) (hl0 : l.stackTraces = false) (G : Tgl) (fr : Nat)  (hfr : 1 ≤ fr) (l0 : Option Nat) (l1 : Option Nat) (l2 : Int32) (Q : Tst → Prop) (X : String → Nat → Tst → Prop) (σ : Tst) (hw : w_X20_puts l0 l1 l2 Q X σ) : tw_M l yX20_puts (ws_ yX20_puts cX20_puts 4 none) fr (40 * fr) G σ [.inr l0, .inr l1, .inl l2] (tw_Qv G Q) X := by
  unfold w_X20_puts at hw
  refine tw_of (ret := none) hl0 (by decide) (Nat.le_of_ble_eq_true rfl) (fun p e R s m args below meth c hRf hRl C hr hmn hnx hR hS ls hl => ?_)
  have hfr : 1 ≤ R.frames := by rw [hRf]; exact hfr
  have hRl : R.locals = 40 * R.frames := by rw [hRl, hRf]
  have hl : tw_l ls 4 [(0, .inr l0), (1, .inr l1), (2, .inl l2)] := hl
  refine tk_aload_n C hl 0 dX20_puts_0 rfl ?_
  refine tk_gi C hR hw rfl in_X20 (by decide) q2455 (fun _ h => h) dX20_puts_1 (fun x1 hw => ?_)
  refine tk_istore_n (L' := [(3, .inl x1), (0, .inr l0), (1, .inr l1), (2, .inl l2)]) C hl dX20_puts_4 (by decide) rfl (fun ls hl => ?_)
  obtain ⟨z, hw⟩ := hw
  exact wk_X20_puts_b5 C hr hmn hnx hfr hRl z _ _ _ _ σ _ _ _ hw hR hS (tk_sub hl [1, 2, 3, 0] rfl)
-- TreeDifferModel$Item.placeOf(LTreeDifferModel$Item;)I
def w_X20_placeOf_b2 (Q : Int32 → Tst → Prop) (X : String → Nat → Tst → Prop) : Nat → Option Nat → Option Nat → Int32 → Tst → Prop
  | 0, _, _, _, _ => False
  | n + 1, l0, l1, l2, σ => w_gr σ l0 cX20 5 fun x1 => w_lr σ x1 l2 fun x2 => w_if (x2 = l1) (Q l2 σ) ((w_X20_placeOf_b2 Q X n) l0 l1 (l2 + 1) σ)
def w_X20_placeOf (l0 : Option Nat) (l1 : Option Nat) (Q : Int32 → Tst → Prop) (X : String → Nat → Tst → Prop) (σ : Tst) : Prop := ∃ z, w_X20_placeOf_b2 Q X z l0 l1 0 σ
set_option maxHeartbeats 4000000 in
theorem wk_X20_placeOf_b2  (C : tw_C p l R s m args meth c G cX20_placeOf 3 yX20_placeOf.cls) (hr : meth.sig.returnType = (some .int)) (hmn : meth.name = yX20_placeOf.name) (hnx : (∀ x ∈ c.exceptionTable.toList, False)) (hfr : 1 ≤ R.frames) (hRl : R.locals = 40 * R.frames) {Q : Int32 → Tst → Prop} {X : String → Nat → Tst → Prop}  : ∀ (n : Nat) (l0 : Option Nat) (l1 : Option Nat) (l2 : Int32) (σ : Tst) (H : Heap) (locs : List Loc) (ls : Array Slot), w_X20_placeOf_b2 Q X n l0 l1 l2 σ → tw_R G σ H → va_S (tw_A G) s.heap H locs → tw_l ls 3 [(0, .inr l0), (1, .inr l1), (2, .inl l2)] → tw_W p l e R s m args below meth c σ H locs (tw_E below G (tw_Qi G Q) X args s R) (F0 m 2 ls []) := by
  intro n
  induction n with
  | zero => intro l0 l1 l2 σ H locs ls hw; exact False.elim hw
  | succ n hk2 =>
    intro l0 l1 l2 σ H locs ls hw hR hS hl
    rw [w_X20_placeOf_b2] at hw
    refine tk_aload_n C hl 0 dX20_placeOf_2 rfl ?_
    refine tk_gr C hR hw rfl in_X20 (by decide) q2459 (fun _ h => h) dX20_placeOf_3 (fun x1 hw => ?_)
    refine tk_iload_n C hl 2 dX20_placeOf_6 rfl ?_
    refine tk_lr C hR hw dX20_placeOf_7 (fun x2 hw => ?_)
    refine tk_aload_n C hl 1 dX20_placeOf_8 rfl ?_
    refine lv_acmp_eq (tgt := 18) C.hx C.hb dX20_placeOf_9 (by decide) (fun c9 => ?_) (fun c9 => ?_)
    · replace hw := hw.1 c9
      refine tk_iload_n C hl 2 dX20_placeOf_18 rfl ?_
      exact tw_iret C hR hS hr rfl dX20_placeOf_19 hw
    · replace hw := hw.2 c9
      refine tk_iinc (L' := [(2, .inl (l2 + 1)), (0, .inr l0), (1, .inr l1)]) (y := (l2 + 1)) C hl 2 dX20_placeOf_12 rfl rfl (by decide) rfl (fun ls hl => ?_)
      refine lv_goto (tgt := 2) C.hx C.hb dX20_placeOf_15 (by decide) ?_
      exact hk2 _ _ _ σ _ _ _ hw hR hS (tk_sub hl [1, 2, 0] rfl)
set_option maxHeartbeats 4000000 in
theorem wk_X20_placeOf (l : Launch) (hl0 : l.stackTraces = false) (G : Tgl) (fr : Nat)  (hfr : 1 ≤ fr) (l0 : Option Nat) (l1 : Option Nat) (Q : Int32 → Tst → Prop) (X : String → Nat → Tst → Prop) (σ : Tst) (hw : w_X20_placeOf l0 l1 Q X σ) : tw_M l yX20_placeOf (ws_ yX20_placeOf cX20_placeOf 3 (some .int)) fr (40 * fr) G σ [.inr l0, .inr l1] (tw_Qi G Q) X := by
  unfold w_X20_placeOf at hw
  refine tw_of (ret := (some .int)) hl0 (by decide) (Nat.le_of_ble_eq_true rfl) (fun p e R s m args below meth c hRf hRl C hr hmn hnx hR hS ls hl => ?_)
  have hfr : 1 ≤ R.frames := by rw [hRf]; exact hfr
  have hRl : R.locals = 40 * R.frames := by rw [hRl, hRf]
  have hl : tw_l ls 3 [(0, .inr l0), (1, .inr l1)] := hl
  refine lv_iconst (v := 0) C.hx C.hb dX20_placeOf_0 (by decide) ?_
  refine tk_istore_n (L' := [(2, .inl 0), (0, .inr l0), (1, .inr l1)]) C hl dX20_placeOf_1 (by decide) rfl (fun ls hl => ?_)
  obtain ⟨z, hw⟩ := hw
  exact wk_X20_placeOf_b2 C hr hmn hnx hfr hRl z _ _ _ σ _ _ _ hw hR hS (tk_sub hl [1, 2, 0] rfl)
-- TreeDifferModel$Item.leaves()V
def w_X20_leaves_b24 (Q : Tst → Prop) (X : String → Nat → Tst → Prop) : Nat → Option Nat → Int32 → Tst → Prop
  | 0, _, _, _ => False
  | n + 1, l0, l2, σ => w_gr σ l0 cX20 4 fun x1 => w_gi σ x1 cX20 3 fun x2 => w_if (x2 ≤ l2) (w_p σ l0 cX20 4 (.inr none) fun σ => Q σ) (w_gr σ l0 cX20 4 fun x3 => w_gr σ x3 cX20 5 fun x4 => w_gr σ l0 cX20 4 fun x5 => w_gr σ x5 cX20 5 fun x6 => w_lr σ x6 (l2 + 1) fun x7 => w_sr σ x4 l2 x7 fun σ => (w_X20_leaves_b24 Q X n) l0 (l2 + 1) σ)
def w_X20_leaves (l0 : Option Nat) (Q : Tst → Prop) (X : String → Nat → Tst → Prop) (σ : Tst) : Prop := w_gr σ l0 cX20 4 fun x1 => w_rc σ x1 cX20 <| w_X20_placeOf x1 l0 (fun x2 σ => w_gr σ l0 cX20 4 fun x3 => w_gi σ x3 cX20 3 fun x4 => w_p σ x3 cX20 3 (.inl (x4 - 1)) fun σ => ∃ z, w_X20_leaves_b24 Q X z l0 x2 σ) X σ
set_option maxHeartbeats 4000000 in
theorem wk_X20_leaves_b24  (C : tw_C p l R s m args meth c G cX20_leaves 3 yX20_leaves.cls) (hr : meth.sig.returnType = none) (hmn : meth.name = yX20_leaves.name) (hnx : (∀ x ∈ c.exceptionTable.toList, False)) (hfr : 2 ≤ R.frames) (hRl : R.locals = 40 * R.frames) {Q : Tst → Prop} {X : String → Nat → Tst → Prop}  : ∀ (n : Nat) (l0 : Option Nat) (l2 : Int32) (σ : Tst) (H : Heap) (locs : List Loc) (ls : Array Slot), w_X20_leaves_b24 Q X n l0 l2 σ → tw_R G σ H → va_S (tw_A G) s.heap H locs → tw_l ls 3 [(0, .inr l0), (2, .inl l2)] → tw_W p l e R s m args below meth c σ H locs (tw_E below G (tw_Qv G Q) X args s R) (F0 m 24 ls []) := by
  intro n
  induction n with
  | zero => intro l0 l2 σ H locs ls hw; exact False.elim hw
  | succ n hk24 =>
    intro l0 l2 σ H locs ls hw hR hS hl
    rw [w_X20_leaves_b24] at hw
    refine tk_iload_n C hl 1 dX20_leaves_24 rfl ?_
    refine tk_aload_n C hl 0 dX20_leaves_25 rfl ?_
    refine tk_gr C hR hw rfl in_X20 (by decide) q2457 (fun _ h => h) dX20_leaves_26 (fun x1 hw => ?_)
    refine tk_gi C hR hw rfl in_X20 (by decide) q2455 (fun _ h => h) dX20_leaves_29 (fun x2 hw => ?_)
    refine lv_icmp_ge (tgt := 61) C.hx C.hb dX20_leaves_32 (by decide) (fun c32 => ?_) (fun c32 => ?_)
    · replace hw := hw.1 c32
      refine tk_aload_n C hl 0 dX20_leaves_61 rfl ?_
      refine lv_null C.hx C.hb dX20_leaves_62 ?_
      refine W.eq (g2 := F0 m 63 ls (va_rf none :: [va_rf l0])) rfl ?_
      refine tk_p (x := .inr none) C hR hS hw (by decide) rfl in_X20 tyX20 tyX20_ok nmX20 (by decide) q2457 (fun _ h => h) rfl (tw_nr _ _) dX20_leaves_63 (fun σ H locs hw hR hS => ?_)
      exact tw_vret C hR hS hr dX20_leaves_66 hw
    · replace hw := hw.2 c32
      refine tk_aload_n C hl 0 dX20_leaves_35 rfl ?_
      refine tk_gr C hR hw rfl in_X20 (by decide) q2457 (fun _ h => h) dX20_leaves_36 (fun x3 hw => ?_)
      refine tk_gr C hR hw rfl in_X20 (by decide) q2459 (fun _ h => h) dX20_leaves_39 (fun x4 hw => ?_)
      refine tk_iload_n C hl 1 dX20_leaves_42 rfl ?_
      refine tk_aload_n C hl 0 dX20_leaves_43 rfl ?_
      refine tk_gr C hR hw rfl in_X20 (by decide) q2457 (fun _ h => h) dX20_leaves_44 (fun x5 hw => ?_)
      refine tk_gr C hR hw rfl in_X20 (by decide) q2459 (fun _ h => h) dX20_leaves_47 (fun x6 hw => ?_)
      refine tk_iload_n C hl 1 dX20_leaves_50 rfl ?_
      refine lv_iconst (v := 1) C.hx C.hb dX20_leaves_51 (by decide) ?_
      refine lv_iadd C.hx C.hb dX20_leaves_52 ?_
      refine tk_lr C hR hw dX20_leaves_53 (fun x7 hw => ?_)
      refine tk_sr C hR hS hw dX20_leaves_54 (fun σ H locs hw hR hS => ?_)
      refine tk_iinc (L' := [(2, .inl (l2 + 1)), (0, .inr l0)]) (y := (l2 + 1)) C hl 1 dX20_leaves_55 rfl rfl (by decide) rfl (fun ls hl => ?_)
      refine lv_goto (tgt := 24) C.hx C.hb dX20_leaves_58 (by decide) ?_
      exact hk24 _ _ σ _ _ _ hw hR hS (tk_sub hl [1, 0] rfl)
set_option maxHeartbeats 4000000 in
theorem wk_X20_leaves (l : Launch) (hl0 : l.stackTraces = false) (G : Tgl) (fr : Nat)  (hfr : 2 ≤ fr) (l0 : Option Nat) (Q : Tst → Prop) (X : String → Nat → Tst → Prop) (σ : Tst) (hw : w_X20_leaves l0 Q X σ) : tw_M l yX20_leaves (ws_ yX20_leaves cX20_leaves 3 none) fr (40 * fr) G σ [.inr l0] (tw_Qv G Q) X := by
  unfold w_X20_leaves at hw
  refine tw_of (ret := none) hl0 (by decide) (Nat.le_of_ble_eq_true rfl) (fun p e R s m args below meth c hRf hRl C hr hmn hnx hR hS ls hl => ?_)
  have hfr : 2 ≤ R.frames := by rw [hRf]; exact hfr
  have hRl : R.locals = 40 * R.frames := by rw [hRl, hRf]
  have hl : tw_l ls 3 [(0, .inr l0)] := hl
  refine tk_aload_n C hl 0 dX20_leaves_0 rfl ?_
  refine tk_gr C hR hw rfl in_X20 (by decide) q2457 (fun _ h => h) dX20_leaves_1 (fun x1 hw => ?_)
  refine tk_aload_n C hl 0 dX20_leaves_4 rfl ?_
  obtain ⟨hv, hw⟩ := hw
  refine tw_cbi C hS (tk_runV (As := [.inr l0]) C hR hS (wk_X20_placeOf l C.hst G (R.frames - 1) (by omega) _ _ _ _ σ hw) hv rfl q2494 q2496 qs57 q112 q2497 pd_X20_placeOf ⟨by omega, by omega⟩ hl.1 rfl (tw_r8 [] (Nat.le_of_ble_eq_true rfl)) dX20_leaves_5) (fun E q σ H locs hX hR hS hi => tw_out C hR hS (fun x hx => (hnx x hx).elim) hi hX) (fun x2 σ H locs hw hR hS => ?_)
  refine tk_istore_n (L' := [(1, .inl x2), (0, .inr l0)]) C hl dX20_leaves_8 (by decide) rfl (fun ls hl => ?_)
  refine tk_aload_n C hl 1 dX20_leaves_9 rfl ?_
  refine tk_gr C hR hw rfl in_X20 (by decide) q2457 (fun _ h => h) dX20_leaves_10 (fun x3 hw => ?_)
  refine tw_dup (x := .inr x3) C.hx C.hb dX20_leaves_13 ?_
  refine tk_gi C hR hw rfl in_X20 (by decide) q2455 (fun _ h => h) dX20_leaves_14 (fun x4 hw => ?_)
  refine lv_iconst (v := 1) C.hx C.hb dX20_leaves_17 (by decide) ?_
  refine lv_isub C.hx C.hb dX20_leaves_18 ?_
  refine tk_p (x := .inl (x4 - 1)) C hR hS hw (by decide) rfl in_X20 tyX20 tyX20_ok nmX20 (by decide) q2455 (fun _ h => h) rfl (tw_ni _) dX20_leaves_19 (fun σ H locs hw hR hS => ?_)
  refine tk_iload_n C hl 0 dX20_leaves_22 rfl ?_
  refine tk_istore_n (L' := [(2, .inl x2), (1, .inl x2), (0, .inr l0)]) C hl dX20_leaves_23 (by decide) rfl (fun ls hl => ?_)
  obtain ⟨z, hw⟩ := hw
  exact wk_X20_leaves_b24 C hr hmn hnx hfr hRl z _ _ σ _ _ _ hw hR hS (tk_sub hl [2, 0] rfl)
-- TreeDifferModel$Item.hasKey(I)Z
def w_X20_hasKey_b29 (k2 : Option Nat → Int32 → Int32 → Tst → Prop) (Q : Int32 → Tst → Prop) (X : String → Nat → Tst → Prop) (l0 : Option Nat) (l1 : Int32) (l2 : Int32) (σ : Tst) : Prop := k2 l0 l1 (l2 + 1) σ
def w_X20_hasKey_b2 (Q : Int32 → Tst → Prop) (X : String → Nat → Tst → Prop) : Nat → Option Nat → Int32 → Int32 → Tst → Prop
  | 0, _, _, _, _ => False
  | n + 1, l0, l1, l2, σ => w_gi σ l0 cX20 3 fun x1 => w_if (x1 ≤ l2) (narrow .boolean (.int 0) = .int 0 ∧ Q 0 σ) (w_gr σ l0 cX20 5 fun x2 => w_lr σ x2 l2 fun x3 => w_gi σ x3 cX20 1 fun x4 => w_if (x4 = l1) (w_if (l1 = 0) (w_X20_hasKey_b29 (w_X20_hasKey_b2 Q X n) Q X l0 l1 l2 σ) (narrow .boolean (.int 1) = .int 1 ∧ Q 1 σ)) (w_X20_hasKey_b29 (w_X20_hasKey_b2 Q X n) Q X l0 l1 l2 σ))
def w_X20_hasKey (l0 : Option Nat) (l1 : Int32) (Q : Int32 → Tst → Prop) (X : String → Nat → Tst → Prop) (σ : Tst) : Prop := ∃ z, w_X20_hasKey_b2 Q X z l0 l1 0 σ
set_option maxHeartbeats 4000000 in
theorem wk_X20_hasKey_b29  (C : tw_C p l R s m args meth c G cX20_hasKey 3 yX20_hasKey.cls) (hr : meth.sig.returnType = (some .boolean)) (hmn : meth.name = yX20_hasKey.name) (hnx : (∀ x ∈ c.exceptionTable.toList, False)) (hfr : 1 ≤ R.frames) (hRl : R.locals = 40 * R.frames) {Q : Int32 → Tst → Prop} {X : String → Nat → Tst → Prop}  {k2 : Option Nat → Int32 → Int32 → Tst → Prop} (hk2 : ∀ (l0 : Option Nat) (l1 : Int32) (l2 : Int32) (σ : Tst) (H : Heap) (locs : List Loc) (ls : Array Slot), k2 l0 l1 l2 σ → tw_R G σ H → va_S (tw_A G) s.heap H locs → tw_l ls 3 [(0, .inr l0), (1, .inl l1), (2, .inl l2)] → tw_W p l e R s m args below meth c σ H locs (tw_E below G (tw_Qi G Q) X args s R) (F0 m 2 ls [])) (l0 : Option Nat) (l1 : Int32) (l2 : Int32) (σ : Tst) (H : Heap) (locs : List Loc) (ls : Array Slot) (hw : w_X20_hasKey_b29 k2 Q X l0 l1 l2 σ) (hR : tw_R G σ H) (hS : va_S (tw_A G) s.heap H locs) (hl : tw_l ls 3 [(0, .inr l0), (1, .inl l1), (2, .inl l2)]) : tw_W p l e R s m args below meth c σ H locs (tw_E below G (tw_Qi G Q) X args s R) (F0 m 29 ls []) := by
  unfold w_X20_hasKey_b29 at hw
  refine tk_iinc (L' := [(2, .inl (l2 + 1)), (0, .inr l0), (1, .inl l1)]) (y := (l2 + 1)) C hl 2 dX20_hasKey_29 rfl rfl (by decide) rfl (fun ls hl => ?_)
  refine lv_goto (tgt := 2) C.hx C.hb dX20_hasKey_32 (by decide) ?_
  exact hk2 _ _ _ σ _ _ _ hw hR hS (tk_sub hl [1, 2, 0] rfl)
set_option maxHeartbeats 4000000 in
theorem wk_X20_hasKey_b2  (C : tw_C p l R s m args meth c G cX20_hasKey 3 yX20_hasKey.cls) (hr : meth.sig.returnType = (some .boolean)) (hmn : meth.name = yX20_hasKey.name) (hnx : (∀ x ∈ c.exceptionTable.toList, False)) (hfr : 1 ≤ R.frames) (hRl : R.locals = 40 * R.frames) {Q : Int32 → Tst → Prop} {X : String → Nat → Tst → Prop}  : ∀ (n : Nat) (l0 : Option Nat) (l1 : Int32) (l2 : Int32) (σ : Tst) (H : Heap) (locs : List Loc) (ls : Array Slot), w_X20_hasKey_b2 Q X n l0 l1 l2 σ → tw_R G σ H → va_S (tw_A G) s.heap H locs → tw_l ls 3 [(0, .inr l0), (1, .inl l1), (2, .inl l2)] → tw_W p l e R s m args below meth c σ H locs (tw_E below G (tw_Qi G Q) X args s R) (F0 m 2 ls []) := by
  intro n
  induction n with
  | zero => intro l0 l1 l2 σ H locs ls hw; exact False.elim hw
  | succ n hk2 =>
    intro l0 l1 l2 σ H locs ls hw hR hS hl
    rw [w_X20_hasKey_b2] at hw
    refine tk_iload_n C hl 2 dX20_hasKey_2 rfl ?_
    refine tk_aload_n C hl 0 dX20_hasKey_3 rfl ?_
    refine tk_gi C hR hw rfl in_X20 (by decide) q2455 (fun _ h => h) dX20_hasKey_4 (fun x1 hw => ?_)
    refine lv_icmp_ge (tgt := 35) C.hx C.hb dX20_hasKey_7 (by decide) (fun c7 => ?_) (fun c7 => ?_)
    · replace hw := hw.1 c7
      refine lv_iconst (v := 0) C.hx C.hb dX20_hasKey_35 (by decide) ?_
      obtain ⟨hok, hw⟩ := hw
      exact tw_iret C hR hS hr hok dX20_hasKey_36 hw
    · replace hw := hw.2 c7
      refine tk_aload_n C hl 0 dX20_hasKey_10 rfl ?_
      refine tk_gr C hR hw rfl in_X20 (by decide) q2459 (fun _ h => h) dX20_hasKey_11 (fun x2 hw => ?_)
      refine tk_iload_n C hl 2 dX20_hasKey_14 rfl ?_
      refine tk_lr C hR hw dX20_hasKey_15 (fun x3 hw => ?_)
      refine tk_gi C hR hw rfl in_X20 (by decide) q2452 (fun _ h => h) dX20_hasKey_16 (fun x4 hw => ?_)
      refine tk_iload_n C hl 1 dX20_hasKey_19 rfl ?_
      refine lv_icmp_ne (tgt := 29) C.hx C.hb dX20_hasKey_20 (by decide) (fun c20 => ?_) (fun c20 => ?_)
      · replace hw := hw.2 c20
        exact wk_X20_hasKey_b29 C hr hmn hnx hfr hRl hk2 _ _ _ σ _ _ _ hw hR hS (tk_sub hl [0, 1, 2] rfl)
      · replace hw := hw.1 c20
        refine tk_iload_n C hl 1 dX20_hasKey_23 rfl ?_
        refine lv_if_eq (tgt := 29) C.hx C.hb dX20_hasKey_24 (by decide) (fun c24 => ?_) (fun c24 => ?_)
        · replace hw := hw.1 c24
          exact wk_X20_hasKey_b29 C hr hmn hnx hfr hRl hk2 _ _ _ σ _ _ _ hw hR hS (tk_sub hl [0, 1, 2] rfl)
        · replace hw := hw.2 c24
          refine lv_iconst (v := 1) C.hx C.hb dX20_hasKey_27 (by decide) ?_
          obtain ⟨hok, hw⟩ := hw
          exact tw_iret C hR hS hr hok dX20_hasKey_28 hw
set_option maxHeartbeats 4000000 in
theorem wk_X20_hasKey (l : Launch) (hl0 : l.stackTraces = false) (G : Tgl) (fr : Nat)  (hfr : 1 ≤ fr) (l0 : Option Nat) (l1 : Int32) (Q : Int32 → Tst → Prop) (X : String → Nat → Tst → Prop) (σ : Tst) (hw : w_X20_hasKey l0 l1 Q X σ) : tw_M l yX20_hasKey (ws_ yX20_hasKey cX20_hasKey 3 (some .boolean)) fr (40 * fr) G σ [.inr l0, .inl l1] (tw_Qi G Q) X := by
  unfold w_X20_hasKey at hw
  refine tw_of (ret := (some .boolean)) hl0 (by decide) (Nat.le_of_ble_eq_true rfl) (fun p e R s m args below meth c hRf hRl C hr hmn hnx hR hS ls hl => ?_)
  have hfr : 1 ≤ R.frames := by rw [hRf]; exact hfr
  have hRl : R.locals = 40 * R.frames := by rw [hRl, hRf]
  have hl : tw_l ls 3 [(0, .inr l0), (1, .inl l1)] := hl
  refine lv_iconst (v := 0) C.hx C.hb dX20_hasKey_0 (by decide) ?_
  refine tk_istore_n (L' := [(2, .inl 0), (0, .inr l0), (1, .inl l1)]) C hl dX20_hasKey_1 (by decide) rfl (fun ls hl => ?_)
  obtain ⟨z, hw⟩ := hw
  exact wk_X20_hasKey_b2 C hr hmn hnx hfr hRl z _ _ _ σ _ _ _ hw hR hS (tk_sub hl [1, 2, 0] rfl)
-- TreeDifferModel$Tree.<init>()V
def w_X5_init (l0 : Option Nat) (Q : Tst → Prop) (X : String → Nat → Tst → Prop) (σ : Tst) : Prop := w_rf l0 <| w_na σ 0 20 (.inl fun _ => 0) fun q1 σ => w_p σ l0 cX5 0 (.inr q1) fun σ => w_na σ 0 20 (.inl fun _ => 0) fun q2 σ => w_p σ l0 cX5 1 (.inr q2) fun σ => w_na σ 0 20 (.inl fun _ => 0) fun q3 σ => w_p σ l0 cX5 2 (.inr q3) fun σ => w_na σ 0 20 (.inl fun _ => 0) fun q4 σ => w_p σ l0 cX5 3 (.inr q4) fun σ => Q σ
set_option maxHeartbeats 4000000 in
theorem wk_X5_init (l : Launch) (hl0 : l.stackTraces = false) (G : Tgl) (fr : Nat)  (hfr : 1 ≤ fr) (l0 : Option Nat) (Q : Tst → Prop) (X : String → Nat → Tst → Prop) (σ : Tst) (hw : w_X5_init l0 Q X σ) : tw_M l yX5_init (ws_ yX5_init cX5_init 1 none) fr (40 * fr) G σ [.inr l0] (tw_Qv G Q) X := by
  unfold w_X5_init at hw
  refine tw_of (ret := none) hl0 (by decide) (Nat.le_of_ble_eq_true rfl) (fun p e R s m args below meth c hRf hRl C hr hmn hnx hR hS ls hl => ?_)
  have hfr : 1 ≤ R.frames := by rw [hRf]; exact hfr
  have hRl : R.locals = 40 * R.frames := by rw [hRl, hRf]
  have hl : tw_l ls 1 [(0, .inr l0)] := hl
  refine tk_aload_n C hl 0 dX5_init_0 rfl ?_
  refine tk_obj C hw q2017 q119 q120 hl.1 (tw_r8 [] (Nat.le_of_ble_eq_true rfl)) (by omega) (by omega) dX5_init_1 (fun hw => ?_)
  refine tk_aload_n C hl 0 dX5_init_4 rfl ?_
  refine lv_bipush (v := 20) C.hx C.hb dX5_init_5 (by decide) ?_
  refine tk_na (t := 0) (atype := .int) C hR hS hw q630 rfl (fun h => h) (fun _ _ => rfl) (by decide) dX5_init_7 (fun q1 σ H hw hR hS => ?_)
  refine tk_pF (x := .inr q1) C hR hS hw (Or.inl (by decide)) rfl in_X5 tyX5 tyX5_ok nmX5 (by decide) q2018 (fun _ h => h) rfl hmn rfl (tw_nrA _ _) dX5_init_9 (fun σ H locs hw hR hS => ?_)
  refine tk_aload_n C hl 0 dX5_init_12 rfl ?_
  refine lv_bipush (v := 20) C.hx C.hb dX5_init_13 (by decide) ?_
  refine tk_na (t := 0) (atype := .int) C hR hS hw q630 rfl (fun h => h) (fun _ _ => rfl) (by decide) dX5_init_15 (fun q2 σ H hw hR hS => ?_)
  refine tk_pF (x := .inr q2) C hR hS hw (Or.inl (by decide)) rfl in_X5 tyX5 tyX5_ok nmX5 (by decide) q2020 (fun _ h => h) rfl hmn rfl (tw_nrA _ _) dX5_init_17 (fun σ H locs hw hR hS => ?_)
  refine tk_aload_n C hl 0 dX5_init_20 rfl ?_
  refine lv_bipush (v := 20) C.hx C.hb dX5_init_21 (by decide) ?_
  refine tk_na (t := 0) (atype := .int) C hR hS hw q630 rfl (fun h => h) (fun _ _ => rfl) (by decide) dX5_init_23 (fun q3 σ H hw hR hS => ?_)
  refine tk_pF (x := .inr q3) C hR hS hw (Or.inl (by decide)) rfl in_X5 tyX5 tyX5_ok nmX5 (by decide) q2022 (fun _ h => h) rfl hmn rfl (tw_nrA _ _) dX5_init_25 (fun σ H locs hw hR hS => ?_)
  refine tk_aload_n C hl 0 dX5_init_28 rfl ?_
  refine lv_bipush (v := 20) C.hx C.hb dX5_init_29 (by decide) ?_
  refine tk_na (t := 0) (atype := .int) C hR hS hw q630 rfl (fun h => h) (fun _ _ => rfl) (by decide) dX5_init_31 (fun q4 σ H hw hR hS => ?_)
  refine tk_pF (x := .inr q4) C hR hS hw (Or.inl (by decide)) rfl in_X5 tyX5 tyX5_ok nmX5 (by decide) q2024 (fun _ h => h) rfl hmn rfl (tw_nrA _ _) dX5_init_33 (fun σ H locs hw hR hS => ?_)
  exact tw_vret C hR hS hr dX5_init_36 hw
-- TreeDifferModel$Tree.sets(IIIII)V
def w_X5_sets (l0 : Option Nat) (l1 : Int32) (l2 : Int32) (l3 : Int32) (l4 : Int32) (l5 : Int32) (Q : Tst → Prop) (X : String → Nat → Tst → Prop) (σ : Tst) : Prop := w_gr σ l0 cX5 0 fun x1 => w_si σ x1 l1 l2 fun σ => w_gr σ l0 cX5 1 fun x2 => w_si σ x2 l1 l3 fun σ => w_gr σ l0 cX5 2 fun x3 => w_si σ x3 l1 l4 fun σ => w_gr σ l0 cX5 3 fun x4 => w_si σ x4 l1 l5 fun σ => Q σ
set_option maxHeartbeats 4000000 in
theorem wk_X5_sets (l : Launch) (hl0 : l.stackTraces = false) (G : Tgl) (fr : Nat)  (hfr : 1 ≤ fr) (l0 : Option Nat) (l1 : Int32) (l2 : Int32) (l3 : Int32) (l4 : Int32) (l5 : Int32) (Q : Tst → Prop) (X : String → Nat → Tst → Prop) (σ : Tst) (hw : w_X5_sets l0 l1 l2 l3 l4 l5 Q X σ) : tw_M l yX5_sets (ws_ yX5_sets cX5_sets 6 none) fr (40 * fr) G σ [.inr l0, .inl l1, .inl l2, .inl l3, .inl l4, .inl l5] (tw_Qv G Q) X := by
  unfold w_X5_sets at hw
  refine tw_of (ret := none) hl0 (by decide) (Nat.le_of_ble_eq_true rfl) (fun p e R s m args below meth c hRf hRl C hr hmn hnx hR hS ls hl => ?_)
  have hfr : 1 ≤ R.frames := by rw [hRf]; exact hfr
  have hRl : R.locals = 40 * R.frames := by rw [hRl, hRf]
  have hl : tw_l ls 6 [(0, .inr l0), (1, .inl l1), (2, .inl l2), (3, .inl l3), (4, .inl l4), (5, .inl l5)] := hl
  refine tk_aload_n C hl 0 dX5_sets_0 rfl ?_
  refine tk_gr C hR hw rfl in_X5 (by decide) q2018 (fun _ h => h) dX5_sets_1 (fun x1 hw => ?_)
  refine tk_iload_n C hl 1 dX5_sets_4 rfl ?_
  refine tk_iload_n C hl 2 dX5_sets_5 rfl ?_
  refine tk_si C hR hS hw dX5_sets_6 (fun σ H locs hw hR hS => ?_)
  refine tk_aload_n C hl 0 dX5_sets_7 rfl ?_
  refine tk_gr C hR hw rfl in_X5 (by decide) q2020 (fun _ h => h) dX5_sets_8 (fun x2 hw => ?_)
  refine tk_iload_n C hl 1 dX5_sets_11 rfl ?_
  refine tk_iload_n C hl 3 dX5_sets_12 rfl ?_
  refine tk_si C hR hS hw dX5_sets_13 (fun σ H locs hw hR hS => ?_)
  refine tk_aload_n C hl 0 dX5_sets_14 rfl ?_
  refine tk_gr C hR hw rfl in_X5 (by decide) q2022 (fun _ h => h) dX5_sets_15 (fun x3 hw => ?_)
  refine tk_iload_n C hl 1 dX5_sets_18 rfl ?_
  refine tk_iload C hl 4 dX5_sets_19 rfl ?_
  refine tk_si C hR hS hw dX5_sets_21 (fun σ H locs hw hR hS => ?_)
  refine tk_aload_n C hl 0 dX5_sets_22 rfl ?_
  refine tk_gr C hR hw rfl in_X5 (by decide) q2024 (fun _ h => h) dX5_sets_23 (fun x4 hw => ?_)
  refine tk_iload_n C hl 1 dX5_sets_26 rfl ?_
  refine tk_iload C hl 5 dX5_sets_27 rfl ?_
  refine tk_si C hR hS hw dX5_sets_29 (fun σ H locs hw hR hS => ?_)
  exact tw_vret C hR hS hr dX5_sets_30 hw
-- TreeDifferModel$Tree.adds(IIII)V
def w_X5_adds (l0 : Option Nat) (l1 : Int32) (l2 : Int32) (l3 : Int32) (l4 : Int32) (Q : Tst → Prop) (X : String → Nat → Tst → Prop) (σ : Tst) : Prop := w_gi σ l0 cX5 4 fun x1 => w_rc σ l0 cX5 <| w_X5_sets l0 x1 l1 l2 l3 l4 (fun σ => w_gi σ l0 cX5 4 fun x3 => w_p σ l0 cX5 4 (.inl (x3 + 1)) fun σ => Q σ) X σ
set_option maxHeartbeats 4000000 in
theorem wk_X5_adds (l : Launch) (hl0 : l.stackTraces = false) (G : Tgl) (fr : Nat)  (hfr : 2 ≤ fr) (l0 : Option Nat) (l1 : Int32) (l2 : Int32) (l3 : Int32) (l4 : Int32) (Q : Tst → Prop) (X : String → Nat → Tst → Prop) (σ : Tst) (hw : w_X5_adds l0 l1 l2 l3 l4 Q X σ) : tw_M l yX5_adds (ws_ yX5_adds cX5_adds 5 none) fr (40 * fr) G σ [.inr l0, .inl l1, .inl l2, .inl l3, .inl l4] (tw_Qv G Q) X := by
  unfold w_X5_adds at hw
  refine tw_of (ret := none) hl0 (by decide) (Nat.le_of_ble_eq_true rfl) (fun p e R s m args below meth c hRf hRl C hr hmn hnx hR hS ls hl => ?_)
  have hfr : 2 ≤ R.frames := by rw [hRf]; exact hfr
  have hRl : R.locals = 40 * R.frames := by rw [hRl, hRf]
  have hl : tw_l ls 5 [(0, .inr l0), (1, .inl l1), (2, .inl l2), (3, .inl l3), (4, .inl l4)] := hl
  refine tk_aload_n C hl 0 dX5_adds_0 rfl ?_
  refine tk_aload_n C hl 0 dX5_adds_1 rfl ?_
  refine tk_gi C hR hw rfl in_X5 (by decide) q2026 (fun _ h => h) dX5_adds_2 (fun x1 hw => ?_)
  refine tk_iload_n C hl 1 dX5_adds_5 rfl ?_
  refine tk_iload_n C hl 2 dX5_adds_6 rfl ?_
  refine tk_iload_n C hl 3 dX5_adds_7 rfl ?_
  refine tk_iload C hl 4 dX5_adds_8 rfl ?_
  obtain ⟨hv, hw⟩ := hw
  refine tw_cbv C hS (tk_runV (As := [.inl x1, .inl l1, .inl l2, .inl l3, .inl l4]) C hR hS (wk_X5_sets l C.hst G (R.frames - 1) (by omega) _ _ _ _ _ _ _ _ σ hw) hv rfl q2048 q2050 qs23 q75 q2051 pd_X5_sets ⟨by omega, by omega⟩ hl.1 rfl (tw_r8 [] (Nat.le_of_ble_eq_true rfl)) dX5_adds_10) (fun E q σ H locs hX hR hS hi => tw_out C hR hS (fun x hx => (hnx x hx).elim) hi hX) (fun σ H locs hw hR hS => ?_)
  refine tk_aload_n C hl 0 dX5_adds_13 rfl ?_
  refine tw_dup (x := .inr l0) C.hx C.hb dX5_adds_14 ?_
  refine tk_gi C hR hw rfl in_X5 (by decide) q2026 (fun _ h => h) dX5_adds_15 (fun x3 hw => ?_)
  refine lv_iconst (v := 1) C.hx C.hb dX5_adds_18 (by decide) ?_
  refine lv_iadd C.hx C.hb dX5_adds_19 ?_
  refine tk_p (x := .inl (x3 + 1)) C hR hS hw (by decide) rfl in_X5 tyX5 tyX5_ok nmX5 (by decide) q2026 (fun _ h => h) rfl (tw_ni _) dX5_adds_20 (fun σ H locs hw hR hS => ?_)
  exact tw_vret C hR hS hr dX5_adds_23 hw
-- TreeDifferModel.<init>()V
def w_X4_init_b210 (Q : Tst → Prop) (X : String → Nat → Tst → Prop) : Nat → Option Nat → Int32 → Int32 → Tst → Prop
  | 0, _, _, _, _ => False
  | n + 1, l1, l2, l3, σ => w_if (l2 ≤ l3) (Q σ) (w_lr σ l1 l3 fun x1 => w_rc σ x1 cX5 <| w_X5_adds x1 97 0 0 (-1) (fun σ => (w_X4_init_b210 Q X n) l1 l2 (l3 + 1) σ) X σ)
def w_X4_init (l0 : Option Nat) (Q : Tst → Prop) (X : String → Nat → Tst → Prop) (σ : Tst) : Prop := w_rf l0 <| w_na σ 7 3 (.inr (.inr (.inr (.inr fun _ => none)))) fun q1 σ => w_nw σ cX5 5 [.inr none, .inr none, .inr none, .inr none, .inl 0] fun q2 σ => w_rf q2 <| w_X5_init q2 (fun σ => w_sr σ q1 0 q2 fun σ => w_nw σ cX5 5 [.inr none, .inr none, .inr none, .inr none, .inl 0] fun q4 σ => w_rf q4 <| w_X5_init q4 (fun σ => w_sr σ q1 1 q4 fun σ => w_nw σ cX5 5 [.inr none, .inr none, .inr none, .inr none, .inl 0] fun q6 σ => w_rf q6 <| w_X5_init q6 (fun σ => w_sr σ q1 2 q6 fun σ => w_p σ l0 cX4 0 (.inr q1) fun σ => w_na σ 1 80 (.inl fun _ => 0) fun q8 σ => w_p σ l0 cX4 2 (.inr q8) fun σ => w_p σ l0 cX4 6 (.inl (-1)) fun σ => w_k σ 3 fun x9 => w_p σ l0 cX4 7 (.inr x9) fun σ => w_nw σ cX5 5 [.inr none, .inr none, .inr none, .inr none, .inl 0] fun q10 σ => w_rf q10 <| w_X5_init q10 (fun σ => w_p σ l0 cX4 8 (.inr q10) fun σ => w_ma σ 20 20 fun q12 σ => w_p σ l0 cX4 9 (.inr q12) fun σ => w_na σ 1 80 (.inl fun _ => 0) fun q13 σ => w_p σ l0 cX4 10 (.inr q13) fun σ => w_na σ 0 80 (.inl fun _ => 0) fun q14 σ => w_p σ l0 cX4 11 (.inr q14) fun σ => w_na σ 0 80 (.inl fun _ => 0) fun q15 σ => w_p σ l0 cX4 12 (.inr q15) fun σ => w_na σ 0 20 (.inl fun _ => 0) fun q16 σ => w_p σ l0 cX4 13 (.inr q16) fun σ => w_na σ 0 20 (.inl fun _ => 0) fun q17 σ => w_p σ l0 cX4 14 (.inr q17) fun σ => w_nw σ cX5 5 [.inr none, .inr none, .inr none, .inr none, .inl 0] fun q18 σ => w_rf q18 <| w_X5_init q18 (fun σ => w_p σ l0 cX4 16 (.inr q18) fun σ => w_nw σ cX5 5 [.inr none, .inr none, .inr none, .inr none, .inl 0] fun q20 σ => w_rf q20 <| w_X5_init q20 (fun σ => w_p σ l0 cX4 17 (.inr q20) fun σ => w_na σ 1 80 (.inl fun _ => 0) fun q22 σ => w_p σ l0 cX4 18 (.inr q22) fun σ => w_na σ 0 80 (.inl fun _ => 0) fun q23 σ => w_p σ l0 cX4 19 (.inr q23) fun σ => w_na σ 0 80 (.inl fun _ => 0) fun q24 σ => w_p σ l0 cX4 20 (.inr q24) fun σ => w_na σ 0 20 (.inl fun _ => 0) fun q25 σ => w_p σ l0 cX4 21 (.inr q25) fun σ => w_na σ 0 20 (.inl fun _ => 0) fun q26 σ => w_p σ l0 cX4 22 (.inr q26) fun σ => w_na σ 9 20 (.inr (.inr (.inr (.inr fun _ => none)))) fun q27 σ => w_p σ l0 cX4 25 (.inr q27) fun σ => w_p σ l0 cX4 27 (.inl (-1)) fun σ => w_gr σ l0 cX4 0 fun x28 => w_al σ x28 fun x29 => ∃ z, w_X4_init_b210 Q X z x28 x29 0 σ) X σ) X σ) X σ) X σ) X σ) X σ
set_option maxHeartbeats 4000000 in
theorem wk_X4_init_b210  (C : tw_C p l R s m args meth c G cX4_init 5 yX4_init.cls) (hr : meth.sig.returnType = none) (hmn : meth.name = yX4_init.name) (hnx : (∀ x ∈ c.exceptionTable.toList, False)) (hfr : 3 ≤ R.frames) (hRl : R.locals = 40 * R.frames) {Q : Tst → Prop} {X : String → Nat → Tst → Prop}  : ∀ (n : Nat) (l1 : Option Nat) (l2 : Int32) (l3 : Int32) (σ : Tst) (H : Heap) (locs : List Loc) (ls : Array Slot), w_X4_init_b210 Q X n l1 l2 l3 σ → tw_R G σ H → va_S (tw_A G) s.heap H locs → tw_l ls 5 [(1, .inr l1), (2, .inl l2), (3, .inl l3)] → tw_W p l e R s m args below meth c σ H locs (tw_E below G (tw_Qv G Q) X args s R) (F0 m 210 ls []) := by
  intro n
  induction n with
  | zero => intro l1 l2 l3 σ H locs ls hw; exact False.elim hw
  | succ n hk210 =>
    intro l1 l2 l3 σ H locs ls hw hR hS hl
    rw [w_X4_init_b210] at hw
    refine tk_iload_n C hl 2 dX4_init_210 rfl ?_
    refine tk_iload_n C hl 1 dX4_init_211 rfl ?_
    refine lv_icmp_ge (tgt := 236) C.hx C.hb dX4_init_212 (by decide) (fun c212 => ?_) (fun c212 => ?_)
    · replace hw := hw.1 c212
      exact tw_vret C hR hS hr dX4_init_236 hw
    · replace hw := hw.2 c212
      refine tk_aload_n C hl 0 dX4_init_215 rfl ?_
      refine tk_iload_n C hl 2 dX4_init_216 rfl ?_
      refine tk_lr C hR hw dX4_init_217 (fun x1 hw => ?_)
      refine tk_astore (L' := [(4, .inr x1), (1, .inr l1), (2, .inl l2), (3, .inl l3)]) C hl dX4_init_218 (by decide) rfl (fun ls hl => ?_)
      refine tk_aload C hl 0 dX4_init_220 rfl ?_
      refine lv_bipush (v := 97) C.hx C.hb dX4_init_222 (by decide) ?_
      refine lv_iconst (v := 0) C.hx C.hb dX4_init_224 (by decide) ?_
      refine lv_iconst (v := 0) C.hx C.hb dX4_init_225 (by decide) ?_
      refine lv_iconst (v := (-1)) C.hx C.hb dX4_init_226 (by decide) ?_
      obtain ⟨hv, hw⟩ := hw
      refine tw_cbv C hS (tk_runVN (As := [.inl 97, .inl 0, .inl 0, .inl (-1)]) C hR hS (wk_X5_adds l C.hst G (R.frames - 1) (by omega) _ _ _ _ _ _ _ σ hw) hv rfl q2044 q2046 qs22 q75 q2047 pd_X5_adds ⟨by omega, by omega⟩ hl.1 rfl (tw_r8 [] (Nat.le_of_ble_eq_true rfl)) dX4_init_227) (fun E q σ H locs hX hR hS hi => tw_out C hR hS (fun x hx => (hnx x hx).elim) hi hX) (fun σ H locs hw hR hS => ?_)
      refine tk_iinc (L' := [(3, .inl (l3 + 1)), (4, .inr x1), (1, .inr l1), (2, .inl l2)]) (y := (l3 + 1)) C hl 3 dX4_init_230 rfl rfl (by decide) rfl (fun ls hl => ?_)
      refine lv_goto (tgt := 210) C.hx C.hb dX4_init_233 (by decide) ?_
      exact hk210 _ _ _ σ _ _ _ hw hR hS (tk_sub hl [2, 3, 0] rfl)
set_option maxHeartbeats 4000000 in
theorem wk_X4_init (l : Launch) (hl0 : l.stackTraces = false) (G : Tgl) (fr : Nat)  (hfr : 3 ≤ fr) (l0 : Option Nat) (Q : Tst → Prop) (X : String → Nat → Tst → Prop) (σ : Tst) (hw : w_X4_init l0 Q X σ) : tw_M l yX4_init (ws_ yX4_init cX4_init 5 none) fr (40 * fr) G σ [.inr l0] (tw_Qv G Q) X := by
  unfold w_X4_init at hw
  refine tw_of (ret := none) hl0 (by decide) (Nat.le_of_ble_eq_true rfl) (fun p e R s m args below meth c hRf hRl C hr hmn hnx hR hS ls hl => ?_)
  have hfr : 3 ≤ R.frames := by rw [hRf]; exact hfr
  have hRl : R.locals = 40 * R.frames := by rw [hRl, hRf]
  have hl : tw_l ls 5 [(0, .inr l0)] := hl
  refine tk_aload_n C hl 0 dX4_init_0 rfl ?_
  refine tk_obj C hw q2010 q119 q120 hl.1 (tw_r8 [] (Nat.le_of_ble_eq_true rfl)) (by omega) (by omega) dX4_init_1 (fun hw => ?_)
  refine tk_aload_n C hl 0 dX4_init_4 rfl ?_
  refine lv_iconst (v := 3) C.hx C.hb dX4_init_5 (by decide) ?_
  refine tk_nr (t := 7) C hR hS hw q2011 (by decide) rfl dX4_init_6 (fun q1 σ H hw hR hS => ?_)
  refine tw_dup (x := .inr q1) C.hx C.hb dX4_init_9 ?_
  refine lv_iconst (v := 0) C.hx C.hb dX4_init_10 (by decide) ?_
  refine tk_nw C hR hS hw rfl in_X5 tyX5 tyX5_ok q2011 q2013 q75 (fun j hj => by rcases (show j = 0 ∨ j = 1 ∨ j = 2 ∨ j = 3 ∨ j = 4 by omega) with rfl | rfl | rfl | rfl | rfl <;> rfl) dX4_init_11 (fun q2 σ H hw hR hS => ?_)
  refine tw_dup (x := .inr q2) C.hx C.hb dX4_init_14 ?_
  obtain ⟨hv, hw⟩ := hw
  refine tw_cbv C hS (tk_runIN (As := []) hv C hR hS (wk_X5_init l C.hst G (R.frames - 1) (by omega) _ _ _ σ hw) q2014 q2015 q75 q2016 rfl pd_X5_init ⟨by omega, by omega⟩ hl.1 rfl (tw_r8 [.inr q2, .inl 0, .inr q1, .inr q1, .inr l0] (Nat.le_of_ble_eq_true rfl)) dX4_init_15) (fun E q σ H locs hX hR hS hi => tw_out C hR hS (fun x hx => (hnx x hx).elim) hi hX) (fun σ H locs hw hR hS => ?_)
  refine tk_sr C hR hS hw dX4_init_18 (fun σ H locs hw hR hS => ?_)
  refine tw_dup (x := .inr q1) C.hx C.hb dX4_init_19 ?_
  refine lv_iconst (v := 1) C.hx C.hb dX4_init_20 (by decide) ?_
  refine tk_nw C hR hS hw rfl in_X5 tyX5 tyX5_ok q2011 q2013 q75 (fun j hj => by rcases (show j = 0 ∨ j = 1 ∨ j = 2 ∨ j = 3 ∨ j = 4 by omega) with rfl | rfl | rfl | rfl | rfl <;> rfl) dX4_init_21 (fun q4 σ H hw hR hS => ?_)
  refine tw_dup (x := .inr q4) C.hx C.hb dX4_init_24 ?_
  obtain ⟨hv, hw⟩ := hw
  refine tw_cbv C hS (tk_runIN (As := []) hv C hR hS (wk_X5_init l C.hst G (R.frames - 1) (by omega) _ _ _ σ hw) q2014 q2015 q75 q2016 rfl pd_X5_init ⟨by omega, by omega⟩ hl.1 rfl (tw_r8 [.inr q4, .inl 1, .inr q1, .inr q1, .inr l0] (Nat.le_of_ble_eq_true rfl)) dX4_init_25) (fun E q σ H locs hX hR hS hi => tw_out C hR hS (fun x hx => (hnx x hx).elim) hi hX) (fun σ H locs hw hR hS => ?_)
  refine tk_sr C hR hS hw dX4_init_28 (fun σ H locs hw hR hS => ?_)
  refine tw_dup (x := .inr q1) C.hx C.hb dX4_init_29 ?_
  refine lv_iconst (v := 2) C.hx C.hb dX4_init_30 (by decide) ?_
  refine tk_nw C hR hS hw rfl in_X5 tyX5 tyX5_ok q2011 q2013 q75 (fun j hj => by rcases (show j = 0 ∨ j = 1 ∨ j = 2 ∨ j = 3 ∨ j = 4 by omega) with rfl | rfl | rfl | rfl | rfl <;> rfl) dX4_init_31 (fun q6 σ H hw hR hS => ?_)
  refine tw_dup (x := .inr q6) C.hx C.hb dX4_init_34 ?_
  obtain ⟨hv, hw⟩ := hw
  refine tw_cbv C hS (tk_runIN (As := []) hv C hR hS (wk_X5_init l C.hst G (R.frames - 1) (by omega) _ _ _ σ hw) q2014 q2015 q75 q2016 rfl pd_X5_init ⟨by omega, by omega⟩ hl.1 rfl (tw_r8 [.inr q6, .inl 2, .inr q1, .inr q1, .inr l0] (Nat.le_of_ble_eq_true rfl)) dX4_init_35) (fun E q σ H locs hX hR hS hi => tw_out C hR hS (fun x hx => (hnx x hx).elim) hi hX) (fun σ H locs hw hR hS => ?_)
  refine tk_sr C hR hS hw dX4_init_38 (fun σ H locs hw hR hS => ?_)
  refine tk_pF (x := .inr q1) C hR hS hw (Or.inl (by decide)) rfl in_X4 tyX4 tyX4_ok nmX4 (by decide) q2052 (fun _ h => h) rfl hmn rfl (tw_nrA _ _) dX4_init_39 (fun σ H locs hw hR hS => ?_)
  refine tk_aload_n C hl 0 dX4_init_42 rfl ?_
  refine lv_bipush (v := 80) C.hx C.hb dX4_init_43 (by decide) ?_
  refine tk_na (t := 1) (atype := .char) C hR hS hw q2146 rfl (fun h => h) (fun _ _ => rfl) (by decide) dX4_init_45 (fun q8 σ H hw hR hS => ?_)
  refine tk_pF (x := .inr q8) C hR hS hw (Or.inl (by decide)) rfl in_X4 tyX4 tyX4_ok nmX4 (by decide) q2054 (fun _ h => h) rfl hmn rfl (tw_nrA _ _) dX4_init_47 (fun σ H locs hw hR hS => ?_)
  refine tk_aload_n C hl 0 dX4_init_50 rfl ?_
  refine lv_iconst (v := (-1)) C.hx C.hb dX4_init_51 (by decide) ?_
  refine tk_p (x := .inl (-1)) C hR hS hw (by decide) rfl in_X4 tyX4 tyX4_ok nmX4 (by decide) q2058 (fun _ h => h) rfl (tw_ni _) dX4_init_52 (fun σ H locs hw hR hS => ?_)
  refine tk_aload_n C hl 0 dX4_init_55 rfl ?_
  refine tk_lds C hR hw dX4_init_56 (fun x9 hw => ?_)
  refine tk_p (x := .inr x9) C hR hS hw (by decide) rfl in_X4 tyX4 tyX4_ok nmX4 (by decide) q2059 (fun _ h => h) rfl (tw_nr _ _) dX4_init_58 (fun σ H locs hw hR hS => ?_)
  refine tk_aload_n C hl 0 dX4_init_61 rfl ?_
  refine tk_nw C hR hS hw rfl in_X5 tyX5 tyX5_ok q2011 q2013 q75 (fun j hj => by rcases (show j = 0 ∨ j = 1 ∨ j = 2 ∨ j = 3 ∨ j = 4 by omega) with rfl | rfl | rfl | rfl | rfl <;> rfl) dX4_init_62 (fun q10 σ H hw hR hS => ?_)
  refine tw_dup (x := .inr q10) C.hx C.hb dX4_init_65 ?_
  obtain ⟨hv, hw⟩ := hw
  refine tw_cbv C hS (tk_runIN (As := []) hv C hR hS (wk_X5_init l C.hst G (R.frames - 1) (by omega) _ _ _ σ hw) q2014 q2015 q75 q2016 rfl pd_X5_init ⟨by omega, by omega⟩ hl.1 rfl (tw_r8 [.inr q10, .inr l0] (Nat.le_of_ble_eq_true rfl)) dX4_init_66) (fun E q σ H locs hX hR hS hi => tw_out C hR hS (fun x hx => (hnx x hx).elim) hi hX) (fun σ H locs hw hR hS => ?_)
  refine tk_pF (x := .inr q10) C hR hS hw (Or.inl (by decide)) rfl in_X4 tyX4 tyX4_ok nmX4 (by decide) q2060 (fun _ h => h) rfl hmn rfl (tw_nr _ _) dX4_init_69 (fun σ H locs hw hR hS => ?_)
  refine tk_aload_n C hl 0 dX4_init_72 rfl ?_
  refine lv_bipush (v := 20) C.hx C.hb dX4_init_73 (by decide) ?_
  refine lv_bipush (v := 20) C.hx C.hb dX4_init_75 (by decide) ?_
  refine tk_ma C hR hS hw q2040 q630 dX4_init_77 (fun q12 σ H hw hR hS => ?_)
  refine tk_pF (x := .inr q12) C hR hS hw (Or.inl (by decide)) rfl in_X4 tyX4 tyX4_ok nmX4 (by decide) q2061 (fun _ h => h) rfl hmn rfl (tw_nrA _ _) dX4_init_81 (fun σ H locs hw hR hS => ?_)
  refine tk_aload_n C hl 0 dX4_init_84 rfl ?_
  refine lv_bipush (v := 80) C.hx C.hb dX4_init_85 (by decide) ?_
  refine tk_na (t := 1) (atype := .char) C hR hS hw q2146 rfl (fun h => h) (fun _ _ => rfl) (by decide) dX4_init_87 (fun q13 σ H hw hR hS => ?_)
  refine tk_pF (x := .inr q13) C hR hS hw (Or.inl (by decide)) rfl in_X4 tyX4 tyX4_ok nmX4 (by decide) q2062 (fun _ h => h) rfl hmn rfl (tw_nrA _ _) dX4_init_89 (fun σ H locs hw hR hS => ?_)
  refine tk_aload_n C hl 0 dX4_init_92 rfl ?_
  refine lv_bipush (v := 80) C.hx C.hb dX4_init_93 (by decide) ?_
  refine tk_na (t := 0) (atype := .int) C hR hS hw q630 rfl (fun h => h) (fun _ _ => rfl) (by decide) dX4_init_95 (fun q14 σ H hw hR hS => ?_)
  refine tk_pF (x := .inr q14) C hR hS hw (Or.inl (by decide)) rfl in_X4 tyX4 tyX4_ok nmX4 (by decide) q2063 (fun _ h => h) rfl hmn rfl (tw_nrA _ _) dX4_init_97 (fun σ H locs hw hR hS => ?_)
  refine tk_aload_n C hl 0 dX4_init_100 rfl ?_
  refine lv_bipush (v := 80) C.hx C.hb dX4_init_101 (by decide) ?_
  refine tk_na (t := 0) (atype := .int) C hR hS hw q630 rfl (fun h => h) (fun _ _ => rfl) (by decide) dX4_init_103 (fun q15 σ H hw hR hS => ?_)
  refine tk_pF (x := .inr q15) C hR hS hw (Or.inl (by decide)) rfl in_X4 tyX4 tyX4_ok nmX4 (by decide) q2064 (fun _ h => h) rfl hmn rfl (tw_nrA _ _) dX4_init_105 (fun σ H locs hw hR hS => ?_)
  refine tk_aload_n C hl 0 dX4_init_108 rfl ?_
  refine lv_bipush (v := 20) C.hx C.hb dX4_init_109 (by decide) ?_
  refine tk_na (t := 0) (atype := .int) C hR hS hw q630 rfl (fun h => h) (fun _ _ => rfl) (by decide) dX4_init_111 (fun q16 σ H hw hR hS => ?_)
  refine tk_pF (x := .inr q16) C hR hS hw (Or.inl (by decide)) rfl in_X4 tyX4 tyX4_ok nmX4 (by decide) q2065 (fun _ h => h) rfl hmn rfl (tw_nrA _ _) dX4_init_113 (fun σ H locs hw hR hS => ?_)
  refine tk_aload_n C hl 0 dX4_init_116 rfl ?_
  refine lv_bipush (v := 20) C.hx C.hb dX4_init_117 (by decide) ?_
  refine tk_na (t := 0) (atype := .int) C hR hS hw q630 rfl (fun h => h) (fun _ _ => rfl) (by decide) dX4_init_119 (fun q17 σ H hw hR hS => ?_)
  refine tk_pF (x := .inr q17) C hR hS hw (Or.inl (by decide)) rfl in_X4 tyX4 tyX4_ok nmX4 (by decide) q2066 (fun _ h => h) rfl hmn rfl (tw_nrA _ _) dX4_init_121 (fun σ H locs hw hR hS => ?_)
  refine tk_aload_n C hl 0 dX4_init_124 rfl ?_
  refine tk_nw C hR hS hw rfl in_X5 tyX5 tyX5_ok q2011 q2013 q75 (fun j hj => by rcases (show j = 0 ∨ j = 1 ∨ j = 2 ∨ j = 3 ∨ j = 4 by omega) with rfl | rfl | rfl | rfl | rfl <;> rfl) dX4_init_125 (fun q18 σ H hw hR hS => ?_)
  refine tw_dup (x := .inr q18) C.hx C.hb dX4_init_128 ?_
  obtain ⟨hv, hw⟩ := hw
  refine tw_cbv C hS (tk_runIN (As := []) hv C hR hS (wk_X5_init l C.hst G (R.frames - 1) (by omega) _ _ _ σ hw) q2014 q2015 q75 q2016 rfl pd_X5_init ⟨by omega, by omega⟩ hl.1 rfl (tw_r8 [.inr q18, .inr l0] (Nat.le_of_ble_eq_true rfl)) dX4_init_129) (fun E q σ H locs hX hR hS hi => tw_out C hR hS (fun x hx => (hnx x hx).elim) hi hX) (fun σ H locs hw hR hS => ?_)
  refine tk_pF (x := .inr q18) C hR hS hw (Or.inl (by decide)) rfl in_X4 tyX4 tyX4_ok nmX4 (by decide) q2068 (fun _ h => h) rfl hmn rfl (tw_nr _ _) dX4_init_132 (fun σ H locs hw hR hS => ?_)
  refine tk_aload_n C hl 0 dX4_init_135 rfl ?_
  refine tk_nw C hR hS hw rfl in_X5 tyX5 tyX5_ok q2011 q2013 q75 (fun j hj => by rcases (show j = 0 ∨ j = 1 ∨ j = 2 ∨ j = 3 ∨ j = 4 by omega) with rfl | rfl | rfl | rfl | rfl <;> rfl) dX4_init_136 (fun q20 σ H hw hR hS => ?_)
  refine tw_dup (x := .inr q20) C.hx C.hb dX4_init_139 ?_
  obtain ⟨hv, hw⟩ := hw
  refine tw_cbv C hS (tk_runIN (As := []) hv C hR hS (wk_X5_init l C.hst G (R.frames - 1) (by omega) _ _ _ σ hw) q2014 q2015 q75 q2016 rfl pd_X5_init ⟨by omega, by omega⟩ hl.1 rfl (tw_r8 [.inr q20, .inr l0] (Nat.le_of_ble_eq_true rfl)) dX4_init_140) (fun E q σ H locs hX hR hS hi => tw_out C hR hS (fun x hx => (hnx x hx).elim) hi hX) (fun σ H locs hw hR hS => ?_)
  refine tk_pF (x := .inr q20) C hR hS hw (Or.inl (by decide)) rfl in_X4 tyX4 tyX4_ok nmX4 (by decide) q2069 (fun _ h => h) rfl hmn rfl (tw_nr _ _) dX4_init_143 (fun σ H locs hw hR hS => ?_)
  refine tk_aload_n C hl 0 dX4_init_146 rfl ?_
  refine lv_bipush (v := 80) C.hx C.hb dX4_init_147 (by decide) ?_
  refine tk_na (t := 1) (atype := .char) C hR hS hw q2146 rfl (fun h => h) (fun _ _ => rfl) (by decide) dX4_init_149 (fun q22 σ H hw hR hS => ?_)
  refine tk_pF (x := .inr q22) C hR hS hw (Or.inl (by decide)) rfl in_X4 tyX4 tyX4_ok nmX4 (by decide) q2070 (fun _ h => h) rfl hmn rfl (tw_nrA _ _) dX4_init_151 (fun σ H locs hw hR hS => ?_)
  refine tk_aload_n C hl 0 dX4_init_154 rfl ?_
  refine lv_bipush (v := 80) C.hx C.hb dX4_init_155 (by decide) ?_
  refine tk_na (t := 0) (atype := .int) C hR hS hw q630 rfl (fun h => h) (fun _ _ => rfl) (by decide) dX4_init_157 (fun q23 σ H hw hR hS => ?_)
  refine tk_pF (x := .inr q23) C hR hS hw (Or.inl (by decide)) rfl in_X4 tyX4 tyX4_ok nmX4 (by decide) q2071 (fun _ h => h) rfl hmn rfl (tw_nrA _ _) dX4_init_159 (fun σ H locs hw hR hS => ?_)
  refine tk_aload_n C hl 0 dX4_init_162 rfl ?_
  refine lv_bipush (v := 80) C.hx C.hb dX4_init_163 (by decide) ?_
  refine tk_na (t := 0) (atype := .int) C hR hS hw q630 rfl (fun h => h) (fun _ _ => rfl) (by decide) dX4_init_165 (fun q24 σ H hw hR hS => ?_)
  refine tk_pF (x := .inr q24) C hR hS hw (Or.inl (by decide)) rfl in_X4 tyX4 tyX4_ok nmX4 (by decide) q2072 (fun _ h => h) rfl hmn rfl (tw_nrA _ _) dX4_init_167 (fun σ H locs hw hR hS => ?_)
  refine tk_aload_n C hl 0 dX4_init_170 rfl ?_
  refine lv_bipush (v := 20) C.hx C.hb dX4_init_171 (by decide) ?_
  refine tk_na (t := 0) (atype := .int) C hR hS hw q630 rfl (fun h => h) (fun _ _ => rfl) (by decide) dX4_init_173 (fun q25 σ H hw hR hS => ?_)
  refine tk_pF (x := .inr q25) C hR hS hw (Or.inl (by decide)) rfl in_X4 tyX4 tyX4_ok nmX4 (by decide) q2073 (fun _ h => h) rfl hmn rfl (tw_nrA _ _) dX4_init_175 (fun σ H locs hw hR hS => ?_)
  refine tk_aload_n C hl 0 dX4_init_178 rfl ?_
  refine lv_bipush (v := 20) C.hx C.hb dX4_init_179 (by decide) ?_
  refine tk_na (t := 0) (atype := .int) C hR hS hw q630 rfl (fun h => h) (fun _ _ => rfl) (by decide) dX4_init_181 (fun q26 σ H hw hR hS => ?_)
  refine tk_pF (x := .inr q26) C hR hS hw (Or.inl (by decide)) rfl in_X4 tyX4 tyX4_ok nmX4 (by decide) q2074 (fun _ h => h) rfl hmn rfl (tw_nrA _ _) dX4_init_183 (fun σ H locs hw hR hS => ?_)
  refine tk_aload_n C hl 0 dX4_init_186 rfl ?_
  refine lv_bipush (v := 20) C.hx C.hb dX4_init_187 (by decide) ?_
  refine tk_nr (t := 9) C hR hS hw q2042 (by decide) rfl dX4_init_189 (fun q27 σ H hw hR hS => ?_)
  refine tk_pF (x := .inr q27) C hR hS hw (Or.inl (by decide)) rfl in_X4 tyX4 tyX4_ok nmX4 (by decide) q2077 (fun _ h => h) rfl hmn rfl (tw_nrA _ _) dX4_init_192 (fun σ H locs hw hR hS => ?_)
  refine tk_aload_n C hl 0 dX4_init_195 rfl ?_
  refine lv_iconst (v := (-1)) C.hx C.hb dX4_init_196 (by decide) ?_
  refine tk_p (x := .inl (-1)) C hR hS hw (by decide) rfl in_X4 tyX4 tyX4_ok nmX4 (by decide) q2079 (fun _ h => h) rfl (tw_ni _) dX4_init_197 (fun σ H locs hw hR hS => ?_)
  refine tk_aload_n C hl 0 dX4_init_200 rfl ?_
  refine tk_gr C hR hw rfl in_X4 (by decide) q2052 (fun _ h => h) dX4_init_201 (fun x28 hw => ?_)
  refine tk_astore_n (L' := [(1, .inr x28), (0, .inr l0)]) C hl dX4_init_204 (by decide) rfl (fun ls hl => ?_)
  refine tk_aload_n C hl 0 dX4_init_205 rfl ?_
  refine tk_al C hR hw dX4_init_206 (fun x29 hw => ?_)
  refine tk_istore_n (L' := [(2, .inl x29), (1, .inr x28), (0, .inr l0)]) C hl dX4_init_207 (by decide) rfl (fun ls hl => ?_)
  refine lv_iconst (v := 0) C.hx C.hb dX4_init_208 (by decide) ?_
  refine tk_istore_n (L' := [(3, .inl 0), (2, .inl x29), (1, .inr x28), (0, .inr l0)]) C hl dX4_init_209 (by decide) rfl (fun ls hl => ?_)
  obtain ⟨z, hw⟩ := hw
  exact wk_X4_init_b210 C hr hmn hnx hfr hRl z _ _ _ σ _ _ _ hw hR hS (tk_sub hl [2, 1, 0] rfl)
-- TreeDifferModel.thrown()I
def w_X4_thrown (l0 : Option Nat) (Q : Int32 → Tst → Prop) (X : String → Nat → Tst → Prop) (σ : Tst) : Prop := w_gi σ l0 cX4 1 fun x1 => Q x1 σ
set_option maxHeartbeats 4000000 in
theorem wk_X4_thrown (l : Launch) (hl0 : l.stackTraces = false) (G : Tgl) (fr : Nat)  (hfr : 1 ≤ fr) (l0 : Option Nat) (Q : Int32 → Tst → Prop) (X : String → Nat → Tst → Prop) (σ : Tst) (hw : w_X4_thrown l0 Q X σ) : tw_M l yX4_thrown (ws_ yX4_thrown cX4_thrown 1 (some .int)) fr (40 * fr) G σ [.inr l0] (tw_Qi G Q) X := by
  unfold w_X4_thrown at hw
  refine tw_of (ret := (some .int)) hl0 (by decide) (Nat.le_of_ble_eq_true rfl) (fun p e R s m args below meth c hRf hRl C hr hmn hnx hR hS ls hl => ?_)
  have hfr : 1 ≤ R.frames := by rw [hRf]; exact hfr
  have hRl : R.locals = 40 * R.frames := by rw [hRl, hRf]
  have hl : tw_l ls 1 [(0, .inr l0)] := hl
  refine tk_aload_n C hl 0 dX4_thrown_0 rfl ?_
  refine tk_gi C hR hw rfl in_X4 (by decide) q2053 (fun _ h => h) dX4_thrown_1 (fun x1 hw => ?_)
  exact tw_iret C hR hS hr rfl dX4_thrown_4 hw
-- TreeDifferModel.fails(I)I
def w_X4_fails (l0 : Option Nat) (l1 : Int32) (Q : Int32 → Tst → Prop) (X : String → Nat → Tst → Prop) (σ : Tst) : Prop := w_p σ l0 cX4 1 (.inl l1) fun σ => Q 0 σ
set_option maxHeartbeats 4000000 in
theorem wk_X4_fails (l : Launch) (hl0 : l.stackTraces = false) (G : Tgl) (fr : Nat)  (hfr : 1 ≤ fr) (l0 : Option Nat) (l1 : Int32) (Q : Int32 → Tst → Prop) (X : String → Nat → Tst → Prop) (σ : Tst) (hw : w_X4_fails l0 l1 Q X σ) : tw_M l yX4_fails (ws_ yX4_fails cX4_fails 2 (some .int)) fr (40 * fr) G σ [.inr l0, .inl l1] (tw_Qi G Q) X := by
  unfold w_X4_fails at hw
  refine tw_of (ret := (some .int)) hl0 (by decide) (Nat.le_of_ble_eq_true rfl) (fun p e R s m args below meth c hRf hRl C hr hmn hnx hR hS ls hl => ?_)
  have hfr : 1 ≤ R.frames := by rw [hRf]; exact hfr
  have hRl : R.locals = 40 * R.frames := by rw [hRl, hRf]
  have hl : tw_l ls 2 [(0, .inr l0), (1, .inl l1)] := hl
  refine tk_aload_n C hl 0 dX4_fails_0 rfl ?_
  refine tk_iload_n C hl 1 dX4_fails_1 rfl ?_
  refine tk_p (x := .inl l1) C hR hS hw (by decide) rfl in_X4 tyX4 tyX4_ok nmX4 (by decide) q2053 (fun _ h => h) rfl (tw_ni _) dX4_fails_2 (fun σ H locs hw hR hS => ?_)
  refine lv_iconst (v := 0) C.hx C.hb dX4_fails_5 (by decide) ?_
  exact tw_iret C hR hS hr rfl dX4_fails_6 hw
-- TreeDifferModel.type(C)I
def w_X4_type (l0 : Option Nat) (l1 : Int32) (Q : Int32 → Tst → Prop) (X : String → Nat → Tst → Prop) (σ : Tst) : Prop := w_p σ l0 cX4 1 (.inl 0) fun σ => w_gi σ l0 cX4 3 fun x1 => w_if (x1 = 80) (w_rc σ l0 cX4 <| w_X4_fails l0 1 (fun x6 σ => Q x6 σ) X σ) (w_gr σ l0 cX4 2 fun x2 => w_gi σ l0 cX4 3 fun x3 => w_sc σ x2 x3 l1 fun σ => w_gi σ l0 cX4 3 fun x4 => w_p σ l0 cX4 3 (.inl (x4 + 1)) fun σ => w_gi σ l0 cX4 3 fun x5 => Q x5 σ)
set_option maxHeartbeats 4000000 in
theorem wk_X4_type (l : Launch) (hl0 : l.stackTraces = false) (G : Tgl) (fr : Nat)  (hfr : 2 ≤ fr) (l0 : Option Nat) (l1 : Int32) (Q : Int32 → Tst → Prop) (X : String → Nat → Tst → Prop) (σ : Tst) (hw : w_X4_type l0 l1 Q X σ) : tw_M l yX4_type (ws_ yX4_type cX4_type 2 (some .int)) fr (40 * fr) G σ [.inr l0, .inl l1] (tw_Qi G Q) X := by
  unfold w_X4_type at hw
  refine tw_of (ret := (some .int)) hl0 (by decide) (Nat.le_of_ble_eq_true rfl) (fun p e R s m args below meth c hRf hRl C hr hmn hnx hR hS ls hl => ?_)
  have hfr : 2 ≤ R.frames := by rw [hRf]; exact hfr
  have hRl : R.locals = 40 * R.frames := by rw [hRl, hRf]
  have hl : tw_l ls 2 [(0, .inr l0), (1, .inl l1)] := hl
  refine tk_aload_n C hl 0 dX4_type_0 rfl ?_
  refine lv_iconst (v := 0) C.hx C.hb dX4_type_1 (by decide) ?_
  refine tk_p (x := .inl 0) C hR hS hw (by decide) rfl in_X4 tyX4 tyX4_ok nmX4 (by decide) q2053 (fun _ h => h) rfl (tw_ni _) dX4_type_2 (fun σ H locs hw hR hS => ?_)
  refine tk_aload_n C hl 0 dX4_type_5 rfl ?_
  refine tk_gi C hR hw rfl in_X4 (by decide) q2055 (fun _ h => h) dX4_type_6 (fun x1 hw => ?_)
  refine lv_bipush (v := 80) C.hx C.hb dX4_type_9 (by decide) ?_
  refine lv_icmp_ne (tgt := 20) C.hx C.hb dX4_type_11 (by decide) (fun c11 => ?_) (fun c11 => ?_)
  · replace hw := hw.2 c11
    refine tk_aload_n C hl 0 dX4_type_20 rfl ?_
    refine tk_gr C hR hw rfl in_X4 (by decide) q2054 (fun _ h => h) dX4_type_21 (fun x2 hw => ?_)
    refine tk_aload_n C hl 0 dX4_type_24 rfl ?_
    refine tk_gi C hR hw rfl in_X4 (by decide) q2055 (fun _ h => h) dX4_type_25 (fun x3 hw => ?_)
    refine tk_iload_n C hl 1 dX4_type_28 rfl ?_
    refine tk_sc C hR hS hw dX4_type_29 (fun σ H locs hw hR hS => ?_)
    refine tk_aload_n C hl 0 dX4_type_30 rfl ?_
    refine tw_dup (x := .inr l0) C.hx C.hb dX4_type_31 ?_
    refine tk_gi C hR hw rfl in_X4 (by decide) q2055 (fun _ h => h) dX4_type_32 (fun x4 hw => ?_)
    refine lv_iconst (v := 1) C.hx C.hb dX4_type_35 (by decide) ?_
    refine lv_iadd C.hx C.hb dX4_type_36 ?_
    refine tk_p (x := .inl (x4 + 1)) C hR hS hw (by decide) rfl in_X4 tyX4 tyX4_ok nmX4 (by decide) q2055 (fun _ h => h) rfl (tw_ni _) dX4_type_37 (fun σ H locs hw hR hS => ?_)
    refine tk_aload_n C hl 0 dX4_type_40 rfl ?_
    refine tk_gi C hR hw rfl in_X4 (by decide) q2055 (fun _ h => h) dX4_type_41 (fun x5 hw => ?_)
    exact tw_iret C hR hS hr rfl dX4_type_44 hw
  · replace hw := hw.1 c11
    refine tk_aload_n C hl 0 dX4_type_14 rfl ?_
    refine lv_iconst (v := 1) C.hx C.hb dX4_type_15 (by decide) ?_
    obtain ⟨hv, hw⟩ := hw
    refine tw_cbi C hS (tk_runV (As := [.inl 1]) C hR hS (wk_X4_fails l C.hst G (R.frames - 1) (by omega) _ _ _ _ σ hw) hv rfl q2155 q2157 qs24 q74 q2158 pd_X4_fails ⟨by omega, by omega⟩ hl.1 rfl (tw_r8 [] (Nat.le_of_ble_eq_true rfl)) dX4_type_16) (fun E q σ H locs hX hR hS hi => tw_out C hR hS (fun x hx => (hnx x hx).elim) hi hX) (fun x6 σ H locs hw hR hS => ?_)
    exact tw_iret C hR hS hr rfl dX4_type_19 hw
-- TreeDifferModel.isBetween(III)Z
def w_X4_isBetween_b15 (Q : Int32 → Tst → Prop) (X : String → Nat → Tst → Prop) (s0 : Int32) (σ : Tst) : Prop := narrow .boolean (.int s0) = .int s0 ∧ Q s0 σ
def w_X4_isBetween_b14 (Q : Int32 → Tst → Prop) (X : String → Nat → Tst → Prop) (σ : Tst) : Prop := w_X4_isBetween_b15 Q X 0 σ
def w_X4_isBetween (l0 : Int32) (l1 : Int32) (l2 : Int32) (Q : Int32 → Tst → Prop) (X : String → Nat → Tst → Prop) (σ : Tst) : Prop := w_if (l0 < l1) (w_X4_isBetween_b14 Q X σ) (w_if (l2 < l0) (w_X4_isBetween_b14 Q X σ) (w_X4_isBetween_b15 Q X 1 σ))
set_option maxHeartbeats 4000000 in
theorem wk_X4_isBetween_b15  (C : tw_C p l R s m args meth c G cX4_isBetween 3 yX4_isBetween.cls) (hr : meth.sig.returnType = (some .boolean)) (hmn : meth.name = yX4_isBetween.name) (hnx : (∀ x ∈ c.exceptionTable.toList, False)) (hfr : 1 ≤ R.frames) (hRl : R.locals = 40 * R.frames) {Q : Int32 → Tst → Prop} {X : String → Nat → Tst → Prop}  (s0 : Int32) (σ : Tst) (H : Heap) (locs : List Loc) (ls : Array Slot) (hw : w_X4_isBetween_b15 Q X s0 σ) (hR : tw_R G σ H) (hS : va_S (tw_A G) s.heap H locs) (hl : tw_l ls 3 []) : tw_W p l e R s m args below meth c σ H locs (tw_E below G (tw_Qi G Q) X args s R) (F0 m 15 ls [.int s0]) := by
  unfold w_X4_isBetween_b15 at hw
  obtain ⟨hok, hw⟩ := hw
  exact tw_iret C hR hS hr hok dX4_isBetween_15 hw
set_option maxHeartbeats 4000000 in
theorem wk_X4_isBetween_b14  (C : tw_C p l R s m args meth c G cX4_isBetween 3 yX4_isBetween.cls) (hr : meth.sig.returnType = (some .boolean)) (hmn : meth.name = yX4_isBetween.name) (hnx : (∀ x ∈ c.exceptionTable.toList, False)) (hfr : 1 ≤ R.frames) (hRl : R.locals = 40 * R.frames) {Q : Int32 → Tst → Prop} {X : String → Nat → Tst → Prop}   (σ : Tst) (H : Heap) (locs : List Loc) (ls : Array Slot) (hw : w_X4_isBetween_b14 Q X  σ) (hR : tw_R G σ H) (hS : va_S (tw_A G) s.heap H locs) (hl : tw_l ls 3 []) : tw_W p l e R s m args below meth c σ H locs (tw_E below G (tw_Qi G Q) X args s R) (F0 m 14 ls []) := by
  unfold w_X4_isBetween_b14 at hw
  refine lv_iconst (v := 0) C.hx C.hb dX4_isBetween_14 (by decide) ?_
  exact wk_X4_isBetween_b15 C hr hmn hnx hfr hRl _ σ _ _ _ hw hR hS (tk_sub hl [] rfl)
set_option maxHeartbeats 4000000 in
theorem wk_X4_isBetween (l : Launch) (hl0 : l.stackTraces = false) (G : Tgl) (fr : Nat)  (hfr : 1 ≤ fr) (l0 : Int32) (l1 : Int32) (l2 : Int32) (Q : Int32 → Tst → Prop) (X : String → Nat → Tst → Prop) (σ : Tst) (hw : w_X4_isBetween l0 l1 l2 Q X σ) : tw_M l yX4_isBetween (ws_ yX4_isBetween cX4_isBetween 3 (some .boolean)) fr (40 * fr) G σ [.inl l0, .inl l1, .inl l2] (tw_Qi G Q) X := by
  unfold w_X4_isBetween at hw
  refine tw_of (ret := (some .boolean)) hl0 (by decide) (Nat.le_of_ble_eq_true rfl) (fun p e R s m args below meth c hRf hRl C hr hmn hnx hR hS ls hl => ?_)
  have hfr : 1 ≤ R.frames := by rw [hRf]; exact hfr
  have hRl : R.locals = 40 * R.frames := by rw [hRl, hRf]
  have hl : tw_l ls 3 [(0, .inl l0), (1, .inl l1), (2, .inl l2)] := hl
  refine tk_iload_n C hl 1 dX4_isBetween_0 rfl ?_
  refine tk_iload_n C hl 0 dX4_isBetween_1 rfl ?_
  refine lv_icmp_gt (tgt := 14) C.hx C.hb dX4_isBetween_2 (by decide) (fun c2 => ?_) (fun c2 => ?_)
  · replace hw := hw.1 c2
    exact wk_X4_isBetween_b14 C hr hmn hnx hfr hRl σ _ _ _ hw hR hS (tk_sub hl [] rfl)
  · replace hw := hw.2 c2
    refine tk_iload_n C hl 0 dX4_isBetween_5 rfl ?_
    refine tk_iload_n C hl 2 dX4_isBetween_6 rfl ?_
    refine lv_icmp_gt (tgt := 14) C.hx C.hb dX4_isBetween_7 (by decide) (fun c7 => ?_) (fun c7 => ?_)
    · replace hw := hw.1 c7
      exact wk_X4_isBetween_b14 C hr hmn hnx hfr hRl σ _ _ _ hw hR hS (tk_sub hl [] rfl)
    · replace hw := hw.2 c7
      refine lv_iconst (v := 1) C.hx C.hb dX4_isBetween_10 (by decide) ?_
      refine lv_goto (tgt := 15) C.hx C.hb dX4_isBetween_11 (by decide) ?_
      exact wk_X4_isBetween_b15 C hr hmn hnx hfr hRl _ σ _ _ _ hw hR hS (tk_sub hl [] rfl)
-- TreeDifferModel.isTree(I)Z
def w_X4_isTree (l0 : Int32) (Q : Int32 → Tst → Prop) (X : String → Nat → Tst → Prop) (σ : Tst) : Prop := w_X4_isBetween l0 0 2 (fun x1 σ => narrow .boolean (.int x1) = .int x1 ∧ Q x1 σ) X σ
set_option maxHeartbeats 4000000 in
theorem wk_X4_isTree (l : Launch) (hl0 : l.stackTraces = false) (G : Tgl) (fr : Nat)  (hfr : 2 ≤ fr) (l0 : Int32) (Q : Int32 → Tst → Prop) (X : String → Nat → Tst → Prop) (σ : Tst) (hw : w_X4_isTree l0 Q X σ) : tw_M l yX4_isTree (ws_ yX4_isTree cX4_isTree 1 (some .boolean)) fr (40 * fr) G σ [.inl l0] (tw_Qi G Q) X := by
  unfold w_X4_isTree at hw
  refine tw_of (ret := (some .boolean)) hl0 (by decide) (Nat.le_of_ble_eq_true rfl) (fun p e R s m args below meth c hRf hRl C hr hmn hnx hR hS ls hl => ?_)
  have hfr : 2 ≤ R.frames := by rw [hRf]; exact hfr
  have hRl : R.locals = 40 * R.frames := by rw [hRl, hRf]
  have hl : tw_l ls 1 [(0, .inl l0)] := hl
  refine tk_iload_n C hl 0 dX4_isTree_0 rfl ?_
  refine lv_iconst (v := 0) C.hx C.hb dX4_isTree_1 (by decide) ?_
  refine lv_iconst (v := 2) C.hx C.hb dX4_isTree_2 (by decide) ?_
  refine tw_cbi C hS (tw_runS (As := [.inl l0, .inl 0, .inl 2]) C hR hS (wk_X4_isBetween l C.hst G (R.frames - 1) (by omega) _ _ _ _ _ σ hw) q2166 q2167 q74 q2168 pd_X4_isBetween ⟨by omega, by omega⟩ hl.1 rfl (tw_r8 [] (Nat.le_of_ble_eq_true rfl)) dX4_isTree_3) (fun E q σ H locs hX hR hS hi => tw_out C hR hS (fun x hx => (hnx x hx).elim) hi hX) (fun x1 σ H locs hw hR hS => ?_)
  obtain ⟨hok, hw⟩ := hw
  exact tw_iret C hR hS hr hok dX4_isTree_6 hw
-- TreeDifferModel.sign()C
def w_X4_sign_b24 (Q : Int32 → Tst → Prop) (X : String → Nat → Tst → Prop) (s0 : Int32) (σ : Tst) : Prop := narrow .char (.int s0) = .int s0 ∧ Q s0 σ
def w_X4_sign (l0 : Option Nat) (Q : Int32 → Tst → Prop) (X : String → Nat → Tst → Prop) (σ : Tst) : Prop := w_gi σ l0 cX4 4 fun x1 => w_gi σ l0 cX4 3 fun x2 => w_if (x2 ≤ x1) (w_X4_sign_b24 Q X 0 σ) (w_gr σ l0 cX4 2 fun x3 => w_gi σ l0 cX4 4 fun x4 => w_lc σ x3 x4 fun x5 => w_X4_sign_b24 Q X x5 σ)
set_option maxHeartbeats 4000000 in
theorem wk_X4_sign_b24  (C : tw_C p l R s m args meth c G cX4_sign 1 yX4_sign.cls) (hr : meth.sig.returnType = (some .char)) (hmn : meth.name = yX4_sign.name) (hnx : (∀ x ∈ c.exceptionTable.toList, False)) (hfr : 1 ≤ R.frames) (hRl : R.locals = 40 * R.frames) {Q : Int32 → Tst → Prop} {X : String → Nat → Tst → Prop}  (s0 : Int32) (σ : Tst) (H : Heap) (locs : List Loc) (ls : Array Slot) (hw : w_X4_sign_b24 Q X s0 σ) (hR : tw_R G σ H) (hS : va_S (tw_A G) s.heap H locs) (hl : tw_l ls 1 []) : tw_W p l e R s m args below meth c σ H locs (tw_E below G (tw_Qi G Q) X args s R) (F0 m 24 ls [.int s0]) := by
  unfold w_X4_sign_b24 at hw
  obtain ⟨hok, hw⟩ := hw
  exact tw_iret C hR hS hr hok dX4_sign_24 hw
set_option maxHeartbeats 4000000 in
theorem wk_X4_sign (l : Launch) (hl0 : l.stackTraces = false) (G : Tgl) (fr : Nat)  (hfr : 1 ≤ fr) (l0 : Option Nat) (Q : Int32 → Tst → Prop) (X : String → Nat → Tst → Prop) (σ : Tst) (hw : w_X4_sign l0 Q X σ) : tw_M l yX4_sign (ws_ yX4_sign cX4_sign 1 (some .char)) fr (40 * fr) G σ [.inr l0] (tw_Qi G Q) X := by
  unfold w_X4_sign at hw
  refine tw_of (ret := (some .char)) hl0 (by decide) (Nat.le_of_ble_eq_true rfl) (fun p e R s m args below meth c hRf hRl C hr hmn hnx hR hS ls hl => ?_)
  have hfr : 1 ≤ R.frames := by rw [hRf]; exact hfr
  have hRl : R.locals = 40 * R.frames := by rw [hRl, hRf]
  have hl : tw_l ls 1 [(0, .inr l0)] := hl
  refine tk_aload_n C hl 0 dX4_sign_0 rfl ?_
  refine tk_gi C hR hw rfl in_X4 (by decide) q2056 (fun _ h => h) dX4_sign_1 (fun x1 hw => ?_)
  refine tk_aload_n C hl 0 dX4_sign_4 rfl ?_
  refine tk_gi C hR hw rfl in_X4 (by decide) q2055 (fun _ h => h) dX4_sign_5 (fun x2 hw => ?_)
  refine lv_icmp_ge (tgt := 23) C.hx C.hb dX4_sign_8 (by decide) (fun c8 => ?_) (fun c8 => ?_)
  · replace hw := hw.1 c8
    refine lv_iconst (v := 0) C.hx C.hb dX4_sign_23 (by decide) ?_
    exact wk_X4_sign_b24 C hr hmn hnx hfr hRl _ σ _ _ _ hw hR hS (tk_sub hl [] rfl)
  · replace hw := hw.2 c8
    refine tk_aload_n C hl 0 dX4_sign_11 rfl ?_
    refine tk_gr C hR hw rfl in_X4 (by decide) q2054 (fun _ h => h) dX4_sign_12 (fun x3 hw => ?_)
    refine tk_aload_n C hl 0 dX4_sign_15 rfl ?_
    refine tk_gi C hR hw rfl in_X4 (by decide) q2056 (fun _ h => h) dX4_sign_16 (fun x4 hw => ?_)
    refine tk_lc C hR hw dX4_sign_19 (fun x5 hw => ?_)
    refine lv_goto (tgt := 24) C.hx C.hb dX4_sign_20 (by decide) ?_
    exact wk_X4_sign_b24 C hr hmn hnx hfr hRl _ σ _ _ _ hw hR hS (tk_sub hl [] rfl)
-- TreeDifferModel.takes(CC)Z
def w_X4_takes_b34 (Q : Int32 → Tst → Prop) (X : String → Nat → Tst → Prop) (σ : Tst) : Prop := narrow .boolean (.int 0) = .int 0 ∧ Q 0 σ
def w_X4_takes (l0 : Option Nat) (l1 : Int32) (l2 : Int32) (Q : Int32 → Tst → Prop) (X : String → Nat → Tst → Prop) (σ : Tst) : Prop := w_gi σ l0 cX4 5 fun x1 => w_if (0 ≤ x1) (w_X4_takes_b34 Q X σ) (w_gi σ l0 cX4 4 fun x2 => w_gi σ l0 cX4 3 fun x3 => w_if (x2 = x3) (w_X4_takes_b34 Q X σ) (w_rc σ l0 cX4 <| w_X4_sign l0 (fun x4 σ => w_if (x4 < l1) (w_X4_takes_b34 Q X σ) (w_rc σ l0 cX4 <| w_X4_sign l0 (fun x5 σ => w_if (x5 ≤ l2) (w_gi σ l0 cX4 4 fun x6 => w_p σ l0 cX4 4 (.inl (x6 + 1)) fun σ => narrow .boolean (.int 1) = .int 1 ∧ Q 1 σ) (w_X4_takes_b34 Q X σ)) X σ)) X σ))
set_option maxHeartbeats 4000000 in
theorem wk_X4_takes_b34  (C : tw_C p l R s m args meth c G cX4_takes 3 yX4_takes.cls) (hr : meth.sig.returnType = (some .boolean)) (hmn : meth.name = yX4_takes.name) (hnx : (∀ x ∈ c.exceptionTable.toList, False)) (hfr : 2 ≤ R.frames) (hRl : R.locals = 40 * R.frames) {Q : Int32 → Tst → Prop} {X : String → Nat → Tst → Prop}   (σ : Tst) (H : Heap) (locs : List Loc) (ls : Array Slot) (hw : w_X4_takes_b34 Q X  σ) (hR : tw_R G σ H) (hS : va_S (tw_A G) s.heap H locs) (hl : tw_l ls 3 []) : tw_W p l e R s m args below meth c σ H locs (tw_E below G (tw_Qi G Q) X args s R) (F0 m 34 ls []) := by
  unfold w_X4_takes_b34 at hw
  refine lv_iconst (v := 0) C.hx C.hb dX4_takes_34 (by decide) ?_
  obtain ⟨hok, hw⟩ := hw
  exact tw_iret C hR hS hr hok dX4_takes_35 hw
set_option maxHeartbeats 4000000 in
theorem wk_X4_takes (l : Launch) (hl0 : l.stackTraces = false) (G : Tgl) (fr : Nat)  (hfr : 2 ≤ fr) (l0 : Option Nat) (l1 : Int32) (l2 : Int32) (Q : Int32 → Tst → Prop) (X : String → Nat → Tst → Prop) (σ : Tst) (hw : w_X4_takes l0 l1 l2 Q X σ) : tw_M l yX4_takes (ws_ yX4_takes cX4_takes 3 (some .boolean)) fr (40 * fr) G σ [.inr l0, .inl l1, .inl l2] (tw_Qi G Q) X := by
  unfold w_X4_takes at hw
  refine tw_of (ret := (some .boolean)) hl0 (by decide) (Nat.le_of_ble_eq_true rfl) (fun p e R s m args below meth c hRf hRl C hr hmn hnx hR hS ls hl => ?_)
  have hfr : 2 ≤ R.frames := by rw [hRf]; exact hfr
  have hRl : R.locals = 40 * R.frames := by rw [hRl, hRf]
  have hl : tw_l ls 3 [(0, .inr l0), (1, .inl l1), (2, .inl l2)] := hl
  refine tk_aload_n C hl 0 dX4_takes_0 rfl ?_
  refine tk_gi C hR hw rfl in_X4 (by decide) q2057 (fun _ h => h) dX4_takes_1 (fun x1 hw => ?_)
  refine lv_if_ge (tgt := 34) C.hx C.hb dX4_takes_4 (by decide) (fun c4 => ?_) (fun c4 => ?_)
  · replace hw := hw.1 c4
    exact wk_X4_takes_b34 C hr hmn hnx hfr hRl σ _ _ _ hw hR hS (tk_sub hl [] rfl)
  · replace hw := hw.2 c4
    refine tk_aload_n C hl 0 dX4_takes_7 rfl ?_
    refine tk_gi C hR hw rfl in_X4 (by decide) q2056 (fun _ h => h) dX4_takes_8 (fun x2 hw => ?_)
    refine tk_aload_n C hl 0 dX4_takes_11 rfl ?_
    refine tk_gi C hR hw rfl in_X4 (by decide) q2055 (fun _ h => h) dX4_takes_12 (fun x3 hw => ?_)
    refine lv_icmp_eq (tgt := 34) C.hx C.hb dX4_takes_15 (by decide) (fun c15 => ?_) (fun c15 => ?_)
    · replace hw := hw.1 c15
      exact wk_X4_takes_b34 C hr hmn hnx hfr hRl σ _ _ _ hw hR hS (tk_sub hl [] rfl)
    · replace hw := hw.2 c15
      refine tk_aload_n C hl 0 dX4_takes_18 rfl ?_
      obtain ⟨hv, hw⟩ := hw
      refine tw_cbi C hS (tk_runV (As := []) C hR hS (wk_X4_sign l C.hst G (R.frames - 1) (by omega) _ _ _ σ hw) hv rfl q2173 q2175 qs26 q74 q2176 pd_X4_sign ⟨by omega, by omega⟩ hl.1 rfl (tw_r8 [] (Nat.le_of_ble_eq_true rfl)) dX4_takes_19) (fun E q σ H locs hX hR hS hi => tw_out C hR hS (fun x hx => (hnx x hx).elim) hi hX) (fun x4 σ H locs hw hR hS => ?_)
      refine tk_iload_n C hl 1 dX4_takes_22 rfl ?_
      refine lv_icmp_lt (tgt := 34) C.hx C.hb dX4_takes_23 (by decide) (fun c23 => ?_) (fun c23 => ?_)
      · replace hw := hw.1 c23
        exact wk_X4_takes_b34 C hr hmn hnx hfr hRl σ _ _ _ hw hR hS (tk_sub hl [] rfl)
      · replace hw := hw.2 c23
        refine tk_aload_n C hl 0 dX4_takes_26 rfl ?_
        obtain ⟨hv, hw⟩ := hw
        refine tw_cbi C hS (tk_runV (As := []) C hR hS (wk_X4_sign l C.hst G (R.frames - 1) (by omega) _ _ _ σ hw) hv rfl q2173 q2175 qs26 q74 q2176 pd_X4_sign ⟨by omega, by omega⟩ hl.1 rfl (tw_r8 [] (Nat.le_of_ble_eq_true rfl)) dX4_takes_27) (fun E q σ H locs hX hR hS hi => tw_out C hR hS (fun x hx => (hnx x hx).elim) hi hX) (fun x5 σ H locs hw hR hS => ?_)
        refine tk_iload_n C hl 2 dX4_takes_30 rfl ?_
        refine lv_icmp_le (tgt := 36) C.hx C.hb dX4_takes_31 (by decide) (fun c31 => ?_) (fun c31 => ?_)
        · replace hw := hw.1 c31
          refine tk_aload_n C hl 0 dX4_takes_36 rfl ?_
          refine tw_dup (x := .inr l0) C.hx C.hb dX4_takes_37 ?_
          refine tk_gi C hR hw rfl in_X4 (by decide) q2056 (fun _ h => h) dX4_takes_38 (fun x6 hw => ?_)
          refine lv_iconst (v := 1) C.hx C.hb dX4_takes_41 (by decide) ?_
          refine lv_iadd C.hx C.hb dX4_takes_42 ?_
          refine tk_p (x := .inl (x6 + 1)) C hR hS hw (by decide) rfl in_X4 tyX4 tyX4_ok nmX4 (by decide) q2056 (fun _ h => h) rfl (tw_ni _) dX4_takes_43 (fun σ H locs hw hR hS => ?_)
          refine lv_iconst (v := 1) C.hx C.hb dX4_takes_46 (by decide) ?_
          obtain ⟨hok, hw⟩ := hw
          exact tw_iret C hR hS hr hok dX4_takes_47 hw
        · replace hw := hw.2 c31
          exact wk_X4_takes_b34 C hr hmn hnx hfr hRl σ _ _ _ hw hR hS (tk_sub hl [] rfl)
-- TreeDifferModel.isFaulty()V
def w_X4_isFaulty_b19 (Q : Tst → Prop) (X : String → Nat → Tst → Prop) (s0 : Option Nat) (s1 : Int32) (σ : Tst) : Prop := w_p σ s0 cX4 5 (.inl s1) fun σ => Q σ
def w_X4_isFaulty (l0 : Option Nat) (Q : Tst → Prop) (X : String → Nat → Tst → Prop) (σ : Tst) : Prop := w_gi σ l0 cX4 5 fun x1 => w_if (0 ≤ x1) (w_gi σ l0 cX4 5 fun x2 => w_X4_isFaulty_b19 Q X l0 x2 σ) (w_gi σ l0 cX4 4 fun x3 => w_X4_isFaulty_b19 Q X l0 x3 σ)
set_option maxHeartbeats 4000000 in
theorem wk_X4_isFaulty_b19  (C : tw_C p l R s m args meth c G cX4_isFaulty 1 yX4_isFaulty.cls) (hr : meth.sig.returnType = none) (hmn : meth.name = yX4_isFaulty.name) (hnx : (∀ x ∈ c.exceptionTable.toList, False)) (hfr : 1 ≤ R.frames) (hRl : R.locals = 40 * R.frames) {Q : Tst → Prop} {X : String → Nat → Tst → Prop}  (s0 : Option Nat) (s1 : Int32) (σ : Tst) (H : Heap) (locs : List Loc) (ls : Array Slot) (hw : w_X4_isFaulty_b19 Q X s0 s1 σ) (hR : tw_R G σ H) (hS : va_S (tw_A G) s.heap H locs) (hl : tw_l ls 1 []) : tw_W p l e R s m args below meth c σ H locs (tw_E below G (tw_Qv G Q) X args s R) (F0 m 19 ls [.int s1, va_rf s0]) := by
  unfold w_X4_isFaulty_b19 at hw
  refine tk_p (x := .inl s1) C hR hS hw (by decide) rfl in_X4 tyX4 tyX4_ok nmX4 (by decide) q2057 (fun _ h => h) rfl (tw_ni _) dX4_isFaulty_19 (fun σ H locs hw hR hS => ?_)
  exact tw_vret C hR hS hr dX4_isFaulty_22 hw
set_option maxHeartbeats 4000000 in
theorem wk_X4_isFaulty (l : Launch) (hl0 : l.stackTraces = false) (G : Tgl) (fr : Nat)  (hfr : 1 ≤ fr) (l0 : Option Nat) (Q : Tst → Prop) (X : String → Nat → Tst → Prop) (σ : Tst) (hw : w_X4_isFaulty l0 Q X σ) : tw_M l yX4_isFaulty (ws_ yX4_isFaulty cX4_isFaulty 1 none) fr (40 * fr) G σ [.inr l0] (tw_Qv G Q) X := by
  unfold w_X4_isFaulty at hw
  refine tw_of (ret := none) hl0 (by decide) (Nat.le_of_ble_eq_true rfl) (fun p e R s m args below meth c hRf hRl C hr hmn hnx hR hS ls hl => ?_)
  have hfr : 1 ≤ R.frames := by rw [hRf]; exact hfr
  have hRl : R.locals = 40 * R.frames := by rw [hRl, hRf]
  have hl : tw_l ls 1 [(0, .inr l0)] := hl
  refine tk_aload_n C hl 0 dX4_isFaulty_0 rfl ?_
  refine tk_aload_n C hl 0 dX4_isFaulty_1 rfl ?_
  refine tk_gi C hR hw rfl in_X4 (by decide) q2057 (fun _ h => h) dX4_isFaulty_2 (fun x1 hw => ?_)
  refine lv_if_ge (tgt := 15) C.hx C.hb dX4_isFaulty_5 (by decide) (fun c5 => ?_) (fun c5 => ?_)
  · replace hw := hw.1 c5
    refine tk_aload_n C hl 0 dX4_isFaulty_15 rfl ?_
    refine tk_gi C hR hw rfl in_X4 (by decide) q2057 (fun _ h => h) dX4_isFaulty_16 (fun x2 hw => ?_)
    exact wk_X4_isFaulty_b19 C hr hmn hnx hfr hRl _ _ σ _ _ _ hw hR hS (tk_sub hl [] rfl)
  · replace hw := hw.2 c5
    refine tk_aload_n C hl 0 dX4_isFaulty_8 rfl ?_
    refine tk_gi C hR hw rfl in_X4 (by decide) q2056 (fun _ h => h) dX4_isFaulty_9 (fun x3 hw => ?_)
    refine lv_goto (tgt := 19) C.hx C.hb dX4_isFaulty_12 (by decide) ?_
    exact wk_X4_isFaulty_b19 C hr hmn hnx hfr hRl _ _ σ _ _ _ hw hR hS (tk_sub hl [] rfl)
-- TreeDifferModel$Tree.isUsed(III)Z
def w_X5_isUsed_b48 (k5 : Option Nat → Int32 → Int32 → Int32 → Int32 → Tst → Prop) (Q : Int32 → Tst → Prop) (X : String → Nat → Tst → Prop) (l0 : Option Nat) (l1 : Int32) (l2 : Int32) (l3 : Int32) (l4 : Int32) (σ : Tst) : Prop := k5 l0 l1 l2 l3 (l4 + 1) σ
def w_X5_isUsed_b5 (Q : Int32 → Tst → Prop) (X : String → Nat → Tst → Prop) : Nat → Option Nat → Int32 → Int32 → Int32 → Int32 → Tst → Prop
  | 0, _, _, _, _, _, _ => False
  | n + 1, l0, l1, l2, l3, l4, σ => w_gi σ l0 cX5 4 fun x1 => w_if (x1 ≤ l4) (narrow .boolean (.int 0) = .int 0 ∧ Q 0 σ) (w_if (l4 = l3) (w_X5_isUsed_b48 (w_X5_isUsed_b5 Q X n) Q X l0 l1 l2 l3 l4 σ) (w_gr σ l0 cX5 3 fun x2 => w_li σ x2 l4 fun x3 => w_if (x3 = l1) (w_gr σ l0 cX5 1 fun x4 => w_li σ x4 l4 fun x5 => w_if (x5 = l2) (w_if (l2 = 0) (w_X5_isUsed_b48 (w_X5_isUsed_b5 Q X n) Q X l0 l1 l2 l3 l4 σ) (narrow .boolean (.int 1) = .int 1 ∧ Q 1 σ)) (w_X5_isUsed_b48 (w_X5_isUsed_b5 Q X n) Q X l0 l1 l2 l3 l4 σ)) (w_X5_isUsed_b48 (w_X5_isUsed_b5 Q X n) Q X l0 l1 l2 l3 l4 σ)))
def w_X5_isUsed (l0 : Option Nat) (l1 : Int32) (l2 : Int32) (l3 : Int32) (Q : Int32 → Tst → Prop) (X : String → Nat → Tst → Prop) (σ : Tst) : Prop := ∃ z, w_X5_isUsed_b5 Q X z l0 l1 l2 l3 (l1 + 1) σ
set_option maxHeartbeats 4000000 in
theorem wk_X5_isUsed_b48  (C : tw_C p l R s m args meth c G cX5_isUsed 5 yX5_isUsed.cls) (hr : meth.sig.returnType = (some .boolean)) (hmn : meth.name = yX5_isUsed.name) (hnx : (∀ x ∈ c.exceptionTable.toList, False)) (hfr : 1 ≤ R.frames) (hRl : R.locals = 40 * R.frames) {Q : Int32 → Tst → Prop} {X : String → Nat → Tst → Prop}  {k5 : Option Nat → Int32 → Int32 → Int32 → Int32 → Tst → Prop} (hk5 : ∀ (l0 : Option Nat) (l1 : Int32) (l2 : Int32) (l3 : Int32) (l4 : Int32) (σ : Tst) (H : Heap) (locs : List Loc) (ls : Array Slot), k5 l0 l1 l2 l3 l4 σ → tw_R G σ H → va_S (tw_A G) s.heap H locs → tw_l ls 5 [(0, .inr l0), (1, .inl l1), (2, .inl l2), (3, .inl l3), (4, .inl l4)] → tw_W p l e R s m args below meth c σ H locs (tw_E below G (tw_Qi G Q) X args s R) (F0 m 5 ls [])) (l0 : Option Nat) (l1 : Int32) (l2 : Int32) (l3 : Int32) (l4 : Int32) (σ : Tst) (H : Heap) (locs : List Loc) (ls : Array Slot) (hw : w_X5_isUsed_b48 k5 Q X l0 l1 l2 l3 l4 σ) (hR : tw_R G σ H) (hS : va_S (tw_A G) s.heap H locs) (hl : tw_l ls 5 [(0, .inr l0), (1, .inl l1), (2, .inl l2), (3, .inl l3), (4, .inl l4)]) : tw_W p l e R s m args below meth c σ H locs (tw_E below G (tw_Qi G Q) X args s R) (F0 m 48 ls []) := by
  unfold w_X5_isUsed_b48 at hw
  refine tk_iinc (L' := [(4, .inl (l4 + 1)), (0, .inr l0), (1, .inl l1), (2, .inl l2), (3, .inl l3)]) (y := (l4 + 1)) C hl 4 dX5_isUsed_48 rfl rfl (by decide) rfl (fun ls hl => ?_)
  refine lv_goto (tgt := 5) C.hx C.hb dX5_isUsed_51 (by decide) ?_
  exact hk5 _ _ _ _ _ σ _ _ _ hw hR hS (tk_sub hl [1, 2, 3, 4, 0] rfl)
set_option maxHeartbeats 4000000 in
theorem wk_X5_isUsed_b5  (C : tw_C p l R s m args meth c G cX5_isUsed 5 yX5_isUsed.cls) (hr : meth.sig.returnType = (some .boolean)) (hmn : meth.name = yX5_isUsed.name) (hnx : (∀ x ∈ c.exceptionTable.toList, False)) (hfr : 1 ≤ R.frames) (hRl : R.locals = 40 * R.frames) {Q : Int32 → Tst → Prop} {X : String → Nat → Tst → Prop}  : ∀ (n : Nat) (l0 : Option Nat) (l1 : Int32) (l2 : Int32) (l3 : Int32) (l4 : Int32) (σ : Tst) (H : Heap) (locs : List Loc) (ls : Array Slot), w_X5_isUsed_b5 Q X n l0 l1 l2 l3 l4 σ → tw_R G σ H → va_S (tw_A G) s.heap H locs → tw_l ls 5 [(0, .inr l0), (1, .inl l1), (2, .inl l2), (3, .inl l3), (4, .inl l4)] → tw_W p l e R s m args below meth c σ H locs (tw_E below G (tw_Qi G Q) X args s R) (F0 m 5 ls []) := by
  intro n
  induction n with
  | zero => intro l0 l1 l2 l3 l4 σ H locs ls hw; exact False.elim hw
  | succ n hk5 =>
    intro l0 l1 l2 l3 l4 σ H locs ls hw hR hS hl
    rw [w_X5_isUsed_b5] at hw
    refine tk_iload C hl 4 dX5_isUsed_5 rfl ?_
    refine tk_aload_n C hl 0 dX5_isUsed_7 rfl ?_
    refine tk_gi C hR hw rfl in_X5 (by decide) q2026 (fun _ h => h) dX5_isUsed_8 (fun x1 hw => ?_)
    refine lv_icmp_ge (tgt := 54) C.hx C.hb dX5_isUsed_11 (by decide) (fun c11 => ?_) (fun c11 => ?_)
    · replace hw := hw.1 c11
      refine lv_iconst (v := 0) C.hx C.hb dX5_isUsed_54 (by decide) ?_
      obtain ⟨hok, hw⟩ := hw
      exact tw_iret C hR hS hr hok dX5_isUsed_55 hw
    · replace hw := hw.2 c11
      refine tk_iload C hl 4 dX5_isUsed_14 rfl ?_
      refine tk_iload_n C hl 3 dX5_isUsed_16 rfl ?_
      refine lv_icmp_eq (tgt := 48) C.hx C.hb dX5_isUsed_17 (by decide) (fun c17 => ?_) (fun c17 => ?_)
      · replace hw := hw.1 c17
        exact wk_X5_isUsed_b48 C hr hmn hnx hfr hRl hk5 _ _ _ _ _ σ _ _ _ hw hR hS (tk_sub hl [0, 1, 2, 3, 4] rfl)
      · replace hw := hw.2 c17
        refine tk_aload_n C hl 0 dX5_isUsed_20 rfl ?_
        refine tk_gr C hR hw rfl in_X5 (by decide) q2024 (fun _ h => h) dX5_isUsed_21 (fun x2 hw => ?_)
        refine tk_iload C hl 4 dX5_isUsed_24 rfl ?_
        refine tk_li C hR hw dX5_isUsed_26 (fun x3 hw => ?_)
        refine tk_iload_n C hl 1 dX5_isUsed_27 rfl ?_
        refine lv_icmp_ne (tgt := 48) C.hx C.hb dX5_isUsed_28 (by decide) (fun c28 => ?_) (fun c28 => ?_)
        · replace hw := hw.2 c28
          exact wk_X5_isUsed_b48 C hr hmn hnx hfr hRl hk5 _ _ _ _ _ σ _ _ _ hw hR hS (tk_sub hl [0, 1, 2, 3, 4] rfl)
        · replace hw := hw.1 c28
          refine tk_aload_n C hl 0 dX5_isUsed_31 rfl ?_
          refine tk_gr C hR hw rfl in_X5 (by decide) q2020 (fun _ h => h) dX5_isUsed_32 (fun x4 hw => ?_)
          refine tk_iload C hl 4 dX5_isUsed_35 rfl ?_
          refine tk_li C hR hw dX5_isUsed_37 (fun x5 hw => ?_)
          refine tk_iload_n C hl 2 dX5_isUsed_38 rfl ?_
          refine lv_icmp_ne (tgt := 48) C.hx C.hb dX5_isUsed_39 (by decide) (fun c39 => ?_) (fun c39 => ?_)
          · replace hw := hw.2 c39
            exact wk_X5_isUsed_b48 C hr hmn hnx hfr hRl hk5 _ _ _ _ _ σ _ _ _ hw hR hS (tk_sub hl [0, 1, 2, 3, 4] rfl)
          · replace hw := hw.1 c39
            refine tk_iload_n C hl 2 dX5_isUsed_42 rfl ?_
            refine lv_if_eq (tgt := 48) C.hx C.hb dX5_isUsed_43 (by decide) (fun c43 => ?_) (fun c43 => ?_)
            · replace hw := hw.1 c43
              exact wk_X5_isUsed_b48 C hr hmn hnx hfr hRl hk5 _ _ _ _ _ σ _ _ _ hw hR hS (tk_sub hl [0, 1, 2, 3, 4] rfl)
            · replace hw := hw.2 c43
              refine lv_iconst (v := 1) C.hx C.hb dX5_isUsed_46 (by decide) ?_
              obtain ⟨hok, hw⟩ := hw
              exact tw_iret C hR hS hr hok dX5_isUsed_47 hw
set_option maxHeartbeats 4000000 in
theorem wk_X5_isUsed (l : Launch) (hl0 : l.stackTraces = false) (G : Tgl) (fr : Nat)  (hfr : 1 ≤ fr) (l0 : Option Nat) (l1 : Int32) (l2 : Int32) (l3 : Int32) (Q : Int32 → Tst → Prop) (X : String → Nat → Tst → Prop) (σ : Tst) (hw : w_X5_isUsed l0 l1 l2 l3 Q X σ) : tw_M l yX5_isUsed (ws_ yX5_isUsed cX5_isUsed 5 (some .boolean)) fr (40 * fr) G σ [.inr l0, .inl l1, .inl l2, .inl l3] (tw_Qi G Q) X := by
  unfold w_X5_isUsed at hw
  refine tw_of (ret := (some .boolean)) hl0 (by decide) (Nat.le_of_ble_eq_true rfl) (fun p e R s m args below meth c hRf hRl C hr hmn hnx hR hS ls hl => ?_)
  have hfr : 1 ≤ R.frames := by rw [hRf]; exact hfr
  have hRl : R.locals = 40 * R.frames := by rw [hRl, hRf]
  have hl : tw_l ls 5 [(0, .inr l0), (1, .inl l1), (2, .inl l2), (3, .inl l3)] := hl
  refine tk_iload_n C hl 1 dX5_isUsed_0 rfl ?_
  refine lv_iconst (v := 1) C.hx C.hb dX5_isUsed_1 (by decide) ?_
  refine lv_iadd C.hx C.hb dX5_isUsed_2 ?_
  refine tk_istore (L' := [(4, .inl (l1 + 1)), (0, .inr l0), (1, .inl l1), (2, .inl l2), (3, .inl l3)]) C hl dX5_isUsed_3 (by decide) rfl (fun ls hl => ?_)
  obtain ⟨z, hw⟩ := hw
  exact wk_X5_isUsed_b5 C hr hmn hnx hfr hRl z _ _ _ _ _ σ _ _ _ hw hR hS (tk_sub hl [1, 2, 3, 4, 0] rfl)
-- TreeDifferModel.wants(Z)V
def w_X4_wants_b8 (Q : Tst → Prop) (X : String → Nat → Tst → Prop) (σ : Tst) : Prop := Q σ
def w_X4_wants (l0 : Option Nat) (l1 : Int32) (Q : Tst → Prop) (X : String → Nat → Tst → Prop) (σ : Tst) : Prop := w_if (l1 = 0) (w_rc σ l0 cX4 <| w_X4_isFaulty l0 (fun σ => w_X4_wants_b8 Q X σ) X σ) (w_X4_wants_b8 Q X σ)
set_option maxHeartbeats 4000000 in
theorem wk_X4_wants_b8  (C : tw_C p l R s m args meth c G cX4_wants 2 yX4_wants.cls) (hr : meth.sig.returnType = none) (hmn : meth.name = yX4_wants.name) (hnx : (∀ x ∈ c.exceptionTable.toList, False)) (hfr : 2 ≤ R.frames) (hRl : R.locals = 40 * R.frames) {Q : Tst → Prop} {X : String → Nat → Tst → Prop}   (σ : Tst) (H : Heap) (locs : List Loc) (ls : Array Slot) (hw : w_X4_wants_b8 Q X  σ) (hR : tw_R G σ H) (hS : va_S (tw_A G) s.heap H locs) (hl : tw_l ls 2 []) : tw_W p l e R s m args below meth c σ H locs (tw_E below G (tw_Qv G Q) X args s R) (F0 m 8 ls []) := by
  unfold w_X4_wants_b8 at hw
  exact tw_vret C hR hS hr dX4_wants_8 hw
set_option maxHeartbeats 4000000 in
theorem wk_X4_wants (l : Launch) (hl0 : l.stackTraces = false) (G : Tgl) (fr : Nat)  (hfr : 2 ≤ fr) (l0 : Option Nat) (l1 : Int32) (Q : Tst → Prop) (X : String → Nat → Tst → Prop) (σ : Tst) (hw : w_X4_wants l0 l1 Q X σ) : tw_M l yX4_wants (ws_ yX4_wants cX4_wants 2 none) fr (40 * fr) G σ [.inr l0, .inl l1] (tw_Qv G Q) X := by
  unfold w_X4_wants at hw
  refine tw_of (ret := none) hl0 (by decide) (Nat.le_of_ble_eq_true rfl) (fun p e R s m args below meth c hRf hRl C hr hmn hnx hR hS ls hl => ?_)
  have hfr : 2 ≤ R.frames := by rw [hRf]; exact hfr
  have hRl : R.locals = 40 * R.frames := by rw [hRl, hRf]
  have hl : tw_l ls 2 [(0, .inr l0), (1, .inl l1)] := hl
  refine tk_iload_n C hl 1 dX4_wants_0 rfl ?_
  refine lv_if_ne (tgt := 8) C.hx C.hb dX4_wants_1 (by decide) (fun c1 => ?_) (fun c1 => ?_)
  · replace hw := hw.2 c1
    exact wk_X4_wants_b8 C hr hmn hnx hfr hRl σ _ _ _ hw hR hS (tk_sub hl [] rfl)
  · replace hw := hw.1 c1
    refine tk_aload_n C hl 0 dX4_wants_4 rfl ?_
    obtain ⟨hv, hw⟩ := hw
    refine tw_cbv C hS (tk_runV (As := []) C hR hS (wk_X4_isFaulty l C.hst G (R.frames - 1) (by omega) _ _ _ σ hw) hv rfl q2181 q2183 qs28 q74 q2184 pd_X4_isFaulty ⟨by omega, by omega⟩ hl.1 rfl (tw_r8 [] (Nat.le_of_ble_eq_true rfl)) dX4_wants_5) (fun E q σ H locs hX hR hS hi => tw_out C hR hS (fun x hx => (hnx x hx).elim) hi hX) (fun σ H locs hw hR hS => ?_)
    exact wk_X4_wants_b8 C hr hmn hnx hfr hRl σ _ _ _ hw hR hS (tk_sub hl [] rfl)
-- TreeDifferModel.readsNode(I)V
def w_X4_readsNode_b36 (rf_X4_readsNode : (Option Nat) → Int32 → (Tst → Prop) → (String → Nat → Tst → Prop) → Tst → Prop) (Q : Tst → Prop) (X : String → Nat → Tst → Prop) (l0 : Option Nat) (σ : Tst) : Prop := w_rc σ l0 cX4 <| w_X4_isFaulty l0 (fun σ => Q σ) X σ
def w_X4_readsNode_b280 (rf_X4_readsNode : (Option Nat) → Int32 → (Tst → Prop) → (String → Nat → Tst → Prop) → Tst → Prop) (Q : Tst → Prop) (X : String → Nat → Tst → Prop) (σ : Tst) : Prop := Q σ
def w_X4_readsNode_b233 (rf_X4_readsNode : (Option Nat) → Int32 → (Tst → Prop) → (String → Nat → Tst → Prop) → Tst → Prop) (Q : Tst → Prop) (X : String → Nat → Tst → Prop) : Nat → Option Nat → Int32 → Tst → Prop
  | 0, _, _, _ => False
  | n + 1, l0, l3, σ => w_gi σ l0 cX4 5 fun x1 => w_if (0 ≤ x1) (w_X4_readsNode_b280 rf_X4_readsNode Q X σ) (w_rc σ l0 cX4 <| w_X4_takes l0 41 41 (fun x2 σ => w_if (x2 = 0) (w_rc σ l0 cX4 <| w_X4_sign l0 (fun x3 σ => w_X4_isBetween x3 97 122 (fun x4 σ => w_if (x4 = 0) (w_rc σ l0 cX4 <| w_X4_isFaulty l0 (fun σ => (w_X4_readsNode_b233 rf_X4_readsNode Q X n) l0 l3 σ) X σ) (w_rc σ l0 cX4 <| rf_X4_readsNode l0 l3 (fun σ => (w_X4_readsNode_b233 rf_X4_readsNode Q X n) l0 l3 σ) X σ)) X σ) X σ) (w_X4_readsNode_b280 rf_X4_readsNode Q X σ)) X σ)
def w_X4_readsNode_b216 (rf_X4_readsNode : (Option Nat) → Int32 → (Tst → Prop) → (String → Nat → Tst → Prop) → Tst → Prop) (Q : Tst → Prop) (X : String → Nat → Tst → Prop) (l0 : Option Nat) (l3 : Int32) (σ : Tst) : Prop := w_rc σ l0 cX4 <| w_X4_takes l0 40 40 (fun x1 σ => w_if (x1 = 0) (Q σ) (w_rc σ l0 cX4 <| rf_X4_readsNode l0 l3 (fun σ => ∃ z, w_X4_readsNode_b233 rf_X4_readsNode Q X z l0 l3 σ) X σ)) X σ
def w_X4_readsNode_b215 (rf_X4_readsNode : (Option Nat) → Int32 → (Tst → Prop) → (String → Nat → Tst → Prop) → Tst → Prop) (Q : Tst → Prop) (X : String → Nat → Tst → Prop) (l0 : Option Nat) (l3 : Int32) (s0 : Option Nat) (s1 : Int32) (s2 : Int32) (σ : Tst) : Prop := w_si σ s0 s1 s2 fun σ => w_X4_readsNode_b216 rf_X4_readsNode Q X l0 l3 σ
def w_X4_readsNode_b142 (rf_X4_readsNode : (Option Nat) → Int32 → (Tst → Prop) → (String → Nat → Tst → Prop) → Tst → Prop) (Q : Tst → Prop) (X : String → Nat → Tst → Prop) (l0 : Option Nat) (l3 : Int32) (σ : Tst) : Prop := w_rc σ l0 cX4 <| w_X4_takes l0 61 61 (fun x1 σ => w_if (x1 = 0) (w_X4_readsNode_b216 rf_X4_readsNode Q X l0 l3 σ) (w_rc σ l0 cX4 <| w_X4_sign l0 (fun x2 σ => w_rc σ l0 cX4 <| w_X4_takes l0 48 57 (fun x3 σ => w_rc σ l0 cX4 <| w_X4_wants l0 x3 (fun σ => w_rc σ l0 cX4 <| w_X4_sign l0 (fun x5 σ => w_gr σ l0 cX4 8 fun x6 => w_gr σ x6 cX5 2 fun x7 => w_rc σ l0 cX4 <| w_X4_takes l0 48 57 (fun x8 σ => w_if (x8 = 0) (w_X4_readsNode_b215 rf_X4_readsNode Q X l0 l3 x7 l3 (x2 - 48) σ) (w_X4_readsNode_b215 rf_X4_readsNode Q X l0 l3 x7 l3 ((10 * (x2 - 48)) + (x5 - 48)) σ)) X σ) X σ) X σ) X σ) X σ)) X σ
def w_X4_readsNode_b128 (rf_X4_readsNode : (Option Nat) → Int32 → (Tst → Prop) → (String → Nat → Tst → Prop) → Tst → Prop) (Q : Tst → Prop) (X : String → Nat → Tst → Prop) (l0 : Option Nat) (l3 : Int32) (l4 : Int32) (s0 : Option Nat) (s1 : Int32) (σ : Tst) : Prop := w_rc σ s0 cX4 <| w_X4_wants s0 s1 (fun σ => w_gr σ l0 cX4 8 fun x2 => w_gr σ x2 cX5 1 fun x3 => w_si σ x3 l3 l4 fun σ => w_X4_readsNode_b142 rf_X4_readsNode Q X l0 l3 σ) X σ
def w_X4_readsNode_b127 (rf_X4_readsNode : (Option Nat) → Int32 → (Tst → Prop) → (String → Nat → Tst → Prop) → Tst → Prop) (Q : Tst → Prop) (X : String → Nat → Tst → Prop) (l0 : Option Nat) (l3 : Int32) (l4 : Int32) (s0 : Option Nat) (σ : Tst) : Prop := w_X4_readsNode_b128 rf_X4_readsNode Q X l0 l3 l4 s0 0 σ
def w_X4_readsNode_b104 (rf_X4_readsNode : (Option Nat) → Int32 → (Tst → Prop) → (String → Nat → Tst → Prop) → Tst → Prop) (Q : Tst → Prop) (X : String → Nat → Tst → Prop) (l0 : Option Nat) (l3 : Int32) (l4 : Int32) (s0 : Int32) (σ : Tst) : Prop := w_if (s0 = 0) (w_X4_readsNode_b127 rf_X4_readsNode Q X l0 l3 l4 l0 σ) (w_rc σ l0 cX4 <| w_X4_takes l0 49 57 (fun x1 σ => w_if (x1 = 0) (w_X4_readsNode_b127 rf_X4_readsNode Q X l0 l3 l4 l0 σ) (w_X4_readsNode_b128 rf_X4_readsNode Q X l0 l3 l4 l0 1 σ)) X σ)
def w_X4_readsNode : Nat → Option Nat → Int32 → (Tst → Prop) → (String → Nat → Tst → Prop) → Tst → Prop
  | 0, _, _, _, _, _ => False
  | d + 1, l0, l1, Q, X, σ => w_gi σ l0 cX4 5 fun x1 => w_if (x1 < 0) (w_rc σ l0 cX4 <| w_X4_sign l0 (fun x2 σ => w_gr σ l0 cX4 8 fun x3 => w_gi σ x3 cX5 4 fun x4 => w_if (x4 = 20) (w_X4_readsNode_b36 (w_X4_readsNode d) Q X l0 σ) (w_rc σ l0 cX4 <| w_X4_takes l0 97 122 (fun x5 σ => w_if (x5 = 0) (w_X4_readsNode_b36 (w_X4_readsNode d) Q X l0 σ) (w_gr σ l0 cX4 8 fun x6 => w_gi σ x6 cX5 4 fun x7 => w_gr σ l0 cX4 8 fun x8 => w_rc σ x8 cX5 <| w_X5_adds x8 x2 0 0 l1 (fun σ => w_if (l1 = (-1)) (w_X4_readsNode_b142 (w_X4_readsNode d) Q X l0 x7 σ) (w_rc σ l0 cX4 <| w_X4_takes l0 35 35 (fun x10 σ => w_if (x10 = 0) (w_X4_readsNode_b142 (w_X4_readsNode d) Q X l0 x7 σ) (w_rc σ l0 cX4 <| w_X4_sign l0 (fun x11 σ => w_gr σ l0 cX4 8 fun x12 => w_rc σ x12 cX5 <| w_X5_isUsed x12 l1 (x11 - 48) x7 (fun x13 σ => w_if (x13 = 0) (w_X4_readsNode_b104 (w_X4_readsNode d) Q X l0 x7 (x11 - 48) 1 σ) (w_X4_readsNode_b104 (w_X4_readsNode d) Q X l0 x7 (x11 - 48) 0 σ)) X σ) X σ)) X σ)) X σ)) X σ)) X σ) (Q σ)
set_option maxHeartbeats 4000000 in
theorem wk_X4_readsNode_b36 {rf_X4_readsNode : (Option Nat) → Int32 → (Tst → Prop) → (String → Nat → Tst → Prop) → Tst → Prop} {frf_X4_readsNode : Nat}  (C : tw_C p l R s m args meth c G cX4_readsNode 6 yX4_readsNode.cls) (hr : meth.sig.returnType = none) (hmn : meth.name = yX4_readsNode.name) (hnx : (∀ x ∈ c.exceptionTable.toList, False)) (hfr : 3 ≤ R.frames ∧ frf_X4_readsNode + 1 ≤ R.frames) (hRl : R.locals = 40 * R.frames) {Q : Tst → Prop} {X : String → Nat → Tst → Prop} (hrf_X4_readsNode : ∀ fr : Nat, frf_X4_readsNode ≤ fr → ∀ (a0 : Option Nat) (a1 : Int32) (Q : Tst → Prop) (X : String → Nat → Tst → Prop) (σ : Tst), rf_X4_readsNode a0 a1 Q X σ → tw_M l yX4_readsNode (ws_ yX4_readsNode cX4_readsNode 6 none) fr (40 * fr) G σ [.inr a0, .inl a1] (tw_Qv G Q) X) (l0 : Option Nat) (σ : Tst) (H : Heap) (locs : List Loc) (ls : Array Slot) (hw : w_X4_readsNode_b36 rf_X4_readsNode Q X l0 σ) (hR : tw_R G σ H) (hS : va_S (tw_A G) s.heap H locs) (hl : tw_l ls 6 [(0, .inr l0)]) : tw_W p l e R s m args below meth c σ H locs (tw_E below G (tw_Qv G Q) X args s R) (F0 m 36 ls []) := by
  unfold w_X4_readsNode_b36 at hw
  refine tk_aload_n C hl 0 dX4_readsNode_36 rfl ?_
  obtain ⟨hv, hw⟩ := hw
  refine tw_cbv C hS (tk_runV (As := []) C hR hS (wk_X4_isFaulty l C.hst G (R.frames - 1) (by omega) _ _ _ σ hw) hv rfl q2181 q2183 qs28 q74 q2184 pd_X4_isFaulty ⟨by omega, by omega⟩ hl.1 rfl (tw_r8 [] (Nat.le_of_ble_eq_true rfl)) dX4_readsNode_37) (fun E q σ H locs hX hR hS hi => tw_out C hR hS (fun x hx => (hnx x hx).elim) hi hX) (fun σ H locs hw hR hS => ?_)
  exact tw_vret C hR hS hr dX4_readsNode_40 hw
set_option maxHeartbeats 4000000 in
theorem wk_X4_readsNode_b280 {rf_X4_readsNode : (Option Nat) → Int32 → (Tst → Prop) → (String → Nat → Tst → Prop) → Tst → Prop} {frf_X4_readsNode : Nat}  (C : tw_C p l R s m args meth c G cX4_readsNode 6 yX4_readsNode.cls) (hr : meth.sig.returnType = none) (hmn : meth.name = yX4_readsNode.name) (hnx : (∀ x ∈ c.exceptionTable.toList, False)) (hfr : 3 ≤ R.frames ∧ frf_X4_readsNode + 1 ≤ R.frames) (hRl : R.locals = 40 * R.frames) {Q : Tst → Prop} {X : String → Nat → Tst → Prop} (hrf_X4_readsNode : ∀ fr : Nat, frf_X4_readsNode ≤ fr → ∀ (a0 : Option Nat) (a1 : Int32) (Q : Tst → Prop) (X : String → Nat → Tst → Prop) (σ : Tst), rf_X4_readsNode a0 a1 Q X σ → tw_M l yX4_readsNode (ws_ yX4_readsNode cX4_readsNode 6 none) fr (40 * fr) G σ [.inr a0, .inl a1] (tw_Qv G Q) X)  (σ : Tst) (H : Heap) (locs : List Loc) (ls : Array Slot) (hw : w_X4_readsNode_b280 rf_X4_readsNode Q X  σ) (hR : tw_R G σ H) (hS : va_S (tw_A G) s.heap H locs) (hl : tw_l ls 6 []) : tw_W p l e R s m args below meth c σ H locs (tw_E below G (tw_Qv G Q) X args s R) (F0 m 280 ls []) := by
  unfold w_X4_readsNode_b280 at hw
  exact tw_vret C hR hS hr dX4_readsNode_280 hw
set_option maxHeartbeats 4000000 in
theorem wk_X4_readsNode_b233 {rf_X4_readsNode : (Option Nat) → Int32 → (Tst → Prop) → (String → Nat → Tst → Prop) → Tst → Prop} {frf_X4_readsNode : Nat}  (C : tw_C p l R s m args meth c G cX4_readsNode 6 yX4_readsNode.cls) (hr : meth.sig.returnType = none) (hmn : meth.name = yX4_readsNode.name) (hnx : (∀ x ∈ c.exceptionTable.toList, False)) (hfr : 3 ≤ R.frames ∧ frf_X4_readsNode + 1 ≤ R.frames) (hRl : R.locals = 40 * R.frames) {Q : Tst → Prop} {X : String → Nat → Tst → Prop} (hrf_X4_readsNode : ∀ fr : Nat, frf_X4_readsNode ≤ fr → ∀ (a0 : Option Nat) (a1 : Int32) (Q : Tst → Prop) (X : String → Nat → Tst → Prop) (σ : Tst), rf_X4_readsNode a0 a1 Q X σ → tw_M l yX4_readsNode (ws_ yX4_readsNode cX4_readsNode 6 none) fr (40 * fr) G σ [.inr a0, .inl a1] (tw_Qv G Q) X) : ∀ (n : Nat) (l0 : Option Nat) (l3 : Int32) (σ : Tst) (H : Heap) (locs : List Loc) (ls : Array Slot), w_X4_readsNode_b233 rf_X4_readsNode Q X n l0 l3 σ → tw_R G σ H → va_S (tw_A G) s.heap H locs → tw_l ls 6 [(0, .inr l0), (3, .inl l3)] → tw_W p l e R s m args below meth c σ H locs (tw_E below G (tw_Qv G Q) X args s R) (F0 m 233 ls []) := by
  intro n
  induction n with
  | zero => intro l0 l3 σ H locs ls hw; exact False.elim hw
  | succ n hk233 =>
    intro l0 l3 σ H locs ls hw hR hS hl
    rw [w_X4_readsNode_b233] at hw
    refine tk_aload_n C hl 0 dX4_readsNode_233 rfl ?_
    refine tk_gi C hR hw rfl in_X4 (by decide) q2057 (fun _ h => h) dX4_readsNode_234 (fun x1 hw => ?_)
    refine lv_if_ge (tgt := 280) C.hx C.hb dX4_readsNode_237 (by decide) (fun c237 => ?_) (fun c237 => ?_)
    · replace hw := hw.1 c237
      exact wk_X4_readsNode_b280 C hr hmn hnx hfr hRl hrf_X4_readsNode σ _ _ _ hw hR hS (tk_sub hl [] rfl)
    · replace hw := hw.2 c237
      refine tk_aload_n C hl 0 dX4_readsNode_240 rfl ?_
      refine lv_bipush (v := 41) C.hx C.hb dX4_readsNode_241 (by decide) ?_
      refine lv_bipush (v := 41) C.hx C.hb dX4_readsNode_243 (by decide) ?_
      obtain ⟨hv, hw⟩ := hw
      refine tw_cbi C hS (tk_runV (As := [.inl 41, .inl 41]) C hR hS (wk_X4_takes l C.hst G (R.frames - 1) (by omega) _ _ _ _ _ σ hw) hv rfl q2177 q2179 qs27 q74 q2180 pd_X4_takes ⟨by omega, by omega⟩ hl.1 rfl (tw_r8 [] (Nat.le_of_ble_eq_true rfl)) dX4_readsNode_245) (fun E q σ H locs hX hR hS hi => tw_out C hR hS (fun x hx => (hnx x hx).elim) hi hX) (fun x2 σ H locs hw hR hS => ?_)
      refine lv_if_ne (tgt := 280) C.hx C.hb dX4_readsNode_248 (by decide) (fun c248 => ?_) (fun c248 => ?_)
      · replace hw := hw.2 c248
        exact wk_X4_readsNode_b280 C hr hmn hnx hfr hRl hrf_X4_readsNode σ _ _ _ hw hR hS (tk_sub hl [] rfl)
      · replace hw := hw.1 c248
        refine tk_aload_n C hl 0 dX4_readsNode_251 rfl ?_
        obtain ⟨hv, hw⟩ := hw
        refine tw_cbi C hS (tk_runV (As := []) C hR hS (wk_X4_sign l C.hst G (R.frames - 1) (by omega) _ _ _ σ hw) hv rfl q2173 q2175 qs26 q74 q2176 pd_X4_sign ⟨by omega, by omega⟩ hl.1 rfl (tw_r8 [] (Nat.le_of_ble_eq_true rfl)) dX4_readsNode_252) (fun E q σ H locs hX hR hS hi => tw_out C hR hS (fun x hx => (hnx x hx).elim) hi hX) (fun x3 σ H locs hw hR hS => ?_)
        refine lv_bipush (v := 97) C.hx C.hb dX4_readsNode_255 (by decide) ?_
        refine lv_bipush (v := 122) C.hx C.hb dX4_readsNode_257 (by decide) ?_
        refine tw_cbi C hS (tw_runS (As := [.inl x3, .inl 97, .inl 122]) C hR hS (wk_X4_isBetween l C.hst G (R.frames - 1) (by omega) _ _ _ _ _ σ hw) q2166 q2167 q74 q2168 pd_X4_isBetween ⟨by omega, by omega⟩ hl.1 rfl (tw_r8 [] (Nat.le_of_ble_eq_true rfl)) dX4_readsNode_259) (fun E q σ H locs hX hR hS hi => tw_out C hR hS (fun x hx => (hnx x hx).elim) hi hX) (fun x4 σ H locs hw hR hS => ?_)
        refine lv_if_eq (tgt := 273) C.hx C.hb dX4_readsNode_262 (by decide) (fun c262 => ?_) (fun c262 => ?_)
        · replace hw := hw.1 c262
          refine tk_aload_n C hl 0 dX4_readsNode_273 rfl ?_
          obtain ⟨hv, hw⟩ := hw
          refine tw_cbv C hS (tk_runV (As := []) C hR hS (wk_X4_isFaulty l C.hst G (R.frames - 1) (by omega) _ _ _ σ hw) hv rfl q2181 q2183 qs28 q74 q2184 pd_X4_isFaulty ⟨by omega, by omega⟩ hl.1 rfl (tw_r8 [] (Nat.le_of_ble_eq_true rfl)) dX4_readsNode_274) (fun E q σ H locs hX hR hS hi => tw_out C hR hS (fun x hx => (hnx x hx).elim) hi hX) (fun σ H locs hw hR hS => ?_)
          refine lv_goto (tgt := 233) C.hx C.hb dX4_readsNode_277 (by decide) ?_
          exact hk233 _ _ σ _ _ _ hw hR hS (tk_sub hl [0, 1] rfl)
        · replace hw := hw.2 c262
          refine tk_aload_n C hl 0 dX4_readsNode_265 rfl ?_
          refine tk_iload_n C hl 1 dX4_readsNode_266 rfl ?_
          obtain ⟨hv, hw⟩ := hw
          refine tw_cbv C hS (tk_runV (As := [.inl l3]) C hR hS (hrf_X4_readsNode (R.frames - 1) (by omega) _ _ _ _ σ hw) hv rfl q2169 q2171 qs25 q74 q2172 pd_X4_readsNode ⟨by omega, by omega⟩ hl.1 rfl (tw_r8 [] (Nat.le_of_ble_eq_true rfl)) dX4_readsNode_267) (fun E q σ H locs hX hR hS hi => tw_out C hR hS (fun x hx => (hnx x hx).elim) hi hX) (fun σ H locs hw hR hS => ?_)
          refine lv_goto (tgt := 233) C.hx C.hb dX4_readsNode_270 (by decide) ?_
          exact hk233 _ _ σ _ _ _ hw hR hS (tk_sub hl [0, 1] rfl)
set_option maxHeartbeats 4000000 in
theorem wk_X4_readsNode_b216 {rf_X4_readsNode : (Option Nat) → Int32 → (Tst → Prop) → (String → Nat → Tst → Prop) → Tst → Prop} {frf_X4_readsNode : Nat}  (C : tw_C p l R s m args meth c G cX4_readsNode 6 yX4_readsNode.cls) (hr : meth.sig.returnType = none) (hmn : meth.name = yX4_readsNode.name) (hnx : (∀ x ∈ c.exceptionTable.toList, False)) (hfr : 3 ≤ R.frames ∧ frf_X4_readsNode + 1 ≤ R.frames) (hRl : R.locals = 40 * R.frames) {Q : Tst → Prop} {X : String → Nat → Tst → Prop} (hrf_X4_readsNode : ∀ fr : Nat, frf_X4_readsNode ≤ fr → ∀ (a0 : Option Nat) (a1 : Int32) (Q : Tst → Prop) (X : String → Nat → Tst → Prop) (σ : Tst), rf_X4_readsNode a0 a1 Q X σ → tw_M l yX4_readsNode (ws_ yX4_readsNode cX4_readsNode 6 none) fr (40 * fr) G σ [.inr a0, .inl a1] (tw_Qv G Q) X) (l0 : Option Nat) (l3 : Int32) (σ : Tst) (H : Heap) (locs : List Loc) (ls : Array Slot) (hw : w_X4_readsNode_b216 rf_X4_readsNode Q X l0 l3 σ) (hR : tw_R G σ H) (hS : va_S (tw_A G) s.heap H locs) (hl : tw_l ls 6 [(0, .inr l0), (3, .inl l3)]) : tw_W p l e R s m args below meth c σ H locs (tw_E below G (tw_Qv G Q) X args s R) (F0 m 216 ls []) := by
  unfold w_X4_readsNode_b216 at hw
  refine tk_aload_n C hl 0 dX4_readsNode_216 rfl ?_
  refine lv_bipush (v := 40) C.hx C.hb dX4_readsNode_217 (by decide) ?_
  refine lv_bipush (v := 40) C.hx C.hb dX4_readsNode_219 (by decide) ?_
  obtain ⟨hv, hw⟩ := hw
  refine tw_cbi C hS (tk_runV (As := [.inl 40, .inl 40]) C hR hS (wk_X4_takes l C.hst G (R.frames - 1) (by omega) _ _ _ _ _ σ hw) hv rfl q2177 q2179 qs27 q74 q2180 pd_X4_takes ⟨by omega, by omega⟩ hl.1 rfl (tw_r8 [] (Nat.le_of_ble_eq_true rfl)) dX4_readsNode_221) (fun E q σ H locs hX hR hS hi => tw_out C hR hS (fun x hx => (hnx x hx).elim) hi hX) (fun x1 σ H locs hw hR hS => ?_)
  refine lv_if_ne (tgt := 228) C.hx C.hb dX4_readsNode_224 (by decide) (fun c224 => ?_) (fun c224 => ?_)
  · replace hw := hw.2 c224
    refine tk_aload_n C hl 0 dX4_readsNode_228 rfl ?_
    refine tk_iload_n C hl 1 dX4_readsNode_229 rfl ?_
    obtain ⟨hv, hw⟩ := hw
    refine tw_cbv C hS (tk_runV (As := [.inl l3]) C hR hS (hrf_X4_readsNode (R.frames - 1) (by omega) _ _ _ _ σ hw) hv rfl q2169 q2171 qs25 q74 q2172 pd_X4_readsNode ⟨by omega, by omega⟩ hl.1 rfl (tw_r8 [] (Nat.le_of_ble_eq_true rfl)) dX4_readsNode_230) (fun E q σ H locs hX hR hS hi => tw_out C hR hS (fun x hx => (hnx x hx).elim) hi hX) (fun σ H locs hw hR hS => ?_)
    obtain ⟨z, hw⟩ := hw
    exact wk_X4_readsNode_b233 C hr hmn hnx hfr hRl hrf_X4_readsNode z _ _ σ _ _ _ hw hR hS (tk_sub hl [0, 1] rfl)
  · replace hw := hw.1 c224
    exact tw_vret C hR hS hr dX4_readsNode_227 hw
set_option maxHeartbeats 4000000 in
theorem wk_X4_readsNode_b215 {rf_X4_readsNode : (Option Nat) → Int32 → (Tst → Prop) → (String → Nat → Tst → Prop) → Tst → Prop} {frf_X4_readsNode : Nat}  (C : tw_C p l R s m args meth c G cX4_readsNode 6 yX4_readsNode.cls) (hr : meth.sig.returnType = none) (hmn : meth.name = yX4_readsNode.name) (hnx : (∀ x ∈ c.exceptionTable.toList, False)) (hfr : 3 ≤ R.frames ∧ frf_X4_readsNode + 1 ≤ R.frames) (hRl : R.locals = 40 * R.frames) {Q : Tst → Prop} {X : String → Nat → Tst → Prop} (hrf_X4_readsNode : ∀ fr : Nat, frf_X4_readsNode ≤ fr → ∀ (a0 : Option Nat) (a1 : Int32) (Q : Tst → Prop) (X : String → Nat → Tst → Prop) (σ : Tst), rf_X4_readsNode a0 a1 Q X σ → tw_M l yX4_readsNode (ws_ yX4_readsNode cX4_readsNode 6 none) fr (40 * fr) G σ [.inr a0, .inl a1] (tw_Qv G Q) X) (l0 : Option Nat) (l3 : Int32) (s0 : Option Nat) (s1 : Int32) (s2 : Int32) (σ : Tst) (H : Heap) (locs : List Loc) (ls : Array Slot) (hw : w_X4_readsNode_b215 rf_X4_readsNode Q X l0 l3 s0 s1 s2 σ) (hR : tw_R G σ H) (hS : va_S (tw_A G) s.heap H locs) (hl : tw_l ls 6 [(0, .inr l0), (3, .inl l3)]) : tw_W p l e R s m args below meth c σ H locs (tw_E below G (tw_Qv G Q) X args s R) (F0 m 215 ls [.int s2, .int s1, va_rf s0]) := by
  unfold w_X4_readsNode_b215 at hw
  refine tk_si C hR hS hw dX4_readsNode_215 (fun σ H locs hw hR hS => ?_)
  exact wk_X4_readsNode_b216 C hr hmn hnx hfr hRl hrf_X4_readsNode _ _ σ _ _ _ hw hR hS (tk_sub hl [0, 1] rfl)
set_option maxHeartbeats 4000000 in
theorem wk_X4_readsNode_b142 {rf_X4_readsNode : (Option Nat) → Int32 → (Tst → Prop) → (String → Nat → Tst → Prop) → Tst → Prop} {frf_X4_readsNode : Nat}  (C : tw_C p l R s m args meth c G cX4_readsNode 6 yX4_readsNode.cls) (hr : meth.sig.returnType = none) (hmn : meth.name = yX4_readsNode.name) (hnx : (∀ x ∈ c.exceptionTable.toList, False)) (hfr : 3 ≤ R.frames ∧ frf_X4_readsNode + 1 ≤ R.frames) (hRl : R.locals = 40 * R.frames) {Q : Tst → Prop} {X : String → Nat → Tst → Prop} (hrf_X4_readsNode : ∀ fr : Nat, frf_X4_readsNode ≤ fr → ∀ (a0 : Option Nat) (a1 : Int32) (Q : Tst → Prop) (X : String → Nat → Tst → Prop) (σ : Tst), rf_X4_readsNode a0 a1 Q X σ → tw_M l yX4_readsNode (ws_ yX4_readsNode cX4_readsNode 6 none) fr (40 * fr) G σ [.inr a0, .inl a1] (tw_Qv G Q) X) (l0 : Option Nat) (l3 : Int32) (σ : Tst) (H : Heap) (locs : List Loc) (ls : Array Slot) (hw : w_X4_readsNode_b142 rf_X4_readsNode Q X l0 l3 σ) (hR : tw_R G σ H) (hS : va_S (tw_A G) s.heap H locs) (hl : tw_l ls 6 [(0, .inr l0), (3, .inl l3)]) : tw_W p l e R s m args below meth c σ H locs (tw_E below G (tw_Qv G Q) X args s R) (F0 m 142 ls []) := by
  unfold w_X4_readsNode_b142 at hw
  refine tk_aload_n C hl 0 dX4_readsNode_142 rfl ?_
  refine lv_bipush (v := 61) C.hx C.hb dX4_readsNode_143 (by decide) ?_
  refine lv_bipush (v := 61) C.hx C.hb dX4_readsNode_145 (by decide) ?_
  obtain ⟨hv, hw⟩ := hw
  refine tw_cbi C hS (tk_runV (As := [.inl 61, .inl 61]) C hR hS (wk_X4_takes l C.hst G (R.frames - 1) (by omega) _ _ _ _ _ σ hw) hv rfl q2177 q2179 qs27 q74 q2180 pd_X4_takes ⟨by omega, by omega⟩ hl.1 rfl (tw_r8 [] (Nat.le_of_ble_eq_true rfl)) dX4_readsNode_147) (fun E q σ H locs hX hR hS hi => tw_out C hR hS (fun x hx => (hnx x hx).elim) hi hX) (fun x1 σ H locs hw hR hS => ?_)
  refine lv_if_eq (tgt := 216) C.hx C.hb dX4_readsNode_150 (by decide) (fun c150 => ?_) (fun c150 => ?_)
  · replace hw := hw.1 c150
    exact wk_X4_readsNode_b216 C hr hmn hnx hfr hRl hrf_X4_readsNode _ _ σ _ _ _ hw hR hS (tk_sub hl [0, 1] rfl)
  · replace hw := hw.2 c150
    refine tk_aload_n C hl 0 dX4_readsNode_153 rfl ?_
    obtain ⟨hv, hw⟩ := hw
    refine tw_cbi C hS (tk_runV (As := []) C hR hS (wk_X4_sign l C.hst G (R.frames - 1) (by omega) _ _ _ σ hw) hv rfl q2173 q2175 qs26 q74 q2176 pd_X4_sign ⟨by omega, by omega⟩ hl.1 rfl (tw_r8 [] (Nat.le_of_ble_eq_true rfl)) dX4_readsNode_154) (fun E q σ H locs hX hR hS hi => tw_out C hR hS (fun x hx => (hnx x hx).elim) hi hX) (fun x2 σ H locs hw hR hS => ?_)
    refine lv_bipush (v := 48) C.hx C.hb dX4_readsNode_157 (by decide) ?_
    refine lv_isub C.hx C.hb dX4_readsNode_159 ?_
    refine tk_istore (L' := [(4, .inl (x2 - 48)), (0, .inr l0), (3, .inl l3)]) C hl dX4_readsNode_160 (by decide) rfl (fun ls hl => ?_)
    refine tk_aload_n C hl 1 dX4_readsNode_162 rfl ?_
    refine tk_aload_n C hl 1 dX4_readsNode_163 rfl ?_
    refine lv_bipush (v := 48) C.hx C.hb dX4_readsNode_164 (by decide) ?_
    refine lv_bipush (v := 57) C.hx C.hb dX4_readsNode_166 (by decide) ?_
    obtain ⟨hv, hw⟩ := hw
    refine tw_cbi C hS (tk_runV (As := [.inl 48, .inl 57]) C hR hS (wk_X4_takes l C.hst G (R.frames - 1) (by omega) _ _ _ _ _ σ hw) hv rfl q2177 q2179 qs27 q74 q2180 pd_X4_takes ⟨by omega, by omega⟩ hl.1 rfl (tw_r8 [.inr l0] (Nat.le_of_ble_eq_true rfl)) dX4_readsNode_168) (fun E q σ H locs hX hR hS hi => tw_out C hR hS (fun x hx => (hnx x hx).elim) hi hX) (fun x3 σ H locs hw hR hS => ?_)
    obtain ⟨hv, hw⟩ := hw
    refine tw_cbv C hS (tk_runV (As := [.inl x3]) C hR hS (wk_X4_wants l C.hst G (R.frames - 1) (by omega) _ _ _ _ σ hw) hv rfl q2189 q2191 qs30 q74 q2192 pd_X4_wants ⟨by omega, by omega⟩ hl.1 rfl (tw_r8 [] (Nat.le_of_ble_eq_true rfl)) dX4_readsNode_171) (fun E q σ H locs hX hR hS hi => tw_out C hR hS (fun x hx => (hnx x hx).elim) hi hX) (fun σ H locs hw hR hS => ?_)
    refine tk_aload_n C hl 1 dX4_readsNode_174 rfl ?_
    obtain ⟨hv, hw⟩ := hw
    refine tw_cbi C hS (tk_runV (As := []) C hR hS (wk_X4_sign l C.hst G (R.frames - 1) (by omega) _ _ _ σ hw) hv rfl q2173 q2175 qs26 q74 q2176 pd_X4_sign ⟨by omega, by omega⟩ hl.1 rfl (tw_r8 [] (Nat.le_of_ble_eq_true rfl)) dX4_readsNode_175) (fun E q σ H locs hX hR hS hi => tw_out C hR hS (fun x hx => (hnx x hx).elim) hi hX) (fun x5 σ H locs hw hR hS => ?_)
    refine lv_bipush (v := 48) C.hx C.hb dX4_readsNode_178 (by decide) ?_
    refine lv_isub C.hx C.hb dX4_readsNode_180 ?_
    refine tk_istore (L' := [(5, .inl (x5 - 48)), (4, .inl (x2 - 48)), (0, .inr l0), (3, .inl l3)]) C hl dX4_readsNode_181 (by decide) rfl (fun ls hl => ?_)
    refine tk_aload_n C hl 2 dX4_readsNode_183 rfl ?_
    refine tk_gr C hR hw rfl in_X4 (by decide) q2060 (fun _ h => h) dX4_readsNode_184 (fun x6 hw => ?_)
    refine tk_grN C hR hw rfl in_X5 (by decide) q2023 (fun _ h => h) dX4_readsNode_187 (fun x7 hw => ?_)
    refine tk_iload_n C hl 3 dX4_readsNode_190 rfl ?_
    refine tk_aload_n C hl 2 dX4_readsNode_191 rfl ?_
    refine lv_bipush (v := 48) C.hx C.hb dX4_readsNode_192 (by decide) ?_
    refine lv_bipush (v := 57) C.hx C.hb dX4_readsNode_194 (by decide) ?_
    obtain ⟨hv, hw⟩ := hw
    refine tw_cbi C hS (tk_runV (As := [.inl 48, .inl 57]) C hR hS (wk_X4_takes l C.hst G (R.frames - 1) (by omega) _ _ _ _ _ σ hw) hv rfl q2177 q2179 qs27 q74 q2180 pd_X4_takes ⟨by omega, by omega⟩ hl.1 rfl (tw_r8 [.inl l3, .inr x7] (Nat.le_of_ble_eq_true rfl)) dX4_readsNode_196) (fun E q σ H locs hX hR hS hi => tw_out C hR hS (fun x hx => (hnx x hx).elim) hi hX) (fun x8 σ H locs hw hR hS => ?_)
    refine lv_if_eq (tgt := 213) C.hx C.hb dX4_readsNode_199 (by decide) (fun c199 => ?_) (fun c199 => ?_)
    · replace hw := hw.1 c199
      refine tk_iload C hl 1 dX4_readsNode_213 rfl ?_
      exact wk_X4_readsNode_b215 C hr hmn hnx hfr hRl hrf_X4_readsNode _ _ _ _ _ σ _ _ _ hw hR hS (tk_sub hl [2, 3] rfl)
    · replace hw := hw.2 c199
      refine lv_bipush (v := 10) C.hx C.hb dX4_readsNode_202 (by decide) ?_
      refine tk_iload C hl 1 dX4_readsNode_204 rfl ?_
      refine lv_imul C.hx C.hb dX4_readsNode_206 ?_
      refine tk_iload C hl 0 dX4_readsNode_207 rfl ?_
      refine lv_iadd C.hx C.hb dX4_readsNode_209 ?_
      refine lv_goto (tgt := 215) C.hx C.hb dX4_readsNode_210 (by decide) ?_
      exact wk_X4_readsNode_b215 C hr hmn hnx hfr hRl hrf_X4_readsNode _ _ _ _ _ σ _ _ _ hw hR hS (tk_sub hl [2, 3] rfl)
set_option maxHeartbeats 4000000 in
theorem wk_X4_readsNode_b128 {rf_X4_readsNode : (Option Nat) → Int32 → (Tst → Prop) → (String → Nat → Tst → Prop) → Tst → Prop} {frf_X4_readsNode : Nat}  (C : tw_C p l R s m args meth c G cX4_readsNode 6 yX4_readsNode.cls) (hr : meth.sig.returnType = none) (hmn : meth.name = yX4_readsNode.name) (hnx : (∀ x ∈ c.exceptionTable.toList, False)) (hfr : 3 ≤ R.frames ∧ frf_X4_readsNode + 1 ≤ R.frames) (hRl : R.locals = 40 * R.frames) {Q : Tst → Prop} {X : String → Nat → Tst → Prop} (hrf_X4_readsNode : ∀ fr : Nat, frf_X4_readsNode ≤ fr → ∀ (a0 : Option Nat) (a1 : Int32) (Q : Tst → Prop) (X : String → Nat → Tst → Prop) (σ : Tst), rf_X4_readsNode a0 a1 Q X σ → tw_M l yX4_readsNode (ws_ yX4_readsNode cX4_readsNode 6 none) fr (40 * fr) G σ [.inr a0, .inl a1] (tw_Qv G Q) X) (l0 : Option Nat) (l3 : Int32) (l4 : Int32) (s0 : Option Nat) (s1 : Int32) (σ : Tst) (H : Heap) (locs : List Loc) (ls : Array Slot) (hw : w_X4_readsNode_b128 rf_X4_readsNode Q X l0 l3 l4 s0 s1 σ) (hR : tw_R G σ H) (hS : va_S (tw_A G) s.heap H locs) (hl : tw_l ls 6 [(0, .inr l0), (3, .inl l3), (4, .inl l4)]) : tw_W p l e R s m args below meth c σ H locs (tw_E below G (tw_Qv G Q) X args s R) (F0 m 128 ls [.int s1, va_rf s0]) := by
  unfold w_X4_readsNode_b128 at hw
  obtain ⟨hv, hw⟩ := hw
  refine tw_cbv C hS (tk_runV (As := [.inl s1]) C hR hS (wk_X4_wants l C.hst G (R.frames - 1) (by omega) _ _ _ _ σ hw) hv rfl q2189 q2191 qs30 q74 q2192 pd_X4_wants ⟨by omega, by omega⟩ hl.1 rfl (tw_r8 [] (Nat.le_of_ble_eq_true rfl)) dX4_readsNode_128) (fun E q σ H locs hX hR hS hi => tw_out C hR hS (fun x hx => (hnx x hx).elim) hi hX) (fun σ H locs hw hR hS => ?_)
  refine tk_aload_n C hl 0 dX4_readsNode_131 rfl ?_
  refine tk_gr C hR hw rfl in_X4 (by decide) q2060 (fun _ h => h) dX4_readsNode_132 (fun x2 hw => ?_)
  refine tk_grN C hR hw rfl in_X5 (by decide) q2021 (fun _ h => h) dX4_readsNode_135 (fun x3 hw => ?_)
  refine tk_iload_n C hl 1 dX4_readsNode_138 rfl ?_
  refine tk_iload C hl 2 dX4_readsNode_139 rfl ?_
  refine tk_si C hR hS hw dX4_readsNode_141 (fun σ H locs hw hR hS => ?_)
  exact wk_X4_readsNode_b142 C hr hmn hnx hfr hRl hrf_X4_readsNode _ _ σ _ _ _ hw hR hS (tk_sub hl [0, 1] rfl)
set_option maxHeartbeats 4000000 in
theorem wk_X4_readsNode_b127 {rf_X4_readsNode : (Option Nat) → Int32 → (Tst → Prop) → (String → Nat → Tst → Prop) → Tst → Prop} {frf_X4_readsNode : Nat}  (C : tw_C p l R s m args meth c G cX4_readsNode 6 yX4_readsNode.cls) (hr : meth.sig.returnType = none) (hmn : meth.name = yX4_readsNode.name) (hnx : (∀ x ∈ c.exceptionTable.toList, False)) (hfr : 3 ≤ R.frames ∧ frf_X4_readsNode + 1 ≤ R.frames) (hRl : R.locals = 40 * R.frames) {Q : Tst → Prop} {X : String → Nat → Tst → Prop} (hrf_X4_readsNode : ∀ fr : Nat, frf_X4_readsNode ≤ fr → ∀ (a0 : Option Nat) (a1 : Int32) (Q : Tst → Prop) (X : String → Nat → Tst → Prop) (σ : Tst), rf_X4_readsNode a0 a1 Q X σ → tw_M l yX4_readsNode (ws_ yX4_readsNode cX4_readsNode 6 none) fr (40 * fr) G σ [.inr a0, .inl a1] (tw_Qv G Q) X) (l0 : Option Nat) (l3 : Int32) (l4 : Int32) (s0 : Option Nat) (σ : Tst) (H : Heap) (locs : List Loc) (ls : Array Slot) (hw : w_X4_readsNode_b127 rf_X4_readsNode Q X l0 l3 l4 s0 σ) (hR : tw_R G σ H) (hS : va_S (tw_A G) s.heap H locs) (hl : tw_l ls 6 [(0, .inr l0), (3, .inl l3), (4, .inl l4)]) : tw_W p l e R s m args below meth c σ H locs (tw_E below G (tw_Qv G Q) X args s R) (F0 m 127 ls [va_rf s0]) := by
  unfold w_X4_readsNode_b127 at hw
  refine lv_iconst (v := 0) C.hx C.hb dX4_readsNode_127 (by decide) ?_
  exact wk_X4_readsNode_b128 C hr hmn hnx hfr hRl hrf_X4_readsNode _ _ _ _ _ σ _ _ _ hw hR hS (tk_sub hl [0, 1, 2] rfl)
set_option maxHeartbeats 4000000 in
theorem wk_X4_readsNode_b104 {rf_X4_readsNode : (Option Nat) → Int32 → (Tst → Prop) → (String → Nat → Tst → Prop) → Tst → Prop} {frf_X4_readsNode : Nat}  (C : tw_C p l R s m args meth c G cX4_readsNode 6 yX4_readsNode.cls) (hr : meth.sig.returnType = none) (hmn : meth.name = yX4_readsNode.name) (hnx : (∀ x ∈ c.exceptionTable.toList, False)) (hfr : 3 ≤ R.frames ∧ frf_X4_readsNode + 1 ≤ R.frames) (hRl : R.locals = 40 * R.frames) {Q : Tst → Prop} {X : String → Nat → Tst → Prop} (hrf_X4_readsNode : ∀ fr : Nat, frf_X4_readsNode ≤ fr → ∀ (a0 : Option Nat) (a1 : Int32) (Q : Tst → Prop) (X : String → Nat → Tst → Prop) (σ : Tst), rf_X4_readsNode a0 a1 Q X σ → tw_M l yX4_readsNode (ws_ yX4_readsNode cX4_readsNode 6 none) fr (40 * fr) G σ [.inr a0, .inl a1] (tw_Qv G Q) X) (l0 : Option Nat) (l3 : Int32) (l4 : Int32) (s0 : Int32) (σ : Tst) (H : Heap) (locs : List Loc) (ls : Array Slot) (hw : w_X4_readsNode_b104 rf_X4_readsNode Q X l0 l3 l4 s0 σ) (hR : tw_R G σ H) (hS : va_S (tw_A G) s.heap H locs) (hl : tw_l ls 6 [(0, .inr l0), (3, .inl l3), (4, .inl l4)]) : tw_W p l e R s m args below meth c σ H locs (tw_E below G (tw_Qv G Q) X args s R) (F0 m 104 ls [.int s0]) := by
  unfold w_X4_readsNode_b104 at hw
  refine tk_istore (L' := [(5, .inl s0), (0, .inr l0), (3, .inl l3), (4, .inl l4)]) C hl dX4_readsNode_104 (by decide) rfl (fun ls hl => ?_)
  refine tk_aload_n C hl 1 dX4_readsNode_106 rfl ?_
  refine tk_iload C hl 0 dX4_readsNode_107 rfl ?_
  refine lv_if_eq (tgt := 127) C.hx C.hb dX4_readsNode_109 (by decide) (fun c109 => ?_) (fun c109 => ?_)
  · replace hw := hw.1 c109
    exact wk_X4_readsNode_b127 C hr hmn hnx hfr hRl hrf_X4_readsNode _ _ _ _ σ _ _ _ hw hR hS (tk_sub hl [1, 2, 3] rfl)
  · replace hw := hw.2 c109
    refine tk_aload_n C hl 1 dX4_readsNode_112 rfl ?_
    refine lv_bipush (v := 49) C.hx C.hb dX4_readsNode_113 (by decide) ?_
    refine lv_bipush (v := 57) C.hx C.hb dX4_readsNode_115 (by decide) ?_
    obtain ⟨hv, hw⟩ := hw
    refine tw_cbi C hS (tk_runV (As := [.inl 49, .inl 57]) C hR hS (wk_X4_takes l C.hst G (R.frames - 1) (by omega) _ _ _ _ _ σ hw) hv rfl q2177 q2179 qs27 q74 q2180 pd_X4_takes ⟨by omega, by omega⟩ hl.1 rfl (tw_r8 [.inr l0] (Nat.le_of_ble_eq_true rfl)) dX4_readsNode_117) (fun E q σ H locs hX hR hS hi => tw_out C hR hS (fun x hx => (hnx x hx).elim) hi hX) (fun x1 σ H locs hw hR hS => ?_)
    refine lv_if_eq (tgt := 127) C.hx C.hb dX4_readsNode_120 (by decide) (fun c120 => ?_) (fun c120 => ?_)
    · replace hw := hw.1 c120
      exact wk_X4_readsNode_b127 C hr hmn hnx hfr hRl hrf_X4_readsNode _ _ _ _ σ _ _ _ hw hR hS (tk_sub hl [1, 2, 3] rfl)
    · replace hw := hw.2 c120
      refine lv_iconst (v := 1) C.hx C.hb dX4_readsNode_123 (by decide) ?_
      refine lv_goto (tgt := 128) C.hx C.hb dX4_readsNode_124 (by decide) ?_
      exact wk_X4_readsNode_b128 C hr hmn hnx hfr hRl hrf_X4_readsNode _ _ _ _ _ σ _ _ _ hw hR hS (tk_sub hl [1, 2, 3] rfl)
set_option maxHeartbeats 4000000 in
theorem wk_X4_readsNode (l : Launch) (hl0 : l.stackTraces = false) (G : Tgl)  : ∀ (d fr : Nat), 3 + 1 * d ≤ fr → ∀ (l0 : Option Nat) (l1 : Int32) (Q : Tst → Prop) (X : String → Nat → Tst → Prop) (σ : Tst), w_X4_readsNode d l0 l1 Q X σ → tw_M l yX4_readsNode (ws_ yX4_readsNode cX4_readsNode 6 none) fr (40 * fr) G σ [.inr l0, .inl l1] (tw_Qv G Q) X := by
  intro d
  induction d with
  | zero => intro fr hfr l0 l1 Q X σ hw; exact False.elim hw
  | succ d ih =>
    intro fr hfr l0 l1 Q X σ hw
    have hrf_X4_readsNode := fun (fr : Nat) (h : 3 + 1 * d ≤ fr) => ih fr (by omega)
    rw [w_X4_readsNode] at hw
    generalize hg : w_X4_readsNode d = rf_X4_readsNode at hw hrf_X4_readsNode
    clear hg ih
    obtain ⟨frf_X4_readsNode, hfrf_X4_readsNode⟩ : ∃ f, f = 3 + 1 * d := ⟨_, rfl⟩
    rw [← hfrf_X4_readsNode] at hrf_X4_readsNode
    have hfr : 3 ≤ fr ∧ frf_X4_readsNode + 1 ≤ fr := by refine ⟨?_, ?_⟩ <;> omega
    refine tw_of (ret := none) hl0 (by decide) (Nat.le_of_ble_eq_true rfl) (fun p e R s m args below meth c hRf hRl C hr hmn hnx hR hS ls hl => ?_)
    have hfr : 3 ≤ R.frames ∧ frf_X4_readsNode + 1 ≤ R.frames := by rw [hRf]; exact hfr
    have hRl : R.locals = 40 * R.frames := by rw [hRl, hRf]
    have hl : tw_l ls 6 [(0, .inr l0), (1, .inl l1)] := hl
    refine tk_aload_n C hl 0 dX4_readsNode_0 rfl ?_
    refine tk_gi C hR hw rfl in_X4 (by decide) q2057 (fun _ h => h) dX4_readsNode_1 (fun x1 hw => ?_)
    refine lv_if_lt (tgt := 8) C.hx C.hb dX4_readsNode_4 (by decide) (fun c4 => ?_) (fun c4 => ?_)
    · replace hw := hw.1 c4
      refine tk_aload_n C hl 0 dX4_readsNode_8 rfl ?_
      obtain ⟨hv, hw⟩ := hw
      refine tw_cbi C hS (tk_runV (As := []) C hR hS (wk_X4_sign l C.hst G (R.frames - 1) (by omega) _ _ _ σ hw) hv rfl q2173 q2175 qs26 q74 q2176 pd_X4_sign ⟨by omega, by omega⟩ hl.1 rfl (tw_r8 [] (Nat.le_of_ble_eq_true rfl)) dX4_readsNode_9) (fun E q σ H locs hX hR hS hi => tw_out C hR hS (fun x hx => (hnx x hx).elim) hi hX) (fun x2 σ H locs hw hR hS => ?_)
      refine tk_istore_n (L' := [(2, .inl x2), (0, .inr l0), (1, .inl l1)]) C hl dX4_readsNode_12 (by decide) rfl (fun ls hl => ?_)
      refine tk_aload_n C hl 1 dX4_readsNode_13 rfl ?_
      refine tk_gr C hR hw rfl in_X4 (by decide) q2060 (fun _ h => h) dX4_readsNode_14 (fun x3 hw => ?_)
      refine tk_giN C hR hw rfl in_X5 (by decide) q2027 (fun _ h => h) dX4_readsNode_17 (fun x4 hw => ?_)
      refine lv_bipush (v := 20) C.hx C.hb dX4_readsNode_20 (by decide) ?_
      refine lv_icmp_eq (tgt := 36) C.hx C.hb dX4_readsNode_22 (by decide) (fun c22 => ?_) (fun c22 => ?_)
      · replace hw := hw.1 c22
        exact wk_X4_readsNode_b36 C hr hmn hnx hfr hRl hrf_X4_readsNode _ σ _ _ _ hw hR hS (tk_sub hl [1] rfl)
      · replace hw := hw.2 c22
        refine tk_aload_n C hl 1 dX4_readsNode_25 rfl ?_
        refine lv_bipush (v := 97) C.hx C.hb dX4_readsNode_26 (by decide) ?_
        refine lv_bipush (v := 122) C.hx C.hb dX4_readsNode_28 (by decide) ?_
        obtain ⟨hv, hw⟩ := hw
        refine tw_cbi C hS (tk_runV (As := [.inl 97, .inl 122]) C hR hS (wk_X4_takes l C.hst G (R.frames - 1) (by omega) _ _ _ _ _ σ hw) hv rfl q2177 q2179 qs27 q74 q2180 pd_X4_takes ⟨by omega, by omega⟩ hl.1 rfl (tw_r8 [] (Nat.le_of_ble_eq_true rfl)) dX4_readsNode_30) (fun E q σ H locs hX hR hS hi => tw_out C hR hS (fun x hx => (hnx x hx).elim) hi hX) (fun x5 σ H locs hw hR hS => ?_)
        refine lv_if_ne (tgt := 41) C.hx C.hb dX4_readsNode_33 (by decide) (fun c33 => ?_) (fun c33 => ?_)
        · replace hw := hw.2 c33
          refine tk_aload_n C hl 1 dX4_readsNode_41 rfl ?_
          refine tk_gr C hR hw rfl in_X4 (by decide) q2060 (fun _ h => h) dX4_readsNode_42 (fun x6 hw => ?_)
          refine tk_giN C hR hw rfl in_X5 (by decide) q2027 (fun _ h => h) dX4_readsNode_45 (fun x7 hw => ?_)
          refine tk_istore_n (L' := [(3, .inl x7), (2, .inl x2), (0, .inr l0), (1, .inl l1)]) C hl dX4_readsNode_48 (by decide) rfl (fun ls hl => ?_)
          refine tk_aload_n C hl 2 dX4_readsNode_49 rfl ?_
          refine tk_gr C hR hw rfl in_X4 (by decide) q2060 (fun _ h => h) dX4_readsNode_50 (fun x8 hw => ?_)
          refine tk_iload_n C hl 1 dX4_readsNode_53 rfl ?_
          refine lv_iconst (v := 0) C.hx C.hb dX4_readsNode_54 (by decide) ?_
          refine lv_iconst (v := 0) C.hx C.hb dX4_readsNode_55 (by decide) ?_
          refine tk_iload_n C hl 3 dX4_readsNode_56 rfl ?_
          obtain ⟨hv, hw⟩ := hw
          refine tw_cbv C hS (tk_runVN (As := [.inl x2, .inl 0, .inl 0, .inl l1]) C hR hS (wk_X5_adds l C.hst G (R.frames - 1) (by omega) _ _ _ _ _ _ _ σ hw) hv rfl q2044 q2046 qs22 q75 q2047 pd_X5_adds ⟨by omega, by omega⟩ hl.1 rfl (tw_r8 [] (Nat.le_of_ble_eq_true rfl)) dX4_readsNode_57) (fun E q σ H locs hX hR hS hi => tw_out C hR hS (fun x hx => (hnx x hx).elim) hi hX) (fun σ H locs hw hR hS => ?_)
          refine tk_iload_n C hl 3 dX4_readsNode_60 rfl ?_
          refine lv_iconst (v := (-1)) C.hx C.hb dX4_readsNode_61 (by decide) ?_
          refine lv_icmp_eq (tgt := 142) C.hx C.hb dX4_readsNode_62 (by decide) (fun c62 => ?_) (fun c62 => ?_)
          · replace hw := hw.1 c62
            exact wk_X4_readsNode_b142 C hr hmn hnx hfr hRl hrf_X4_readsNode _ _ σ _ _ _ hw hR hS (tk_sub hl [2, 0] rfl)
          · replace hw := hw.2 c62
            refine tk_aload_n C hl 2 dX4_readsNode_65 rfl ?_
            refine lv_bipush (v := 35) C.hx C.hb dX4_readsNode_66 (by decide) ?_
            refine lv_bipush (v := 35) C.hx C.hb dX4_readsNode_68 (by decide) ?_
            obtain ⟨hv, hw⟩ := hw
            refine tw_cbi C hS (tk_runV (As := [.inl 35, .inl 35]) C hR hS (wk_X4_takes l C.hst G (R.frames - 1) (by omega) _ _ _ _ _ σ hw) hv rfl q2177 q2179 qs27 q74 q2180 pd_X4_takes ⟨by omega, by omega⟩ hl.1 rfl (tw_r8 [] (Nat.le_of_ble_eq_true rfl)) dX4_readsNode_70) (fun E q σ H locs hX hR hS hi => tw_out C hR hS (fun x hx => (hnx x hx).elim) hi hX) (fun x10 σ H locs hw hR hS => ?_)
            refine lv_if_eq (tgt := 142) C.hx C.hb dX4_readsNode_73 (by decide) (fun c73 => ?_) (fun c73 => ?_)
            · replace hw := hw.1 c73
              exact wk_X4_readsNode_b142 C hr hmn hnx hfr hRl hrf_X4_readsNode _ _ σ _ _ _ hw hR hS (tk_sub hl [2, 0] rfl)
            · replace hw := hw.2 c73
              refine tk_aload_n C hl 2 dX4_readsNode_76 rfl ?_
              obtain ⟨hv, hw⟩ := hw
              refine tw_cbi C hS (tk_runV (As := []) C hR hS (wk_X4_sign l C.hst G (R.frames - 1) (by omega) _ _ _ σ hw) hv rfl q2173 q2175 qs26 q74 q2176 pd_X4_sign ⟨by omega, by omega⟩ hl.1 rfl (tw_r8 [] (Nat.le_of_ble_eq_true rfl)) dX4_readsNode_77) (fun E q σ H locs hX hR hS hi => tw_out C hR hS (fun x hx => (hnx x hx).elim) hi hX) (fun x11 σ H locs hw hR hS => ?_)
              refine lv_bipush (v := 48) C.hx C.hb dX4_readsNode_80 (by decide) ?_
              refine lv_isub C.hx C.hb dX4_readsNode_82 ?_
              refine tk_istore (L' := [(4, .inl (x11 - 48)), (3, .inl x7), (2, .inl x2), (0, .inr l0), (1, .inl l1)]) C hl dX4_readsNode_83 (by decide) rfl (fun ls hl => ?_)
              refine tk_aload_n C hl 3 dX4_readsNode_85 rfl ?_
              refine tk_gr C hR hw rfl in_X4 (by decide) q2060 (fun _ h => h) dX4_readsNode_86 (fun x12 hw => ?_)
              refine tk_iload_n C hl 4 dX4_readsNode_89 rfl ?_
              refine tk_iload C hl 0 dX4_readsNode_90 rfl ?_
              refine tk_iload_n C hl 1 dX4_readsNode_92 rfl ?_
              obtain ⟨hv, hw⟩ := hw
              refine tw_cbi C hS (tk_runVN (As := [.inl l1, .inl (x11 - 48), .inl x7]) C hR hS (wk_X5_isUsed l C.hst G (R.frames - 1) (by omega) _ _ _ _ _ _ σ hw) hv rfl q2185 q2187 qs29 q75 q2188 pd_X5_isUsed ⟨by omega, by omega⟩ hl.1 rfl (tw_r8 [] (Nat.le_of_ble_eq_true rfl)) dX4_readsNode_93) (fun E q σ H locs hX hR hS hi => tw_out C hR hS (fun x hx => (hnx x hx).elim) hi hX) (fun x13 σ H locs hw hR hS => ?_)
              refine lv_if_ne (tgt := 103) C.hx C.hb dX4_readsNode_96 (by decide) (fun c96 => ?_) (fun c96 => ?_)
              · replace hw := hw.2 c96
                refine lv_iconst (v := 0) C.hx C.hb dX4_readsNode_103 (by decide) ?_
                exact wk_X4_readsNode_b104 C hr hmn hnx hfr hRl hrf_X4_readsNode _ _ _ _ σ _ _ _ hw hR hS (tk_sub hl [3, 1, 0] rfl)
              · replace hw := hw.1 c96
                refine lv_iconst (v := 1) C.hx C.hb dX4_readsNode_99 (by decide) ?_
                refine lv_goto (tgt := 104) C.hx C.hb dX4_readsNode_100 (by decide) ?_
                exact wk_X4_readsNode_b104 C hr hmn hnx hfr hRl hrf_X4_readsNode _ _ _ _ σ _ _ _ hw hR hS (tk_sub hl [3, 1, 0] rfl)
        · replace hw := hw.1 c33
          exact wk_X4_readsNode_b36 C hr hmn hnx hfr hRl hrf_X4_readsNode _ σ _ _ _ hw hR hS (tk_sub hl [1] rfl)
    · replace hw := hw.2 c4
      exact tw_vret C hR hS hr dX4_readsNode_7 hw
end GW22
