set_option maxRecDepth 100000
section GW31
variable {p : Program} {l : Launch} {e : Env} {R : Room} {s : State} {m : MethodId} {args : Array Value} {below : List Frame} {meth : Method} {c : Code} {H : Heap} {locs : List Loc} {G : Tgl}
-- TreeDiffer$Conflict.reason()C
def w_X19_reason_b43 (Q : Int32 → Tst → Prop) (X : String → Nat → Tst → Prop) (s0 : Int32) (σ : Tst) : Prop := narrow .char (.int s0) = .int s0 ∧ Q s0 σ
def w_X19_reason (l0 : Option Nat) (Q : Int32 → Tst → Prop) (X : String → Nat → Tst → Prop) (σ : Tst) : Prop := w_gca σ l0 fun x1 => w_io σ x1 cX16 fun x2 => w_if (x2 = 0) (w_io σ x1 cX15 fun x3 => w_if (x3 = 0) (w_io σ x1 cX17 fun x4 => w_if (x4 = 0) (w_X19_reason_b43 Q X 102 σ) (w_X19_reason_b43 Q X 107 σ)) (w_X19_reason_b43 Q X 99 σ)) (w_X19_reason_b43 Q X 103 σ)
set_option maxHeartbeats 4000000 in
theorem wk_X19_reason_b43  (C : tw_C p l R s m args meth c G cX19_reason 2 yX19_reason.cls) (hr : meth.sig.returnType = (some .char)) (hmn : meth.name = yX19_reason.name) (hnx : (∀ x ∈ c.exceptionTable.toList, False)) (hfr : 2 ≤ R.frames) (hRl : R.locals = 40 * R.frames) {Q : Int32 → Tst → Prop} {X : String → Nat → Tst → Prop}  (s0 : Int32) (σ : Tst) (H : Heap) (locs : List Loc) (ls : Array Slot) (hw : w_X19_reason_b43 Q X s0 σ) (hR : tw_R G σ H) (hS : va_S (tw_A G) s.heap H locs) (hl : tw_l ls 2 []) : tw_W p l e R s m args below meth c σ H locs (tw_E below G (tw_Qi G Q) X args s R) (F0 m 43 ls [.int s0]) := by
  unfold w_X19_reason_b43 at hw
  obtain ⟨hok, hw⟩ := hw
  exact tw_iret C hR hS hr hok dX19_reason_43 hw
set_option maxHeartbeats 4000000 in
theorem wk_X19_reason (l : Launch) (hl0 : l.stackTraces = false) (G : Tgl) (fr : Nat)  (hfr : 2 ≤ fr) (l0 : Option Nat) (Q : Int32 → Tst → Prop) (X : String → Nat → Tst → Prop) (σ : Tst) (hw : w_X19_reason l0 Q X σ) : tw_M l yX19_reason (ws_ yX19_reason cX19_reason 2 (some .char)) fr (40 * fr) G σ [.inr l0] (tw_Qi G Q) X := by
  unfold w_X19_reason at hw
  refine tw_of (ret := (some .char)) hl0 (by decide) (Nat.le_of_ble_eq_true rfl) (fun p e R s m args below meth c hRf hRl C hr hmn hnx hR hS ls hl => ?_)
  have hfr : 2 ≤ R.frames := by rw [hRf]; exact hfr
  have hRl : R.locals = 40 * R.frames := by rw [hRl, hRf]
  have hl : tw_l ls 2 [(0, .inr l0)] := hl
  refine tk_aload_n C hl 0 dX19_reason_0 rfl ?_
  refine tk_gca C hR hS hw hl.1 (by omega) hRl (tw_r8 [] (Nat.le_of_ble_eq_true rfl)) dX19_reason_1 (fun x1 hw => ?_)
  refine tk_astore_n (L' := [(1, .inr x1), (0, .inr l0)]) C hl dX19_reason_4 (by decide) rfl (fun ls hl => ?_)
  refine tk_aload_n C hl 0 dX19_reason_5 rfl ?_
  refine tk_io (ct := cX16) (nm := "TreeDiffer$Missing") C hR hw (by decide +kernel) q2002 dX19_reason_6 (fun x2 hw => ?_)
  refine lv_if_eq (tgt := 17) C.hx C.hb dX19_reason_9 (by decide) (fun c9 => ?_) (fun c9 => ?_)
  · replace hw := hw.1 c9
    refine tk_aload_n C hl 0 dX19_reason_17 rfl ?_
    refine tk_io (ct := cX15) (nm := "TreeDiffer$Changed") C hR hw (by decide +kernel) q2003 dX19_reason_18 (fun x3 hw => ?_)
    refine lv_if_eq (tgt := 29) C.hx C.hb dX19_reason_21 (by decide) (fun c21 => ?_) (fun c21 => ?_)
    · replace hw := hw.1 c21
      refine tk_aload_n C hl 0 dX19_reason_29 rfl ?_
      refine tk_io (ct := cX17) (nm := "TreeDiffer$Clash") C hR hw (by decide +kernel) q2004 dX19_reason_30 (fun x4 hw => ?_)
      refine lv_if_eq (tgt := 41) C.hx C.hb dX19_reason_33 (by decide) (fun c33 => ?_) (fun c33 => ?_)
      · replace hw := hw.1 c33
        refine lv_bipush (v := 102) C.hx C.hb dX19_reason_41 (by decide) ?_
        exact wk_X19_reason_b43 C hr hmn hnx hfr hRl _ σ _ _ _ hw hR hS (tk_sub hl [] rfl)
      · replace hw := hw.2 c33
        refine lv_bipush (v := 107) C.hx C.hb dX19_reason_36 (by decide) ?_
        refine lv_goto (tgt := 43) C.hx C.hb dX19_reason_38 (by decide) ?_
        exact wk_X19_reason_b43 C hr hmn hnx hfr hRl _ σ _ _ _ hw hR hS (tk_sub hl [] rfl)
    · replace hw := hw.2 c21
      refine lv_bipush (v := 99) C.hx C.hb dX19_reason_24 (by decide) ?_
      refine lv_goto (tgt := 43) C.hx C.hb dX19_reason_26 (by decide) ?_
      exact wk_X19_reason_b43 C hr hmn hnx hfr hRl _ σ _ _ _ hw hR hS (tk_sub hl [] rfl)
  · replace hw := hw.2 c9
    refine lv_bipush (v := 103) C.hx C.hb dX19_reason_12 (by decide) ?_
    refine lv_goto (tgt := 43) C.hx C.hb dX19_reason_14 (by decide) ?_
    exact wk_X19_reason_b43 C hr hmn hnx hfr hRl _ σ _ _ _ hw hR hS (tk_sub hl [] rfl)
-- TreeDiffer.conflictReason()C
def w_X1_conflictReason_b12 (Q : Int32 → Tst → Prop) (X : String → Nat → Tst → Prop) (l0 : Option Nat) (s0 : Int32) (σ : Tst) : Prop := w_X1_requireElement s0 (fun σ => w_gr σ l0 cX1 5 fun x2 => w_rc σ x2 cX19 <| w_X19_reason x2 (fun x3 σ => narrow .char (.int x3) = .int x3 ∧ Q x3 σ) X σ) X σ
def w_X1_conflictReason (l0 : Option Nat) (Q : Int32 → Tst → Prop) (X : String → Nat → Tst → Prop) (σ : Tst) : Prop := w_gr σ l0 cX1 5 fun x1 => w_if (x1 = none) (w_X1_conflictReason_b12 Q X l0 0 σ) (w_X1_conflictReason_b12 Q X l0 1 σ)
set_option maxHeartbeats 4000000 in
theorem wk_X1_conflictReason_b12  (C : tw_C p l R s m args meth c G cX1_conflictReason 1 yX1_conflictReason.cls) (hr : meth.sig.returnType = (some .char)) (hmn : meth.name = yX1_conflictReason.name) (hnx : (∀ x ∈ c.exceptionTable.toList, False)) (hfr : 7 ≤ R.frames) (hRl : R.locals = 40 * R.frames) {Q : Int32 → Tst → Prop} {X : String → Nat → Tst → Prop}  (l0 : Option Nat) (s0 : Int32) (σ : Tst) (H : Heap) (locs : List Loc) (ls : Array Slot) (hw : w_X1_conflictReason_b12 Q X l0 s0 σ) (hR : tw_R G σ H) (hS : va_S (tw_A G) s.heap H locs) (hl : tw_l ls 1 [(0, .inr l0)]) : tw_W p l e R s m args below meth c σ H locs (tw_E below G (tw_Qi G Q) X args s R) (F0 m 12 ls [.int s0]) := by
  unfold w_X1_conflictReason_b12 at hw
  refine tw_cbv C hS (tw_runS (As := [.inl s0]) C hR hS (wk_X1_requireElement l C.hst G (R.frames - 1) (by omega) _ _ _ σ hw) q1569 q1570 q64 q1571 pd_X1_requireElement ⟨by omega, by omega⟩ hl.1 rfl (tw_r8 [] (Nat.le_of_ble_eq_true rfl)) dX1_conflictReason_12) (fun E q σ H locs hX hR hS hi => tw_out C hR hS (fun x hx => (hnx x hx).elim) hi hX) (fun σ H locs hw hR hS => ?_)
  refine tk_aload_n C hl 0 dX1_conflictReason_15 rfl ?_
  refine tk_gr C hR hw rfl in_X1 (by decide) q252 (fun _ h => h) dX1_conflictReason_16 (fun x2 hw => ?_)
  obtain ⟨hv, hw⟩ := hw
  refine tw_cbi C hS (tk_runV (As := []) C hR hS (wk_X19_reason l C.hst G (R.frames - 1) (by omega) _ _ _ σ hw) hv rfl q1992 q1993 q1994 q111 q1995 pd_X19_reason ⟨by omega, by omega⟩ hl.1 rfl (tw_r8 [] (Nat.le_of_ble_eq_true rfl)) dX1_conflictReason_19) (fun E q σ H locs hX hR hS hi => tw_out C hR hS (fun x hx => (hnx x hx).elim) hi hX) (fun x3 σ H locs hw hR hS => ?_)
  obtain ⟨hok, hw⟩ := hw
  exact tw_iret C hR hS hr hok dX1_conflictReason_22 hw
set_option maxHeartbeats 4000000 in
theorem wk_X1_conflictReason (l : Launch) (hl0 : l.stackTraces = false) (G : Tgl) (fr : Nat)  (hfr : 7 ≤ fr) (l0 : Option Nat) (Q : Int32 → Tst → Prop) (X : String → Nat → Tst → Prop) (σ : Tst) (hw : w_X1_conflictReason l0 Q X σ) : tw_M l yX1_conflictReason (ws_ yX1_conflictReason cX1_conflictReason 1 (some .char)) fr (40 * fr) G σ [.inr l0] (tw_Qi G Q) X := by
  unfold w_X1_conflictReason at hw
  refine tw_of (ret := (some .char)) hl0 (by decide) (Nat.le_of_ble_eq_true rfl) (fun p e R s m args below meth c hRf hRl C hr hmn hnx hR hS ls hl => ?_)
  have hfr : 7 ≤ R.frames := by rw [hRf]; exact hfr
  have hRl : R.locals = 40 * R.frames := by rw [hRl, hRf]
  have hl : tw_l ls 1 [(0, .inr l0)] := hl
  refine tk_aload_n C hl 0 dX1_conflictReason_0 rfl ?_
  refine tk_gr C hR hw rfl in_X1 (by decide) q252 (fun _ h => h) dX1_conflictReason_1 (fun x1 hw => ?_)
  refine tw_ifnull (tgt := 11) C.hx C.hb dX1_conflictReason_4 (by decide) (fun c4 => ?_) (fun c4 => ?_)
  · replace hw := hw.1 c4
    refine lv_iconst (v := 0) C.hx C.hb dX1_conflictReason_11 (by decide) ?_
    exact wk_X1_conflictReason_b12 C hr hmn hnx hfr hRl _ _ σ _ _ _ hw hR hS (tk_sub hl [0] rfl)
  · replace hw := hw.2 c4
    refine lv_iconst (v := 1) C.hx C.hb dX1_conflictReason_7 (by decide) ?_
    refine lv_goto (tgt := 12) C.hx C.hb dX1_conflictReason_8 (by decide) ?_
    exact wk_X1_conflictReason_b12 C hr hmn hnx hfr hRl _ _ σ _ _ _ hw hR hS (tk_sub hl [0] rfl)
-- TreeDifferLaw.conflictReason(LTreeDiffer;[J)I
def w_X0_conflictReason_b11 (Q : Int32 → Tst → Prop) (X : String → Nat → Tst → Prop) (s0 : Option Nat) (σ : Tst) : Prop := Q 1 σ
def w_X0_conflictReason (l0 : Option Nat) (l1 : Option Nat) (Q : Int32 → Tst → Prop) (X : String → Nat → Tst → Prop) (σ : Tst) : Prop := w_rc σ l0 cX1 <| w_X1_conflictReason l0 (fun x1 σ => w_sl σ l1 0 (x1.toInt64) fun σ => Q 0 σ) (fun E q σ => w_if (E = "java/util/NoSuchElementException") (w_X0_conflictReason_b11 Q X (some q) σ) (False)) σ
set_option maxHeartbeats 4000000 in
theorem wk_X0_conflictReason_b11  (C : tw_C p l R s m args meth c G cX0_conflictReason 3 yX0_conflictReason.cls) (hr : meth.sig.returnType = (some .int)) (hmn : meth.name = yX0_conflictReason.name) (hnx : (c.exceptionTable.toList = tableOf [(0, 8, 11, 27)])) (hfr : 8 ≤ R.frames) (hRl : R.locals = 40 * R.frames) {Q : Int32 → Tst → Prop} {X : String → Nat → Tst → Prop}  (s0 : Option Nat) (σ : Tst) (H : Heap) (locs : List Loc) (ls : Array Slot) (hw : w_X0_conflictReason_b11 Q X s0 σ) (hR : tw_R G σ H) (hS : va_S (tw_A G) s.heap H locs) (hl : tw_l ls 3 []) : tw_W p l e R s m args below meth c σ H locs (tw_E below G (tw_Qi G Q) X args s R) (F0 m 11 ls [va_rf s0]) := by
  unfold w_X0_conflictReason_b11 at hw
  refine tk_astore_n (L' := [(2, .inr s0)]) C hl dX0_conflictReason_11 (by decide) rfl (fun ls hl => ?_)
  refine lv_iconst (v := 1) C.hx C.hb dX0_conflictReason_12 (by decide) ?_
  exact tw_iret C hR hS hr rfl dX0_conflictReason_13 hw
set_option maxHeartbeats 4000000 in
theorem wk_X0_conflictReason (l : Launch) (hl0 : l.stackTraces = false) (G : Tgl) (fr : Nat)  (hfr : 8 ≤ fr) (l0 : Option Nat) (l1 : Option Nat) (Q : Int32 → Tst → Prop) (X : String → Nat → Tst → Prop) (σ : Tst) (hw : w_X0_conflictReason l0 l1 Q X σ) : tw_M l yX0_conflictReason (wsW_ yX0_conflictReason cX0_conflictReason 3 (some .int) [(0, 8, 11, 27)]) fr (40 * fr) G σ [.inr l0, .inr l1] (tw_Qi G Q) X := by
  unfold w_X0_conflictReason at hw
  refine tw_ofW (ret := (some .int)) (hh := [(0, 8, 11, 27)]) hl0 (by decide) (Nat.le_of_ble_eq_true rfl) (fun p e R s m args below meth c hRf hRl C hr hmn hnx hR hS ls hl => ?_)
  have hfr : 8 ≤ R.frames := by rw [hRf]; exact hfr
  have hRl : R.locals = 40 * R.frames := by rw [hRl, hRf]
  have hl : tw_l ls 3 [(0, .inr l0), (1, .inr l1)] := hl
  refine tk_aload_n C hl 1 dX0_conflictReason_0 rfl ?_
  refine lv_iconst (v := 0) C.hx C.hb dX0_conflictReason_1 (by decide) ?_
  refine tk_aload_n C hl 0 dX0_conflictReason_2 rfl ?_
  obtain ⟨hv, hw⟩ := hw
  refine tw_cbi C hS (tk_runV (As := []) C hR hS (wk_X1_conflictReason l C.hst G (R.frames - 1) (by omega) _ _ _ σ hw) hv rfl q1988 q1989 q1990 q64 q1991 pd_X1_conflictReason ⟨by omega, by omega⟩ hl.1 rfl (tw_r8 [.inl 0, .inr l1] (Nat.le_of_ble_eq_true rfl)) dX0_conflictReason_3) (fun E q σ H locs hX hR hS hi => ?_) (fun x1 σ H locs hw hR hS => ?_)
  · by_cases cE0 : E = "java/util/NoSuchElementException"
    · replace hX := hX.1 cE0
      subst cE0
      refine tw_catch C hnx [] (0, 8, 11, 27) [] rfl (fun z hz => nomatch hz) rfl (by decide) q1564 q353 hi ?_
      exact wk_X0_conflictReason_b11 C hr hmn hnx hfr hRl _ σ _ _ _ hX hR hS (tk_sub hl [] rfl)
    replace hX := hX.2 cE0
    exact hX.elim
  refine lv_i2l (v := x1.toInt64) C.hx C.hb dX0_conflictReason_6 rfl ?_
  refine tk_sl C hR hS hw dX0_conflictReason_7 (fun σ H locs hw hR hS => ?_)
  refine lv_goto (tgt := 14) C.hx C.hb dX0_conflictReason_8 (by decide) ?_
  refine lv_iconst (v := 0) C.hx C.hb dX0_conflictReason_14 (by decide) ?_
  exact tw_iret C hR hS hr rfl dX0_conflictReason_15 hw
-- TreeDiffer.<init>()V
def w_X1_init_b41 (Q : Tst → Prop) (X : String → Nat → Tst → Prop) : Nat → Option Nat → Int32 → Tst → Prop
  | 0, _, _, _ => False
  | n + 1, l0, l1, σ => w_if (3 ≤ l1) (Q σ) (w_gr σ l0 cX1 0 fun x1 => w_nw σ cX2 1 [.inr none] fun q2 σ => w_nw σ cX3 7 [.inl 0, .inl 0, .inl 0, .inr none, .inr none, .inr none, .inr none] fun q3 σ => w_rf q3 <| w_X3_init q3 97 (fun σ => w_rf q2 <| w_X2_init q2 q3 (fun σ => w_sr σ x1 l1 q2 fun σ => (w_X1_init_b41 Q X n) l0 (l1 + 1) σ) X σ) X σ)
def w_X1_init (l0 : Option Nat) (Q : Tst → Prop) (X : String → Nat → Tst → Prop) (σ : Tst) : Prop := w_rf l0 <| w_na σ 6 3 (.inr (.inr (.inr (.inr fun _ => none)))) fun q1 σ => w_p σ l0 cX1 0 (.inr q1) fun σ => w_nw σ cJ1 4 [.inr none, .inl 0, .inl 0, .inl 0] fun q2 σ => w_rf q2 <| w_J1_init q2 (fun σ => w_p σ l0 cX1 1 (.inr q2) fun σ => w_nw σ cJ1 4 [.inr none, .inl 0, .inl 0, .inl 0] fun q4 σ => w_rf q4 <| w_J1_init q4 (fun σ => w_p σ l0 cX1 2 (.inr q4) fun σ => w_p σ l0 cX1 3 (.inl (-1)) fun σ => ∃ z, w_X1_init_b41 Q X z l0 0 σ) X σ) X σ
set_option maxHeartbeats 4000000 in
theorem wk_X1_init_b41  (C : tw_C p l R s m args meth c G cX1_init 2 yX1_init.cls) (hr : meth.sig.returnType = none) (hmn : meth.name = yX1_init.name) (hnx : (∀ x ∈ c.exceptionTable.toList, False)) (hfr : 5 ≤ R.frames) (hRl : R.locals = 40 * R.frames) {Q : Tst → Prop} {X : String → Nat → Tst → Prop}  : ∀ (n : Nat) (l0 : Option Nat) (l1 : Int32) (σ : Tst) (H : Heap) (locs : List Loc) (ls : Array Slot), w_X1_init_b41 Q X n l0 l1 σ → tw_R G σ H → va_S (tw_A G) s.heap H locs → tw_l ls 2 [(0, .inr l0), (1, .inl l1)] → tw_W p l e R s m args below meth c σ H locs (tw_E below G (tw_Qv G Q) X args s R) (F0 m 41 ls []) := by
  intro n
  induction n with
  | zero => intro l0 l1 σ H locs ls hw; exact False.elim hw
  | succ n hk41 =>
    intro l0 l1 σ H locs ls hw hR hS hl
    rw [w_X1_init_b41] at hw
    refine tk_iload_n C hl 1 dX1_init_41 rfl ?_
    refine lv_iconst (v := 3) C.hx C.hb dX1_init_42 (by decide) ?_
    refine lv_icmp_ge (tgt := 74) C.hx C.hb dX1_init_43 (by decide) (fun c43 => ?_) (fun c43 => ?_)
    · replace hw := hw.1 c43
      exact tw_vret C hR hS hr dX1_init_74 hw
    · replace hw := hw.2 c43
      refine tk_aload_n C hl 0 dX1_init_46 rfl ?_
      refine tk_gr C hR hw rfl in_X1 (by decide) q246 (fun _ h => h) dX1_init_47 (fun x1 hw => ?_)
      refine tk_iload_n C hl 1 dX1_init_50 rfl ?_
      refine tk_nw C hR hS hw rfl in_X2 tyX2 tyX2_ok q121 q156 q69 (fun j hj => by rcases (show j = 0 by omega) with rfl; rfl) dX1_init_51 (fun q2 σ H hw hR hS => ?_)
      refine tw_dup (x := .inr q2) C.hx C.hb dX1_init_54 ?_
      refine tk_nw C hR hS hw rfl in_X3 tyX3 tyX3_ok q157 q158 q70 (fun j hj => by rcases (show j = 0 ∨ j = 1 ∨ j = 2 ∨ j = 3 ∨ j = 4 ∨ j = 5 ∨ j = 6 by omega) with rfl | rfl | rfl | rfl | rfl | rfl | rfl <;> rfl) dX1_init_55 (fun q3 σ H hw hR hS => ?_)
      refine tw_dup (x := .inr q3) C.hx C.hb dX1_init_58 ?_
      refine lv_bipush (v := 97) C.hx C.hb dX1_init_59 (by decide) ?_
      obtain ⟨hv, hw⟩ := hw
      refine tw_cbv C hS (tk_runI (As := [.inl 97]) hv C hR hS (wk_X3_init l C.hst G (R.frames - 1) (by omega) _ _ _ _ σ hw) q159 q160 q70 q161 rfl pd_X3_init ⟨by omega, by omega⟩ hl.1 rfl (tw_r8 [.inr q3, .inr q2, .inr q2, .inl l1, .inr x1] (Nat.le_of_ble_eq_true rfl)) dX1_init_61) (fun E q σ H locs hX hR hS hi => tw_out C hR hS (fun x hx => (hnx x hx).elim) hi hX) (fun σ H locs hw hR hS => ?_)
      obtain ⟨hv, hw⟩ := hw
      refine tw_cbv C hS (tk_runI (As := [.inr q3]) hv C hR hS (wk_X2_init l C.hst G (R.frames - 1) (by omega) _ _ _ _ σ hw) q235 q236 q69 q237 rfl pd_X2_init ⟨by omega, by omega⟩ hl.1 rfl (tw_r8 [.inr q2, .inl l1, .inr x1] (Nat.le_of_ble_eq_true rfl)) dX1_init_64) (fun E q σ H locs hX hR hS hi => tw_out C hR hS (fun x hx => (hnx x hx).elim) hi hX) (fun σ H locs hw hR hS => ?_)
      refine tk_sr C hR hS hw dX1_init_67 (fun σ H locs hw hR hS => ?_)
      refine tk_iinc (L' := [(1, .inl (l1 + 1)), (0, .inr l0)]) (y := (l1 + 1)) C hl 1 dX1_init_68 rfl rfl (by decide) rfl (fun ls hl => ?_)
      refine lv_goto (tgt := 41) C.hx C.hb dX1_init_71 (by decide) ?_
      exact hk41 _ _ σ _ _ _ hw hR hS (tk_sub hl [1, 0] rfl)
set_option maxHeartbeats 4000000 in
theorem wk_X1_init (l : Launch) (hl0 : l.stackTraces = false) (G : Tgl) (fr : Nat)  (hfr : 5 ≤ fr) (l0 : Option Nat) (Q : Tst → Prop) (X : String → Nat → Tst → Prop) (σ : Tst) (hw : w_X1_init l0 Q X σ) : tw_M l yX1_init (ws_ yX1_init cX1_init 2 none) fr (40 * fr) G σ [.inr l0] (tw_Qv G Q) X := by
  unfold w_X1_init at hw
  refine tw_of (ret := none) hl0 (by decide) (Nat.le_of_ble_eq_true rfl) (fun p e R s m args below meth c hRf hRl C hr hmn hnx hR hS ls hl => ?_)
  have hfr : 5 ≤ R.frames := by rw [hRf]; exact hfr
  have hRl : R.locals = 40 * R.frames := by rw [hRl, hRf]
  have hl : tw_l ls 2 [(0, .inr l0)] := hl
  refine tk_aload_n C hl 0 dX1_init_0 rfl ?_
  refine tk_obj C hw q118 q119 q120 hl.1 (tw_r8 [] (Nat.le_of_ble_eq_true rfl)) (by omega) (by omega) dX1_init_1 (fun hw => ?_)
  refine tk_aload_n C hl 0 dX1_init_4 rfl ?_
  refine lv_iconst (v := 3) C.hx C.hb dX1_init_5 (by decide) ?_
  refine tk_nr (t := 6) C hR hS hw q121 (by decide) rfl dX1_init_6 (fun q1 σ H hw hR hS => ?_)
  refine tk_pF (x := .inr q1) C hR hS hw (Or.inl (by decide)) rfl in_X1 tyX1 tyX1_ok nmX1 (by decide) q246 (fun _ h => h) rfl hmn rfl (tw_nrA _ _) dX1_init_9 (fun σ H locs hw hR hS => ?_)
  refine tk_aload_n C hl 0 dX1_init_12 rfl ?_
  refine tk_nw C hR hS hw rfl in_J1 tyJ1 tyJ1_ok q123 q124 q66 (fun j hj => by rcases (show j = 0 ∨ j = 1 ∨ j = 2 ∨ j = 3 by omega) with rfl | rfl | rfl | rfl <;> rfl) dX1_init_13 (fun q2 σ H hw hR hS => ?_)
  refine tw_dup (x := .inr q2) C.hx C.hb dX1_init_16 ?_
  obtain ⟨hv, hw⟩ := hw
  refine tw_cbv C hS (tk_runI (As := []) hv C hR hS (wk_J1_init l C.hst G (R.frames - 1) (by omega) _ _ _ σ hw) q125 q126 q66 q127 rfl pd_J1_init ⟨by omega, by omega⟩ hl.1 rfl (tw_r8 [.inr q2, .inr l0] (Nat.le_of_ble_eq_true rfl)) dX1_init_17) (fun E q σ H locs hX hR hS hi => tw_out C hR hS (fun x hx => (hnx x hx).elim) hi hX) (fun σ H locs hw hR hS => ?_)
  refine tk_pF (x := .inr q2) C hR hS hw (Or.inl (by decide)) rfl in_X1 tyX1 tyX1_ok nmX1 (by decide) q247 (fun _ h => h) rfl hmn rfl (tw_nr _ _) dX1_init_20 (fun σ H locs hw hR hS => ?_)
  refine tk_aload_n C hl 0 dX1_init_23 rfl ?_
  refine tk_nw C hR hS hw rfl in_J1 tyJ1 tyJ1_ok q123 q124 q66 (fun j hj => by rcases (show j = 0 ∨ j = 1 ∨ j = 2 ∨ j = 3 by omega) with rfl | rfl | rfl | rfl <;> rfl) dX1_init_24 (fun q4 σ H hw hR hS => ?_)
  refine tw_dup (x := .inr q4) C.hx C.hb dX1_init_27 ?_
  obtain ⟨hv, hw⟩ := hw
  refine tw_cbv C hS (tk_runI (As := []) hv C hR hS (wk_J1_init l C.hst G (R.frames - 1) (by omega) _ _ _ σ hw) q125 q126 q66 q127 rfl pd_J1_init ⟨by omega, by omega⟩ hl.1 rfl (tw_r8 [.inr q4, .inr l0] (Nat.le_of_ble_eq_true rfl)) dX1_init_28) (fun E q σ H locs hX hR hS hi => tw_out C hR hS (fun x hx => (hnx x hx).elim) hi hX) (fun σ H locs hw hR hS => ?_)
  refine tk_pF (x := .inr q4) C hR hS hw (Or.inl (by decide)) rfl in_X1 tyX1 tyX1_ok nmX1 (by decide) q249 (fun _ h => h) rfl hmn rfl (tw_nr _ _) dX1_init_31 (fun σ H locs hw hR hS => ?_)
  refine tk_aload_n C hl 0 dX1_init_34 rfl ?_
  refine lv_iconst (v := (-1)) C.hx C.hb dX1_init_35 (by decide) ?_
  refine tk_p (x := .inl (-1)) C hR hS hw (by decide) rfl in_X1 tyX1 tyX1_ok nmX1 (by decide) q250 (fun _ h => h) rfl (tw_ni _) dX1_init_36 (fun σ H locs hw hR hS => ?_)
  refine lv_iconst (v := 0) C.hx C.hb dX1_init_39 (by decide) ?_
  refine tk_istore_n (L' := [(1, .inl 0), (0, .inr l0)]) C hl dX1_init_40 (by decide) rfl (fun ls hl => ?_)
  obtain ⟨z, hw⟩ := hw
  exact wk_X1_init_b41 C hr hmn hnx hfr hRl z _ _ σ _ _ _ hw hR hS (tk_sub hl [1, 0] rfl)
-- TreeDiffer.isConsistent()Z
def w_X1_isConsistent_b151 (Q : Int32 → Tst → Prop) (X : String → Nat → Tst → Prop) (σ : Tst) : Prop := narrow .boolean (.int 0) = .int 0 ∧ Q 0 σ
def w_X1_isConsistent_b153 (k2 : Option Nat → Int32 → Tst → Prop) (k35 : Option Nat → Int32 → Int32 → Tst → Prop) (Q : Int32 → Tst → Prop) (X : String → Nat → Tst → Prop) (l0 : Option Nat) (l1 : Int32) (l2 : Int32) (σ : Tst) : Prop := k35 l0 l1 (l2 + 1) σ
def w_X1_isConsistent_b116 (k2 : Option Nat → Int32 → Tst → Prop) (k35 : Option Nat → Int32 → Int32 → Tst → Prop) (Q : Int32 → Tst → Prop) (X : String → Nat → Tst → Prop) (l0 : Option Nat) (l1 : Int32) (l2 : Int32) (l3 : Option Nat) (l4 : Option Nat) (l5 : Int32) (l6 : Int32) (s0 : Int32) (σ : Tst) : Prop := w_rc σ l3 cX3 <| w_X3_isLike 64 l3 l4 0 (fun x1 σ => w_if (s0 = x1) (w_if (l6 = 0) (w_X1_isConsistent_b153 k2 k35 Q X l0 l1 l2 σ) (w_gr σ l0 cX1 0 fun x2 => w_lr σ x2 l1 fun x3 => w_gr σ l0 cX1 0 fun x4 => w_lr σ x4 l2 fun x5 => w_X1_triedDistance x3 x5 (fun x6 σ => w_if (l5 = x6) (w_X1_isConsistent_b153 k2 k35 Q X l0 l1 l2 σ) (w_X1_isConsistent_b151 Q X σ)) X σ)) (w_X1_isConsistent_b151 Q X σ)) X σ
def w_X1_isConsistent_b93 (k2 : Option Nat → Int32 → Tst → Prop) (k35 : Option Nat → Int32 → Int32 → Tst → Prop) (Q : Int32 → Tst → Prop) (X : String → Nat → Tst → Prop) (l0 : Option Nat) (l1 : Int32) (l2 : Int32) (l3 : Option Nat) (l4 : Option Nat) (l5 : Int32) (s0 : Int32) (σ : Tst) : Prop := w_X1_cost 64 l4 l3 (fun x1 σ => w_if (l5 = x1) (w_if (l5 = 0) (w_X1_isConsistent_b116 k2 k35 Q X l0 l1 l2 l3 l4 l5 s0 1 σ) (w_X1_isConsistent_b116 k2 k35 Q X l0 l1 l2 l3 l4 l5 s0 0 σ)) (w_X1_isConsistent_b151 Q X σ)) X σ
def w_X1_isConsistent_b92 (k2 : Option Nat → Int32 → Tst → Prop) (k35 : Option Nat → Int32 → Int32 → Tst → Prop) (Q : Int32 → Tst → Prop) (X : String → Nat → Tst → Prop) (l0 : Option Nat) (l1 : Int32) (l2 : Int32) (l3 : Option Nat) (l4 : Option Nat) (l5 : Int32) (σ : Tst) : Prop := w_X1_isConsistent_b93 k2 k35 Q X l0 l1 l2 l3 l4 l5 0 σ
def w_X1_isConsistent_b35 (k2 : Option Nat → Int32 → Tst → Prop) (Q : Int32 → Tst → Prop) (X : String → Nat → Tst → Prop) : Nat → Option Nat → Int32 → Int32 → Tst → Prop
  | 0, _, _, _, _ => False
  | n + 1, l0, l1, l2, σ => w_if (l1 ≤ l2) (k2 l0 (l1 + 1) σ) (w_gr σ l0 cX1 0 fun x1 => w_lr σ x1 l1 fun x2 => w_gr σ x2 cX2 0 fun x3 => w_gr σ l0 cX1 0 fun x4 => w_lr σ x4 l2 fun x5 => w_gr σ x5 cX2 0 fun x6 => w_X1_cost 64 x3 x6 (fun x7 σ => w_rc σ x3 cX3 <| w_X3_size 64 x3 (fun x8 σ => w_if (7 < x8) (w_X1_isConsistent_b92 k2 (w_X1_isConsistent_b35 k2 Q X n) Q X l0 l1 l2 x3 x6 x7 σ) (w_rc σ x6 cX3 <| w_X3_size 64 x6 (fun x9 σ => w_if (7 < x9) (w_X1_isConsistent_b92 k2 (w_X1_isConsistent_b35 k2 Q X n) Q X l0 l1 l2 x3 x6 x7 σ) (w_X1_isConsistent_b93 k2 (w_X1_isConsistent_b35 k2 Q X n) Q X l0 l1 l2 x3 x6 x7 1 σ)) X σ)) X σ) X σ)
def w_X1_isConsistent_b220 (Q : Int32 → Tst → Prop) (X : String → Nat → Tst → Prop) (s0 : Int32) (σ : Tst) : Prop := narrow .boolean (.int s0) = .int s0 ∧ Q s0 σ
def w_X1_isConsistent_b215 (Q : Int32 → Tst → Prop) (X : String → Nat → Tst → Prop) (σ : Tst) : Prop := w_X1_isConsistent_b220 Q X 1 σ
def w_X1_isConsistent_b219 (Q : Int32 → Tst → Prop) (X : String → Nat → Tst → Prop) (σ : Tst) : Prop := w_X1_isConsistent_b220 Q X 0 σ
def w_X1_isConsistent_b2 (Q : Int32 → Tst → Prop) (X : String → Nat → Tst → Prop) : Nat → Option Nat → Int32 → Tst → Prop
  | 0, _, _, _ => False
  | n + 1, l0, l1, σ => w_if (3 ≤ l1) (w_gr σ l0 cX1 4 fun x1 => w_if (x1 = none) (w_X1_isConsistent_b215 Q X σ) (w_gr σ l0 cX1 4 fun x2 => w_rc σ x2 cX10 <| w_X10_givesTarget x2 (fun x3 σ => w_if (x3 = 0) (w_X1_isConsistent_b219 Q X σ) (w_gr σ l0 cX1 4 fun x4 => w_rc σ x4 cX10 <| w_X10_cost x4 (fun x5 σ => w_gr σ l0 cX1 4 fun x6 => w_gr σ x6 cX10 0 fun x7 => w_gr σ x7 cX2 0 fun x8 => w_gr σ l0 cX1 4 fun x9 => w_gr σ x9 cX10 1 fun x10 => w_gr σ x10 cX2 0 fun x11 => w_X1_cost 64 x8 x11 (fun x12 σ => w_if (x12 < x5) (w_X1_isConsistent_b219 Q X σ) (w_X1_isConsistent_b215 Q X σ)) X σ) X σ)) X σ)) (w_gr σ l0 cX1 0 fun x13 => w_lr σ x13 l1 fun x14 => w_gr σ x14 cX2 0 fun x15 => w_gr σ l0 cX1 0 fun x16 => w_lr σ x16 l1 fun x17 => w_gr σ x17 cX2 0 fun x18 => w_X1_cost 64 x15 x18 (fun x19 σ => w_if (x19 = 0) (∃ z, w_X1_isConsistent_b35 (w_X1_isConsistent_b2 Q X n) Q X z l0 l1 0 σ) (narrow .boolean (.int 0) = .int 0 ∧ Q 0 σ)) X σ)
def w_X1_isConsistent (l0 : Option Nat) (Q : Int32 → Tst → Prop) (X : String → Nat → Tst → Prop) (σ : Tst) : Prop := ∃ z, w_X1_isConsistent_b2 Q X z l0 0 σ
set_option maxHeartbeats 4000000 in
theorem wk_X1_isConsistent_b151  (C : tw_C p l R s m args meth c G cX1_isConsistent 7 yX1_isConsistent.cls) (hr : meth.sig.returnType = (some .boolean)) (hmn : meth.name = yX1_isConsistent.name) (hnx : (∀ x ∈ c.exceptionTable.toList, False)) (hfr : 398 ≤ R.frames) (hRl : R.locals = 40 * R.frames) {Q : Int32 → Tst → Prop} {X : String → Nat → Tst → Prop}   (σ : Tst) (H : Heap) (locs : List Loc) (ls : Array Slot) (hw : w_X1_isConsistent_b151 Q X  σ) (hR : tw_R G σ H) (hS : va_S (tw_A G) s.heap H locs) (hl : tw_l ls 7 []) : tw_W p l e R s m args below meth c σ H locs (tw_E below G (tw_Qi G Q) X args s R) (F0 m 151 ls []) := by
  unfold w_X1_isConsistent_b151 at hw
  refine lv_iconst (v := 0) C.hx C.hb dX1_isConsistent_151 (by decide) ?_
  obtain ⟨hok, hw⟩ := hw
  exact tw_iret C hR hS hr hok dX1_isConsistent_152 hw
set_option maxHeartbeats 4000000 in
theorem wk_X1_isConsistent_b153  (C : tw_C p l R s m args meth c G cX1_isConsistent 7 yX1_isConsistent.cls) (hr : meth.sig.returnType = (some .boolean)) (hmn : meth.name = yX1_isConsistent.name) (hnx : (∀ x ∈ c.exceptionTable.toList, False)) (hfr : 398 ≤ R.frames) (hRl : R.locals = 40 * R.frames) {Q : Int32 → Tst → Prop} {X : String → Nat → Tst → Prop}  {k2 : Option Nat → Int32 → Tst → Prop} (hk2 : ∀ (l0 : Option Nat) (l1 : Int32) (σ : Tst) (H : Heap) (locs : List Loc) (ls : Array Slot), k2 l0 l1 σ → tw_R G σ H → va_S (tw_A G) s.heap H locs → tw_l ls 7 [(0, .inr l0), (1, .inl l1)] → tw_W p l e R s m args below meth c σ H locs (tw_E below G (tw_Qi G Q) X args s R) (F0 m 2 ls [])) {k35 : Option Nat → Int32 → Int32 → Tst → Prop} (hk35 : ∀ (l0 : Option Nat) (l1 : Int32) (l2 : Int32) (σ : Tst) (H : Heap) (locs : List Loc) (ls : Array Slot), k35 l0 l1 l2 σ → tw_R G σ H → va_S (tw_A G) s.heap H locs → tw_l ls 7 [(0, .inr l0), (1, .inl l1), (2, .inl l2)] → tw_W p l e R s m args below meth c σ H locs (tw_E below G (tw_Qi G Q) X args s R) (F0 m 35 ls [])) (l0 : Option Nat) (l1 : Int32) (l2 : Int32) (σ : Tst) (H : Heap) (locs : List Loc) (ls : Array Slot) (hw : w_X1_isConsistent_b153 k2 k35 Q X l0 l1 l2 σ) (hR : tw_R G σ H) (hS : va_S (tw_A G) s.heap H locs) (hl : tw_l ls 7 [(0, .inr l0), (1, .inl l1), (2, .inl l2)]) : tw_W p l e R s m args below meth c σ H locs (tw_E below G (tw_Qi G Q) X args s R) (F0 m 153 ls []) := by
  unfold w_X1_isConsistent_b153 at hw
  refine tk_iinc (L' := [(2, .inl (l2 + 1)), (0, .inr l0), (1, .inl l1)]) (y := (l2 + 1)) C hl 2 dX1_isConsistent_153 rfl rfl (by decide) rfl (fun ls hl => ?_)
  refine lv_goto (tgt := 35) C.hx C.hb dX1_isConsistent_156 (by decide) ?_
  exact hk35 _ _ _ σ _ _ _ hw hR hS (tk_sub hl [1, 2, 0] rfl)
set_option maxHeartbeats 4000000 in
theorem wk_X1_isConsistent_b116  (C : tw_C p l R s m args meth c G cX1_isConsistent 7 yX1_isConsistent.cls) (hr : meth.sig.returnType = (some .boolean)) (hmn : meth.name = yX1_isConsistent.name) (hnx : (∀ x ∈ c.exceptionTable.toList, False)) (hfr : 398 ≤ R.frames) (hRl : R.locals = 40 * R.frames) {Q : Int32 → Tst → Prop} {X : String → Nat → Tst → Prop}  {k2 : Option Nat → Int32 → Tst → Prop} (hk2 : ∀ (l0 : Option Nat) (l1 : Int32) (σ : Tst) (H : Heap) (locs : List Loc) (ls : Array Slot), k2 l0 l1 σ → tw_R G σ H → va_S (tw_A G) s.heap H locs → tw_l ls 7 [(0, .inr l0), (1, .inl l1)] → tw_W p l e R s m args below meth c σ H locs (tw_E below G (tw_Qi G Q) X args s R) (F0 m 2 ls [])) {k35 : Option Nat → Int32 → Int32 → Tst → Prop} (hk35 : ∀ (l0 : Option Nat) (l1 : Int32) (l2 : Int32) (σ : Tst) (H : Heap) (locs : List Loc) (ls : Array Slot), k35 l0 l1 l2 σ → tw_R G σ H → va_S (tw_A G) s.heap H locs → tw_l ls 7 [(0, .inr l0), (1, .inl l1), (2, .inl l2)] → tw_W p l e R s m args below meth c σ H locs (tw_E below G (tw_Qi G Q) X args s R) (F0 m 35 ls [])) (l0 : Option Nat) (l1 : Int32) (l2 : Int32) (l3 : Option Nat) (l4 : Option Nat) (l5 : Int32) (l6 : Int32) (s0 : Int32) (σ : Tst) (H : Heap) (locs : List Loc) (ls : Array Slot) (hw : w_X1_isConsistent_b116 k2 k35 Q X l0 l1 l2 l3 l4 l5 l6 s0 σ) (hR : tw_R G σ H) (hS : va_S (tw_A G) s.heap H locs) (hl : tw_l ls 7 [(0, .inr l0), (1, .inl l1), (2, .inl l2), (3, .inr l3), (4, .inr l4), (5, .inl l5), (6, .inl l6)]) : tw_W p l e R s m args below meth c σ H locs (tw_E below G (tw_Qi G Q) X args s R) (F0 m 116 ls [.int s0]) := by
  unfold w_X1_isConsistent_b116 at hw
  refine tk_aload_n C hl 3 dX1_isConsistent_116 rfl ?_
  refine tk_aload C hl 4 dX1_isConsistent_117 rfl ?_
  refine lv_iconst (v := 0) C.hx C.hb dX1_isConsistent_119 (by decide) ?_
  obtain ⟨hv, hw⟩ := hw
  refine tw_cbi C hS (tk_runV (As := [.inr l4, .inl 0]) C hR hS (wk_X3_isLike l C.hst G 64 (R.frames - 1) (by omega) _ _ _ _ _ σ hw) hv rfl q632 q633 q634 q70 q635 pd_X3_isLike ⟨by omega, by omega⟩ hl.1 rfl (tw_r8 [.inl s0] (Nat.le_of_ble_eq_true rfl)) dX1_isConsistent_120) (fun E q σ H locs hX hR hS hi => tw_out C hR hS (fun x hx => (hnx x hx).elim) hi hX) (fun x1 σ H locs hw hR hS => ?_)
  refine lv_icmp_ne (tgt := 151) C.hx C.hb dX1_isConsistent_123 (by decide) (fun c123 => ?_) (fun c123 => ?_)
  · replace hw := hw.2 c123
    exact wk_X1_isConsistent_b151 C hr hmn hnx hfr hRl σ _ _ _ hw hR hS (tk_sub hl [] rfl)
  · replace hw := hw.1 c123
    refine tk_iload C hl 6 dX1_isConsistent_126 rfl ?_
    refine lv_if_eq (tgt := 153) C.hx C.hb dX1_isConsistent_128 (by decide) (fun c128 => ?_) (fun c128 => ?_)
    · replace hw := hw.1 c128
      exact wk_X1_isConsistent_b153 C hr hmn hnx hfr hRl hk2 hk35 _ _ _ σ _ _ _ hw hR hS (tk_sub hl [0, 1, 2] rfl)
    · replace hw := hw.2 c128
      refine tk_iload C hl 5 dX1_isConsistent_131 rfl ?_
      refine tk_aload_n C hl 0 dX1_isConsistent_133 rfl ?_
      refine tk_gr C hR hw rfl in_X1 (by decide) q246 (fun _ h => h) dX1_isConsistent_134 (fun x2 hw => ?_)
      refine tk_iload_n C hl 1 dX1_isConsistent_137 rfl ?_
      refine tk_lr C hR hw dX1_isConsistent_138 (fun x3 hw => ?_)
      refine tk_aload_n C hl 0 dX1_isConsistent_139 rfl ?_
      refine tk_gr C hR hw rfl in_X1 (by decide) q246 (fun _ h => h) dX1_isConsistent_140 (fun x4 hw => ?_)
      refine tk_iload_n C hl 2 dX1_isConsistent_143 rfl ?_
      refine tk_lr C hR hw dX1_isConsistent_144 (fun x5 hw => ?_)
      refine tw_cbi C hS (tw_runS (As := [.inr x3, .inr x5]) C hR hS (wk_X1_triedDistance l C.hst G (R.frames - 1) (by omega) _ _ _ _ σ hw) q641 q642 q64 q643 pd_X1_triedDistance ⟨by omega, by omega⟩ hl.1 rfl (tw_r8 [.inl l5] (Nat.le_of_ble_eq_true rfl)) dX1_isConsistent_145) (fun E q σ H locs hX hR hS hi => tw_out C hR hS (fun x hx => (hnx x hx).elim) hi hX) (fun x6 σ H locs hw hR hS => ?_)
      refine lv_icmp_eq (tgt := 153) C.hx C.hb dX1_isConsistent_148 (by decide) (fun c148 => ?_) (fun c148 => ?_)
      · replace hw := hw.1 c148
        exact wk_X1_isConsistent_b153 C hr hmn hnx hfr hRl hk2 hk35 _ _ _ σ _ _ _ hw hR hS (tk_sub hl [0, 1, 2] rfl)
      · replace hw := hw.2 c148
        exact wk_X1_isConsistent_b151 C hr hmn hnx hfr hRl σ _ _ _ hw hR hS (tk_sub hl [] rfl)
set_option maxHeartbeats 4000000 in
theorem wk_X1_isConsistent_b93  (C : tw_C p l R s m args meth c G cX1_isConsistent 7 yX1_isConsistent.cls) (hr : meth.sig.returnType = (some .boolean)) (hmn : meth.name = yX1_isConsistent.name) (hnx : (∀ x ∈ c.exceptionTable.toList, False)) (hfr : 398 ≤ R.frames) (hRl : R.locals = 40 * R.frames) {Q : Int32 → Tst → Prop} {X : String → Nat → Tst → Prop}  {k2 : Option Nat → Int32 → Tst → Prop} (hk2 : ∀ (l0 : Option Nat) (l1 : Int32) (σ : Tst) (H : Heap) (locs : List Loc) (ls : Array Slot), k2 l0 l1 σ → tw_R G σ H → va_S (tw_A G) s.heap H locs → tw_l ls 7 [(0, .inr l0), (1, .inl l1)] → tw_W p l e R s m args below meth c σ H locs (tw_E below G (tw_Qi G Q) X args s R) (F0 m 2 ls [])) {k35 : Option Nat → Int32 → Int32 → Tst → Prop} (hk35 : ∀ (l0 : Option Nat) (l1 : Int32) (l2 : Int32) (σ : Tst) (H : Heap) (locs : List Loc) (ls : Array Slot), k35 l0 l1 l2 σ → tw_R G σ H → va_S (tw_A G) s.heap H locs → tw_l ls 7 [(0, .inr l0), (1, .inl l1), (2, .inl l2)] → tw_W p l e R s m args below meth c σ H locs (tw_E below G (tw_Qi G Q) X args s R) (F0 m 35 ls [])) (l0 : Option Nat) (l1 : Int32) (l2 : Int32) (l3 : Option Nat) (l4 : Option Nat) (l5 : Int32) (s0 : Int32) (σ : Tst) (H : Heap) (locs : List Loc) (ls : Array Slot) (hw : w_X1_isConsistent_b93 k2 k35 Q X l0 l1 l2 l3 l4 l5 s0 σ) (hR : tw_R G σ H) (hS : va_S (tw_A G) s.heap H locs) (hl : tw_l ls 7 [(0, .inr l0), (1, .inl l1), (2, .inl l2), (3, .inr l3), (4, .inr l4), (5, .inl l5)]) : tw_W p l e R s m args below meth c σ H locs (tw_E below G (tw_Qi G Q) X args s R) (F0 m 93 ls [.int s0]) := by
  unfold w_X1_isConsistent_b93 at hw
  refine tk_istore (L' := [(6, .inl s0), (0, .inr l0), (1, .inl l1), (2, .inl l2), (3, .inr l3), (4, .inr l4), (5, .inl l5)]) C hl dX1_isConsistent_93 (by decide) rfl (fun ls hl => ?_)
  refine tk_iload C hl 6 dX1_isConsistent_95 rfl ?_
  refine tk_aload C hl 5 dX1_isConsistent_97 rfl ?_
  refine tk_aload_n C hl 4 dX1_isConsistent_99 rfl ?_
  refine tw_cbi C hS (tw_runS (As := [.inr l4, .inr l3]) C hR hS (wk_X1_cost l C.hst G 64 (R.frames - 1) (by omega) _ _ _ _ σ hw) q270 q271 q64 q272 pd_X1_cost ⟨by omega, by omega⟩ hl.1 rfl (tw_r8 [.inl l5] (Nat.le_of_ble_eq_true rfl)) dX1_isConsistent_100) (fun E q σ H locs hX hR hS hi => tw_out C hR hS (fun x hx => (hnx x hx).elim) hi hX) (fun x1 σ H locs hw hR hS => ?_)
  refine lv_icmp_ne (tgt := 151) C.hx C.hb dX1_isConsistent_103 (by decide) (fun c103 => ?_) (fun c103 => ?_)
  · replace hw := hw.2 c103
    exact wk_X1_isConsistent_b151 C hr hmn hnx hfr hRl σ _ _ _ hw hR hS (tk_sub hl [] rfl)
  · replace hw := hw.1 c103
    refine tk_iload C hl 6 dX1_isConsistent_106 rfl ?_
    refine lv_if_ne (tgt := 115) C.hx C.hb dX1_isConsistent_108 (by decide) (fun c108 => ?_) (fun c108 => ?_)
    · replace hw := hw.2 c108
      refine lv_iconst (v := 0) C.hx C.hb dX1_isConsistent_115 (by decide) ?_
      exact wk_X1_isConsistent_b116 C hr hmn hnx hfr hRl hk2 hk35 _ _ _ _ _ _ _ _ σ _ _ _ hw hR hS (tk_sub hl [1, 2, 3, 4, 5, 6, 0] rfl)
    · replace hw := hw.1 c108
      refine lv_iconst (v := 1) C.hx C.hb dX1_isConsistent_111 (by decide) ?_
      refine lv_goto (tgt := 116) C.hx C.hb dX1_isConsistent_112 (by decide) ?_
      exact wk_X1_isConsistent_b116 C hr hmn hnx hfr hRl hk2 hk35 _ _ _ _ _ _ _ _ σ _ _ _ hw hR hS (tk_sub hl [1, 2, 3, 4, 5, 6, 0] rfl)
set_option maxHeartbeats 4000000 in
theorem wk_X1_isConsistent_b92  (C : tw_C p l R s m args meth c G cX1_isConsistent 7 yX1_isConsistent.cls) (hr : meth.sig.returnType = (some .boolean)) (hmn : meth.name = yX1_isConsistent.name) (hnx : (∀ x ∈ c.exceptionTable.toList, False)) (hfr : 398 ≤ R.frames) (hRl : R.locals = 40 * R.frames) {Q : Int32 → Tst → Prop} {X : String → Nat → Tst → Prop}  {k2 : Option Nat → Int32 → Tst → Prop} (hk2 : ∀ (l0 : Option Nat) (l1 : Int32) (σ : Tst) (H : Heap) (locs : List Loc) (ls : Array Slot), k2 l0 l1 σ → tw_R G σ H → va_S (tw_A G) s.heap H locs → tw_l ls 7 [(0, .inr l0), (1, .inl l1)] → tw_W p l e R s m args below meth c σ H locs (tw_E below G (tw_Qi G Q) X args s R) (F0 m 2 ls [])) {k35 : Option Nat → Int32 → Int32 → Tst → Prop} (hk35 : ∀ (l0 : Option Nat) (l1 : Int32) (l2 : Int32) (σ : Tst) (H : Heap) (locs : List Loc) (ls : Array Slot), k35 l0 l1 l2 σ → tw_R G σ H → va_S (tw_A G) s.heap H locs → tw_l ls 7 [(0, .inr l0), (1, .inl l1), (2, .inl l2)] → tw_W p l e R s m args below meth c σ H locs (tw_E below G (tw_Qi G Q) X args s R) (F0 m 35 ls [])) (l0 : Option Nat) (l1 : Int32) (l2 : Int32) (l3 : Option Nat) (l4 : Option Nat) (l5 : Int32) (σ : Tst) (H : Heap) (locs : List Loc) (ls : Array Slot) (hw : w_X1_isConsistent_b92 k2 k35 Q X l0 l1 l2 l3 l4 l5 σ) (hR : tw_R G σ H) (hS : va_S (tw_A G) s.heap H locs) (hl : tw_l ls 7 [(0, .inr l0), (1, .inl l1), (2, .inl l2), (3, .inr l3), (4, .inr l4), (5, .inl l5)]) : tw_W p l e R s m args below meth c σ H locs (tw_E below G (tw_Qi G Q) X args s R) (F0 m 92 ls []) := by
  unfold w_X1_isConsistent_b92 at hw
  refine lv_iconst (v := 0) C.hx C.hb dX1_isConsistent_92 (by decide) ?_
  exact wk_X1_isConsistent_b93 C hr hmn hnx hfr hRl hk2 hk35 _ _ _ _ _ _ _ σ _ _ _ hw hR hS (tk_sub hl [0, 1, 2, 3, 4, 5] rfl)
set_option maxHeartbeats 4000000 in
theorem wk_X1_isConsistent_b35  (C : tw_C p l R s m args meth c G cX1_isConsistent 7 yX1_isConsistent.cls) (hr : meth.sig.returnType = (some .boolean)) (hmn : meth.name = yX1_isConsistent.name) (hnx : (∀ x ∈ c.exceptionTable.toList, False)) (hfr : 398 ≤ R.frames) (hRl : R.locals = 40 * R.frames) {Q : Int32 → Tst → Prop} {X : String → Nat → Tst → Prop}  {k2 : Option Nat → Int32 → Tst → Prop} (hk2 : ∀ (l0 : Option Nat) (l1 : Int32) (σ : Tst) (H : Heap) (locs : List Loc) (ls : Array Slot), k2 l0 l1 σ → tw_R G σ H → va_S (tw_A G) s.heap H locs → tw_l ls 7 [(0, .inr l0), (1, .inl l1)] → tw_W p l e R s m args below meth c σ H locs (tw_E below G (tw_Qi G Q) X args s R) (F0 m 2 ls [])) : ∀ (n : Nat) (l0 : Option Nat) (l1 : Int32) (l2 : Int32) (σ : Tst) (H : Heap) (locs : List Loc) (ls : Array Slot), w_X1_isConsistent_b35 k2 Q X n l0 l1 l2 σ → tw_R G σ H → va_S (tw_A G) s.heap H locs → tw_l ls 7 [(0, .inr l0), (1, .inl l1), (2, .inl l2)] → tw_W p l e R s m args below meth c σ H locs (tw_E below G (tw_Qi G Q) X args s R) (F0 m 35 ls []) := by
  intro n
  induction n with
  | zero => intro l0 l1 l2 σ H locs ls hw; exact False.elim hw
  | succ n hk35 =>
    intro l0 l1 l2 σ H locs ls hw hR hS hl
    rw [w_X1_isConsistent_b35] at hw
    refine tk_iload_n C hl 2 dX1_isConsistent_35 rfl ?_
    refine tk_iload_n C hl 1 dX1_isConsistent_36 rfl ?_
    refine lv_icmp_ge (tgt := 159) C.hx C.hb dX1_isConsistent_37 (by decide) (fun c37 => ?_) (fun c37 => ?_)
    · replace hw := hw.1 c37
      refine tk_iinc (L' := [(1, .inl (l1 + 1)), (0, .inr l0), (2, .inl l2)]) (y := (l1 + 1)) C hl 1 dX1_isConsistent_159 rfl rfl (by decide) rfl (fun ls hl => ?_)
      refine lv_goto (tgt := 2) C.hx C.hb dX1_isConsistent_162 (by decide) ?_
      exact hk2 _ _ σ _ _ _ hw hR hS (tk_sub hl [1, 0] rfl)
    · replace hw := hw.2 c37
      refine tk_aload_n C hl 0 dX1_isConsistent_40 rfl ?_
      refine tk_gr C hR hw rfl in_X1 (by decide) q246 (fun _ h => h) dX1_isConsistent_41 (fun x1 hw => ?_)
      refine tk_iload_n C hl 1 dX1_isConsistent_44 rfl ?_
      refine tk_lr C hR hw dX1_isConsistent_45 (fun x2 hw => ?_)
      refine tk_grN C hR hw rfl in_X2 (by decide) q242 (fun _ h => h) dX1_isConsistent_46 (fun x3 hw => ?_)
      refine tk_astore_n (L' := [(3, .inr x3), (0, .inr l0), (1, .inl l1), (2, .inl l2)]) C hl dX1_isConsistent_49 (by decide) rfl (fun ls hl => ?_)
      refine tk_aload_n C hl 1 dX1_isConsistent_50 rfl ?_
      refine tk_gr C hR hw rfl in_X1 (by decide) q246 (fun _ h => h) dX1_isConsistent_51 (fun x4 hw => ?_)
      refine tk_iload_n C hl 3 dX1_isConsistent_54 rfl ?_
      refine tk_lr C hR hw dX1_isConsistent_55 (fun x5 hw => ?_)
      refine tk_grN C hR hw rfl in_X2 (by decide) q242 (fun _ h => h) dX1_isConsistent_56 (fun x6 hw => ?_)
      refine tk_astore (L' := [(4, .inr x6), (3, .inr x3), (0, .inr l0), (1, .inl l1), (2, .inl l2)]) C hl dX1_isConsistent_59 (by decide) rfl (fun ls hl => ?_)
      refine tk_aload_n C hl 1 dX1_isConsistent_61 rfl ?_
      refine tk_aload C hl 0 dX1_isConsistent_62 rfl ?_
      refine tw_cbi C hS (tw_runS (As := [.inr x3, .inr x6]) C hR hS (wk_X1_cost l C.hst G 64 (R.frames - 1) (by omega) _ _ _ _ σ hw) q270 q271 q64 q272 pd_X1_cost ⟨by omega, by omega⟩ hl.1 rfl (tw_r8 [] (Nat.le_of_ble_eq_true rfl)) dX1_isConsistent_64) (fun E q σ H locs hX hR hS hi => tw_out C hR hS (fun x hx => (hnx x hx).elim) hi hX) (fun x7 σ H locs hw hR hS => ?_)
      refine tk_istore (L' := [(5, .inl x7), (4, .inr x6), (3, .inr x3), (0, .inr l0), (1, .inl l1), (2, .inl l2)]) C hl dX1_isConsistent_67 (by decide) rfl (fun ls hl => ?_)
      refine tk_aload_n C hl 2 dX1_isConsistent_69 rfl ?_
      obtain ⟨hv, hw⟩ := hw
      refine tw_cbi C hS (tk_runV (As := []) C hR hS (wk_X3_size l C.hst G 64 (R.frames - 1) (by omega) _ _ _ σ hw) hv rfl q286 q287 q288 q70 q289 pd_X3_size ⟨by omega, by omega⟩ hl.1 rfl (tw_r8 [] (Nat.le_of_ble_eq_true rfl)) dX1_isConsistent_70) (fun E q σ H locs hX hR hS hi => tw_out C hR hS (fun x hx => (hnx x hx).elim) hi hX) (fun x8 σ H locs hw hR hS => ?_)
      refine lv_bipush (v := 7) C.hx C.hb dX1_isConsistent_73 (by decide) ?_
      refine lv_icmp_gt (tgt := 92) C.hx C.hb dX1_isConsistent_75 (by decide) (fun c75 => ?_) (fun c75 => ?_)
      · replace hw := hw.1 c75
        exact wk_X1_isConsistent_b92 C hr hmn hnx hfr hRl hk2 hk35 _ _ _ _ _ _ σ _ _ _ hw hR hS (tk_sub hl [3, 4, 5, 2, 1, 0] rfl)
      · replace hw := hw.2 c75
        refine tk_aload C hl 1 dX1_isConsistent_78 rfl ?_
        obtain ⟨hv, hw⟩ := hw
        refine tw_cbi C hS (tk_runV (As := []) C hR hS (wk_X3_size l C.hst G 64 (R.frames - 1) (by omega) _ _ _ σ hw) hv rfl q286 q287 q288 q70 q289 pd_X3_size ⟨by omega, by omega⟩ hl.1 rfl (tw_r8 [] (Nat.le_of_ble_eq_true rfl)) dX1_isConsistent_80) (fun E q σ H locs hX hR hS hi => tw_out C hR hS (fun x hx => (hnx x hx).elim) hi hX) (fun x9 σ H locs hw hR hS => ?_)
        refine lv_bipush (v := 7) C.hx C.hb dX1_isConsistent_83 (by decide) ?_
        refine lv_icmp_gt (tgt := 92) C.hx C.hb dX1_isConsistent_85 (by decide) (fun c85 => ?_) (fun c85 => ?_)
        · replace hw := hw.1 c85
          exact wk_X1_isConsistent_b92 C hr hmn hnx hfr hRl hk2 hk35 _ _ _ _ _ _ σ _ _ _ hw hR hS (tk_sub hl [3, 4, 5, 2, 1, 0] rfl)
        · replace hw := hw.2 c85
          refine lv_iconst (v := 1) C.hx C.hb dX1_isConsistent_88 (by decide) ?_
          refine lv_goto (tgt := 93) C.hx C.hb dX1_isConsistent_89 (by decide) ?_
          exact wk_X1_isConsistent_b93 C hr hmn hnx hfr hRl hk2 hk35 _ _ _ _ _ _ _ σ _ _ _ hw hR hS (tk_sub hl [3, 4, 5, 2, 1, 0] rfl)
set_option maxHeartbeats 4000000 in
theorem wk_X1_isConsistent_b220  (C : tw_C p l R s m args meth c G cX1_isConsistent 7 yX1_isConsistent.cls) (hr : meth.sig.returnType = (some .boolean)) (hmn : meth.name = yX1_isConsistent.name) (hnx : (∀ x ∈ c.exceptionTable.toList, False)) (hfr : 398 ≤ R.frames) (hRl : R.locals = 40 * R.frames) {Q : Int32 → Tst → Prop} {X : String → Nat → Tst → Prop}  (s0 : Int32) (σ : Tst) (H : Heap) (locs : List Loc) (ls : Array Slot) (hw : w_X1_isConsistent_b220 Q X s0 σ) (hR : tw_R G σ H) (hS : va_S (tw_A G) s.heap H locs) (hl : tw_l ls 7 []) : tw_W p l e R s m args below meth c σ H locs (tw_E below G (tw_Qi G Q) X args s R) (F0 m 220 ls [.int s0]) := by
  unfold w_X1_isConsistent_b220 at hw
  obtain ⟨hok, hw⟩ := hw
  exact tw_iret C hR hS hr hok dX1_isConsistent_220 hw
set_option maxHeartbeats 4000000 in
theorem wk_X1_isConsistent_b215  (C : tw_C p l R s m args meth c G cX1_isConsistent 7 yX1_isConsistent.cls) (hr : meth.sig.returnType = (some .boolean)) (hmn : meth.name = yX1_isConsistent.name) (hnx : (∀ x ∈ c.exceptionTable.toList, False)) (hfr : 398 ≤ R.frames) (hRl : R.locals = 40 * R.frames) {Q : Int32 → Tst → Prop} {X : String → Nat → Tst → Prop}   (σ : Tst) (H : Heap) (locs : List Loc) (ls : Array Slot) (hw : w_X1_isConsistent_b215 Q X  σ) (hR : tw_R G σ H) (hS : va_S (tw_A G) s.heap H locs) (hl : tw_l ls 7 []) : tw_W p l e R s m args below meth c σ H locs (tw_E below G (tw_Qi G Q) X args s R) (F0 m 215 ls []) := by
  unfold w_X1_isConsistent_b215 at hw
  refine lv_iconst (v := 1) C.hx C.hb dX1_isConsistent_215 (by decide) ?_
  refine lv_goto (tgt := 220) C.hx C.hb dX1_isConsistent_216 (by decide) ?_
  exact wk_X1_isConsistent_b220 C hr hmn hnx hfr hRl _ σ _ _ _ hw hR hS (tk_sub hl [] rfl)
set_option maxHeartbeats 4000000 in
theorem wk_X1_isConsistent_b219  (C : tw_C p l R s m args meth c G cX1_isConsistent 7 yX1_isConsistent.cls) (hr : meth.sig.returnType = (some .boolean)) (hmn : meth.name = yX1_isConsistent.name) (hnx : (∀ x ∈ c.exceptionTable.toList, False)) (hfr : 398 ≤ R.frames) (hRl : R.locals = 40 * R.frames) {Q : Int32 → Tst → Prop} {X : String → Nat → Tst → Prop}   (σ : Tst) (H : Heap) (locs : List Loc) (ls : Array Slot) (hw : w_X1_isConsistent_b219 Q X  σ) (hR : tw_R G σ H) (hS : va_S (tw_A G) s.heap H locs) (hl : tw_l ls 7 []) : tw_W p l e R s m args below meth c σ H locs (tw_E below G (tw_Qi G Q) X args s R) (F0 m 219 ls []) := by
  unfold w_X1_isConsistent_b219 at hw
  refine lv_iconst (v := 0) C.hx C.hb dX1_isConsistent_219 (by decide) ?_
  exact wk_X1_isConsistent_b220 C hr hmn hnx hfr hRl _ σ _ _ _ hw hR hS (tk_sub hl [] rfl)
set_option maxHeartbeats 4000000 in
theorem wk_X1_isConsistent_b2  (C : tw_C p l R s m args meth c G cX1_isConsistent 7 yX1_isConsistent.cls) (hr : meth.sig.returnType = (some .boolean)) (hmn : meth.name = yX1_isConsistent.name) (hnx : (∀ x ∈ c.exceptionTable.toList, False)) (hfr : 398 ≤ R.frames) (hRl : R.locals = 40 * R.frames) {Q : Int32 → Tst → Prop} {X : String → Nat → Tst → Prop}  : ∀ (n : Nat) (l0 : Option Nat) (l1 : Int32) (σ : Tst) (H : Heap) (locs : List Loc) (ls : Array Slot), w_X1_isConsistent_b2 Q X n l0 l1 σ → tw_R G σ H → va_S (tw_A G) s.heap H locs → tw_l ls 7 [(0, .inr l0), (1, .inl l1)] → tw_W p l e R s m args below meth c σ H locs (tw_E below G (tw_Qi G Q) X args s R) (F0 m 2 ls []) := by
  intro n
  induction n with
  | zero => intro l0 l1 σ H locs ls hw; exact False.elim hw
  | succ n hk2 =>
    intro l0 l1 σ H locs ls hw hR hS hl
    rw [w_X1_isConsistent_b2] at hw
    refine tk_iload_n C hl 1 dX1_isConsistent_2 rfl ?_
    refine lv_iconst (v := 3) C.hx C.hb dX1_isConsistent_3 (by decide) ?_
    refine lv_icmp_ge (tgt := 165) C.hx C.hb dX1_isConsistent_4 (by decide) (fun c4 => ?_) (fun c4 => ?_)
    · replace hw := hw.1 c4
      refine tk_aload_n C hl 0 dX1_isConsistent_165 rfl ?_
      refine tk_gr C hR hw rfl in_X1 (by decide) q251 (fun _ h => h) dX1_isConsistent_166 (fun x1 hw => ?_)
      refine tw_ifnull (tgt := 215) C.hx C.hb dX1_isConsistent_169 (by decide) (fun c169 => ?_) (fun c169 => ?_)
      · replace hw := hw.1 c169
        exact wk_X1_isConsistent_b215 C hr hmn hnx hfr hRl σ _ _ _ hw hR hS (tk_sub hl [] rfl)
      · replace hw := hw.2 c169
        refine tk_aload_n C hl 0 dX1_isConsistent_172 rfl ?_
        refine tk_gr C hR hw rfl in_X1 (by decide) q251 (fun _ h => h) dX1_isConsistent_173 (fun x2 hw => ?_)
        obtain ⟨hv, hw⟩ := hw
        refine tw_cbi C hS (tk_runVW (As := []) C hR hS (wk_X10_givesTarget l C.hst G (R.frames - 1) (by omega) _ _ _ σ hw) hv rfl q652 q653 q654 q101 q655 pd_X10_givesTarget ⟨by omega, by omega⟩ hl.1 rfl (tw_r8 [] (Nat.le_of_ble_eq_true rfl)) dX1_isConsistent_176) (fun E q σ H locs hX hR hS hi => tw_out C hR hS (fun x hx => (hnx x hx).elim) hi hX) (fun x3 σ H locs hw hR hS => ?_)
        refine lv_if_eq (tgt := 219) C.hx C.hb dX1_isConsistent_179 (by decide) (fun c179 => ?_) (fun c179 => ?_)
        · replace hw := hw.1 c179
          exact wk_X1_isConsistent_b219 C hr hmn hnx hfr hRl σ _ _ _ hw hR hS (tk_sub hl [] rfl)
        · replace hw := hw.2 c179
          refine tk_aload_n C hl 0 dX1_isConsistent_182 rfl ?_
          refine tk_gr C hR hw rfl in_X1 (by decide) q251 (fun _ h => h) dX1_isConsistent_183 (fun x4 hw => ?_)
          obtain ⟨hv, hw⟩ := hw
          refine tw_cbi C hS (tk_runV (As := []) C hR hS (wk_X10_cost l C.hst G (R.frames - 1) (by omega) _ _ _ σ hw) hv rfl q1338 q1339 q1340 q101 q1341 pd_X10_cost ⟨by omega, by omega⟩ hl.1 rfl (tw_r8 [] (Nat.le_of_ble_eq_true rfl)) dX1_isConsistent_186) (fun E q σ H locs hX hR hS hi => tw_out C hR hS (fun x hx => (hnx x hx).elim) hi hX) (fun x5 σ H locs hw hR hS => ?_)
          refine tk_aload_n C hl 0 dX1_isConsistent_189 rfl ?_
          refine tk_gr C hR hw rfl in_X1 (by decide) q251 (fun _ h => h) dX1_isConsistent_190 (fun x6 hw => ?_)
          refine tk_grN C hR hw rfl in_X10 (by decide) q1892 (fun _ h => h) dX1_isConsistent_193 (fun x7 hw => ?_)
          refine tk_grN C hR hw rfl in_X2 (by decide) q242 (fun _ h => h) dX1_isConsistent_196 (fun x8 hw => ?_)
          refine tk_aload_n C hl 0 dX1_isConsistent_199 rfl ?_
          refine tk_gr C hR hw rfl in_X1 (by decide) q251 (fun _ h => h) dX1_isConsistent_200 (fun x9 hw => ?_)
          refine tk_grN C hR hw rfl in_X10 (by decide) q1895 (fun _ h => h) dX1_isConsistent_203 (fun x10 hw => ?_)
          refine tk_grN C hR hw rfl in_X2 (by decide) q242 (fun _ h => h) dX1_isConsistent_206 (fun x11 hw => ?_)
          refine tw_cbi C hS (tw_runS (As := [.inr x8, .inr x11]) C hR hS (wk_X1_cost l C.hst G 64 (R.frames - 1) (by omega) _ _ _ _ σ hw) q270 q271 q64 q272 pd_X1_cost ⟨by omega, by omega⟩ hl.1 rfl (tw_r8 [.inl x5] (Nat.le_of_ble_eq_true rfl)) dX1_isConsistent_209) (fun E q σ H locs hX hR hS hi => tw_out C hR hS (fun x hx => (hnx x hx).elim) hi hX) (fun x12 σ H locs hw hR hS => ?_)
          refine lv_icmp_gt (tgt := 219) C.hx C.hb dX1_isConsistent_212 (by decide) (fun c212 => ?_) (fun c212 => ?_)
          · replace hw := hw.1 c212
            exact wk_X1_isConsistent_b219 C hr hmn hnx hfr hRl σ _ _ _ hw hR hS (tk_sub hl [] rfl)
          · replace hw := hw.2 c212
            exact wk_X1_isConsistent_b215 C hr hmn hnx hfr hRl σ _ _ _ hw hR hS (tk_sub hl [] rfl)
    · replace hw := hw.2 c4
      refine tk_aload_n C hl 0 dX1_isConsistent_7 rfl ?_
      refine tk_gr C hR hw rfl in_X1 (by decide) q246 (fun _ h => h) dX1_isConsistent_8 (fun x13 hw => ?_)
      refine tk_iload_n C hl 1 dX1_isConsistent_11 rfl ?_
      refine tk_lr C hR hw dX1_isConsistent_12 (fun x14 hw => ?_)
      refine tk_grN C hR hw rfl in_X2 (by decide) q242 (fun _ h => h) dX1_isConsistent_13 (fun x15 hw => ?_)
      refine tk_aload_n C hl 0 dX1_isConsistent_16 rfl ?_
      refine tk_gr C hR hw rfl in_X1 (by decide) q246 (fun _ h => h) dX1_isConsistent_17 (fun x16 hw => ?_)
      refine tk_iload_n C hl 1 dX1_isConsistent_20 rfl ?_
      refine tk_lr C hR hw dX1_isConsistent_21 (fun x17 hw => ?_)
      refine tk_grN C hR hw rfl in_X2 (by decide) q242 (fun _ h => h) dX1_isConsistent_22 (fun x18 hw => ?_)
      refine tw_cbi C hS (tw_runS (As := [.inr x15, .inr x18]) C hR hS (wk_X1_cost l C.hst G 64 (R.frames - 1) (by omega) _ _ _ _ σ hw) q270 q271 q64 q272 pd_X1_cost ⟨by omega, by omega⟩ hl.1 rfl (tw_r8 [] (Nat.le_of_ble_eq_true rfl)) dX1_isConsistent_25) (fun E q σ H locs hX hR hS hi => tw_out C hR hS (fun x hx => (hnx x hx).elim) hi hX) (fun x19 σ H locs hw hR hS => ?_)
      refine lv_if_eq (tgt := 33) C.hx C.hb dX1_isConsistent_28 (by decide) (fun c28 => ?_) (fun c28 => ?_)
      · replace hw := hw.1 c28
        refine lv_iconst (v := 0) C.hx C.hb dX1_isConsistent_33 (by decide) ?_
        refine tk_istore_n (L' := [(2, .inl 0), (0, .inr l0), (1, .inl l1)]) C hl dX1_isConsistent_34 (by decide) rfl (fun ls hl => ?_)
        obtain ⟨z, hw⟩ := hw
        exact wk_X1_isConsistent_b35 C hr hmn hnx hfr hRl hk2 z _ _ _ σ _ _ _ hw hR hS (tk_sub hl [1, 2, 0] rfl)
      · replace hw := hw.2 c28
        refine lv_iconst (v := 0) C.hx C.hb dX1_isConsistent_31 (by decide) ?_
        obtain ⟨hok, hw⟩ := hw
        exact tw_iret C hR hS hr hok dX1_isConsistent_32 hw
set_option maxHeartbeats 4000000 in
theorem wk_X1_isConsistent (l : Launch) (hl0 : l.stackTraces = false) (G : Tgl) (fr : Nat)  (hfr : 398 ≤ fr) (l0 : Option Nat) (Q : Int32 → Tst → Prop) (X : String → Nat → Tst → Prop) (σ : Tst) (hw : w_X1_isConsistent l0 Q X σ) : tw_M l yX1_isConsistent (ws_ yX1_isConsistent cX1_isConsistent 7 (some .boolean)) fr (40 * fr) G σ [.inr l0] (tw_Qi G Q) X := by
  unfold w_X1_isConsistent at hw
  refine tw_of (ret := (some .boolean)) hl0 (by decide) (Nat.le_of_ble_eq_true rfl) (fun p e R s m args below meth c hRf hRl C hr hmn hnx hR hS ls hl => ?_)
  have hfr : 398 ≤ R.frames := by rw [hRf]; exact hfr
  have hRl : R.locals = 40 * R.frames := by rw [hRl, hRf]
  have hl : tw_l ls 7 [(0, .inr l0)] := hl
  refine lv_iconst (v := 0) C.hx C.hb dX1_isConsistent_0 (by decide) ?_
  refine tk_istore_n (L' := [(1, .inl 0), (0, .inr l0)]) C hl dX1_isConsistent_1 (by decide) rfl (fun ls hl => ?_)
  obtain ⟨z, hw⟩ := hw
  exact wk_X1_isConsistent_b2 C hr hmn hnx hfr hRl z _ _ σ _ _ _ hw hR hS (tk_sub hl [1, 0] rfl)
end GW31
