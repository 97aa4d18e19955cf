set_option maxRecDepth 100000
section GW23
variable {p : Program} {l : Launch} {e : Env} {R : Room} {s : State} {m : MethodId} {args : Array Value} {below : List Frame} {meth : Method} {c : Code} {H : Heap} {locs : List Loc} {G : Tgl}
-- TreeDifferModel$Tree.copies(LTreeDifferModel$Tree;)V
def w_X5_copies_b10 (Q : Tst → Prop) (X : String → Nat → Tst → Prop) : Nat → Option Nat → Option Nat → Int32 → Tst → Prop
  | 0, _, _, _, _ => False
  | n + 1, l0, l1, l2, σ => w_gi σ l0 cX5 4 fun x1 => w_if (x1 ≤ l2) (Q σ) (w_gr σ l1 cX5 0 fun x2 => w_li σ x2 l2 fun x3 => w_gr σ l1 cX5 1 fun x4 => w_li σ x4 l2 fun x5 => w_gr σ l1 cX5 2 fun x6 => w_li σ x6 l2 fun x7 => w_gr σ l1 cX5 3 fun x8 => w_li σ x8 l2 fun x9 => w_rc σ l0 cX5 <| w_X5_sets l0 l2 x3 x5 x7 x9 (fun σ => (w_X5_copies_b10 Q X n) l0 l1 (l2 + 1) σ) X σ)
def w_X5_copies (l0 : Option Nat) (l1 : Option Nat) (Q : Tst → Prop) (X : String → Nat → Tst → Prop) (σ : Tst) : Prop := w_gi σ l1 cX5 4 fun x1 => w_p σ l0 cX5 4 (.inl x1) fun σ => ∃ z, w_X5_copies_b10 Q X z l0 l1 0 σ
set_option maxHeartbeats 4000000 in
theorem wk_X5_copies_b10  (C : tw_C p l R s m args meth c G cX5_copies 3 yX5_copies.cls) (hr : meth.sig.returnType = none) (hmn : meth.name = yX5_copies.name) (hnx : (∀ x ∈ c.exceptionTable.toList, False)) (hfr : 2 ≤ R.frames) (hRl : R.locals = 40 * R.frames) {Q : Tst → Prop} {X : String → Nat → Tst → Prop}  : ∀ (n : Nat) (l0 : Option Nat) (l1 : Option Nat) (l2 : Int32) (σ : Tst) (H : Heap) (locs : List Loc) (ls : Array Slot), w_X5_copies_b10 Q X n l0 l1 l2 σ → tw_R G σ H → va_S (tw_A G) s.heap H locs → tw_l ls 3 [(0, .inr l0), (1, .inr l1), (2, .inl l2)] → tw_W p l e R s m args below meth c σ H locs (tw_E below G (tw_Qv G Q) X args s R) (F0 m 10 ls []) := by
  intro n
  induction n with
  | zero => intro l0 l1 l2 σ H locs ls hw; exact False.elim hw
  | succ n hk10 =>
    intro l0 l1 l2 σ H locs ls hw hR hS hl
    rw [w_X5_copies_b10] at hw
    refine tk_iload_n C hl 2 dX5_copies_10 rfl ?_
    refine tk_aload_n C hl 0 dX5_copies_11 rfl ?_
    refine tk_gi C hR hw rfl in_X5 (by decide) q2026 (fun _ h => h) dX5_copies_12 (fun x1 hw => ?_)
    refine lv_icmp_ge (tgt := 53) C.hx C.hb dX5_copies_15 (by decide) (fun c15 => ?_) (fun c15 => ?_)
    · replace hw := hw.1 c15
      exact tw_vret C hR hS hr dX5_copies_53 hw
    · replace hw := hw.2 c15
      refine tk_aload_n C hl 0 dX5_copies_18 rfl ?_
      refine tk_iload_n C hl 2 dX5_copies_19 rfl ?_
      refine tk_aload_n C hl 1 dX5_copies_20 rfl ?_
      refine tk_gr C hR hw rfl in_X5 (by decide) q2018 (fun _ h => h) dX5_copies_21 (fun x2 hw => ?_)
      refine tk_iload_n C hl 2 dX5_copies_24 rfl ?_
      refine tk_li C hR hw dX5_copies_25 (fun x3 hw => ?_)
      refine tk_aload_n C hl 1 dX5_copies_26 rfl ?_
      refine tk_gr C hR hw rfl in_X5 (by decide) q2020 (fun _ h => h) dX5_copies_27 (fun x4 hw => ?_)
      refine tk_iload_n C hl 2 dX5_copies_30 rfl ?_
      refine tk_li C hR hw dX5_copies_31 (fun x5 hw => ?_)
      refine tk_aload_n C hl 1 dX5_copies_32 rfl ?_
      refine tk_gr C hR hw rfl in_X5 (by decide) q2022 (fun _ h => h) dX5_copies_33 (fun x6 hw => ?_)
      refine tk_iload_n C hl 2 dX5_copies_36 rfl ?_
      refine tk_li C hR hw dX5_copies_37 (fun x7 hw => ?_)
      refine tk_aload_n C hl 1 dX5_copies_38 rfl ?_
      refine tk_gr C hR hw rfl in_X5 (by decide) q2024 (fun _ h => h) dX5_copies_39 (fun x8 hw => ?_)
      refine tk_iload_n C hl 2 dX5_copies_42 rfl ?_
      refine tk_li C hR hw dX5_copies_43 (fun x9 hw => ?_)
      obtain ⟨hv, hw⟩ := hw
      refine tw_cbv C hS (tk_runV (As := [.inl l2, .inl x3, .inl x5, .inl x7, .inl x9]) C hR hS (wk_X5_sets l C.hst G (R.frames - 1) (by omega) _ _ _ _ _ _ _ _ σ hw) hv rfl q2048 q2050 qs23 q75 q2051 pd_X5_sets ⟨by omega, by omega⟩ hl.1 rfl (tw_r8 [] (Nat.le_of_ble_eq_true rfl)) dX5_copies_44) (fun E q σ H locs hX hR hS hi => tw_out C hR hS (fun x hx => (hnx x hx).elim) hi hX) (fun σ H locs hw hR hS => ?_)
      refine tk_iinc (L' := [(2, .inl (l2 + 1)), (0, .inr l0), (1, .inr l1)]) (y := (l2 + 1)) C hl 2 dX5_copies_47 rfl rfl (by decide) rfl (fun ls hl => ?_)
      refine lv_goto (tgt := 10) C.hx C.hb dX5_copies_50 (by decide) ?_
      exact hk10 _ _ _ σ _ _ _ hw hR hS (tk_sub hl [1, 2, 0] rfl)
set_option maxHeartbeats 4000000 in
theorem wk_X5_copies (l : Launch) (hl0 : l.stackTraces = false) (G : Tgl) (fr : Nat)  (hfr : 2 ≤ fr) (l0 : Option Nat) (l1 : Option Nat) (Q : Tst → Prop) (X : String → Nat → Tst → Prop) (σ : Tst) (hw : w_X5_copies l0 l1 Q X σ) : tw_M l yX5_copies (ws_ yX5_copies cX5_copies 3 none) fr (40 * fr) G σ [.inr l0, .inr l1] (tw_Qv G Q) X := by
  unfold w_X5_copies at hw
  refine tw_of (ret := none) hl0 (by decide) (Nat.le_of_ble_eq_true rfl) (fun p e R s m args below meth c hRf hRl C hr hmn hnx hR hS ls hl => ?_)
  have hfr : 2 ≤ R.frames := by rw [hRf]; exact hfr
  have hRl : R.locals = 40 * R.frames := by rw [hRl, hRf]
  have hl : tw_l ls 3 [(0, .inr l0), (1, .inr l1)] := hl
  refine tk_aload_n C hl 0 dX5_copies_0 rfl ?_
  refine tk_aload_n C hl 1 dX5_copies_1 rfl ?_
  refine tk_gi C hR hw rfl in_X5 (by decide) q2026 (fun _ h => h) dX5_copies_2 (fun x1 hw => ?_)
  refine tk_p (x := .inl x1) C hR hS hw (by decide) rfl in_X5 tyX5 tyX5_ok nmX5 (by decide) q2026 (fun _ h => h) rfl (tw_ni _) dX5_copies_5 (fun σ H locs hw hR hS => ?_)
  refine lv_iconst (v := 0) C.hx C.hb dX5_copies_8 (by decide) ?_
  refine tk_istore_n (L' := [(2, .inl 0), (0, .inr l0), (1, .inr l1)]) C hl dX5_copies_9 (by decide) rfl (fun ls hl => ?_)
  obtain ⟨z, hw⟩ := hw
  exact wk_X5_copies_b10 C hr hmn hnx hfr hRl z _ _ _ σ _ _ _ hw hR hS (tk_sub hl [1, 2, 0] rfl)
-- TreeDifferModel.read(I)I
def w_X4_read_b56 (Q : Int32 → Tst → Prop) (X : String → Nat → Tst → Prop) (l0 : Option Nat) (l1 : Int32) (σ : Tst) : Prop := w_p σ l0 cX4 3 (.inl 0) fun σ => w_gi σ l0 cX4 5 fun x1 => w_if (x1 < 0) (w_gr σ l0 cX4 0 fun x2 => w_lr σ x2 l1 fun x3 => w_gr σ l0 cX4 8 fun x4 => w_rc σ x3 cX5 <| w_X5_copies x3 x4 (fun σ => w_gr σ l0 cX4 8 fun x6 => w_gi σ x6 cX5 4 fun x7 => Q x7 σ) X σ) (w_gi σ l0 cX4 5 fun x8 => w_p σ l0 cX4 6 (.inl x8) fun σ => w_rc σ l0 cX4 <| w_X4_fails l0 2 (fun x9 σ => Q x9 σ) X σ)
def w_X4_read (l0 : Option Nat) (l1 : Int32) (Q : Int32 → Tst → Prop) (X : String → Nat → Tst → Prop) (σ : Tst) : Prop := w_p σ l0 cX4 1 (.inl 0) fun σ => w_X4_isTree l1 (fun x1 σ => w_if (x1 = 0) (w_rc σ l0 cX4 <| w_X4_fails l0 1 (fun x7 σ => Q x7 σ) X σ) (w_p σ l0 cX4 4 (.inl 0) fun σ => w_p σ l0 cX4 5 (.inl (-1)) fun σ => w_gr σ l0 cX4 8 fun x2 => w_p σ x2 cX5 4 (.inl 0) fun σ => w_rc σ l0 cX4 <| w_X4_readsNode 64 l0 (-1) (fun σ => w_gi σ l0 cX4 4 fun x4 => w_gi σ l0 cX4 3 fun x5 => w_if (x5 ≤ x4) (w_X4_read_b56 Q X l0 l1 σ) (w_rc σ l0 cX4 <| w_X4_isFaulty l0 (fun σ => w_X4_read_b56 Q X l0 l1 σ) X σ)) X σ)) X σ
set_option maxHeartbeats 4000000 in
theorem wk_X4_read_b56  (C : tw_C p l R s m args meth c G cX4_read 2 yX4_read.cls) (hr : meth.sig.returnType = (some .int)) (hmn : meth.name = yX4_read.name) (hnx : (∀ x ∈ c.exceptionTable.toList, False)) (hfr : 68 ≤ R.frames) (hRl : R.locals = 40 * R.frames) {Q : Int32 → Tst → Prop} {X : String → Nat → Tst → Prop}  (l0 : Option Nat) (l1 : Int32) (σ : Tst) (H : Heap) (locs : List Loc) (ls : Array Slot) (hw : w_X4_read_b56 Q X l0 l1 σ) (hR : tw_R G σ H) (hS : va_S (tw_A G) s.heap H locs) (hl : tw_l ls 2 [(0, .inr l0), (1, .inl l1)]) : tw_W p l e R s m args below meth c σ H locs (tw_E below G (tw_Qi G Q) X args s R) (F0 m 56 ls []) := by
  unfold w_X4_read_b56 at hw
  refine tk_aload_n C hl 0 dX4_read_56 rfl ?_
  refine lv_iconst (v := 0) C.hx C.hb dX4_read_57 (by decide) ?_
  refine tk_p (x := .inl 0) C hR hS hw (by decide) rfl in_X4 tyX4 tyX4_ok nmX4 (by decide) q2055 (fun _ h => h) rfl (tw_ni _) dX4_read_58 (fun σ H locs hw hR hS => ?_)
  refine tk_aload_n C hl 0 dX4_read_61 rfl ?_
  refine tk_gi C hR hw rfl in_X4 (by decide) q2057 (fun _ h => h) dX4_read_62 (fun x1 hw => ?_)
  refine lv_if_lt (tgt := 82) C.hx C.hb dX4_read_65 (by decide) (fun c65 => ?_) (fun c65 => ?_)
  · replace hw := hw.1 c65
    refine tk_aload_n C hl 0 dX4_read_82 rfl ?_
    refine tk_gr C hR hw rfl in_X4 (by decide) q2052 (fun _ h => h) dX4_read_83 (fun x2 hw => ?_)
    refine tk_iload_n C hl 1 dX4_read_86 rfl ?_
    refine tk_lr C hR hw dX4_read_87 (fun x3 hw => ?_)
    refine tk_aload_n C hl 0 dX4_read_88 rfl ?_
    refine tk_gr C hR hw rfl in_X4 (by decide) q2060 (fun _ h => h) dX4_read_89 (fun x4 hw => ?_)
    obtain ⟨hv, hw⟩ := hw
    refine tw_cbv C hS (tk_runVN (As := [.inr x4]) C hR hS (wk_X5_copies l C.hst G (R.frames - 1) (by omega) _ _ _ _ σ hw) hv rfl q2193 q2195 qs31 q75 q2196 pd_X5_copies ⟨by omega, by omega⟩ hl.1 rfl (tw_r8 [] (Nat.le_of_ble_eq_true rfl)) dX4_read_92) (fun E q σ H locs hX hR hS hi => tw_out C hR hS (fun x hx => (hnx x hx).elim) hi hX) (fun σ H locs hw hR hS => ?_)
    refine tk_aload_n C hl 0 dX4_read_95 rfl ?_
    refine tk_gr C hR hw rfl in_X4 (by decide) q2060 (fun _ h => h) dX4_read_96 (fun x6 hw => ?_)
    refine tk_giN C hR hw rfl in_X5 (by decide) q2027 (fun _ h => h) dX4_read_99 (fun x7 hw => ?_)
    exact tw_iret C hR hS hr rfl dX4_read_102 hw
  · replace hw := hw.2 c65
    refine tk_aload_n C hl 0 dX4_read_68 rfl ?_
    refine tk_aload_n C hl 0 dX4_read_69 rfl ?_
    refine tk_gi C hR hw rfl in_X4 (by decide) q2057 (fun _ h => h) dX4_read_70 (fun x8 hw => ?_)
    refine tk_p (x := .inl x8) C hR hS hw (by decide) rfl in_X4 tyX4 tyX4_ok nmX4 (by decide) q2058 (fun _ h => h) rfl (tw_ni _) dX4_read_73 (fun σ H locs hw hR hS => ?_)
    refine tk_aload_n C hl 0 dX4_read_76 rfl ?_
    refine lv_iconst (v := 2) C.hx C.hb dX4_read_77 (by decide) ?_
    obtain ⟨hv, hw⟩ := hw
    refine tw_cbi C hS (tk_runV (As := [.inl 2]) C hR hS (wk_X4_fails l C.hst G (R.frames - 1) (by omega) _ _ _ _ σ hw) hv rfl q2155 q2157 qs24 q74 q2158 pd_X4_fails ⟨by omega, by omega⟩ hl.1 rfl (tw_r8 [] (Nat.le_of_ble_eq_true rfl)) dX4_read_78) (fun E q σ H locs hX hR hS hi => tw_out C hR hS (fun x hx => (hnx x hx).elim) hi hX) (fun x9 σ H locs hw hR hS => ?_)
    exact tw_iret C hR hS hr rfl dX4_read_81 hw
set_option maxHeartbeats 4000000 in
theorem wk_X4_read (l : Launch) (hl0 : l.stackTraces = false) (G : Tgl) (fr : Nat)  (hfr : 68 ≤ fr) (l0 : Option Nat) (l1 : Int32) (Q : Int32 → Tst → Prop) (X : String → Nat → Tst → Prop) (σ : Tst) (hw : w_X4_read l0 l1 Q X σ) : tw_M l yX4_read (ws_ yX4_read cX4_read 2 (some .int)) fr (40 * fr) G σ [.inr l0, .inl l1] (tw_Qi G Q) X := by
  unfold w_X4_read at hw
  refine tw_of (ret := (some .int)) hl0 (by decide) (Nat.le_of_ble_eq_true rfl) (fun p e R s m args below meth c hRf hRl C hr hmn hnx hR hS ls hl => ?_)
  have hfr : 68 ≤ R.frames := by rw [hRf]; exact hfr
  have hRl : R.locals = 40 * R.frames := by rw [hRl, hRf]
  have hl : tw_l ls 2 [(0, .inr l0), (1, .inl l1)] := hl
  refine tk_aload_n C hl 0 dX4_read_0 rfl ?_
  refine lv_iconst (v := 0) C.hx C.hb dX4_read_1 (by decide) ?_
  refine tk_p (x := .inl 0) C hR hS hw (by decide) rfl in_X4 tyX4 tyX4_ok nmX4 (by decide) q2053 (fun _ h => h) rfl (tw_ni _) dX4_read_2 (fun σ H locs hw hR hS => ?_)
  refine tk_iload_n C hl 1 dX4_read_5 rfl ?_
  refine tw_cbi C hS (tw_runS (As := [.inl l1]) C hR hS (wk_X4_isTree l C.hst G (R.frames - 1) (by omega) _ _ _ σ hw) q2163 q2164 q74 q2165 pd_X4_isTree ⟨by omega, by omega⟩ hl.1 rfl (tw_r8 [] (Nat.le_of_ble_eq_true rfl)) dX4_read_6) (fun E q σ H locs hX hR hS hi => tw_out C hR hS (fun x hx => (hnx x hx).elim) hi hX) (fun x1 σ H locs hw hR hS => ?_)
  refine lv_if_ne (tgt := 18) C.hx C.hb dX4_read_9 (by decide) (fun c9 => ?_) (fun c9 => ?_)
  · replace hw := hw.2 c9
    refine tk_aload_n C hl 0 dX4_read_18 rfl ?_
    refine lv_iconst (v := 0) C.hx C.hb dX4_read_19 (by decide) ?_
    refine tk_p (x := .inl 0) C hR hS hw (by decide) rfl in_X4 tyX4 tyX4_ok nmX4 (by decide) q2056 (fun _ h => h) rfl (tw_ni _) dX4_read_20 (fun σ H locs hw hR hS => ?_)
    refine tk_aload_n C hl 0 dX4_read_23 rfl ?_
    refine lv_iconst (v := (-1)) C.hx C.hb dX4_read_24 (by decide) ?_
    refine tk_p (x := .inl (-1)) C hR hS hw (by decide) rfl in_X4 tyX4 tyX4_ok nmX4 (by decide) q2057 (fun _ h => h) rfl (tw_ni _) dX4_read_25 (fun σ H locs hw hR hS => ?_)
    refine tk_aload_n C hl 0 dX4_read_28 rfl ?_
    refine tk_gr C hR hw rfl in_X4 (by decide) q2060 (fun _ h => h) dX4_read_29 (fun x2 hw => ?_)
    refine lv_iconst (v := 0) C.hx C.hb dX4_read_32 (by decide) ?_
    refine tk_pN (x := .inl 0) C hR hS hw (by decide) rfl in_X5 tyX5 tyX5_ok nmX5 (by decide) q2027 (fun _ h => h) rfl (tw_ni _) dX4_read_33 (fun σ H locs hw hR hS => ?_)
    refine tk_aload_n C hl 0 dX4_read_36 rfl ?_
    refine lv_iconst (v := (-1)) C.hx C.hb dX4_read_37 (by decide) ?_
    obtain ⟨hv, hw⟩ := hw
    refine tw_cbv C hS (tk_runV (As := [.inl (-1)]) C hR hS (wk_X4_readsNode l C.hst G 64 (R.frames - 1) (by omega) _ _ _ _ σ hw) hv rfl q2169 q2171 qs25 q74 q2172 pd_X4_readsNode ⟨by omega, by omega⟩ hl.1 rfl (tw_r8 [] (Nat.le_of_ble_eq_true rfl)) dX4_read_38) (fun E q σ H locs hX hR hS hi => tw_out C hR hS (fun x hx => (hnx x hx).elim) hi hX) (fun σ H locs hw hR hS => ?_)
    refine tk_aload_n C hl 0 dX4_read_41 rfl ?_
    refine tk_gi C hR hw rfl in_X4 (by decide) q2056 (fun _ h => h) dX4_read_42 (fun x4 hw => ?_)
    refine tk_aload_n C hl 0 dX4_read_45 rfl ?_
    refine tk_gi C hR hw rfl in_X4 (by decide) q2055 (fun _ h => h) dX4_read_46 (fun x5 hw => ?_)
    refine lv_icmp_ge (tgt := 56) C.hx C.hb dX4_read_49 (by decide) (fun c49 => ?_) (fun c49 => ?_)
    · replace hw := hw.1 c49
      exact wk_X4_read_b56 C hr hmn hnx hfr hRl _ _ σ _ _ _ hw hR hS (tk_sub hl [0, 1] rfl)
    · replace hw := hw.2 c49
      refine tk_aload_n C hl 0 dX4_read_52 rfl ?_
      obtain ⟨hv, hw⟩ := hw
      refine tw_cbv C hS (tk_runV (As := []) C hR hS (wk_X4_isFaulty l C.hst G (R.frames - 1) (by omega) _ _ _ σ hw) hv rfl q2181 q2183 qs28 q74 q2184 pd_X4_isFaulty ⟨by omega, by omega⟩ hl.1 rfl (tw_r8 [] (Nat.le_of_ble_eq_true rfl)) dX4_read_53) (fun E q σ H locs hX hR hS hi => tw_out C hR hS (fun x hx => (hnx x hx).elim) hi hX) (fun σ H locs hw hR hS => ?_)
      exact wk_X4_read_b56 C hr hmn hnx hfr hRl _ _ σ _ _ _ hw hR hS (tk_sub hl [0, 1] rfl)
  · replace hw := hw.1 c9
    refine tk_aload_n C hl 0 dX4_read_12 rfl ?_
    refine lv_iconst (v := 1) C.hx C.hb dX4_read_13 (by decide) ?_
    obtain ⟨hv, hw⟩ := hw
    refine tw_cbi C hS (tk_runV (As := [.inl 1]) C hR hS (wk_X4_fails l C.hst G (R.frames - 1) (by omega) _ _ _ _ σ hw) hv rfl q2155 q2157 qs24 q74 q2158 pd_X4_fails ⟨by omega, by omega⟩ hl.1 rfl (tw_r8 [] (Nat.le_of_ble_eq_true rfl)) dX4_read_14) (fun E q σ H locs hX hR hS hi => tw_out C hR hS (fun x hx => (hnx x hx).elim) hi hX) (fun x7 σ H locs hw hR hS => ?_)
    exact tw_iret C hR hS hr rfl dX4_read_17 hw
-- TreeDifferModel.errorPosition()I
def w_X4_errorPosition_b24 (Q : Int32 → Tst → Prop) (X : String → Nat → Tst → Prop) (s0 : Int32) (σ : Tst) : Prop := Q s0 σ
def w_X4_errorPosition (l0 : Option Nat) (Q : Int32 → Tst → Prop) (X : String → Nat → Tst → Prop) (σ : Tst) : Prop := w_p σ l0 cX4 1 (.inl 0) fun σ => w_gi σ l0 cX4 6 fun x1 => w_if (0 ≤ x1) (w_gi σ l0 cX4 6 fun x2 => w_X4_errorPosition_b24 Q X x2 σ) (w_rc σ l0 cX4 <| w_X4_fails l0 1 (fun x3 σ => w_X4_errorPosition_b24 Q X x3 σ) X σ)
set_option maxHeartbeats 4000000 in
theorem wk_X4_errorPosition_b24  (C : tw_C p l R s m args meth c G cX4_errorPosition 1 yX4_errorPosition.cls) (hr : meth.sig.returnType = (some .int)) (hmn : meth.name = yX4_errorPosition.name) (hnx : (∀ x ∈ c.exceptionTable.toList, False)) (hfr : 2 ≤ R.frames) (hRl : R.locals = 40 * R.frames) {Q : Int32 → Tst → Prop} {X : String → Nat → Tst → Prop}  (s0 : Int32) (σ : Tst) (H : Heap) (locs : List Loc) (ls : Array Slot) (hw : w_X4_errorPosition_b24 Q X s0 σ) (hR : tw_R G σ H) (hS : va_S (tw_A G) s.heap H locs) (hl : tw_l ls 1 []) : tw_W p l e R s m args below meth c σ H locs (tw_E below G (tw_Qi G Q) X args s R) (F0 m 24 ls [.int s0]) := by
  unfold w_X4_errorPosition_b24 at hw
  exact tw_iret C hR hS hr rfl dX4_errorPosition_24 hw
set_option maxHeartbeats 4000000 in
theorem wk_X4_errorPosition (l : Launch) (hl0 : l.stackTraces = false) (G : Tgl) (fr : Nat)  (hfr : 2 ≤ fr) (l0 : Option Nat) (Q : Int32 → Tst → Prop) (X : String → Nat → Tst → Prop) (σ : Tst) (hw : w_X4_errorPosition l0 Q X σ) : tw_M l yX4_errorPosition (ws_ yX4_errorPosition cX4_errorPosition 1 (some .int)) fr (40 * fr) G σ [.inr l0] (tw_Qi G Q) X := by
  unfold w_X4_errorPosition at hw
  refine tw_of (ret := (some .int)) hl0 (by decide) (Nat.le_of_ble_eq_true rfl) (fun p e R s m args below meth c hRf hRl C hr hmn hnx hR hS ls hl => ?_)
  have hfr : 2 ≤ R.frames := by rw [hRf]; exact hfr
  have hRl : R.locals = 40 * R.frames := by rw [hRl, hRf]
  have hl : tw_l ls 1 [(0, .inr l0)] := hl
  refine tk_aload_n C hl 0 dX4_errorPosition_0 rfl ?_
  refine lv_iconst (v := 0) C.hx C.hb dX4_errorPosition_1 (by decide) ?_
  refine tk_p (x := .inl 0) C hR hS hw (by decide) rfl in_X4 tyX4 tyX4_ok nmX4 (by decide) q2053 (fun _ h => h) rfl (tw_ni _) dX4_errorPosition_2 (fun σ H locs hw hR hS => ?_)
  refine tk_aload_n C hl 0 dX4_errorPosition_5 rfl ?_
  refine tk_gi C hR hw rfl in_X4 (by decide) q2058 (fun _ h => h) dX4_errorPosition_6 (fun x1 hw => ?_)
  refine lv_if_ge (tgt := 20) C.hx C.hb dX4_errorPosition_9 (by decide) (fun c9 => ?_) (fun c9 => ?_)
  · replace hw := hw.1 c9
    refine tk_aload_n C hl 0 dX4_errorPosition_20 rfl ?_
    refine tk_gi C hR hw rfl in_X4 (by decide) q2058 (fun _ h => h) dX4_errorPosition_21 (fun x2 hw => ?_)
    exact wk_X4_errorPosition_b24 C hr hmn hnx hfr hRl _ σ _ _ _ hw hR hS (tk_sub hl [] rfl)
  · replace hw := hw.2 c9
    refine tk_aload_n C hl 0 dX4_errorPosition_12 rfl ?_
    refine lv_iconst (v := 1) C.hx C.hb dX4_errorPosition_13 (by decide) ?_
    obtain ⟨hv, hw⟩ := hw
    refine tw_cbi C hS (tk_runV (As := [.inl 1]) C hR hS (wk_X4_fails l C.hst G (R.frames - 1) (by omega) _ _ _ _ σ hw) hv rfl q2155 q2157 qs24 q74 q2158 pd_X4_fails ⟨by omega, by omega⟩ hl.1 rfl (tw_r8 [] (Nat.le_of_ble_eq_true rfl)) dX4_errorPosition_14) (fun E q σ H locs hX hR hS hi => tw_out C hR hS (fun x hx => (hnx x hx).elim) hi hX) (fun x3 σ H locs hw hR hS => ?_)
    refine lv_goto (tgt := 24) C.hx C.hb dX4_errorPosition_17 (by decide) ?_
    exact wk_X4_errorPosition_b24 C hr hmn hnx hfr hRl _ σ _ _ _ hw hR hS (tk_sub hl [] rfl)
-- java/lang/AbstractStringBuilder.<init>(I)V
def w_J0_init_b38 (Q : Tst → Prop) (X : String → Nat → Tst → Prop) (σ : Tst) : Prop := Q σ
def w_J0_init (l0 : Option Nat) (l1 : Int32) (Q : Tst → Prop) (X : String → Nat → Tst → Prop) (σ : Tst) : Prop := w_rf l0 <| w_if ((1 : Int32) = 0) (w_J3_newBytesFor l1 (fun x2 σ => w_p σ l0 cJ1 0 (.inr x2) fun σ => w_ok .byte 1 ∧ w_p σ l0 cJ1 1 (.inl 1) fun σ => w_J0_init_b38 Q X σ) X σ) (w_na σ 2 l1 (.inl fun _ => 0) fun q3 σ => w_p σ l0 cJ1 0 (.inr q3) fun σ => w_ok .byte 0 ∧ w_p σ l0 cJ1 1 (.inl 0) fun σ => w_J0_init_b38 Q X σ)
set_option maxHeartbeats 4000000 in
theorem wk_J0_init_b38  (C : tw_C p l R s m args meth c G cJ0_init 2 yJ0_init.cls) (hr : meth.sig.returnType = none) (hmn : meth.name = yJ0_init.name) (hnx : (∀ x ∈ c.exceptionTable.toList, False)) (hfr : 3 ≤ R.frames) (hRl : R.locals = 40 * R.frames) {Q : Tst → Prop} {X : String → Nat → Tst → Prop}   (σ : Tst) (H : Heap) (locs : List Loc) (ls : Array Slot) (hw : w_J0_init_b38 Q X  σ) (hR : tw_R G σ H) (hS : va_S (tw_A G) s.heap H locs) (hl : tw_l ls 2 []) : tw_W p l e R s m args below meth c σ H locs (tw_E below G (tw_Qv G Q) X args s R) (F0 m 38 ls []) := by
  unfold w_J0_init_b38 at hw
  exact tw_vret C hR hS hr dJ0_init_38 hw
set_option maxHeartbeats 4000000 in
theorem wk_J0_init (l : Launch) (hl0 : l.stackTraces = false) (G : Tgl) (fr : Nat)  (hfr : 3 ≤ fr) (l0 : Option Nat) (l1 : Int32) (Q : Tst → Prop) (X : String → Nat → Tst → Prop) (σ : Tst) (hw : w_J0_init l0 l1 Q X σ) : tw_M l yJ0_init (ws_ yJ0_init cJ0_init 2 none) fr (40 * fr) G σ [.inr l0, .inl l1] (tw_Qv G Q) X := by
  unfold w_J0_init at hw
  refine tw_of (ret := none) hl0 (by decide) (Nat.le_of_ble_eq_true rfl) (fun p e R s m args below meth c hRf hRl C hr hmn hnx hR hS ls hl => ?_)
  have hfr : 3 ≤ R.frames := by rw [hRf]; exact hfr
  have hRl : R.locals = 40 * R.frames := by rw [hRl, hRf]
  have hl : tw_l ls 2 [(0, .inr l0), (1, .inl l1)] := hl
  refine tk_aload_n C hl 0 dJ0_init_0 rfl ?_
  refine tk_obj C hw q131 q119 q120 hl.1 (tw_r8 [] (Nat.le_of_ble_eq_true rfl)) (by omega) (by omega) dJ0_init_1 (fun hw => ?_)
  refine tk_gs (x := .inl 1) C hR hS 3 rfl q132 (fun _ h => h) dJ0_init_4 ?_
  refine lv_if_eq (tgt := 25) C.hx C.hb dJ0_init_7 (by decide) (fun c7 => ?_) (fun c7 => ?_)
  · replace hw := hw.1 c7
    refine tk_aload_n C hl 0 dJ0_init_25 rfl ?_
    refine tk_iload_n C hl 1 dJ0_init_26 rfl ?_
    refine tw_cbq C hS (tw_runS (As := [.inl l1]) C hR hS (wk_J3_newBytesFor l C.hst G (R.frames - 1) (by omega) _ _ _ σ hw) q134 q135 q68 q136 pd_J3_newBytesFor ⟨by omega, by omega⟩ hl.1 rfl (tw_r8 [.inr l0] (Nat.le_of_ble_eq_true rfl)) dJ0_init_27) (fun E q σ H locs hX hR hS hi => tw_out C hR hS (fun x hx => (hnx x hx).elim) hi hX) (fun x2 σ H locs hw hR hS => ?_)
    refine tk_p (x := .inr x2) C hR hS hw (by decide) rfl in_J1 tyJ1 tyJ1_ok nmJ1 (by decide) q141 (fun _ h => h) rfl (tw_nrA _ _) dJ0_init_30 (fun σ H locs hw hR hS => ?_)
    refine tk_aload_n C hl 0 dJ0_init_33 rfl ?_
    refine lv_iconst (v := 1) C.hx C.hb dJ0_init_34 (by decide) ?_
    obtain ⟨hok, hw⟩ := hw
    refine tk_p (x := .inl 1) C hR hS hw (by decide) rfl in_J1 tyJ1 tyJ1_ok nmJ1 (by decide) q142 (fun _ h => h) rfl hok dJ0_init_35 (fun σ H locs hw hR hS => ?_)
    exact wk_J0_init_b38 C hr hmn hnx hfr hRl σ _ _ _ hw hR hS (tk_sub hl [] rfl)
  · replace hw := hw.2 c7
    refine tk_aload_n C hl 0 dJ0_init_10 rfl ?_
    refine tk_iload_n C hl 1 dJ0_init_11 rfl ?_
    refine tk_na (t := 2) (atype := .byte) C hR hS hw q155 rfl (fun h => h) (fun _ _ => rfl) (by decide) dJ0_init_12 (fun q3 σ H hw hR hS => ?_)
    refine tk_p (x := .inr q3) C hR hS hw (by decide) rfl in_J1 tyJ1 tyJ1_ok nmJ1 (by decide) q141 (fun _ h => h) rfl (tw_nrA _ _) dJ0_init_14 (fun σ H locs hw hR hS => ?_)
    refine tk_aload_n C hl 0 dJ0_init_17 rfl ?_
    refine lv_iconst (v := 0) C.hx C.hb dJ0_init_18 (by decide) ?_
    obtain ⟨hok, hw⟩ := hw
    refine tk_p (x := .inl 0) C hR hS hw (by decide) rfl in_J1 tyJ1 tyJ1_ok nmJ1 (by decide) q142 (fun _ h => h) rfl hok dJ0_init_19 (fun σ H locs hw hR hS => ?_)
    refine lv_goto (tgt := 38) C.hx C.hb dJ0_init_22 (by decide) ?_
    exact wk_J0_init_b38 C hr hmn hnx hfr hRl σ _ _ _ hw hR hS (tk_sub hl [] rfl)
-- java/lang/StringBuilder.<init>()V
def w_J1_init (l0 : Option Nat) (Q : Tst → Prop) (X : String → Nat → Tst → Prop) (σ : Tst) : Prop := w_rf l0 <| w_J0_init l0 16 (fun σ => Q σ) X σ
set_option maxHeartbeats 4000000 in
theorem wk_J1_init (l : Launch) (hl0 : l.stackTraces = false) (G : Tgl) (fr : Nat)  (hfr : 4 ≤ fr) (l0 : Option Nat) (Q : Tst → Prop) (X : String → Nat → Tst → Prop) (σ : Tst) (hw : w_J1_init l0 Q X σ) : tw_M l yJ1_init (ws_ yJ1_init cJ1_init 1 none) fr (40 * fr) G σ [.inr l0] (tw_Qv G Q) X := by
  unfold w_J1_init at hw
  refine tw_of (ret := none) hl0 (by decide) (Nat.le_of_ble_eq_true rfl) (fun p e R s m args below meth c hRf hRl C hr hmn hnx hR hS ls hl => ?_)
  have hfr : 4 ≤ R.frames := by rw [hRf]; exact hfr
  have hRl : R.locals = 40 * R.frames := by rw [hRl, hRf]
  have hl : tw_l ls 1 [(0, .inr l0)] := hl
  refine tk_aload_n C hl 0 dJ1_init_0 rfl ?_
  refine lv_bipush (v := 16) C.hx C.hb dJ1_init_1 (by decide) ?_
  obtain ⟨hv, hw⟩ := hw
  refine tw_cbv C hS (tk_runI (As := [.inl 16]) hv C hR hS (wk_J0_init l C.hst G (R.frames - 1) (by omega) _ _ _ _ σ hw) q128 q129 q65 q130 rfl pd_J0_init ⟨by omega, by omega⟩ hl.1 rfl (tw_r8 [] (Nat.le_of_ble_eq_true rfl)) dJ1_init_3) (fun E q σ H locs hX hR hS hi => tw_out C hR hS (fun x hx => (hnx x hx).elim) hi hX) (fun σ H locs hw hR hS => ?_)
  exact tw_vret C hR hS hr dJ1_init_6 hw
-- TreeDifferModel$Tree.many(I)I
def w_X5_many_b30 (k6 : Option Nat → Int32 → Int32 → Int32 → Tst → Prop) (Q : Int32 → Tst → Prop) (X : String → Nat → Tst → Prop) (l0 : Option Nat) (l1 : Int32) (l3 : Int32) (s0 : Int32) (s1 : Int32) (σ : Tst) : Prop := k6 l0 l1 (s0 + s1) (l3 + 1) σ
def w_X5_many_b6 (Q : Int32 → Tst → Prop) (X : String → Nat → Tst → Prop) : Nat → Option Nat → Int32 → Int32 → Int32 → Tst → Prop
  | 0, _, _, _, _, _ => False
  | n + 1, l0, l1, l2, l3, σ => w_gi σ l0 cX5 4 fun x1 => w_if (x1 ≤ l3) (Q l2 σ) (w_gr σ l0 cX5 3 fun x2 => w_li σ x2 l3 fun x3 => w_if (x3 = l1) (w_X5_many_b30 (w_X5_many_b6 Q X n) Q X l0 l1 l3 l2 1 σ) (w_X5_many_b30 (w_X5_many_b6 Q X n) Q X l0 l1 l3 l2 0 σ))
def w_X5_many (l0 : Option Nat) (l1 : Int32) (Q : Int32 → Tst → Prop) (X : String → Nat → Tst → Prop) (σ : Tst) : Prop := ∃ z, w_X5_many_b6 Q X z l0 l1 0 (l1 + 1) σ
set_option maxHeartbeats 4000000 in
theorem wk_X5_many_b30  (C : tw_C p l R s m args meth c G cX5_many 4 yX5_many.cls) (hr : meth.sig.returnType = (some .int)) (hmn : meth.name = yX5_many.name) (hnx : (∀ x ∈ c.exceptionTable.toList, False)) (hfr : 1 ≤ R.frames) (hRl : R.locals = 40 * R.frames) {Q : Int32 → Tst → Prop} {X : String → Nat → Tst → Prop}  {k6 : Option Nat → Int32 → Int32 → Int32 → Tst → Prop} (hk6 : ∀ (l0 : Option Nat) (l1 : Int32) (l2 : Int32) (l3 : Int32) (σ : Tst) (H : Heap) (locs : List Loc) (ls : Array Slot), k6 l0 l1 l2 l3 σ → tw_R G σ H → va_S (tw_A G) s.heap H locs → tw_l ls 4 [(0, .inr l0), (1, .inl l1), (2, .inl l2), (3, .inl l3)] → tw_W p l e R s m args below meth c σ H locs (tw_E below G (tw_Qi G Q) X args s R) (F0 m 6 ls [])) (l0 : Option Nat) (l1 : Int32) (l3 : Int32) (s0 : Int32) (s1 : Int32) (σ : Tst) (H : Heap) (locs : List Loc) (ls : Array Slot) (hw : w_X5_many_b30 k6 Q X l0 l1 l3 s0 s1 σ) (hR : tw_R G σ H) (hS : va_S (tw_A G) s.heap H locs) (hl : tw_l ls 4 [(0, .inr l0), (1, .inl l1), (3, .inl l3)]) : tw_W p l e R s m args below meth c σ H locs (tw_E below G (tw_Qi G Q) X args s R) (F0 m 30 ls [.int s1, .int s0]) := by
  unfold w_X5_many_b30 at hw
  refine lv_iadd C.hx C.hb dX5_many_30 ?_
  refine tk_istore_n (L' := [(2, .inl (s0 + s1)), (0, .inr l0), (1, .inl l1), (3, .inl l3)]) C hl dX5_many_31 (by decide) rfl (fun ls hl => ?_)
  refine tk_iinc (L' := [(3, .inl (l3 + 1)), (2, .inl (s0 + s1)), (0, .inr l0), (1, .inl l1)]) (y := (l3 + 1)) C hl 3 dX5_many_32 rfl rfl (by decide) rfl (fun ls hl => ?_)
  refine lv_goto (tgt := 6) C.hx C.hb dX5_many_35 (by decide) ?_
  exact hk6 _ _ _ _ σ _ _ _ hw hR hS (tk_sub hl [2, 3, 1, 0] rfl)
set_option maxHeartbeats 4000000 in
theorem wk_X5_many_b6  (C : tw_C p l R s m args meth c G cX5_many 4 yX5_many.cls) (hr : meth.sig.returnType = (some .int)) (hmn : meth.name = yX5_many.name) (hnx : (∀ x ∈ c.exceptionTable.toList, False)) (hfr : 1 ≤ R.frames) (hRl : R.locals = 40 * R.frames) {Q : Int32 → Tst → Prop} {X : String → Nat → Tst → Prop}  : ∀ (n : Nat) (l0 : Option Nat) (l1 : Int32) (l2 : Int32) (l3 : Int32) (σ : Tst) (H : Heap) (locs : List Loc) (ls : Array Slot), w_X5_many_b6 Q X n l0 l1 l2 l3 σ → tw_R G σ H → va_S (tw_A G) s.heap H locs → tw_l ls 4 [(0, .inr l0), (1, .inl l1), (2, .inl l2), (3, .inl l3)] → tw_W p l e R s m args below meth c σ H locs (tw_E below G (tw_Qi G Q) X args s R) (F0 m 6 ls []) := by
  intro n
  induction n with
  | zero => intro l0 l1 l2 l3 σ H locs ls hw; exact False.elim hw
  | succ n hk6 =>
    intro l0 l1 l2 l3 σ H locs ls hw hR hS hl
    rw [w_X5_many_b6] at hw
    refine tk_iload_n C hl 3 dX5_many_6 rfl ?_
    refine tk_aload_n C hl 0 dX5_many_7 rfl ?_
    refine tk_gi C hR hw rfl in_X5 (by decide) q2026 (fun _ h => h) dX5_many_8 (fun x1 hw => ?_)
    refine lv_icmp_ge (tgt := 38) C.hx C.hb dX5_many_11 (by decide) (fun c11 => ?_) (fun c11 => ?_)
    · replace hw := hw.1 c11
      refine tk_iload_n C hl 2 dX5_many_38 rfl ?_
      exact tw_iret C hR hS hr rfl dX5_many_39 hw
    · replace hw := hw.2 c11
      refine tk_iload_n C hl 2 dX5_many_14 rfl ?_
      refine tk_aload_n C hl 0 dX5_many_15 rfl ?_
      refine tk_gr C hR hw rfl in_X5 (by decide) q2024 (fun _ h => h) dX5_many_16 (fun x2 hw => ?_)
      refine tk_iload_n C hl 3 dX5_many_19 rfl ?_
      refine tk_li C hR hw dX5_many_20 (fun x3 hw => ?_)
      refine tk_iload_n C hl 1 dX5_many_21 rfl ?_
      refine lv_icmp_ne (tgt := 29) C.hx C.hb dX5_many_22 (by decide) (fun c22 => ?_) (fun c22 => ?_)
      · replace hw := hw.2 c22
        refine lv_iconst (v := 0) C.hx C.hb dX5_many_29 (by decide) ?_
        exact wk_X5_many_b30 C hr hmn hnx hfr hRl hk6 _ _ _ _ _ σ _ _ _ hw hR hS (tk_sub hl [0, 1, 3] rfl)
      · replace hw := hw.1 c22
        refine lv_iconst (v := 1) C.hx C.hb dX5_many_25 (by decide) ?_
        refine lv_goto (tgt := 30) C.hx C.hb dX5_many_26 (by decide) ?_
        exact wk_X5_many_b30 C hr hmn hnx hfr hRl hk6 _ _ _ _ _ σ _ _ _ hw hR hS (tk_sub hl [0, 1, 3] rfl)
set_option maxHeartbeats 4000000 in
theorem wk_X5_many (l : Launch) (hl0 : l.stackTraces = false) (G : Tgl) (fr : Nat)  (hfr : 1 ≤ fr) (l0 : Option Nat) (l1 : Int32) (Q : Int32 → Tst → Prop) (X : String → Nat → Tst → Prop) (σ : Tst) (hw : w_X5_many l0 l1 Q X σ) : tw_M l yX5_many (ws_ yX5_many cX5_many 4 (some .int)) fr (40 * fr) G σ [.inr l0, .inl l1] (tw_Qi G Q) X := by
  unfold w_X5_many at hw
  refine tw_of (ret := (some .int)) hl0 (by decide) (Nat.le_of_ble_eq_true rfl) (fun p e R s m args below meth c hRf hRl C hr hmn hnx hR hS ls hl => ?_)
  have hfr : 1 ≤ R.frames := by rw [hRf]; exact hfr
  have hRl : R.locals = 40 * R.frames := by rw [hRl, hRf]
  have hl : tw_l ls 4 [(0, .inr l0), (1, .inl l1)] := hl
  refine lv_iconst (v := 0) C.hx C.hb dX5_many_0 (by decide) ?_
  refine tk_istore_n (L' := [(2, .inl 0), (0, .inr l0), (1, .inl l1)]) C hl dX5_many_1 (by decide) rfl (fun ls hl => ?_)
  refine tk_iload_n C hl 2 dX5_many_2 rfl ?_
  refine lv_iconst (v := 1) C.hx C.hb dX5_many_3 (by decide) ?_
  refine lv_iadd C.hx C.hb dX5_many_4 ?_
  refine tk_istore_n (L' := [(3, .inl (l1 + 1)), (2, .inl 0), (0, .inr l0), (1, .inl l1)]) C hl dX5_many_5 (by decide) rfl (fun ls hl => ?_)
  obtain ⟨z, hw⟩ := hw
  exact wk_X5_many_b6 C hr hmn hnx hfr hRl z _ _ _ _ σ _ _ _ hw hR hS (tk_sub hl [2, 3, 1, 0] rfl)
-- TreeDifferModel$Tree.kids(I)[I
def w_X5_kids_b46 (k15 : Option Nat → Int32 → Option Nat → Int32 → Int32 → Tst → Prop) (Q : Option Nat → Tst → Prop) (X : String → Nat → Tst → Prop) (l0 : Option Nat) (l1 : Int32) (l2 : Option Nat) (l3 : Int32) (l4 : Int32) (σ : Tst) : Prop := k15 l0 l1 l2 l3 (l4 + 1) σ
def w_X5_kids_b15 (Q : Option Nat → Tst → Prop) (X : String → Nat → Tst → Prop) : Nat → Option Nat → Int32 → Option Nat → Int32 → Int32 → Tst → Prop
  | 0, _, _, _, _, _, _ => False
  | n + 1, l0, l1, l2, l3, l4, σ => w_gi σ l0 cX5 4 fun x1 => w_if (x1 ≤ l4) (Q l2 σ) (w_gr σ l0 cX5 3 fun x2 => w_li σ x2 l4 fun x3 => w_if (x3 = l1) (w_si σ l2 l3 l4 fun σ => w_X5_kids_b46 (w_X5_kids_b15 Q X n) Q X l0 l1 l2 (l3 + 1) l4 σ) (w_X5_kids_b46 (w_X5_kids_b15 Q X n) Q X l0 l1 l2 l3 l4 σ))
def w_X5_kids (l0 : Option Nat) (l1 : Int32) (Q : Option Nat → Tst → Prop) (X : String → Nat → Tst → Prop) (σ : Tst) : Prop := w_rc σ l0 cX5 <| w_X5_many l0 l1 (fun x1 σ => w_na σ 0 x1 (.inl fun _ => 0) fun q2 σ => ∃ z, w_X5_kids_b15 Q X z l0 l1 q2 0 (l1 + 1) σ) X σ
set_option maxHeartbeats 4000000 in
theorem wk_X5_kids_b46  (C : tw_C p l R s m args meth c G cX5_kids 5 yX5_kids.cls) (hr : meth.sig.returnType = (some (.array .int))) (hmn : meth.name = yX5_kids.name) (hnx : (∀ x ∈ c.exceptionTable.toList, False)) (hfr : 2 ≤ R.frames) (hRl : R.locals = 40 * R.frames) {Q : Option Nat → Tst → Prop} {X : String → Nat → Tst → Prop}  {k15 : Option Nat → Int32 → Option Nat → Int32 → Int32 → Tst → Prop} (hk15 : ∀ (l0 : Option Nat) (l1 : Int32) (l2 : Option Nat) (l3 : Int32) (l4 : Int32) (σ : Tst) (H : Heap) (locs : List Loc) (ls : Array Slot), k15 l0 l1 l2 l3 l4 σ → tw_R G σ H → va_S (tw_A G) s.heap H locs → tw_l ls 5 [(0, .inr l0), (1, .inl l1), (2, .inr l2), (3, .inl l3), (4, .inl l4)] → tw_W p l e R s m args below meth c σ H locs (tw_E below G (tw_Qq G Q) X args s R) (F0 m 15 ls [])) (l0 : Option Nat) (l1 : Int32) (l2 : Option Nat) (l3 : Int32) (l4 : Int32) (σ : Tst) (H : Heap) (locs : List Loc) (ls : Array Slot) (hw : w_X5_kids_b46 k15 Q X l0 l1 l2 l3 l4 σ) (hR : tw_R G σ H) (hS : va_S (tw_A G) s.heap H locs) (hl : tw_l ls 5 [(0, .inr l0), (1, .inl l1), (2, .inr l2), (3, .inl l3), (4, .inl l4)]) : tw_W p l e R s m args below meth c σ H locs (tw_E below G (tw_Qq G Q) X args s R) (F0 m 46 ls []) := by
  unfold w_X5_kids_b46 at hw
  refine tk_iinc (L' := [(4, .inl (l4 + 1)), (0, .inr l0), (1, .inl l1), (2, .inr l2), (3, .inl l3)]) (y := (l4 + 1)) C hl 4 dX5_kids_46 rfl rfl (by decide) rfl (fun ls hl => ?_)
  refine lv_goto (tgt := 15) C.hx C.hb dX5_kids_49 (by decide) ?_
  exact hk15 _ _ _ _ _ σ _ _ _ hw hR hS (tk_sub hl [1, 2, 3, 4, 0] rfl)
set_option maxHeartbeats 4000000 in
theorem wk_X5_kids_b15  (C : tw_C p l R s m args meth c G cX5_kids 5 yX5_kids.cls) (hr : meth.sig.returnType = (some (.array .int))) (hmn : meth.name = yX5_kids.name) (hnx : (∀ x ∈ c.exceptionTable.toList, False)) (hfr : 2 ≤ R.frames) (hRl : R.locals = 40 * R.frames) {Q : Option Nat → Tst → Prop} {X : String → Nat → Tst → Prop}  : ∀ (n : Nat) (l0 : Option Nat) (l1 : Int32) (l2 : Option Nat) (l3 : Int32) (l4 : Int32) (σ : Tst) (H : Heap) (locs : List Loc) (ls : Array Slot), w_X5_kids_b15 Q X n l0 l1 l2 l3 l4 σ → tw_R G σ H → va_S (tw_A G) s.heap H locs → tw_l ls 5 [(0, .inr l0), (1, .inl l1), (2, .inr l2), (3, .inl l3), (4, .inl l4)] → tw_W p l e R s m args below meth c σ H locs (tw_E below G (tw_Qq G Q) X args s R) (F0 m 15 ls []) := by
  intro n
  induction n with
  | zero => intro l0 l1 l2 l3 l4 σ H locs ls hw; exact False.elim hw
  | succ n hk15 =>
    intro l0 l1 l2 l3 l4 σ H locs ls hw hR hS hl
    rw [w_X5_kids_b15] at hw
    refine tk_iload C hl 4 dX5_kids_15 rfl ?_
    refine tk_aload_n C hl 0 dX5_kids_17 rfl ?_
    refine tk_gi C hR hw rfl in_X5 (by decide) q2026 (fun _ h => h) dX5_kids_18 (fun x1 hw => ?_)
    refine lv_icmp_ge (tgt := 52) C.hx C.hb dX5_kids_21 (by decide) (fun c21 => ?_) (fun c21 => ?_)
    · replace hw := hw.1 c21
      refine tk_aload_n C hl 2 dX5_kids_52 rfl ?_
      exact tw_aret C hR hS hr (Or.inr ⟨_, rfl⟩) dX5_kids_53 hw
    · replace hw := hw.2 c21
      refine tk_aload_n C hl 0 dX5_kids_24 rfl ?_
      refine tk_gr C hR hw rfl in_X5 (by decide) q2024 (fun _ h => h) dX5_kids_25 (fun x2 hw => ?_)
      refine tk_iload C hl 4 dX5_kids_28 rfl ?_
      refine tk_li C hR hw dX5_kids_30 (fun x3 hw => ?_)
      refine tk_iload_n C hl 1 dX5_kids_31 rfl ?_
      refine lv_icmp_eq (tgt := 38) C.hx C.hb dX5_kids_32 (by decide) (fun c32 => ?_) (fun c32 => ?_)
      · replace hw := hw.1 c32
        refine tk_aload_n C hl 2 dX5_kids_38 rfl ?_
        refine tk_iload_n C hl 3 dX5_kids_39 rfl ?_
        refine tk_iload C hl 4 dX5_kids_40 rfl ?_
        refine tk_si C hR hS hw dX5_kids_42 (fun σ H locs hw hR hS => ?_)
        refine tk_iinc (L' := [(3, .inl (l3 + 1)), (0, .inr l0), (1, .inl l1), (2, .inr l2), (4, .inl l4)]) (y := (l3 + 1)) C hl 3 dX5_kids_43 rfl rfl (by decide) rfl (fun ls hl => ?_)
        exact wk_X5_kids_b46 C hr hmn hnx hfr hRl hk15 _ _ _ _ _ σ _ _ _ hw hR hS (tk_sub hl [1, 2, 3, 0, 4] rfl)
      · replace hw := hw.2 c32
        refine lv_goto (tgt := 46) C.hx C.hb dX5_kids_35 (by decide) ?_
        exact wk_X5_kids_b46 C hr hmn hnx hfr hRl hk15 _ _ _ _ _ σ _ _ _ hw hR hS (tk_sub hl [0, 1, 2, 3, 4] rfl)
set_option maxHeartbeats 4000000 in
theorem wk_X5_kids (l : Launch) (hl0 : l.stackTraces = false) (G : Tgl) (fr : Nat)  (hfr : 2 ≤ fr) (l0 : Option Nat) (l1 : Int32) (Q : Option Nat → Tst → Prop) (X : String → Nat → Tst → Prop) (σ : Tst) (hw : w_X5_kids l0 l1 Q X σ) : tw_M l yX5_kids (ws_ yX5_kids cX5_kids 5 (some (.array .int))) fr (40 * fr) G σ [.inr l0, .inl l1] (tw_Qq G Q) X := by
  unfold w_X5_kids at hw
  refine tw_of (ret := (some (.array .int))) hl0 (by decide) (Nat.le_of_ble_eq_true rfl) (fun p e R s m args below meth c hRf hRl C hr hmn hnx hR hS ls hl => ?_)
  have hfr : 2 ≤ R.frames := by rw [hRf]; exact hfr
  have hRl : R.locals = 40 * R.frames := by rw [hRl, hRf]
  have hl : tw_l ls 5 [(0, .inr l0), (1, .inl l1)] := hl
  refine tk_aload_n C hl 0 dX5_kids_0 rfl ?_
  refine tk_iload_n C hl 1 dX5_kids_1 rfl ?_
  obtain ⟨hv, hw⟩ := hw
  refine tw_cbi C hS (tk_runV (As := [.inl l1]) C hR hS (wk_X5_many l C.hst G (R.frames - 1) (by omega) _ _ _ _ σ hw) hv rfl q2221 q2215 qs33 q75 q2216 pd_X5_many ⟨by omega, by omega⟩ hl.1 rfl (tw_r8 [] (Nat.le_of_ble_eq_true rfl)) dX5_kids_2) (fun E q σ H locs hX hR hS hi => tw_out C hR hS (fun x hx => (hnx x hx).elim) hi hX) (fun x1 σ H locs hw hR hS => ?_)
  refine tk_na (t := 0) (atype := .int) C hR hS hw q630 rfl (fun h => h) (fun _ _ => rfl) (by decide) dX5_kids_5 (fun q2 σ H hw hR hS => ?_)
  refine tk_astore_n (L' := [(2, .inr q2), (0, .inr l0), (1, .inl l1)]) C hl dX5_kids_7 (by decide) rfl (fun ls hl => ?_)
  refine lv_iconst (v := 0) C.hx C.hb dX5_kids_8 (by decide) ?_
  refine tk_istore_n (L' := [(3, .inl 0), (2, .inr q2), (0, .inr l0), (1, .inl l1)]) C hl dX5_kids_9 (by decide) rfl (fun ls hl => ?_)
  refine tk_iload_n C hl 3 dX5_kids_10 rfl ?_
  refine lv_iconst (v := 1) C.hx C.hb dX5_kids_11 (by decide) ?_
  refine lv_iadd C.hx C.hb dX5_kids_12 ?_
  refine tk_istore (L' := [(4, .inl (l1 + 1)), (3, .inl 0), (2, .inr q2), (0, .inr l0), (1, .inl l1)]) C hl dX5_kids_13 (by decide) rfl (fun ls hl => ?_)
  obtain ⟨z, hw⟩ := hw
  exact wk_X5_kids_b15 C hr hmn hnx hfr hRl z _ _ _ _ _ σ _ _ _ hw hR hS (tk_sub hl [3, 4, 2, 1, 0] rfl)
-- TreeDifferModel.writes(LTreeDifferModel$Tree;ILjava/lang/StringBuilder;)V
def w_X4_writes_b93 (rf_X4_writes : (Option Nat) → (Option Nat) → Int32 → (Option Nat) → (Tst → Prop) → (String → Nat → Tst → Prop) → Tst → Prop) (Q : Tst → Prop) (X : String → Nat → Tst → Prop) : Nat → Option Nat → Option Nat → Option Nat → Option Nat → Int32 → Int32 → Tst → Prop
  | 0, _, _, _, _, _, _, _ => False
  | n + 1, l0, l1, l3, l4, l5, l6, σ => w_if (l5 ≤ l6) (w_rc σ l3 cJ1 <| w_J1_append_3 l3 41 (fun x1 σ => Q σ) X σ) (w_li σ l4 l6 fun x2 => w_rc σ l0 cX4 <| rf_X4_writes l0 l1 x2 l3 (fun σ => (w_X4_writes_b93 rf_X4_writes Q X n) l0 l1 l3 l4 l5 (l6 + 1) σ) X σ)
def w_X4_writes_b62 (rf_X4_writes : (Option Nat) → (Option Nat) → Int32 → (Option Nat) → (Tst → Prop) → (String → Nat → Tst → Prop) → Tst → Prop) (Q : Tst → Prop) (X : String → Nat → Tst → Prop) (l0 : Option Nat) (l1 : Option Nat) (l2 : Int32) (l3 : Option Nat) (σ : Tst) : Prop := w_rc σ l1 cX5 <| w_X5_many l1 l2 (fun x1 σ => w_if (x1 = 0) (Q σ) (w_rc σ l3 cJ1 <| w_J1_append_3 l3 40 (fun x2 σ => w_rc σ l1 cX5 <| w_X5_kids l1 l2 (fun x3 σ => w_al σ x3 fun x4 => ∃ z, w_X4_writes_b93 rf_X4_writes Q X z l0 l1 l3 x3 x4 0 σ) X σ) X σ)) X σ
def w_X4_writes_b37 (rf_X4_writes : (Option Nat) → (Option Nat) → Int32 → (Option Nat) → (Tst → Prop) → (String → Nat → Tst → Prop) → Tst → Prop) (Q : Tst → Prop) (X : String → Nat → Tst → Prop) (l0 : Option Nat) (l1 : Option Nat) (l2 : Int32) (l3 : Option Nat) (σ : Tst) : Prop := w_gr σ l1 cX5 2 fun x1 => w_li σ x1 l2 fun x2 => w_if (x2 ≤ 0) (w_X4_writes_b62 rf_X4_writes Q X l0 l1 l2 l3 σ) (w_rc σ l3 cJ1 <| w_J1_append_3 l3 61 (fun x3 σ => w_gr σ l1 cX5 2 fun x4 => w_li σ x4 l2 fun x5 => w_rc σ x3 cJ1 <| w_J1_append_2 x3 x5 (fun x6 σ => w_X4_writes_b62 rf_X4_writes Q X l0 l1 l2 l3 σ) X σ) X σ)
def w_X4_writes : Nat → Option Nat → Option Nat → Int32 → Option Nat → (Tst → Prop) → (String → Nat → Tst → Prop) → Tst → Prop
  | 0, _, _, _, _, _, _, _ => False
  | d + 1, l0, l1, l2, l3, Q, X, σ => w_gr σ l1 cX5 0 fun x1 => w_li σ x1 l2 fun x2 => w_rc σ l3 cJ1 <| w_J1_append_3 l3 ((x2.toUInt32 % 65536).toInt32) (fun x3 σ => w_gr σ l1 cX5 1 fun x4 => w_li σ x4 l2 fun x5 => w_if (x5 ≤ 0) (w_X4_writes_b37 (w_X4_writes d) Q X l0 l1 l2 l3 σ) (w_rc σ l3 cJ1 <| w_J1_append_3 l3 35 (fun x6 σ => w_gr σ l1 cX5 1 fun x7 => w_li σ x7 l2 fun x8 => w_rc σ x6 cJ1 <| w_J1_append_2 x6 x8 (fun x9 σ => w_X4_writes_b37 (w_X4_writes d) Q X l0 l1 l2 l3 σ) X σ) X σ)) X σ
set_option maxHeartbeats 4000000 in
theorem wk_X4_writes_b93 {rf_X4_writes : (Option Nat) → (Option Nat) → Int32 → (Option Nat) → (Tst → Prop) → (String → Nat → Tst → Prop) → Tst → Prop} {frf_X4_writes : Nat}  (C : tw_C p l R s m args meth c G cX4_writes 8 yX4_writes.cls) (hr : meth.sig.returnType = none) (hmn : meth.name = yX4_writes.name) (hnx : (∀ x ∈ c.exceptionTable.toList, False)) (hfr : 9 ≤ R.frames ∧ frf_X4_writes + 1 ≤ R.frames) (hRl : R.locals = 40 * R.frames) {Q : Tst → Prop} {X : String → Nat → Tst → Prop} (hrf_X4_writes : ∀ fr : Nat, frf_X4_writes ≤ fr → ∀ (a0 : Option Nat) (a1 : Option Nat) (a2 : Int32) (a3 : Option Nat) (Q : Tst → Prop) (X : String → Nat → Tst → Prop) (σ : Tst), rf_X4_writes a0 a1 a2 a3 Q X σ → tw_M l yX4_writes (ws_ yX4_writes cX4_writes 8 none) fr (40 * fr) G σ [.inr a0, .inr a1, .inl a2, .inr a3] (tw_Qv G Q) X) : ∀ (n : Nat) (l0 : Option Nat) (l1 : Option Nat) (l3 : Option Nat) (l4 : Option Nat) (l5 : Int32) (l6 : Int32) (σ : Tst) (H : Heap) (locs : List Loc) (ls : Array Slot), w_X4_writes_b93 rf_X4_writes Q X n l0 l1 l3 l4 l5 l6 σ → tw_R G σ H → va_S (tw_A G) s.heap H locs → tw_l ls 8 [(0, .inr l0), (1, .inr l1), (3, .inr l3), (4, .inr l4), (5, .inl l5), (6, .inl l6)] → tw_W p l e R s m args below meth c σ H locs (tw_E below G (tw_Qv G Q) X args s R) (F0 m 93 ls []) := by
  intro n
  induction n with
  | zero => intro l0 l1 l3 l4 l5 l6 σ H locs ls hw; exact False.elim hw
  | succ n hk93 =>
    intro l0 l1 l3 l4 l5 l6 σ H locs ls hw hR hS hl
    rw [w_X4_writes_b93] at hw
    refine tk_iload C hl 5 dX4_writes_93 rfl ?_
    refine tk_iload C hl 4 dX4_writes_95 rfl ?_
    refine lv_icmp_ge (tgt := 121) C.hx C.hb dX4_writes_97 (by decide) (fun c97 => ?_) (fun c97 => ?_)
    · replace hw := hw.1 c97
      refine tk_aload_n C hl 2 dX4_writes_121 rfl ?_
      refine lv_bipush (v := 41) C.hx C.hb dX4_writes_122 (by decide) ?_
      obtain ⟨hv, hw⟩ := hw
      refine tw_cbq C hS (tk_runV (As := [.inl 41]) C hR hS (wk_J1_append_3 l C.hst G (R.frames - 1) (by omega) _ _ _ _ σ hw) hv rfl q2211 q1372 q1373 q66 q1374 pd_J1_append_3 ⟨by omega, by omega⟩ hl.1 rfl (tw_r8 [] (Nat.le_of_ble_eq_true rfl)) dX4_writes_124) (fun E q σ H locs hX hR hS hi => tw_out C hR hS (fun x hx => (hnx x hx).elim) hi hX) (fun x1 σ H locs hw hR hS => ?_)
      refine tw_pop (x := .inr x1) C.hx C.hb dX4_writes_127 ?_
      exact tw_vret C hR hS hr dX4_writes_128 hw
    · replace hw := hw.2 c97
      refine tk_aload C hl 3 dX4_writes_100 rfl ?_
      refine tk_iload C hl 5 dX4_writes_102 rfl ?_
      refine tk_li C hR hw dX4_writes_104 (fun x2 hw => ?_)
      refine tk_istore (L' := [(7, .inl x2), (0, .inr l0), (1, .inr l1), (3, .inr l3), (4, .inr l4), (5, .inl l5), (6, .inl l6)]) C hl dX4_writes_105 (by decide) rfl (fun ls hl => ?_)
      refine tk_aload_n C hl 1 dX4_writes_107 rfl ?_
      refine tk_aload_n C hl 2 dX4_writes_108 rfl ?_
      refine tk_iload C hl 0 dX4_writes_109 rfl ?_
      refine tk_aload_n C hl 3 dX4_writes_111 rfl ?_
      obtain ⟨hv, hw⟩ := hw
      refine tw_cbv C hS (tk_runV (As := [.inr l1, .inl x2, .inr l3]) C hR hS (hrf_X4_writes (R.frames - 1) (by omega) _ _ _ _ _ _ σ hw) hv rfl q2207 q2209 qs32 q74 q2210 pd_X4_writes ⟨by omega, by omega⟩ hl.1 rfl (tw_r8 [] (Nat.le_of_ble_eq_true rfl)) dX4_writes_112) (fun E q σ H locs hX hR hS hi => tw_out C hR hS (fun x hx => (hnx x hx).elim) hi hX) (fun σ H locs hw hR hS => ?_)
      refine tk_iinc (L' := [(6, .inl (l6 + 1)), (7, .inl x2), (0, .inr l0), (1, .inr l1), (3, .inr l3), (4, .inr l4), (5, .inl l5)]) (y := (l6 + 1)) C hl 6 dX4_writes_115 rfl rfl (by decide) rfl (fun ls hl => ?_)
      refine lv_goto (tgt := 93) C.hx C.hb dX4_writes_118 (by decide) ?_
      exact hk93 _ _ _ _ _ _ σ _ _ _ hw hR hS (tk_sub hl [2, 3, 4, 5, 6, 0] rfl)
set_option maxHeartbeats 4000000 in
theorem wk_X4_writes_b62 {rf_X4_writes : (Option Nat) → (Option Nat) → Int32 → (Option Nat) → (Tst → Prop) → (String → Nat → Tst → Prop) → Tst → Prop} {frf_X4_writes : Nat}  (C : tw_C p l R s m args meth c G cX4_writes 8 yX4_writes.cls) (hr : meth.sig.returnType = none) (hmn : meth.name = yX4_writes.name) (hnx : (∀ x ∈ c.exceptionTable.toList, False)) (hfr : 9 ≤ R.frames ∧ frf_X4_writes + 1 ≤ R.frames) (hRl : R.locals = 40 * R.frames) {Q : Tst → Prop} {X : String → Nat → Tst → Prop} (hrf_X4_writes : ∀ fr : Nat, frf_X4_writes ≤ fr → ∀ (a0 : Option Nat) (a1 : Option Nat) (a2 : Int32) (a3 : Option Nat) (Q : Tst → Prop) (X : String → Nat → Tst → Prop) (σ : Tst), rf_X4_writes a0 a1 a2 a3 Q X σ → tw_M l yX4_writes (ws_ yX4_writes cX4_writes 8 none) fr (40 * fr) G σ [.inr a0, .inr a1, .inl a2, .inr a3] (tw_Qv G Q) X) (l0 : Option Nat) (l1 : Option Nat) (l2 : Int32) (l3 : Option Nat) (σ : Tst) (H : Heap) (locs : List Loc) (ls : Array Slot) (hw : w_X4_writes_b62 rf_X4_writes Q X l0 l1 l2 l3 σ) (hR : tw_R G σ H) (hS : va_S (tw_A G) s.heap H locs) (hl : tw_l ls 8 [(0, .inr l0), (1, .inr l1), (2, .inl l2), (3, .inr l3)]) : tw_W p l e R s m args below meth c σ H locs (tw_E below G (tw_Qv G Q) X args s R) (F0 m 62 ls []) := by
  unfold w_X4_writes_b62 at hw
  refine tk_aload_n C hl 1 dX4_writes_62 rfl ?_
  refine tk_iload_n C hl 2 dX4_writes_63 rfl ?_
  obtain ⟨hv, hw⟩ := hw
  refine tw_cbi C hS (tk_runVN (As := [.inl l2]) C hR hS (wk_X5_many l C.hst G (R.frames - 1) (by omega) _ _ _ _ σ hw) hv rfl q2213 q2215 qs33 q75 q2216 pd_X5_many ⟨by omega, by omega⟩ hl.1 rfl (tw_r8 [] (Nat.le_of_ble_eq_true rfl)) dX4_writes_64) (fun E q σ H locs hX hR hS hi => tw_out C hR hS (fun x hx => (hnx x hx).elim) hi hX) (fun x1 σ H locs hw hR hS => ?_)
  refine lv_if_ne (tgt := 71) C.hx C.hb dX4_writes_67 (by decide) (fun c67 => ?_) (fun c67 => ?_)
  · replace hw := hw.2 c67
    refine tk_aload_n C hl 3 dX4_writes_71 rfl ?_
    refine lv_bipush (v := 40) C.hx C.hb dX4_writes_72 (by decide) ?_
    obtain ⟨hv, hw⟩ := hw
    refine tw_cbq C hS (tk_runV (As := [.inl 40]) C hR hS (wk_J1_append_3 l C.hst G (R.frames - 1) (by omega) _ _ _ _ σ hw) hv rfl q2211 q1372 q1373 q66 q1374 pd_J1_append_3 ⟨by omega, by omega⟩ hl.1 rfl (tw_r8 [] (Nat.le_of_ble_eq_true rfl)) dX4_writes_74) (fun E q σ H locs hX hR hS hi => tw_out C hR hS (fun x hx => (hnx x hx).elim) hi hX) (fun x2 σ H locs hw hR hS => ?_)
    refine tw_pop (x := .inr x2) C.hx C.hb dX4_writes_77 ?_
    refine tk_aload_n C hl 1 dX4_writes_78 rfl ?_
    refine tk_iload_n C hl 2 dX4_writes_79 rfl ?_
    obtain ⟨hv, hw⟩ := hw
    refine tw_cbq C hS (tk_runVN (As := [.inl l2]) C hR hS (wk_X5_kids l C.hst G (R.frames - 1) (by omega) _ _ _ _ σ hw) hv rfl q2217 q2219 qs34 q75 q2220 pd_X5_kids ⟨by omega, by omega⟩ hl.1 rfl (tw_r8 [] (Nat.le_of_ble_eq_true rfl)) dX4_writes_80) (fun E q σ H locs hX hR hS hi => tw_out C hR hS (fun x hx => (hnx x hx).elim) hi hX) (fun x3 σ H locs hw hR hS => ?_)
    refine tk_astore (L' := [(4, .inr x3), (0, .inr l0), (1, .inr l1), (2, .inl l2), (3, .inr l3)]) C hl dX4_writes_83 (by decide) rfl (fun ls hl => ?_)
    refine tk_aload C hl 0 dX4_writes_85 rfl ?_
    refine tk_al C hR hw dX4_writes_87 (fun x4 hw => ?_)
    refine tk_istore (L' := [(5, .inl x4), (4, .inr x3), (0, .inr l0), (1, .inr l1), (2, .inl l2), (3, .inr l3)]) C hl dX4_writes_88 (by decide) rfl (fun ls hl => ?_)
    refine lv_iconst (v := 0) C.hx C.hb dX4_writes_90 (by decide) ?_
    refine tk_istore (L' := [(6, .inl 0), (5, .inl x4), (4, .inr x3), (0, .inr l0), (1, .inr l1), (2, .inl l2), (3, .inr l3)]) C hl dX4_writes_91 (by decide) rfl (fun ls hl => ?_)
    obtain ⟨z, hw⟩ := hw
    exact wk_X4_writes_b93 C hr hmn hnx hfr hRl hrf_X4_writes z _ _ _ _ _ _ σ _ _ _ hw hR hS (tk_sub hl [3, 4, 6, 2, 1, 0] rfl)
  · replace hw := hw.1 c67
    exact tw_vret C hR hS hr dX4_writes_70 hw
set_option maxHeartbeats 4000000 in
theorem wk_X4_writes_b37 {rf_X4_writes : (Option Nat) → (Option Nat) → Int32 → (Option Nat) → (Tst → Prop) → (String → Nat → Tst → Prop) → Tst → Prop} {frf_X4_writes : Nat}  (C : tw_C p l R s m args meth c G cX4_writes 8 yX4_writes.cls) (hr : meth.sig.returnType = none) (hmn : meth.name = yX4_writes.name) (hnx : (∀ x ∈ c.exceptionTable.toList, False)) (hfr : 9 ≤ R.frames ∧ frf_X4_writes + 1 ≤ R.frames) (hRl : R.locals = 40 * R.frames) {Q : Tst → Prop} {X : String → Nat → Tst → Prop} (hrf_X4_writes : ∀ fr : Nat, frf_X4_writes ≤ fr → ∀ (a0 : Option Nat) (a1 : Option Nat) (a2 : Int32) (a3 : Option Nat) (Q : Tst → Prop) (X : String → Nat → Tst → Prop) (σ : Tst), rf_X4_writes a0 a1 a2 a3 Q X σ → tw_M l yX4_writes (ws_ yX4_writes cX4_writes 8 none) fr (40 * fr) G σ [.inr a0, .inr a1, .inl a2, .inr a3] (tw_Qv G Q) X) (l0 : Option Nat) (l1 : Option Nat) (l2 : Int32) (l3 : Option Nat) (σ : Tst) (H : Heap) (locs : List Loc) (ls : Array Slot) (hw : w_X4_writes_b37 rf_X4_writes Q X l0 l1 l2 l3 σ) (hR : tw_R G σ H) (hS : va_S (tw_A G) s.heap H locs) (hl : tw_l ls 8 [(0, .inr l0), (1, .inr l1), (2, .inl l2), (3, .inr l3)]) : tw_W p l e R s m args below meth c σ H locs (tw_E below G (tw_Qv G Q) X args s R) (F0 m 37 ls []) := by
  unfold w_X4_writes_b37 at hw
  refine tk_aload_n C hl 1 dX4_writes_37 rfl ?_
  refine tk_grN C hR hw rfl in_X5 (by decide) q2023 (fun _ h => h) dX4_writes_38 (fun x1 hw => ?_)
  refine tk_iload_n C hl 2 dX4_writes_41 rfl ?_
  refine tk_li C hR hw dX4_writes_42 (fun x2 hw => ?_)
  refine lv_if_le (tgt := 62) C.hx C.hb dX4_writes_43 (by decide) (fun c43 => ?_) (fun c43 => ?_)
  · replace hw := hw.1 c43
    exact wk_X4_writes_b62 C hr hmn hnx hfr hRl hrf_X4_writes _ _ _ _ σ _ _ _ hw hR hS (tk_sub hl [0, 1, 2, 3] rfl)
  · replace hw := hw.2 c43
    refine tk_aload_n C hl 3 dX4_writes_46 rfl ?_
    refine lv_bipush (v := 61) C.hx C.hb dX4_writes_47 (by decide) ?_
    obtain ⟨hv, hw⟩ := hw
    refine tw_cbq C hS (tk_runV (As := [.inl 61]) C hR hS (wk_J1_append_3 l C.hst G (R.frames - 1) (by omega) _ _ _ _ σ hw) hv rfl q2211 q1372 q1373 q66 q1374 pd_J1_append_3 ⟨by omega, by omega⟩ hl.1 rfl (tw_r8 [] (Nat.le_of_ble_eq_true rfl)) dX4_writes_49) (fun E q σ H locs hX hR hS hi => tw_out C hR hS (fun x hx => (hnx x hx).elim) hi hX) (fun x3 σ H locs hw hR hS => ?_)
    refine tk_aload_n C hl 1 dX4_writes_52 rfl ?_
    refine tk_grN C hR hw rfl in_X5 (by decide) q2023 (fun _ h => h) dX4_writes_53 (fun x4 hw => ?_)
    refine tk_iload_n C hl 2 dX4_writes_56 rfl ?_
    refine tk_li C hR hw dX4_writes_57 (fun x5 hw => ?_)
    obtain ⟨hv, hw⟩ := hw
    refine tw_cbq C hS (tk_runV (As := [.inl x5]) C hR hS (wk_J1_append_2 l C.hst G (R.frames - 1) (by omega) _ _ _ _ σ hw) hv rfl q2212 q816 q817 q66 q818 pd_J1_append_2 ⟨by omega, by omega⟩ hl.1 rfl (tw_r8 [] (Nat.le_of_ble_eq_true rfl)) dX4_writes_58) (fun E q σ H locs hX hR hS hi => tw_out C hR hS (fun x hx => (hnx x hx).elim) hi hX) (fun x6 σ H locs hw hR hS => ?_)
    refine tw_pop (x := .inr x6) C.hx C.hb dX4_writes_61 ?_
    exact wk_X4_writes_b62 C hr hmn hnx hfr hRl hrf_X4_writes _ _ _ _ σ _ _ _ hw hR hS (tk_sub hl [0, 1, 2, 3] rfl)
set_option maxHeartbeats 4000000 in
theorem wk_X4_writes (l : Launch) (hl0 : l.stackTraces = false) (G : Tgl)  : ∀ (d fr : Nat), 9 + 1 * d ≤ fr → ∀ (l0 : Option Nat) (l1 : Option Nat) (l2 : Int32) (l3 : Option Nat) (Q : Tst → Prop) (X : String → Nat → Tst → Prop) (σ : Tst), w_X4_writes d l0 l1 l2 l3 Q X σ → tw_M l yX4_writes (ws_ yX4_writes cX4_writes 8 none) fr (40 * fr) G σ [.inr l0, .inr l1, .inl l2, .inr l3] (tw_Qv G Q) X := by
  intro d
  induction d with
  | zero => intro fr hfr l0 l1 l2 l3 Q X σ hw; exact False.elim hw
  | succ d ih =>
    intro fr hfr l0 l1 l2 l3 Q X σ hw
    have hrf_X4_writes := fun (fr : Nat) (h : 9 + 1 * d ≤ fr) => ih fr (by omega)
    rw [w_X4_writes] at hw
    generalize hg : w_X4_writes d = rf_X4_writes at hw hrf_X4_writes
    clear hg ih
    obtain ⟨frf_X4_writes, hfrf_X4_writes⟩ : ∃ f, f = 9 + 1 * d := ⟨_, rfl⟩
    rw [← hfrf_X4_writes] at hrf_X4_writes
    have hfr : 9 ≤ fr ∧ frf_X4_writes + 1 ≤ fr := by refine ⟨?_, ?_⟩ <;> omega
    refine tw_of (ret := none) hl0 (by decide) (Nat.le_of_ble_eq_true rfl) (fun p e R s m args below meth c hRf hRl C hr hmn hnx hR hS ls hl => ?_)
    have hfr : 9 ≤ R.frames ∧ frf_X4_writes + 1 ≤ R.frames := by rw [hRf]; exact hfr
    have hRl : R.locals = 40 * R.frames := by rw [hRl, hRf]
    have hl : tw_l ls 8 [(0, .inr l0), (1, .inr l1), (2, .inl l2), (3, .inr l3)] := hl
    refine tk_aload_n C hl 3 dX4_writes_0 rfl ?_
    refine tk_aload_n C hl 1 dX4_writes_1 rfl ?_
    refine tk_grN C hR hw rfl in_X5 (by decide) q2019 (fun _ h => h) dX4_writes_2 (fun x1 hw => ?_)
    refine tk_iload_n C hl 2 dX4_writes_5 rfl ?_
    refine tk_li C hR hw dX4_writes_6 (fun x2 hw => ?_)
    refine lv_i2c (v := (x2.toUInt32 % 65536).toInt32) C.hx C.hb dX4_writes_7 rfl ?_
    obtain ⟨hv, hw⟩ := hw
    refine tw_cbq C hS (tk_runV (As := [.inl ((x2.toUInt32 % 65536).toInt32)]) C hR hS (wk_J1_append_3 l C.hst G (R.frames - 1) (by omega) _ _ _ _ σ hw) hv rfl q2211 q1372 q1373 q66 q1374 pd_J1_append_3 ⟨by omega, by omega⟩ hl.1 rfl (tw_r8 [] (Nat.le_of_ble_eq_true rfl)) dX4_writes_8) (fun E q σ H locs hX hR hS hi => tw_out C hR hS (fun x hx => (hnx x hx).elim) hi hX) (fun x3 σ H locs hw hR hS => ?_)
    refine tw_pop (x := .inr x3) C.hx C.hb dX4_writes_11 ?_
    refine tk_aload_n C hl 1 dX4_writes_12 rfl ?_
    refine tk_grN C hR hw rfl in_X5 (by decide) q2021 (fun _ h => h) dX4_writes_13 (fun x4 hw => ?_)
    refine tk_iload_n C hl 2 dX4_writes_16 rfl ?_
    refine tk_li C hR hw dX4_writes_17 (fun x5 hw => ?_)
    refine lv_if_le (tgt := 37) C.hx C.hb dX4_writes_18 (by decide) (fun c18 => ?_) (fun c18 => ?_)
    · replace hw := hw.1 c18
      exact wk_X4_writes_b37 C hr hmn hnx hfr hRl hrf_X4_writes _ _ _ _ σ _ _ _ hw hR hS (tk_sub hl [0, 1, 2, 3] rfl)
    · replace hw := hw.2 c18
      refine tk_aload_n C hl 3 dX4_writes_21 rfl ?_
      refine lv_bipush (v := 35) C.hx C.hb dX4_writes_22 (by decide) ?_
      obtain ⟨hv, hw⟩ := hw
      refine tw_cbq C hS (tk_runV (As := [.inl 35]) C hR hS (wk_J1_append_3 l C.hst G (R.frames - 1) (by omega) _ _ _ _ σ hw) hv rfl q2211 q1372 q1373 q66 q1374 pd_J1_append_3 ⟨by omega, by omega⟩ hl.1 rfl (tw_r8 [] (Nat.le_of_ble_eq_true rfl)) dX4_writes_24) (fun E q σ H locs hX hR hS hi => tw_out C hR hS (fun x hx => (hnx x hx).elim) hi hX) (fun x6 σ H locs hw hR hS => ?_)
      refine tk_aload_n C hl 1 dX4_writes_27 rfl ?_
      refine tk_grN C hR hw rfl in_X5 (by decide) q2021 (fun _ h => h) dX4_writes_28 (fun x7 hw => ?_)
      refine tk_iload_n C hl 2 dX4_writes_31 rfl ?_
      refine tk_li C hR hw dX4_writes_32 (fun x8 hw => ?_)
      obtain ⟨hv, hw⟩ := hw
      refine tw_cbq C hS (tk_runV (As := [.inl x8]) C hR hS (wk_J1_append_2 l C.hst G (R.frames - 1) (by omega) _ _ _ _ σ hw) hv rfl q2212 q816 q817 q66 q818 pd_J1_append_2 ⟨by omega, by omega⟩ hl.1 rfl (tw_r8 [] (Nat.le_of_ble_eq_true rfl)) dX4_writes_33) (fun E q σ H locs hX hR hS hi => tw_out C hR hS (fun x hx => (hnx x hx).elim) hi hX) (fun x9 σ H locs hw hR hS => ?_)
      refine tw_pop (x := .inr x9) C.hx C.hb dX4_writes_36 ?_
      exact wk_X4_writes_b37 C hr hmn hnx hfr hRl hrf_X4_writes _ _ _ _ σ _ _ _ hw hR hS (tk_sub hl [0, 1, 2, 3] rfl)
-- java/lang/AbstractStringBuilder.getValue()[B
def w_J0_getValue (l0 : Option Nat) (Q : Option Nat → Tst → Prop) (X : String → Nat → Tst → Prop) (σ : Tst) : Prop := w_gr σ l0 cJ1 0 fun x1 => Q x1 σ
set_option maxHeartbeats 4000000 in
theorem wk_J0_getValue (l : Launch) (hl0 : l.stackTraces = false) (G : Tgl) (fr : Nat)  (hfr : 1 ≤ fr) (l0 : Option Nat) (Q : Option Nat → Tst → Prop) (X : String → Nat → Tst → Prop) (σ : Tst) (hw : w_J0_getValue l0 Q X σ) : tw_M l yJ0_getValue (ws_ yJ0_getValue cJ0_getValue 1 (some (.array .byte))) fr (40 * fr) G σ [.inr l0] (tw_Qq G Q) X := by
  unfold w_J0_getValue at hw
  refine tw_of (ret := (some (.array .byte))) hl0 (by decide) (Nat.le_of_ble_eq_true rfl) (fun p e R s m args below meth c hRf hRl C hr hmn hnx hR hS ls hl => ?_)
  have hfr : 1 ≤ R.frames := by rw [hRf]; exact hfr
  have hRl : R.locals = 40 * R.frames := by rw [hRl, hRf]
  have hl : tw_l ls 1 [(0, .inr l0)] := hl
  refine tk_aload_n C hl 0 dJ0_getValue_0 rfl ?_
  refine tk_gr C hR hw rfl in_J1 (by decide) q141 (fun _ h => h) dJ0_getValue_1 (fun x1 hw => ?_)
  exact tw_aret C hR hS hr (Or.inr ⟨_, rfl⟩) dJ0_getValue_4 hw
-- java/lang/AbstractStringBuilder.length()I
def w_J0_length (l0 : Option Nat) (Q : Int32 → Tst → Prop) (X : String → Nat → Tst → Prop) (σ : Tst) : Prop := w_gi σ l0 cJ1 3 fun x1 => Q x1 σ
set_option maxHeartbeats 4000000 in
theorem wk_J0_length (l : Launch) (hl0 : l.stackTraces = false) (G : Tgl) (fr : Nat)  (hfr : 1 ≤ fr) (l0 : Option Nat) (Q : Int32 → Tst → Prop) (X : String → Nat → Tst → Prop) (σ : Tst) (hw : w_J0_length l0 Q X σ) : tw_M l yJ0_length (ws_ yJ0_length cJ0_length 1 (some .int)) fr (40 * fr) G σ [.inr l0] (tw_Qi G Q) X := by
  unfold w_J0_length at hw
  refine tw_of (ret := (some .int)) hl0 (by decide) (Nat.le_of_ble_eq_true rfl) (fun p e R s m args below meth c hRf hRl C hr hmn hnx hR hS ls hl => ?_)
  have hfr : 1 ≤ R.frames := by rw [hRf]; exact hfr
  have hRl : R.locals = 40 * R.frames := by rw [hRl, hRf]
  have hl : tw_l ls 1 [(0, .inr l0)] := hl
  refine tk_aload_n C hl 0 dJ0_length_0 rfl ?_
  refine tk_gi C hR hw rfl in_J1 (by decide) q145 (fun _ h => h) dJ0_length_1 (fun x1 hw => ?_)
  exact tw_iret C hR hS hr rfl dJ0_length_4 hw
-- java/lang/StringBuilder.length()I
def w_J1_length (l0 : Option Nat) (Q : Int32 → Tst → Prop) (X : String → Nat → Tst → Prop) (σ : Tst) : Prop := w_rc σ l0 cJ1 <| w_J0_length l0 (fun x1 σ => Q x1 σ) X σ
set_option maxHeartbeats 4000000 in
theorem wk_J1_length (l : Launch) (hl0 : l.stackTraces = false) (G : Tgl) (fr : Nat)  (hfr : 2 ≤ fr) (l0 : Option Nat) (Q : Int32 → Tst → Prop) (X : String → Nat → Tst → Prop) (σ : Tst) (hw : w_J1_length l0 Q X σ) : tw_M l yJ1_length (ws_ yJ1_length cJ1_length 1 (some .int)) fr (40 * fr) G σ [.inr l0] (tw_Qi G Q) X := by
  unfold w_J1_length at hw
  refine tw_of (ret := (some .int)) hl0 (by decide) (Nat.le_of_ble_eq_true rfl) (fun p e R s m args below meth c hRf hRl C hr hmn hnx hR hS ls hl => ?_)
  have hfr : 2 ≤ R.frames := by rw [hRf]; exact hfr
  have hRl : R.locals = 40 * R.frames := by rw [hRl, hRf]
  have hl : tw_l ls 1 [(0, .inr l0)] := hl
  refine tk_aload_n C hl 0 dJ1_length_0 rfl ?_
  obtain ⟨hv, hw⟩ := hw
  refine tw_cbi C hS (tk_runSU (As := []) (Cn := "java/lang/StringBuilder") C hR hS (wk_J0_length l C.hst G (R.frames - 1) (by omega) _ _ _ σ hw) hv rfl q865 q861 q154 q860 q65 q866 (by decide) (by exact (by decide +kernel : (parseMethodDescriptor "()I").map (fun d => d.parameters.length) = some 0)) ⟨by omega, by omega⟩ hl.1 rfl (tw_r8 [] (Nat.le_of_ble_eq_true rfl)) dJ1_length_1) (fun E q σ H locs hX hR hS hi => tw_out C hR hS (fun x hx => (hnx x hx).elim) hi hX) (fun x1 σ H locs hw hR hS => ?_)
  exact tw_iret C hR hS hr rfl dJ1_length_4 hw
-- java/util/Arrays.checkLength(II)V
def w_J13_checkLength (l0 : Int32) (l1 : Int32) (Q : Tst → Prop) (X : String → Nat → Tst → Prop) (σ : Tst) : Prop := w_if (l0 ≤ l1) (Q σ) (False)
set_option maxHeartbeats 4000000 in
theorem wk_J13_checkLength (l : Launch) (hl0 : l.stackTraces = false) (G : Tgl) (fr : Nat)  (hfr : 1 ≤ fr) (l0 : Int32) (l1 : Int32) (Q : Tst → Prop) (X : String → Nat → Tst → Prop) (σ : Tst) (hw : w_J13_checkLength l0 l1 Q X σ) : tw_M l yJ13_checkLength (ws_ yJ13_checkLength cJ13_checkLength 2 none) fr (40 * fr) G σ [.inl l0, .inl l1] (tw_Qv G Q) X := by
  unfold w_J13_checkLength at hw
  refine tw_of (ret := none) hl0 (by decide) (Nat.le_of_ble_eq_true rfl) (fun p e R s m args below meth c hRf hRl C hr hmn hnx hR hS ls hl => ?_)
  have hfr : 1 ≤ R.frames := by rw [hRf]; exact hfr
  have hRl : R.locals = 40 * R.frames := by rw [hRl, hRf]
  have hl : tw_l ls 2 [(0, .inl l0), (1, .inl l1)] := hl
  refine tk_iload_n C hl 1 dJ13_checkLength_0 rfl ?_
  refine tk_iload_n C hl 0 dJ13_checkLength_1 rfl ?_
  refine lv_icmp_ge (tgt := 37) C.hx C.hb dJ13_checkLength_2 (by decide) (fun c2 => ?_) (fun c2 => ?_)
  · replace hw := hw.1 c2
    exact tw_vret C hR hS hr dJ13_checkLength_37 hw
  · replace hw := hw.2 c2
    exact hw.elim
-- java/util/Arrays.copyOfRangeByte([BII)[B
def w_J13_copyOfRangeByte (l0 : Option Nat) (l1 : Int32) (l2 : Int32) (Q : Option Nat → Tst → Prop) (X : String → Nat → Tst → Prop) (σ : Tst) : Prop := w_J13_checkLength l1 l2 (fun σ => w_na σ 2 (l2 - l1) (.inl fun _ => 0) fun q2 σ => w_al σ l0 fun x3 => w_cpb σ l0 l1 q2 0 (if (l2 - l1) < (x3 - l1) then (l2 - l1) else (x3 - l1)) fun σ => Q q2 σ) X σ
set_option maxHeartbeats 4000000 in
theorem wk_J13_copyOfRangeByte (l : Launch) (hl0 : l.stackTraces = false) (G : Tgl) (fr : Nat)  (hfr : 2 ≤ fr) (l0 : Option Nat) (l1 : Int32) (l2 : Int32) (Q : Option Nat → Tst → Prop) (X : String → Nat → Tst → Prop) (σ : Tst) (hw : w_J13_copyOfRangeByte l0 l1 l2 Q X σ) : tw_M l yJ13_copyOfRangeByte (ws_ yJ13_copyOfRangeByte cJ13_copyOfRangeByte 5 (some (.array .byte))) fr (40 * fr) G σ [.inr l0, .inl l1, .inl l2] (tw_Qq G Q) X := by
  unfold w_J13_copyOfRangeByte at hw
  refine tw_of (ret := (some (.array .byte))) hl0 (by decide) (Nat.le_of_ble_eq_true rfl) (fun p e R s m args below meth c hRf hRl C hr hmn hnx hR hS ls hl => ?_)
  have hfr : 2 ≤ R.frames := by rw [hRf]; exact hfr
  have hRl : R.locals = 40 * R.frames := by rw [hRl, hRf]
  have hl : tw_l ls 5 [(0, .inr l0), (1, .inl l1), (2, .inl l2)] := hl
  refine tk_iload_n C hl 1 dJ13_copyOfRangeByte_0 rfl ?_
  refine tk_iload_n C hl 2 dJ13_copyOfRangeByte_1 rfl ?_
  refine tw_cbv C hS (tw_runS (As := [.inl l1, .inl l2]) C hR hS (wk_J13_checkLength l C.hst G (R.frames - 1) (by omega) _ _ _ _ σ hw) q874 q875 q82 q876 pd_J13_checkLength ⟨by omega, by omega⟩ hl.1 rfl (tw_r8 [] (Nat.le_of_ble_eq_true rfl)) dJ13_copyOfRangeByte_2) (fun E q σ H locs hX hR hS hi => tw_out C hR hS (fun x hx => (hnx x hx).elim) hi hX) (fun σ H locs hw hR hS => ?_)
  refine tk_iload_n C hl 2 dJ13_copyOfRangeByte_5 rfl ?_
  refine tk_iload_n C hl 1 dJ13_copyOfRangeByte_6 rfl ?_
  refine lv_isub C.hx C.hb dJ13_copyOfRangeByte_7 ?_
  refine tk_istore_n (L' := [(3, .inl (l2 - l1)), (0, .inr l0), (1, .inl l1), (2, .inl l2)]) C hl dJ13_copyOfRangeByte_8 (by decide) rfl (fun ls hl => ?_)
  refine tk_iload_n C hl 0 dJ13_copyOfRangeByte_9 rfl ?_
  refine tk_na (t := 2) (atype := .byte) C hR hS hw q155 rfl (fun h => h) (fun _ _ => rfl) (by decide) dJ13_copyOfRangeByte_10 (fun q2 σ H hw hR hS => ?_)
  refine tk_astore (L' := [(4, .inr q2), (3, .inl (l2 - l1)), (0, .inr l0), (1, .inl l1), (2, .inl l2)]) C hl dJ13_copyOfRangeByte_12 (by decide) rfl (fun ls hl => ?_)
  refine tk_aload_n C hl 2 dJ13_copyOfRangeByte_14 rfl ?_
  refine tk_iload_n C hl 3 dJ13_copyOfRangeByte_15 rfl ?_
  refine tk_aload C hl 0 dJ13_copyOfRangeByte_16 rfl ?_
  refine lv_iconst (v := 0) C.hx C.hb dJ13_copyOfRangeByte_18 (by decide) ?_
  refine tk_aload_n C hl 2 dJ13_copyOfRangeByte_19 rfl ?_
  refine tk_al C hR hw dJ13_copyOfRangeByte_20 (fun x3 hw => ?_)
  refine tk_iload_n C hl 3 dJ13_copyOfRangeByte_21 rfl ?_
  refine lv_isub C.hx C.hb dJ13_copyOfRangeByte_22 ?_
  refine tk_iload_n C hl 1 dJ13_copyOfRangeByte_23 rfl ?_
  refine tk_min C q559 hl.1 (by omega) hRl (tw_r8 [.inl 0, .inr q2, .inl l1, .inr l0] (Nat.le_of_ble_eq_true rfl)) dJ13_copyOfRangeByte_24 ?_
  refine tk_cpb C hR hS hw q562 q564 q563 q83 hl.1 (by omega) hRl (tw_r8 [] (Nat.le_of_ble_eq_true rfl)) dJ13_copyOfRangeByte_27 (fun σ H locs hw hR hS => ?_)
  refine tk_aload C hl 0 dJ13_copyOfRangeByte_30 rfl ?_
  exact tw_aret C hR hS hr (Or.inr ⟨_, rfl⟩) dJ13_copyOfRangeByte_32 hw
-- java/util/Arrays.copyOfRange([BII)[B
def w_J13_copyOfRange_b10 (Q : Option Nat → Tst → Prop) (X : String → Nat → Tst → Prop) (l0 : Option Nat) (l1 : Int32) (l2 : Int32) (σ : Tst) : Prop := w_J13_copyOfRangeByte l0 l1 l2 (fun x1 σ => Q x1 σ) X σ
def w_J13_copyOfRange (l0 : Option Nat) (l1 : Int32) (l2 : Int32) (Q : Option Nat → Tst → Prop) (X : String → Nat → Tst → Prop) (σ : Tst) : Prop := w_if (l1 = 0) (w_al σ l0 fun x1 => w_if (l2 = x1) (w_cl σ l0 fun q2 σ => w_ca σ q2 2 <| Q q2 σ) (w_J13_copyOfRange_b10 Q X l0 l1 l2 σ)) (w_J13_copyOfRange_b10 Q X l0 l1 l2 σ)
set_option maxHeartbeats 4000000 in
theorem wk_J13_copyOfRange_b10  (C : tw_C p l R s m args meth c G cJ13_copyOfRange 3 yJ13_copyOfRange.cls) (hr : meth.sig.returnType = (some (.array .byte))) (hmn : meth.name = yJ13_copyOfRange.name) (hnx : (∀ x ∈ c.exceptionTable.toList, False)) (hfr : 3 ≤ R.frames) (hRl : R.locals = 40 * R.frames) {Q : Option Nat → Tst → Prop} {X : String → Nat → Tst → Prop}  (l0 : Option Nat) (l1 : Int32) (l2 : Int32) (σ : Tst) (H : Heap) (locs : List Loc) (ls : Array Slot) (hw : w_J13_copyOfRange_b10 Q X l0 l1 l2 σ) (hR : tw_R G σ H) (hS : va_S (tw_A G) s.heap H locs) (hl : tw_l ls 3 [(0, .inr l0), (1, .inl l1), (2, .inl l2)]) : tw_W p l e R s m args below meth c σ H locs (tw_E below G (tw_Qq G Q) X args s R) (F0 m 10 ls []) := by
  unfold w_J13_copyOfRange_b10 at hw
  refine tk_aload_n C hl 0 dJ13_copyOfRange_10 rfl ?_
  refine tk_iload_n C hl 1 dJ13_copyOfRange_11 rfl ?_
  refine tk_iload_n C hl 2 dJ13_copyOfRange_12 rfl ?_
  refine tw_cbq C hS (tw_runS (As := [.inr l0, .inl l1, .inl l2]) C hR hS (wk_J13_copyOfRangeByte l C.hst G (R.frames - 1) (by omega) _ _ _ _ _ σ hw) q871 q872 q82 q873 pd_J13_copyOfRangeByte ⟨by omega, by omega⟩ hl.1 rfl (tw_r8 [] (Nat.le_of_ble_eq_true rfl)) dJ13_copyOfRange_13) (fun E q σ H locs hX hR hS hi => tw_out C hR hS (fun x hx => (hnx x hx).elim) hi hX) (fun x1 σ H locs hw hR hS => ?_)
  exact tw_aret C hR hS hr (Or.inr ⟨_, rfl⟩) dJ13_copyOfRange_16 hw
set_option maxHeartbeats 4000000 in
theorem wk_J13_copyOfRange (l : Launch) (hl0 : l.stackTraces = false) (G : Tgl) (fr : Nat)  (hfr : 3 ≤ fr) (l0 : Option Nat) (l1 : Int32) (l2 : Int32) (Q : Option Nat → Tst → Prop) (X : String → Nat → Tst → Prop) (σ : Tst) (hw : w_J13_copyOfRange l0 l1 l2 Q X σ) : tw_M l yJ13_copyOfRange (ws_ yJ13_copyOfRange cJ13_copyOfRange 3 (some (.array .byte))) fr (40 * fr) G σ [.inr l0, .inl l1, .inl l2] (tw_Qq G Q) X := by
  unfold w_J13_copyOfRange at hw
  refine tw_of (ret := (some (.array .byte))) hl0 (by decide) (Nat.le_of_ble_eq_true rfl) (fun p e R s m args below meth c hRf hRl C hr hmn hnx hR hS ls hl => ?_)
  have hfr : 3 ≤ R.frames := by rw [hRf]; exact hfr
  have hRl : R.locals = 40 * R.frames := by rw [hRl, hRf]
  have hl : tw_l ls 3 [(0, .inr l0), (1, .inl l1), (2, .inl l2)] := hl
  refine tk_iload_n C hl 1 dJ13_copyOfRange_0 rfl ?_
  refine lv_if_ne (tgt := 10) C.hx C.hb dJ13_copyOfRange_1 (by decide) (fun c1 => ?_) (fun c1 => ?_)
  · replace hw := hw.2 c1
    exact wk_J13_copyOfRange_b10 C hr hmn hnx hfr hRl _ _ _ σ _ _ _ hw hR hS (tk_sub hl [0, 1, 2] rfl)
  · replace hw := hw.1 c1
    refine tk_iload_n C hl 2 dJ13_copyOfRange_4 rfl ?_
    refine tk_aload_n C hl 0 dJ13_copyOfRange_5 rfl ?_
    refine tk_al C hR hw dJ13_copyOfRange_6 (fun x1 hw => ?_)
    refine lv_icmp_eq (tgt := 17) C.hx C.hb dJ13_copyOfRange_7 (by decide) (fun c7 => ?_) (fun c7 => ?_)
    · replace hw := hw.1 c7
      refine tk_aload_n C hl 0 dJ13_copyOfRange_17 rfl ?_
      refine tk_cl C hR hS hw q734 q735 q736 q737 q738 q739 hl.1 (by omega) hRl (tw_r8 [] (Nat.le_of_ble_eq_true rfl)) dJ13_copyOfRange_18 (fun q2 σ H hw hR hS => ?_)
      refine tk_ca C hR hw (tw_nmB C) q740 dJ13_copyOfRange_21 (fun hw => ?_)
      exact tw_aret C hR hS hr (Or.inr ⟨_, rfl⟩) dJ13_copyOfRange_24 hw
    · replace hw := hw.2 c7
      exact wk_J13_copyOfRange_b10 C hr hmn hnx hfr hRl _ _ _ σ _ _ _ hw hR hS (tk_sub hl [0, 1, 2] rfl)
-- java/lang/StringUTF16.getChar([BI)C
def w_J3_getChar_b28 (Q : Int32 → Tst → Prop) (X : String → Nat → Tst → Prop) (l0 : Option Nat) (l1 : Int32) (σ : Tst) : Prop := w_lb σ l0 (l1 <<< (1 &&& 31)) fun x1 => w_lb σ l0 ((l1 <<< (1 &&& 31)) + 1) fun x3 => narrow .char (.int (((((x1 &&& 255) <<< (0 &&& 31)) ||| ((x3 &&& 255) <<< (8 &&& 31))).toUInt32 % 65536).toInt32)) = .int (((((x1 &&& 255) <<< (0 &&& 31)) ||| ((x3 &&& 255) <<< (8 &&& 31))).toUInt32 % 65536).toInt32) ∧ Q (((((x1 &&& 255) <<< (0 &&& 31)) ||| ((x3 &&& 255) <<< (8 &&& 31))).toUInt32 % 65536).toInt32) σ
def w_J3_getChar_b18 (Q : Int32 → Tst → Prop) (X : String → Nat → Tst → Prop) (σ : Tst) : Prop := False
def w_J3_getChar (l0 : Option Nat) (l1 : Int32) (Q : Int32 → Tst → Prop) (X : String → Nat → Tst → Prop) (σ : Tst) : Prop := w_if ((1 : Int32) = 0) (w_if (l1 < 0) (w_J3_getChar_b18 Q X σ) (w_J3_length l0 (fun x2 σ => w_if (l1 < x2) (w_J3_getChar_b28 Q X l0 l1 σ) (w_J3_getChar_b18 Q X σ)) X σ)) (w_J3_getChar_b28 Q X l0 l1 σ)
set_option maxHeartbeats 4000000 in
theorem wk_J3_getChar_b28  (C : tw_C p l R s m args meth c G cJ3_getChar 2 yJ3_getChar.cls) (hr : meth.sig.returnType = (some .char)) (hmn : meth.name = yJ3_getChar.name) (hnx : (∀ x ∈ c.exceptionTable.toList, False)) (hfr : 2 ≤ R.frames) (hRl : R.locals = 40 * R.frames) {Q : Int32 → Tst → Prop} {X : String → Nat → Tst → Prop}  (l0 : Option Nat) (l1 : Int32) (σ : Tst) (H : Heap) (locs : List Loc) (ls : Array Slot) (hw : w_J3_getChar_b28 Q X l0 l1 σ) (hR : tw_R G σ H) (hS : va_S (tw_A G) s.heap H locs) (hl : tw_l ls 2 [(0, .inr l0), (1, .inl l1)]) : tw_W p l e R s m args below meth c σ H locs (tw_E below G (tw_Qi G Q) X args s R) (F0 m 28 ls []) := by
  unfold w_J3_getChar_b28 at hw
  refine tk_iload_n C hl 1 dJ3_getChar_28 rfl ?_
  refine lv_iconst (v := 1) C.hx C.hb dJ3_getChar_29 (by decide) ?_
  refine lv_ishl C.hx C.hb dJ3_getChar_30 ?_
  refine tk_istore_n (L' := [(1, .inl (l1 <<< (1 &&& 31))), (0, .inr l0)]) C hl dJ3_getChar_31 (by decide) rfl (fun ls hl => ?_)
  refine tk_aload_n C hl 1 dJ3_getChar_32 rfl ?_
  refine tk_iload_n C hl 0 dJ3_getChar_33 rfl ?_
  refine tk_iinc (L' := [(1, .inl ((l1 <<< (1 &&& 31)) + 1)), (0, .inr l0)]) (y := ((l1 <<< (1 &&& 31)) + 1)) C hl 0 dJ3_getChar_34 rfl rfl (by decide) rfl (fun ls hl => ?_)
  refine tk_lb C hR hw dJ3_getChar_37 (fun x1 hw => ?_)
  refine lv_sipush (v := 255) C.hx C.hb dJ3_getChar_38 (by decide) ?_
  refine lv_iand C.hx C.hb dJ3_getChar_41 ?_
  refine tk_gs (x := .inl 0) C hR hS 5 rfl q768 (fun _ h => h) dJ3_getChar_42 ?_
  refine lv_ishl C.hx C.hb dJ3_getChar_45 ?_
  refine tk_aload_n C hl 1 dJ3_getChar_46 rfl ?_
  refine tk_iload_n C hl 0 dJ3_getChar_47 rfl ?_
  refine tk_lb C hR hw dJ3_getChar_48 (fun x3 hw => ?_)
  refine lv_sipush (v := 255) C.hx C.hb dJ3_getChar_49 (by decide) ?_
  refine lv_iand C.hx C.hb dJ3_getChar_52 ?_
  refine tk_gs (x := .inl 8) C hR hS 6 rfl q770 (fun _ h => h) dJ3_getChar_53 ?_
  refine lv_ishl C.hx C.hb dJ3_getChar_56 ?_
  refine lv_ior C.hx C.hb dJ3_getChar_57 ?_
  refine lv_i2c (v := ((((x1 &&& 255) <<< (0 &&& 31)) ||| ((x3 &&& 255) <<< (8 &&& 31))).toUInt32 % 65536).toInt32) C.hx C.hb dJ3_getChar_58 rfl ?_
  obtain ⟨hok, hw⟩ := hw
  exact tw_iret C hR hS hr hok dJ3_getChar_59 hw
set_option maxHeartbeats 4000000 in
theorem wk_J3_getChar_b18  (C : tw_C p l R s m args meth c G cJ3_getChar 2 yJ3_getChar.cls) (hr : meth.sig.returnType = (some .char)) (hmn : meth.name = yJ3_getChar.name) (hnx : (∀ x ∈ c.exceptionTable.toList, False)) (hfr : 2 ≤ R.frames) (hRl : R.locals = 40 * R.frames) {Q : Int32 → Tst → Prop} {X : String → Nat → Tst → Prop}   (σ : Tst) (H : Heap) (locs : List Loc) (ls : Array Slot) (hw : w_J3_getChar_b18 Q X  σ) (hR : tw_R G σ H) (hS : va_S (tw_A G) s.heap H locs) (hl : tw_l ls 2 []) : tw_W p l e R s m args below meth c σ H locs (tw_E below G (tw_Qi G Q) X args s R) (F0 m 18 ls []) := by
  unfold w_J3_getChar_b18 at hw
  exact hw.elim
set_option maxHeartbeats 4000000 in
theorem wk_J3_getChar (l : Launch) (hl0 : l.stackTraces = false) (G : Tgl) (fr : Nat)  (hfr : 2 ≤ fr) (l0 : Option Nat) (l1 : Int32) (Q : Int32 → Tst → Prop) (X : String → Nat → Tst → Prop) (σ : Tst) (hw : w_J3_getChar l0 l1 Q X σ) : tw_M l yJ3_getChar (ws_ yJ3_getChar cJ3_getChar 2 (some .char)) fr (40 * fr) G σ [.inr l0, .inl l1] (tw_Qi G Q) X := by
  unfold w_J3_getChar at hw
  refine tw_of (ret := (some .char)) hl0 (by decide) (Nat.le_of_ble_eq_true rfl) (fun p e R s m args below meth c hRf hRl C hr hmn hnx hR hS ls hl => ?_)
  have hfr : 2 ≤ R.frames := by rw [hRf]; exact hfr
  have hRl : R.locals = 40 * R.frames := by rw [hRl, hRf]
  have hl : tw_l ls 2 [(0, .inr l0), (1, .inl l1)] := hl
  refine tk_gs (x := .inl 1) C hR hS 4 rfl q766 (fun _ h => h) dJ3_getChar_0 ?_
  refine lv_if_ne (tgt := 28) C.hx C.hb dJ3_getChar_3 (by decide) (fun c3 => ?_) (fun c3 => ?_)
  · replace hw := hw.2 c3
    exact wk_J3_getChar_b28 C hr hmn hnx hfr hRl _ _ σ _ _ _ hw hR hS (tk_sub hl [0, 1] rfl)
  · replace hw := hw.1 c3
    refine tk_iload_n C hl 1 dJ3_getChar_6 rfl ?_
    refine lv_if_lt (tgt := 18) C.hx C.hb dJ3_getChar_7 (by decide) (fun c7 => ?_) (fun c7 => ?_)
    · replace hw := hw.1 c7
      exact wk_J3_getChar_b18 C hr hmn hnx hfr hRl σ _ _ _ hw hR hS (tk_sub hl [] rfl)
    · replace hw := hw.2 c7
      refine tk_iload_n C hl 1 dJ3_getChar_10 rfl ?_
      refine tk_aload_n C hl 0 dJ3_getChar_11 rfl ?_
      refine tw_cbi C hS (tw_runS (As := [.inr l0]) C hR hS (wk_J3_length l C.hst G (R.frames - 1) (by omega) _ _ _ σ hw) q752 q753 q68 q754 pd_J3_length ⟨by omega, by omega⟩ hl.1 rfl (tw_r8 [.inl l1] (Nat.le_of_ble_eq_true rfl)) dJ3_getChar_12) (fun E q σ H locs hX hR hS hi => tw_out C hR hS (fun x hx => (hnx x hx).elim) hi hX) (fun x2 σ H locs hw hR hS => ?_)
      refine lv_icmp_lt (tgt := 28) C.hx C.hb dJ3_getChar_15 (by decide) (fun c15 => ?_) (fun c15 => ?_)
      · replace hw := hw.1 c15
        exact wk_J3_getChar_b28 C hr hmn hnx hfr hRl _ _ σ _ _ _ hw hR hS (tk_sub hl [0, 1] rfl)
      · replace hw := hw.2 c15
        exact wk_J3_getChar_b18 C hr hmn hnx hfr hRl σ _ _ _ hw hR hS (tk_sub hl [] rfl)
-- java/lang/StringUTF16.compress([BI[BII)I
def w_J3_compress_2_b10 (Q : Int32 → Tst → Prop) (X : String → Nat → Tst → Prop) : Nat → Option Nat → Int32 → Option Nat → Int32 → Int32 → Int32 → Tst → Prop
  | 0, _, _, _, _, _, _, _ => False
  | n + 1, l0, l1, l2, l3, l4, l5, σ => w_if (l4 ≤ l5) (Q l4 σ) (w_J3_getChar l0 l1 (fun x1 σ => w_if (x1 ≤ 255) (w_sb σ l2 l3 (x1.toInt8.toInt32) fun σ => (w_J3_compress_2_b10 Q X n) l0 (l1 + 1) l2 (l3 + 1) l4 (l5 + 1) σ) (Q l5 σ)) X σ)
def w_J3_compress_2 (l0 : Option Nat) (l1 : Int32) (l2 : Option Nat) (l3 : Int32) (l4 : Int32) (Q : Int32 → Tst → Prop) (X : String → Nat → Tst → Prop) (σ : Tst) : Prop := w_J3_checkBoundsOffCount l1 l4 l0 (fun σ => ∃ z, w_J3_compress_2_b10 Q X z l0 l1 l2 l3 l4 0 σ) X σ
set_option maxHeartbeats 4000000 in
theorem wk_J3_compress_2_b10  (C : tw_C p l R s m args meth c G cJ3_compress_2 7 yJ3_compress_2.cls) (hr : meth.sig.returnType = (some .int)) (hmn : meth.name = yJ3_compress_2.name) (hnx : (∀ x ∈ c.exceptionTable.toList, False)) (hfr : 4 ≤ R.frames) (hRl : R.locals = 40 * R.frames) {Q : Int32 → Tst → Prop} {X : String → Nat → Tst → Prop}  : ∀ (n : Nat) (l0 : Option Nat) (l1 : Int32) (l2 : Option Nat) (l3 : Int32) (l4 : Int32) (l5 : Int32) (σ : Tst) (H : Heap) (locs : List Loc) (ls : Array Slot), w_J3_compress_2_b10 Q X n l0 l1 l2 l3 l4 l5 σ → tw_R G σ H → va_S (tw_A G) s.heap H locs → tw_l ls 7 [(0, .inr l0), (1, .inl l1), (2, .inr l2), (3, .inl l3), (4, .inl l4), (5, .inl l5)] → tw_W p l e R s m args below meth c σ H locs (tw_E below G (tw_Qi G Q) X args s R) (F0 m 10 ls []) := by
  intro n
  induction n with
  | zero => intro l0 l1 l2 l3 l4 l5 σ H locs ls hw; exact False.elim hw
  | succ n hk10 =>
    intro l0 l1 l2 l3 l4 l5 σ H locs ls hw hR hS hl
    rw [w_J3_compress_2_b10] at hw
    refine tk_iload C hl 5 dJ3_compress_2_10 rfl ?_
    refine tk_iload C hl 4 dJ3_compress_2_12 rfl ?_
    refine lv_icmp_ge (tgt := 53) C.hx C.hb dJ3_compress_2_14 (by decide) (fun c14 => ?_) (fun c14 => ?_)
    · replace hw := hw.1 c14
      refine tk_iload C hl 4 dJ3_compress_2_53 rfl ?_
      exact tw_iret C hR hS hr rfl dJ3_compress_2_55 hw
    · replace hw := hw.2 c14
      refine tk_aload_n C hl 0 dJ3_compress_2_17 rfl ?_
      refine tk_iload_n C hl 1 dJ3_compress_2_18 rfl ?_
      refine tw_cbi C hS (tw_runS (As := [.inr l0, .inl l1]) C hR hS (wk_J3_getChar l C.hst G (R.frames - 1) (by omega) _ _ _ _ σ hw) q904 q905 q68 q906 pd_J3_getChar ⟨by omega, by omega⟩ hl.1 rfl (tw_r8 [] (Nat.le_of_ble_eq_true rfl)) dJ3_compress_2_19) (fun E q σ H locs hX hR hS hi => tw_out C hR hS (fun x hx => (hnx x hx).elim) hi hX) (fun x1 σ H locs hw hR hS => ?_)
      refine tk_istore (L' := [(6, .inl x1), (0, .inr l0), (1, .inl l1), (2, .inr l2), (3, .inl l3), (4, .inl l4), (5, .inl l5)]) C hl dJ3_compress_2_22 (by decide) rfl (fun ls hl => ?_)
      refine tk_iload C hl 0 dJ3_compress_2_24 rfl ?_
      refine lv_sipush (v := 255) C.hx C.hb dJ3_compress_2_26 (by decide) ?_
      refine lv_icmp_le (tgt := 35) C.hx C.hb dJ3_compress_2_29 (by decide) (fun c29 => ?_) (fun c29 => ?_)
      · replace hw := hw.1 c29
        refine tk_aload_n C hl 3 dJ3_compress_2_35 rfl ?_
        refine tk_iload_n C hl 4 dJ3_compress_2_36 rfl ?_
        refine tk_iload C hl 0 dJ3_compress_2_37 rfl ?_
        refine lv_i2b (v := x1.toInt8.toInt32) C.hx C.hb dJ3_compress_2_39 rfl ?_
        refine tk_sb C hR hS hw dJ3_compress_2_40 (fun σ H locs hw hR hS => ?_)
        refine tk_iinc (L' := [(1, .inl (l1 + 1)), (6, .inl x1), (0, .inr l0), (2, .inr l2), (3, .inl l3), (4, .inl l4), (5, .inl l5)]) (y := (l1 + 1)) C hl 2 dJ3_compress_2_41 rfl rfl (by decide) rfl (fun ls hl => ?_)
        refine tk_iinc (L' := [(3, .inl (l3 + 1)), (1, .inl (l1 + 1)), (6, .inl x1), (0, .inr l0), (2, .inr l2), (4, .inl l4), (5, .inl l5)]) (y := (l3 + 1)) C hl 4 dJ3_compress_2_44 rfl rfl (by decide) rfl (fun ls hl => ?_)
        refine tk_iinc (L' := [(5, .inl (l5 + 1)), (3, .inl (l3 + 1)), (1, .inl (l1 + 1)), (6, .inl x1), (0, .inr l0), (2, .inr l2), (4, .inl l4)]) (y := (l5 + 1)) C hl 6 dJ3_compress_2_47 rfl rfl (by decide) rfl (fun ls hl => ?_)
        refine lv_goto (tgt := 10) C.hx C.hb dJ3_compress_2_50 (by decide) ?_
        exact hk10 _ _ _ _ _ _ σ _ _ _ hw hR hS (tk_sub hl [4, 2, 5, 1, 6, 0] rfl)
      · replace hw := hw.2 c29
        refine tk_iload C hl 6 dJ3_compress_2_32 rfl ?_
        exact tw_iret C hR hS hr rfl dJ3_compress_2_34 hw
set_option maxHeartbeats 4000000 in
theorem wk_J3_compress_2 (l : Launch) (hl0 : l.stackTraces = false) (G : Tgl) (fr : Nat)  (hfr : 4 ≤ fr) (l0 : Option Nat) (l1 : Int32) (l2 : Option Nat) (l3 : Int32) (l4 : Int32) (Q : Int32 → Tst → Prop) (X : String → Nat → Tst → Prop) (σ : Tst) (hw : w_J3_compress_2 l0 l1 l2 l3 l4 Q X σ) : tw_M l yJ3_compress_2 (ws_ yJ3_compress_2 cJ3_compress_2 7 (some .int)) fr (40 * fr) G σ [.inr l0, .inl l1, .inr l2, .inl l3, .inl l4] (tw_Qi G Q) X := by
  unfold w_J3_compress_2 at hw
  refine tw_of (ret := (some .int)) hl0 (by decide) (Nat.le_of_ble_eq_true rfl) (fun p e R s m args below meth c hRf hRl C hr hmn hnx hR hS ls hl => ?_)
  have hfr : 4 ≤ R.frames := by rw [hRf]; exact hfr
  have hRl : R.locals = 40 * R.frames := by rw [hRl, hRf]
  have hl : tw_l ls 7 [(0, .inr l0), (1, .inl l1), (2, .inr l2), (3, .inl l3), (4, .inl l4)] := hl
  refine tk_iload_n C hl 1 dJ3_compress_2_0 rfl ?_
  refine tk_iload C hl 4 dJ3_compress_2_1 rfl ?_
  refine tk_aload_n C hl 0 dJ3_compress_2_3 rfl ?_
  refine tw_cbv C hS (tw_runS (As := [.inl l1, .inl l4, .inr l0]) C hR hS (wk_J3_checkBoundsOffCount l C.hst G (R.frames - 1) (by omega) _ _ _ _ _ σ hw) q800 q801 q68 q802 pd_J3_checkBoundsOffCount ⟨by omega, by omega⟩ hl.1 rfl (tw_r8 [] (Nat.le_of_ble_eq_true rfl)) dJ3_compress_2_4) (fun E q σ H locs hX hR hS hi => tw_out C hR hS (fun x hx => (hnx x hx).elim) hi hX) (fun σ H locs hw hR hS => ?_)
  refine lv_iconst (v := 0) C.hx C.hb dJ3_compress_2_7 (by decide) ?_
  refine tk_istore (L' := [(5, .inl 0), (0, .inr l0), (1, .inl l1), (2, .inr l2), (3, .inl l3), (4, .inl l4)]) C hl dJ3_compress_2_8 (by decide) rfl (fun ls hl => ?_)
  obtain ⟨z, hw⟩ := hw
  exact wk_J3_compress_2_b10 C hr hmn hnx hfr hRl z _ _ _ _ _ _ σ _ _ _ hw hR hS (tk_sub hl [1, 2, 3, 4, 5, 0] rfl)
-- java/lang/StringUTF16.compress([BII)[B
def w_J3_compress_b64 (Q : Option Nat → Tst → Prop) (X : String → Nat → Tst → Prop) (l3 : Option Nat) (σ : Tst) : Prop := Q l3 σ
def w_J3_compress_b61 (Q : Option Nat → Tst → Prop) (X : String → Nat → Tst → Prop) (l5 : Option Nat) (σ : Tst) : Prop := Q l5 σ
def w_J3_compress (l0 : Option Nat) (l1 : Int32) (l2 : Int32) (Q : Option Nat → Tst → Prop) (X : String → Nat → Tst → Prop) (σ : Tst) : Prop := w_na σ 2 l2 (.inl fun _ => 0) fun q1 σ => w_J3_compress_2 l0 l1 q1 0 l2 (fun x2 σ => w_if (x2 = l2) (w_J3_compress_b64 Q X q1 σ) (w_J3_newBytesLength (l1 + l2) (fun x3 σ => w_J13_copyOfRange l0 (l1 <<< (1 &&& 31)) x3 (fun x4 σ => w_J3_getChar x4 x2 (fun x5 σ => w_if (255 < x5) (w_J3_compress_b61 Q X x4 σ) (w_J3_compress_2 x4 0 q1 0 l2 (fun x6 σ => w_if (x6 = l2) (w_J3_compress_b64 Q X q1 σ) (w_J3_compress_b61 Q X x4 σ)) X σ)) X σ) X σ) X σ)) X σ
set_option maxHeartbeats 4000000 in
theorem wk_J3_compress_b64  (C : tw_C p l R s m args meth c G cJ3_compress 6 yJ3_compress.cls) (hr : meth.sig.returnType = (some (.array .byte))) (hmn : meth.name = yJ3_compress.name) (hnx : (∀ x ∈ c.exceptionTable.toList, False)) (hfr : 5 ≤ R.frames) (hRl : R.locals = 40 * R.frames) {Q : Option Nat → Tst → Prop} {X : String → Nat → Tst → Prop}  (l3 : Option Nat) (σ : Tst) (H : Heap) (locs : List Loc) (ls : Array Slot) (hw : w_J3_compress_b64 Q X l3 σ) (hR : tw_R G σ H) (hS : va_S (tw_A G) s.heap H locs) (hl : tw_l ls 6 [(3, .inr l3)]) : tw_W p l e R s m args below meth c σ H locs (tw_E below G (tw_Qq G Q) X args s R) (F0 m 64 ls []) := by
  unfold w_J3_compress_b64 at hw
  refine tk_aload_n C hl 0 dJ3_compress_64 rfl ?_
  exact tw_aret C hR hS hr (Or.inr ⟨_, rfl⟩) dJ3_compress_65 hw
set_option maxHeartbeats 4000000 in
theorem wk_J3_compress_b61  (C : tw_C p l R s m args meth c G cJ3_compress 6 yJ3_compress.cls) (hr : meth.sig.returnType = (some (.array .byte))) (hmn : meth.name = yJ3_compress.name) (hnx : (∀ x ∈ c.exceptionTable.toList, False)) (hfr : 5 ≤ R.frames) (hRl : R.locals = 40 * R.frames) {Q : Option Nat → Tst → Prop} {X : String → Nat → Tst → Prop}  (l5 : Option Nat) (σ : Tst) (H : Heap) (locs : List Loc) (ls : Array Slot) (hw : w_J3_compress_b61 Q X l5 σ) (hR : tw_R G σ H) (hS : va_S (tw_A G) s.heap H locs) (hl : tw_l ls 6 [(5, .inr l5)]) : tw_W p l e R s m args below meth c σ H locs (tw_E below G (tw_Qq G Q) X args s R) (F0 m 61 ls []) := by
  unfold w_J3_compress_b61 at hw
  refine tk_aload C hl 0 dJ3_compress_61 rfl ?_
  exact tw_aret C hR hS hr (Or.inr ⟨_, rfl⟩) dJ3_compress_63 hw
set_option maxHeartbeats 4000000 in
theorem wk_J3_compress (l : Launch) (hl0 : l.stackTraces = false) (G : Tgl) (fr : Nat)  (hfr : 5 ≤ fr) (l0 : Option Nat) (l1 : Int32) (l2 : Int32) (Q : Option Nat → Tst → Prop) (X : String → Nat → Tst → Prop) (σ : Tst) (hw : w_J3_compress l0 l1 l2 Q X σ) : tw_M l yJ3_compress (ws_ yJ3_compress cJ3_compress 6 (some (.array .byte))) fr (40 * fr) G σ [.inr l0, .inl l1, .inl l2] (tw_Qq G Q) X := by
  unfold w_J3_compress at hw
  refine tw_of (ret := (some (.array .byte))) hl0 (by decide) (Nat.le_of_ble_eq_true rfl) (fun p e R s m args below meth c hRf hRl C hr hmn hnx hR hS ls hl => ?_)
  have hfr : 5 ≤ R.frames := by rw [hRf]; exact hfr
  have hRl : R.locals = 40 * R.frames := by rw [hRl, hRf]
  have hl : tw_l ls 6 [(0, .inr l0), (1, .inl l1), (2, .inl l2)] := hl
  refine tk_iload_n C hl 2 dJ3_compress_0 rfl ?_
  refine tk_na (t := 2) (atype := .byte) C hR hS hw q155 rfl (fun h => h) (fun _ _ => rfl) (by decide) dJ3_compress_1 (fun q1 σ H hw hR hS => ?_)
  refine tk_astore_n (L' := [(3, .inr q1), (0, .inr l0), (1, .inl l1), (2, .inl l2)]) C hl dJ3_compress_3 (by decide) rfl (fun ls hl => ?_)
  refine tk_aload_n C hl 1 dJ3_compress_4 rfl ?_
  refine tk_iload_n C hl 2 dJ3_compress_5 rfl ?_
  refine tk_aload_n C hl 0 dJ3_compress_6 rfl ?_
  refine lv_iconst (v := 0) C.hx C.hb dJ3_compress_7 (by decide) ?_
  refine tk_iload_n C hl 3 dJ3_compress_8 rfl ?_
  refine tw_cbi C hS (tw_runS (As := [.inr l0, .inl l1, .inr q1, .inl 0, .inl l2]) C hR hS (wk_J3_compress_2 l C.hst G (R.frames - 1) (by omega) _ _ _ _ _ _ _ σ hw) q901 q902 q68 q903 pd_J3_compress_2 ⟨by omega, by omega⟩ hl.1 rfl (tw_r8 [] (Nat.le_of_ble_eq_true rfl)) dJ3_compress_9) (fun E q σ H locs hX hR hS hi => tw_out C hR hS (fun x hx => (hnx x hx).elim) hi hX) (fun x2 σ H locs hw hR hS => ?_)
  refine tk_istore (L' := [(4, .inl x2), (3, .inr q1), (0, .inr l0), (1, .inl l1), (2, .inl l2)]) C hl dJ3_compress_12 (by decide) rfl (fun ls hl => ?_)
  refine tk_iload C hl 0 dJ3_compress_14 rfl ?_
  refine tk_iload_n C hl 4 dJ3_compress_16 rfl ?_
  refine lv_icmp_eq (tgt := 64) C.hx C.hb dJ3_compress_17 (by decide) (fun c17 => ?_) (fun c17 => ?_)
  · replace hw := hw.1 c17
    exact wk_J3_compress_b64 C hr hmn hnx hfr hRl _ σ _ _ _ hw hR hS (tk_sub hl [1] rfl)
  · replace hw := hw.2 c17
    refine tk_aload_n C hl 2 dJ3_compress_20 rfl ?_
    refine tk_iload_n C hl 3 dJ3_compress_21 rfl ?_
    refine lv_iconst (v := 1) C.hx C.hb dJ3_compress_22 (by decide) ?_
    refine lv_ishl C.hx C.hb dJ3_compress_23 ?_
    refine tk_iload_n C hl 3 dJ3_compress_24 rfl ?_
    refine tk_iload_n C hl 4 dJ3_compress_25 rfl ?_
    refine lv_iadd C.hx C.hb dJ3_compress_26 ?_
    refine tw_cbi C hS (tw_runS (As := [.inl (l1 + l2)]) C hR hS (wk_J3_newBytesLength l C.hst G (R.frames - 1) (by omega) _ _ _ σ hw) q137 q138 q68 q139 pd_J3_newBytesLength ⟨by omega, by omega⟩ hl.1 rfl (tw_r8 [.inl (l1 <<< (1 &&& 31)), .inr l0] (Nat.le_of_ble_eq_true rfl)) dJ3_compress_27) (fun E q σ H locs hX hR hS hi => tw_out C hR hS (fun x hx => (hnx x hx).elim) hi hX) (fun x3 σ H locs hw hR hS => ?_)
    refine tw_cbq C hS (tw_runS (As := [.inr l0, .inl (l1 <<< (1 &&& 31)), .inl x3]) C hR hS (wk_J13_copyOfRange l C.hst G (R.frames - 1) (by omega) _ _ _ _ _ σ hw) q907 q869 q82 q870 pd_J13_copyOfRange ⟨by omega, by omega⟩ hl.1 rfl (tw_r8 [] (Nat.le_of_ble_eq_true rfl)) dJ3_compress_30) (fun E q σ H locs hX hR hS hi => tw_out C hR hS (fun x hx => (hnx x hx).elim) hi hX) (fun x4 σ H locs hw hR hS => ?_)
    refine tk_astore (L' := [(5, .inr x4), (4, .inl x2), (3, .inr q1), (0, .inr l0), (1, .inl l1), (2, .inl l2)]) C hl dJ3_compress_33 (by decide) rfl (fun ls hl => ?_)
    refine tk_aload C hl 0 dJ3_compress_35 rfl ?_
    refine tk_iload C hl 1 dJ3_compress_37 rfl ?_
    refine tw_cbi C hS (tw_runS (As := [.inr x4, .inl x2]) C hR hS (wk_J3_getChar l C.hst G (R.frames - 1) (by omega) _ _ _ _ σ hw) q904 q905 q68 q906 pd_J3_getChar ⟨by omega, by omega⟩ hl.1 rfl (tw_r8 [] (Nat.le_of_ble_eq_true rfl)) dJ3_compress_39) (fun E q σ H locs hX hR hS hi => tw_out C hR hS (fun x hx => (hnx x hx).elim) hi hX) (fun x5 σ H locs hw hR hS => ?_)
    refine lv_sipush (v := 255) C.hx C.hb dJ3_compress_42 (by decide) ?_
    refine lv_icmp_gt (tgt := 61) C.hx C.hb dJ3_compress_45 (by decide) (fun c45 => ?_) (fun c45 => ?_)
    · replace hw := hw.1 c45
      exact wk_J3_compress_b61 C hr hmn hnx hfr hRl _ σ _ _ _ hw hR hS (tk_sub hl [0] rfl)
    · replace hw := hw.2 c45
      refine tk_aload C hl 0 dJ3_compress_48 rfl ?_
      refine lv_iconst (v := 0) C.hx C.hb dJ3_compress_50 (by decide) ?_
      refine tk_aload_n C hl 2 dJ3_compress_51 rfl ?_
      refine lv_iconst (v := 0) C.hx C.hb dJ3_compress_52 (by decide) ?_
      refine tk_iload_n C hl 5 dJ3_compress_53 rfl ?_
      refine tw_cbi C hS (tw_runS (As := [.inr x4, .inl 0, .inr q1, .inl 0, .inl l2]) C hR hS (wk_J3_compress_2 l C.hst G (R.frames - 1) (by omega) _ _ _ _ _ _ _ σ hw) q901 q902 q68 q903 pd_J3_compress_2 ⟨by omega, by omega⟩ hl.1 rfl (tw_r8 [] (Nat.le_of_ble_eq_true rfl)) dJ3_compress_54) (fun E q σ H locs hX hR hS hi => tw_out C hR hS (fun x hx => (hnx x hx).elim) hi hX) (fun x6 σ H locs hw hR hS => ?_)
      refine tk_iload_n C hl 5 dJ3_compress_57 rfl ?_
      refine lv_icmp_eq (tgt := 64) C.hx C.hb dJ3_compress_58 (by decide) (fun c58 => ?_) (fun c58 => ?_)
      · replace hw := hw.1 c58
        exact wk_J3_compress_b64 C hr hmn hnx hfr hRl _ σ _ _ _ hw hR hS (tk_sub hl [2] rfl)
      · replace hw := hw.2 c58
        exact wk_J3_compress_b61 C hr hmn hnx hfr hRl _ σ _ _ _ hw hR hS (tk_sub hl [0] rfl)
-- java/lang/StringUTF16.coderFromArrayLen([BI)B
def w_J3_coderFromArrayLen (l0 : Option Nat) (l1 : Int32) (Q : Int32 → Tst → Prop) (X : String → Nat → Tst → Prop) (σ : Tst) : Prop := w_al σ l0 fun x1 => narrow .byte (.int ((((l1 - x1).toUInt32 >>> ((31 : Int32).toUInt32 &&& Int32.toUInt32 31)).toInt32).toInt8.toInt32)) = .int ((((l1 - x1).toUInt32 >>> ((31 : Int32).toUInt32 &&& Int32.toUInt32 31)).toInt32).toInt8.toInt32) ∧ Q ((((l1 - x1).toUInt32 >>> ((31 : Int32).toUInt32 &&& Int32.toUInt32 31)).toInt32).toInt8.toInt32) σ
set_option maxHeartbeats 4000000 in
theorem wk_J3_coderFromArrayLen (l : Launch) (hl0 : l.stackTraces = false) (G : Tgl) (fr : Nat)  (hfr : 1 ≤ fr) (l0 : Option Nat) (l1 : Int32) (Q : Int32 → Tst → Prop) (X : String → Nat → Tst → Prop) (σ : Tst) (hw : w_J3_coderFromArrayLen l0 l1 Q X σ) : tw_M l yJ3_coderFromArrayLen (ws_ yJ3_coderFromArrayLen cJ3_coderFromArrayLen 2 (some .byte)) fr (40 * fr) G σ [.inr l0, .inl l1] (tw_Qi G Q) X := by
  unfold w_J3_coderFromArrayLen at hw
  refine tw_of (ret := (some .byte)) hl0 (by decide) (Nat.le_of_ble_eq_true rfl) (fun p e R s m args below meth c hRf hRl C hr hmn hnx hR hS ls hl => ?_)
  have hfr : 1 ≤ R.frames := by rw [hRf]; exact hfr
  have hRl : R.locals = 40 * R.frames := by rw [hRl, hRf]
  have hl : tw_l ls 2 [(0, .inr l0), (1, .inl l1)] := hl
  refine tk_iload_n C hl 1 dJ3_coderFromArrayLen_0 rfl ?_
  refine tk_aload_n C hl 0 dJ3_coderFromArrayLen_1 rfl ?_
  refine tk_al C hR hw dJ3_coderFromArrayLen_2 (fun x1 hw => ?_)
  refine lv_isub C.hx C.hb dJ3_coderFromArrayLen_3 ?_
  refine lv_bipush (v := 31) C.hx C.hb dJ3_coderFromArrayLen_4 (by decide) ?_
  refine lv_iushr (v := ((l1 - x1).toUInt32 >>> ((31 : Int32).toUInt32 &&& Int32.toUInt32 31)).toInt32) C.hx C.hb dJ3_coderFromArrayLen_6 rfl ?_
  refine lv_i2b (v := (((l1 - x1).toUInt32 >>> ((31 : Int32).toUInt32 &&& Int32.toUInt32 31)).toInt32).toInt8.toInt32) C.hx C.hb dJ3_coderFromArrayLen_7 rfl ?_
  obtain ⟨hok, hw⟩ := hw
  exact tw_iret C hR hS hr hok dJ3_coderFromArrayLen_8 hw
-- java/lang/String.<init>(Ljava/lang/AbstractStringBuilder;Ljava/lang/Void;)V
def w_J2_init_2_b97 (Q : Tst → Prop) (X : String → Nat → Tst → Prop) (σ : Tst) : Prop := Q σ
def w_J2_init_2_b79 (Q : Tst → Prop) (X : String → Nat → Tst → Prop) (l0 : Option Nat) (l3 : Option Nat) (l4 : Int32) (σ : Tst) : Prop := w_ok .byte 1 ∧ tw_nbs σ l0 ∧ w_p σ l0 cJ2 1 (.inl 1) fun σ => w_J13_copyOfRange l3 0 (l4 <<< (1 &&& 31)) (fun x1 σ => tw_nbs σ l0 ∧ w_p σ l0 cJ2 0 (.inr x1) fun σ => w_J2_init_2_b97 Q X σ) X σ
def w_J2_init_2 (l0 : Option Nat) (l1 : Option Nat) (l2 : Option Nat) (Q : Tst → Prop) (X : String → Nat → Tst → Prop) (σ : Tst) : Prop := w_rf l0 <| w_rc σ l1 cJ1 <| w_J0_getValue l1 (fun x1 σ => w_rc σ l1 cJ1 <| w_J1_length l1 (fun x2 σ => w_rc σ l1 cJ1 <| w_J0_isLatin1 l1 (fun x3 σ => w_if (x3 = 0) (w_if ((1 : Int32) = 0) (w_J2_init_2_b79 Q X l0 x1 x2 σ) (w_gi σ l1 cJ1 2 fun x5 => w_if (x5 = 0) (w_J2_init_2_b79 Q X l0 x1 x2 σ) (w_J3_compress x1 0 x2 (fun x6 σ => tw_nbs σ l0 ∧ w_p σ l0 cJ2 0 (.inr x6) fun σ => w_gr σ l0 cJ2 0 fun x7 => w_J3_coderFromArrayLen x7 x2 (fun x8 σ => w_ok .byte x8 ∧ tw_nbs σ l0 ∧ w_p σ l0 cJ2 1 (.inl x8) fun σ => Q σ) X σ) X σ))) (w_ok .byte 0 ∧ tw_nbs σ l0 ∧ w_p σ l0 cJ2 1 (.inl 0) fun σ => w_J13_copyOfRange x1 0 x2 (fun x9 σ => tw_nbs σ l0 ∧ w_p σ l0 cJ2 0 (.inr x9) fun σ => w_J2_init_2_b97 Q X σ) X σ)) X σ) X σ) X σ
set_option maxHeartbeats 4000000 in
theorem wk_J2_init_2_b97  (C : tw_C p l R s m args meth c G cJ2_init_2 5 yJ2_init_2.cls) (hr : meth.sig.returnType = none) (hmn : meth.name = yJ2_init_2.name) (hnx : (∀ x ∈ c.exceptionTable.toList, False)) (hfr : 6 ≤ R.frames) (hRl : R.locals = 40 * R.frames) {Q : Tst → Prop} {X : String → Nat → Tst → Prop}   (σ : Tst) (H : Heap) (locs : List Loc) (ls : Array Slot) (hw : w_J2_init_2_b97 Q X  σ) (hR : tw_R G σ H) (hS : va_S (tw_A G) s.heap H locs) (hl : tw_l ls 5 []) : tw_W p l e R s m args below meth c σ H locs (tw_E below G (tw_Qv G Q) X args s R) (F0 m 97 ls []) := by
  unfold w_J2_init_2_b97 at hw
  exact tw_vret C hR hS hr dJ2_init_2_97 hw
set_option maxHeartbeats 4000000 in
theorem wk_J2_init_2_b79  (C : tw_C p l R s m args meth c G cJ2_init_2 5 yJ2_init_2.cls) (hr : meth.sig.returnType = none) (hmn : meth.name = yJ2_init_2.name) (hnx : (∀ x ∈ c.exceptionTable.toList, False)) (hfr : 6 ≤ R.frames) (hRl : R.locals = 40 * R.frames) {Q : Tst → Prop} {X : String → Nat → Tst → Prop}  (l0 : Option Nat) (l3 : Option Nat) (l4 : Int32) (σ : Tst) (H : Heap) (locs : List Loc) (ls : Array Slot) (hw : w_J2_init_2_b79 Q X l0 l3 l4 σ) (hR : tw_R G σ H) (hS : va_S (tw_A G) s.heap H locs) (hl : tw_l ls 5 [(0, .inr l0), (3, .inr l3), (4, .inl l4)]) : tw_W p l e R s m args below meth c σ H locs (tw_E below G (tw_Qv G Q) X args s R) (F0 m 79 ls []) := by
  unfold w_J2_init_2_b79 at hw
  refine tk_aload_n C hl 0 dJ2_init_2_79 rfl ?_
  refine lv_iconst (v := 1) C.hx C.hb dJ2_init_2_80 (by decide) ?_
  obtain ⟨hok, hw⟩ := hw
  obtain ⟨hnb, hw⟩ := hw
  refine tk_pF (x := .inl 1) C hR hS hw (Or.inr (tw_nbu C hR hnb)) rfl in_J2 tyJ2 tyJ2_ok nmJ2 (by decide) q912 (fun _ h => h) rfl hmn rfl hok dJ2_init_2_81 (fun σ H locs hw hR hS => ?_)
  refine tk_aload_n C hl 0 dJ2_init_2_84 rfl ?_
  refine tk_aload_n C hl 1 dJ2_init_2_85 rfl ?_
  refine lv_iconst (v := 0) C.hx C.hb dJ2_init_2_86 (by decide) ?_
  refine tk_iload C hl 2 dJ2_init_2_87 rfl ?_
  refine lv_iconst (v := 1) C.hx C.hb dJ2_init_2_89 (by decide) ?_
  refine lv_ishl C.hx C.hb dJ2_init_2_90 ?_
  refine tw_cbq C hS (tw_runS (As := [.inr l3, .inl 0, .inl (l4 <<< (1 &&& 31))]) C hR hS (wk_J13_copyOfRange l C.hst G (R.frames - 1) (by omega) _ _ _ _ _ σ hw) q868 q869 q82 q870 pd_J13_copyOfRange ⟨by omega, by omega⟩ hl.1 rfl (tw_r8 [.inr l0] (Nat.le_of_ble_eq_true rfl)) dJ2_init_2_91) (fun E q σ H locs hX hR hS hi => tw_out C hR hS (fun x hx => (hnx x hx).elim) hi hX) (fun x1 σ H locs hw hR hS => ?_)
  obtain ⟨hnb, hw⟩ := hw
  refine tk_pF (x := .inr x1) C hR hS hw (Or.inr (tw_nbu C hR hnb)) rfl in_J2 tyJ2 tyJ2_ok nmJ2 (by decide) q911 (fun _ h => h) rfl hmn rfl (tw_nrA _ _) dJ2_init_2_94 (fun σ H locs hw hR hS => ?_)
  exact wk_J2_init_2_b97 C hr hmn hnx hfr hRl σ _ _ _ hw hR hS (tk_sub hl [] rfl)
set_option maxHeartbeats 4000000 in
theorem wk_J2_init_2 (l : Launch) (hl0 : l.stackTraces = false) (G : Tgl) (fr : Nat)  (hfr : 6 ≤ fr) (l0 : Option Nat) (l1 : Option Nat) (l2 : Option Nat) (Q : Tst → Prop) (X : String → Nat → Tst → Prop) (σ : Tst) (hw : w_J2_init_2 l0 l1 l2 Q X σ) : tw_M l yJ2_init_2 (ws_ yJ2_init_2 cJ2_init_2 5 none) fr (40 * fr) G σ [.inr l0, .inr l1, .inr l2] (tw_Qv G Q) X := by
  unfold w_J2_init_2 at hw
  refine tw_of (ret := none) hl0 (by decide) (Nat.le_of_ble_eq_true rfl) (fun p e R s m args below meth c hRf hRl C hr hmn hnx hR hS ls hl => ?_)
  have hfr : 6 ≤ R.frames := by rw [hRf]; exact hfr
  have hRl : R.locals = 40 * R.frames := by rw [hRl, hRf]
  have hl : tw_l ls 5 [(0, .inr l0), (1, .inr l1), (2, .inr l2)] := hl
  refine tk_aload_n C hl 0 dJ2_init_2_0 rfl ?_
  refine tk_obj C hw q853 q119 q120 hl.1 (tw_r8 [] (Nat.le_of_ble_eq_true rfl)) (by omega) (by omega) dJ2_init_2_1 (fun hw => ?_)
  refine tk_aload_n C hl 1 dJ2_init_2_4 rfl ?_
  obtain ⟨hv, hw⟩ := hw
  refine tw_cbq C hS (tk_runU (As := []) (Cn := "java/lang/StringBuilder") (owner := "java/lang/AbstractStringBuilder") (x := ⟨"java/lang/AbstractStringBuilder", "getValue", "()[B"⟩) C hR hS (wk_J0_getValue l C.hst G (R.frames - 1) (by omega) _ _ _ σ hw) hv rfl q854 q856 q857 q855 q65 q858 ⟨by decide, by decide, by exact (by decide +kernel : (parseMethodDescriptor "()[B").map (fun d => d.parameters.length) = some 0)⟩ ⟨by omega, by omega⟩ hl.1 rfl (tw_r8 [] (Nat.le_of_ble_eq_true rfl)) dJ2_init_2_5) (fun E q σ H locs hX hR hS hi => tw_out C hR hS (fun x hx => (hnx x hx).elim) hi hX) (fun x1 σ H locs hw hR hS => ?_)
  refine tk_astore_n (L' := [(3, .inr x1), (0, .inr l0), (1, .inr l1), (2, .inr l2)]) C hl dJ2_init_2_8 (by decide) rfl (fun ls hl => ?_)
  refine tk_aload_n C hl 2 dJ2_init_2_9 rfl ?_
  obtain ⟨hv, hw⟩ := hw
  refine tw_cbi C hS (tk_runO (As := []) (Cn := "java/lang/StringBuilder") (y := yJ1_length) (x := ⟨"java/lang/AbstractStringBuilder", "length", "()I"⟩) C hR hS (wk_J1_length l C.hst G (R.frames - 1) (by omega) _ _ _ σ hw) hv rfl q859 q861 q860 q862 q863 q66 q864 q866 ⟨by decide, by decide, by exact (by decide +kernel : (parseMethodDescriptor "()I").map (fun d => d.parameters.length) = some 0)⟩ ⟨by omega, by omega⟩ hl.1 rfl (tw_r8 [] (Nat.le_of_ble_eq_true rfl)) dJ2_init_2_10) (fun E q σ H locs hX hR hS hi => tw_out C hR hS (fun x hx => (hnx x hx).elim) hi hX) (fun x2 σ H locs hw hR hS => ?_)
  refine tk_istore (L' := [(4, .inl x2), (3, .inr x1), (0, .inr l0), (1, .inr l1), (2, .inr l2)]) C hl dJ2_init_2_13 (by decide) rfl (fun ls hl => ?_)
  refine tk_aload_n C hl 3 dJ2_init_2_15 rfl ?_
  obtain ⟨hv, hw⟩ := hw
  refine tw_cbi C hS (tk_runU (As := []) (Cn := "java/lang/StringBuilder") (owner := "java/lang/AbstractStringBuilder") (x := ⟨"java/lang/AbstractStringBuilder", "isLatin1", "()Z"⟩) C hR hS (wk_J0_isLatin1 l C.hst G (R.frames - 1) (by omega) _ _ _ σ hw) hv rfl q867 q743 q744 q742 q65 q745 ⟨by decide, by decide, by exact (by decide +kernel : (parseMethodDescriptor "()Z").map (fun d => d.parameters.length) = some 0)⟩ ⟨by omega, by omega⟩ hl.1 rfl (tw_r8 [] (Nat.le_of_ble_eq_true rfl)) dJ2_init_2_16) (fun E q σ H locs hX hR hS hi => tw_out C hR hS (fun x hx => (hnx x hx).elim) hi hX) (fun x3 σ H locs hw hR hS => ?_)
  refine lv_if_eq (tgt := 41) C.hx C.hb dJ2_init_2_19 (by decide) (fun c19 => ?_) (fun c19 => ?_)
  · replace hw := hw.1 c19
    refine tk_gs (x := .inl 1) C hR hS 3 rfl q780 (fun _ h => h) dJ2_init_2_41 ?_
    refine lv_if_eq (tgt := 79) C.hx C.hb dJ2_init_2_44 (by decide) (fun c44 => ?_) (fun c44 => ?_)
    · replace hw := hw.1 c44
      exact wk_J2_init_2_b79 C hr hmn hnx hfr hRl _ _ _ σ _ _ _ hw hR hS (tk_sub hl [2, 1, 0] rfl)
    · replace hw := hw.2 c44
      refine tk_aload_n C hl 3 dJ2_init_2_47 rfl ?_
      refine tk_gi C hR hw rfl in_J1 (by decide) q144 (fun _ h => h) dJ2_init_2_48 (fun x5 hw => ?_)
      refine lv_if_eq (tgt := 79) C.hx C.hb dJ2_init_2_51 (by decide) (fun c51 => ?_) (fun c51 => ?_)
      · replace hw := hw.1 c51
        exact wk_J2_init_2_b79 C hr hmn hnx hfr hRl _ _ _ σ _ _ _ hw hR hS (tk_sub hl [2, 1, 0] rfl)
      · replace hw := hw.2 c51
        refine tk_aload_n C hl 2 dJ2_init_2_54 rfl ?_
        refine tk_aload_n C hl 1 dJ2_init_2_55 rfl ?_
        refine lv_iconst (v := 0) C.hx C.hb dJ2_init_2_56 (by decide) ?_
        refine tk_iload C hl 0 dJ2_init_2_57 rfl ?_
        refine tw_cbq C hS (tw_runS (As := [.inr x1, .inl 0, .inl x2]) C hR hS (wk_J3_compress l C.hst G (R.frames - 1) (by omega) _ _ _ _ _ σ hw) q898 q899 q68 q900 pd_J3_compress ⟨by omega, by omega⟩ hl.1 rfl (tw_r8 [.inr l0] (Nat.le_of_ble_eq_true rfl)) dJ2_init_2_59) (fun E q σ H locs hX hR hS hi => tw_out C hR hS (fun x hx => (hnx x hx).elim) hi hX) (fun x6 σ H locs hw hR hS => ?_)
        obtain ⟨hnb, hw⟩ := hw
        refine tk_pF (x := .inr x6) C hR hS hw (Or.inr (tw_nbu C hR hnb)) rfl in_J2 tyJ2 tyJ2_ok nmJ2 (by decide) q911 (fun _ h => h) rfl hmn rfl (tw_nrA _ _) dJ2_init_2_62 (fun σ H locs hw hR hS => ?_)
        refine tk_aload_n C hl 2 dJ2_init_2_65 rfl ?_
        refine tk_aload_n C hl 2 dJ2_init_2_66 rfl ?_
        refine tk_gr C hR hw rfl in_J2 (by decide) q911 (fun _ h => h) dJ2_init_2_67 (fun x7 hw => ?_)
        refine tk_iload C hl 0 dJ2_init_2_70 rfl ?_
        refine tw_cbi C hS (tw_runS (As := [.inr x7, .inl x2]) C hR hS (wk_J3_coderFromArrayLen l C.hst G (R.frames - 1) (by omega) _ _ _ _ σ hw) q908 q909 q68 q910 pd_J3_coderFromArrayLen ⟨by omega, by omega⟩ hl.1 rfl (tw_r8 [.inr l0] (Nat.le_of_ble_eq_true rfl)) dJ2_init_2_72) (fun E q σ H locs hX hR hS hi => tw_out C hR hS (fun x hx => (hnx x hx).elim) hi hX) (fun x8 σ H locs hw hR hS => ?_)
        obtain ⟨hok, hw⟩ := hw
        obtain ⟨hnb, hw⟩ := hw
        refine tk_pF (x := .inl x8) C hR hS hw (Or.inr (tw_nbu C hR hnb)) rfl in_J2 tyJ2 tyJ2_ok nmJ2 (by decide) q912 (fun _ h => h) rfl hmn rfl hok dJ2_init_2_75 (fun σ H locs hw hR hS => ?_)
        exact tw_vret C hR hS hr dJ2_init_2_78 hw
  · replace hw := hw.2 c19
    refine tk_aload_n C hl 2 dJ2_init_2_22 rfl ?_
    refine lv_iconst (v := 0) C.hx C.hb dJ2_init_2_23 (by decide) ?_
    obtain ⟨hok, hw⟩ := hw
    obtain ⟨hnb, hw⟩ := hw
    refine tk_pF (x := .inl 0) C hR hS hw (Or.inr (tw_nbu C hR hnb)) rfl in_J2 tyJ2 tyJ2_ok nmJ2 (by decide) q912 (fun _ h => h) rfl hmn rfl hok dJ2_init_2_24 (fun σ H locs hw hR hS => ?_)
    refine tk_aload_n C hl 2 dJ2_init_2_27 rfl ?_
    refine tk_aload_n C hl 1 dJ2_init_2_28 rfl ?_
    refine lv_iconst (v := 0) C.hx C.hb dJ2_init_2_29 (by decide) ?_
    refine tk_iload C hl 0 dJ2_init_2_30 rfl ?_
    refine tw_cbq C hS (tw_runS (As := [.inr x1, .inl 0, .inl x2]) C hR hS (wk_J13_copyOfRange l C.hst G (R.frames - 1) (by omega) _ _ _ _ _ σ hw) q868 q869 q82 q870 pd_J13_copyOfRange ⟨by omega, by omega⟩ hl.1 rfl (tw_r8 [.inr l0] (Nat.le_of_ble_eq_true rfl)) dJ2_init_2_32) (fun E q σ H locs hX hR hS hi => tw_out C hR hS (fun x hx => (hnx x hx).elim) hi hX) (fun x9 σ H locs hw hR hS => ?_)
    obtain ⟨hnb, hw⟩ := hw
    refine tk_pF (x := .inr x9) C hR hS hw (Or.inr (tw_nbu C hR hnb)) rfl in_J2 tyJ2 tyJ2_ok nmJ2 (by decide) q911 (fun _ h => h) rfl hmn rfl (tw_nrA _ _) dJ2_init_2_35 (fun σ H locs hw hR hS => ?_)
    refine lv_goto (tgt := 97) C.hx C.hb dJ2_init_2_38 (by decide) ?_
    exact wk_J2_init_2_b97 C hr hmn hnx hfr hRl σ _ _ _ hw hR hS (tk_sub hl [] rfl)
-- java/lang/String.<init>(Ljava/lang/StringBuilder;)V
def w_J2_init (l0 : Option Nat) (l1 : Option Nat) (Q : Tst → Prop) (X : String → Nat → Tst → Prop) (σ : Tst) : Prop := w_rf l0 <| w_J2_init_2 l0 l1 none (fun σ => Q σ) X σ
set_option maxHeartbeats 4000000 in
theorem wk_J2_init (l : Launch) (hl0 : l.stackTraces = false) (G : Tgl) (fr : Nat)  (hfr : 7 ≤ fr) (l0 : Option Nat) (l1 : Option Nat) (Q : Tst → Prop) (X : String → Nat → Tst → Prop) (σ : Tst) (hw : w_J2_init l0 l1 Q X σ) : tw_M l yJ2_init (ws_ yJ2_init cJ2_init 2 none) fr (40 * fr) G σ [.inr l0, .inr l1] (tw_Qv G Q) X := by
  unfold w_J2_init at hw
  refine tw_of (ret := none) hl0 (by decide) (Nat.le_of_ble_eq_true rfl) (fun p e R s m args below meth c hRf hRl C hr hmn hnx hR hS ls hl => ?_)
  have hfr : 7 ≤ R.frames := by rw [hRf]; exact hfr
  have hRl : R.locals = 40 * R.frames := by rw [hRl, hRf]
  have hl : tw_l ls 2 [(0, .inr l0), (1, .inr l1)] := hl
  refine tk_aload_n C hl 0 dJ2_init_0 rfl ?_
  refine tk_aload_n C hl 1 dJ2_init_1 rfl ?_
  refine lv_null C.hx C.hb dJ2_init_2 ?_
  refine W.eq (g2 := F0 m 3 ls (va_rf none :: [va_rf l1, va_rf l0])) rfl ?_
  obtain ⟨hv, hw⟩ := hw
  refine tw_cbv C hS (tk_runI (As := [.inr l1, .inr none]) hv C hR hS (wk_J2_init_2 l C.hst G (R.frames - 1) (by omega) _ _ _ _ _ σ hw) q850 q851 q67 q852 rfl pd_J2_init_2 ⟨by omega, by omega⟩ hl.1 rfl (tw_r8 [] (Nat.le_of_ble_eq_true rfl)) dJ2_init_3) (fun E q σ H locs hX hR hS hi => tw_out C hR hS (fun x hx => (hnx x hx).elim) hi hX) (fun σ H locs hw hR hS => ?_)
  exact tw_vret C hR hS hr dJ2_init_6 hw
-- java/lang/StringBuilder.toString()Ljava/lang/String;
def w_J1_toString (l0 : Option Nat) (Q : Option Nat → Tst → Prop) (X : String → Nat → Tst → Prop) (σ : Tst) : Prop := w_nw σ cJ2 4 [.inr none, .inl 0, .inl 0, .inl 0] fun q1 σ => w_rf q1 <| w_J2_init q1 l0 (fun σ => Q q1 σ) X σ
set_option maxHeartbeats 4000000 in
theorem wk_J1_toString (l : Launch) (hl0 : l.stackTraces = false) (G : Tgl) (fr : Nat)  (hfr : 8 ≤ fr) (l0 : Option Nat) (Q : Option Nat → Tst → Prop) (X : String → Nat → Tst → Prop) (σ : Tst) (hw : w_J1_toString l0 Q X σ) : tw_M l yJ1_toString (ws_ yJ1_toString cJ1_toString 1 (some (.object "java/lang/String"))) fr (40 * fr) G σ [.inr l0] (tw_Qq G Q) X := by
  unfold w_J1_toString at hw
  refine tw_of (ret := (some (.object "java/lang/String"))) hl0 (by decide) (Nat.le_of_ble_eq_true rfl) (fun p e R s m args below meth c hRf hRl C hr hmn hnx hR hS ls hl => ?_)
  have hfr : 8 ≤ R.frames := by rw [hRf]; exact hfr
  have hRl : R.locals = 40 * R.frames := by rw [hRl, hRf]
  have hl : tw_l ls 1 [(0, .inr l0)] := hl
  refine tk_nw C hR hS hw rfl in_J2 tyJ2 tyJ2_ok q845 q846 q67 (fun j hj => by rcases (show j = 0 ∨ j = 1 ∨ j = 2 ∨ j = 3 by omega) with rfl | rfl | rfl | rfl <;> rfl) dJ1_toString_0 (fun q1 σ H hw hR hS => ?_)
  refine tw_dup (x := .inr q1) C.hx C.hb dJ1_toString_3 ?_
  refine tk_aload_n C hl 0 dJ1_toString_4 rfl ?_
  obtain ⟨hv, hw⟩ := hw
  refine tw_cbv C hS (tk_runI (As := [.inr l0]) hv C hR hS (wk_J2_init l C.hst G (R.frames - 1) (by omega) _ _ _ _ σ hw) q847 q848 q67 q849 rfl pd_J2_init ⟨by omega, by omega⟩ hl.1 rfl (tw_r8 [.inr q1] (Nat.le_of_ble_eq_true rfl)) dJ1_toString_5) (fun E q σ H locs hX hR hS hi => tw_out C hR hS (fun x hx => (hnx x hx).elim) hi hX) (fun σ H locs hw hR hS => ?_)
  exact tw_aret C hR hS hr (Or.inl ⟨_, rfl⟩) dJ1_toString_8 hw
-- java/lang/String.coder()B
def w_J2_coder_b14 (Q : Int32 → Tst → Prop) (X : String → Nat → Tst → Prop) (s0 : Int32) (σ : Tst) : Prop := narrow .byte (.int s0) = .int s0 ∧ Q s0 σ
def w_J2_coder (l0 : Option Nat) (Q : Int32 → Tst → Prop) (X : String → Nat → Tst → Prop) (σ : Tst) : Prop := w_if ((1 : Int32) = 0) (w_J2_coder_b14 Q X 1 σ) (w_gi σ l0 cJ2 1 fun x2 => w_J2_coder_b14 Q X x2 σ)
set_option maxHeartbeats 4000000 in
theorem wk_J2_coder_b14  (C : tw_C p l R s m args meth c G cJ2_coder 1 yJ2_coder.cls) (hr : meth.sig.returnType = (some .byte)) (hmn : meth.name = yJ2_coder.name) (hnx : (∀ x ∈ c.exceptionTable.toList, False)) (hfr : 1 ≤ R.frames) (hRl : R.locals = 40 * R.frames) {Q : Int32 → Tst → Prop} {X : String → Nat → Tst → Prop}  (s0 : Int32) (σ : Tst) (H : Heap) (locs : List Loc) (ls : Array Slot) (hw : w_J2_coder_b14 Q X s0 σ) (hR : tw_R G σ H) (hS : va_S (tw_A G) s.heap H locs) (hl : tw_l ls 1 []) : tw_W p l e R s m args below meth c σ H locs (tw_E below G (tw_Qi G Q) X args s R) (F0 m 14 ls [.int s0]) := by
  unfold w_J2_coder_b14 at hw
  obtain ⟨hok, hw⟩ := hw
  exact tw_iret C hR hS hr hok dJ2_coder_14 hw
set_option maxHeartbeats 4000000 in
theorem wk_J2_coder (l : Launch) (hl0 : l.stackTraces = false) (G : Tgl) (fr : Nat)  (hfr : 1 ≤ fr) (l0 : Option Nat) (Q : Int32 → Tst → Prop) (X : String → Nat → Tst → Prop) (σ : Tst) (hw : w_J2_coder l0 Q X σ) : tw_M l yJ2_coder (ws_ yJ2_coder cJ2_coder 1 (some .byte)) fr (40 * fr) G σ [.inr l0] (tw_Qi G Q) X := by
  unfold w_J2_coder at hw
  refine tw_of (ret := (some .byte)) hl0 (by decide) (Nat.le_of_ble_eq_true rfl) (fun p e R s m args below meth c hRf hRl C hr hmn hnx hR hS ls hl => ?_)
  have hfr : 1 ≤ R.frames := by rw [hRf]; exact hfr
  have hRl : R.locals = 40 * R.frames := by rw [hRl, hRf]
  have hl : tw_l ls 1 [(0, .inr l0)] := hl
  refine tk_gs (x := .inl 1) C hR hS 3 rfl q780 (fun _ h => h) dJ2_coder_0 ?_
  refine lv_if_eq (tgt := 13) C.hx C.hb dJ2_coder_3 (by decide) (fun c3 => ?_) (fun c3 => ?_)
  · replace hw := hw.1 c3
    refine lv_iconst (v := 1) C.hx C.hb dJ2_coder_13 (by decide) ?_
    exact wk_J2_coder_b14 C hr hmn hnx hfr hRl _ σ _ _ _ hw hR hS (tk_sub hl [] rfl)
  · replace hw := hw.2 c3
    refine tk_aload_n C hl 0 dJ2_coder_6 rfl ?_
    refine tk_gi C hR hw rfl in_J2 (by decide) q912 (fun _ h => h) dJ2_coder_7 (fun x2 hw => ?_)
    refine lv_goto (tgt := 14) C.hx C.hb dJ2_coder_10 (by decide) ?_
    exact wk_J2_coder_b14 C hr hmn hnx hfr hRl _ σ _ _ _ hw hR hS (tk_sub hl [] rfl)
-- java/lang/String.length()I
def w_J2_length (l0 : Option Nat) (Q : Int32 → Tst → Prop) (X : String → Nat → Tst → Prop) (σ : Tst) : Prop := w_gr σ l0 cJ2 0 fun x1 => w_al σ x1 fun x2 => w_rc σ l0 cJ2 <| w_J2_coder l0 (fun x3 σ => Q (x2 >>> (x3 &&& 31)) σ) X σ
set_option maxHeartbeats 4000000 in
theorem wk_J2_length (l : Launch) (hl0 : l.stackTraces = false) (G : Tgl) (fr : Nat)  (hfr : 2 ≤ fr) (l0 : Option Nat) (Q : Int32 → Tst → Prop) (X : String → Nat → Tst → Prop) (σ : Tst) (hw : w_J2_length l0 Q X σ) : tw_M l yJ2_length (ws_ yJ2_length cJ2_length 1 (some .int)) fr (40 * fr) G σ [.inr l0] (tw_Qi G Q) X := by
  unfold w_J2_length at hw
  refine tw_of (ret := (some .int)) hl0 (by decide) (Nat.le_of_ble_eq_true rfl) (fun p e R s m args below meth c hRf hRl C hr hmn hnx hR hS ls hl => ?_)
  have hfr : 2 ≤ R.frames := by rw [hRf]; exact hfr
  have hRl : R.locals = 40 * R.frames := by rw [hRl, hRf]
  have hl : tw_l ls 1 [(0, .inr l0)] := hl
  refine tk_aload_n C hl 0 dJ2_length_0 rfl ?_
  refine tk_gr C hR hw rfl in_J2 (by decide) q911 (fun _ h => h) dJ2_length_1 (fun x1 hw => ?_)
  refine tk_al C hR hw dJ2_length_4 (fun x2 hw => ?_)
  refine tk_aload_n C hl 0 dJ2_length_5 rfl ?_
  obtain ⟨hv, hw⟩ := hw
  refine tw_cbi C hS (tk_runV (As := []) C hR hS (wk_J2_coder l C.hst G (R.frames - 1) (by omega) _ _ _ σ hw) hv rfl q776 q777 q778 q67 q779 pd_J2_coder ⟨by omega, by omega⟩ hl.1 rfl (tw_r8 [.inl x2] (Nat.le_of_ble_eq_true rfl)) dJ2_length_6) (fun E q σ H locs hX hR hS hi => tw_out C hR hS (fun x hx => (hnx x hx).elim) hi hX) (fun x3 σ H locs hw hR hS => ?_)
  refine lv_ishr C.hx C.hb dJ2_length_9 ?_
  exact tw_iret C hR hS hr rfl dJ2_length_10 hw
-- TreeDifferModel.writeTree(I)I
def w_X4_writeTree (l0 : Option Nat) (l1 : Int32) (Q : Int32 → Tst → Prop) (X : String → Nat → Tst → Prop) (σ : Tst) : Prop := w_p σ l0 cX4 1 (.inl 0) fun σ => w_X4_isTree l1 (fun x1 σ => w_if (x1 = 0) (w_rc σ l0 cX4 <| w_X4_fails l0 1 (fun x10 σ => Q x10 σ) X σ) (w_nw σ cJ1 4 [.inr none, .inl 0, .inl 0, .inl 0] fun q2 σ => w_rf q2 <| w_J1_init q2 (fun σ => w_gr σ l0 cX4 0 fun x4 => w_lr σ x4 l1 fun x5 => w_rc σ l0 cX4 <| w_X4_writes 64 l0 x5 0 q2 (fun σ => w_rc σ q2 cJ1 <| w_J1_toString q2 (fun x7 σ => w_p σ l0 cX4 7 (.inr x7) fun σ => w_gr σ l0 cX4 7 fun x8 => w_rc σ x8 cJ2 <| w_J2_length x8 (fun x9 σ => Q x9 σ) X σ) X σ) X σ) X σ)) X σ
set_option maxHeartbeats 4000000 in
theorem wk_X4_writeTree (l : Launch) (hl0 : l.stackTraces = false) (G : Tgl) (fr : Nat)  (hfr : 74 ≤ fr) (l0 : Option Nat) (l1 : Int32) (Q : Int32 → Tst → Prop) (X : String → Nat → Tst → Prop) (σ : Tst) (hw : w_X4_writeTree l0 l1 Q X σ) : tw_M l yX4_writeTree (ws_ yX4_writeTree cX4_writeTree 3 (some .int)) fr (40 * fr) G σ [.inr l0, .inl l1] (tw_Qi G Q) X := by
  unfold w_X4_writeTree at hw
  refine tw_of (ret := (some .int)) hl0 (by decide) (Nat.le_of_ble_eq_true rfl) (fun p e R s m args below meth c hRf hRl C hr hmn hnx hR hS ls hl => ?_)
  have hfr : 74 ≤ R.frames := by rw [hRf]; exact hfr
  have hRl : R.locals = 40 * R.frames := by rw [hRl, hRf]
  have hl : tw_l ls 3 [(0, .inr l0), (1, .inl l1)] := hl
  refine tk_aload_n C hl 0 dX4_writeTree_0 rfl ?_
  refine lv_iconst (v := 0) C.hx C.hb dX4_writeTree_1 (by decide) ?_
  refine tk_p (x := .inl 0) C hR hS hw (by decide) rfl in_X4 tyX4 tyX4_ok nmX4 (by decide) q2053 (fun _ h => h) rfl (tw_ni _) dX4_writeTree_2 (fun σ H locs hw hR hS => ?_)
  refine tk_iload_n C hl 1 dX4_writeTree_5 rfl ?_
  refine tw_cbi C hS (tw_runS (As := [.inl l1]) C hR hS (wk_X4_isTree l C.hst G (R.frames - 1) (by omega) _ _ _ σ hw) q2163 q2164 q74 q2165 pd_X4_isTree ⟨by omega, by omega⟩ hl.1 rfl (tw_r8 [] (Nat.le_of_ble_eq_true rfl)) dX4_writeTree_6) (fun E q σ H locs hX hR hS hi => tw_out C hR hS (fun x hx => (hnx x hx).elim) hi hX) (fun x1 σ H locs hw hR hS => ?_)
  refine lv_if_ne (tgt := 18) C.hx C.hb dX4_writeTree_9 (by decide) (fun c9 => ?_) (fun c9 => ?_)
  · replace hw := hw.2 c9
    refine tk_nw C hR hS hw rfl in_J1 tyJ1 tyJ1_ok q2205 q124 q66 (fun j hj => by rcases (show j = 0 ∨ j = 1 ∨ j = 2 ∨ j = 3 by omega) with rfl | rfl | rfl | rfl <;> rfl) dX4_writeTree_18 (fun q2 σ H hw hR hS => ?_)
    refine tw_dup (x := .inr q2) C.hx C.hb dX4_writeTree_21 ?_
    obtain ⟨hv, hw⟩ := hw
    refine tw_cbv C hS (tk_runI (As := []) hv C hR hS (wk_J1_init l C.hst G (R.frames - 1) (by omega) _ _ _ σ hw) q2206 q126 q66 q127 rfl pd_J1_init ⟨by omega, by omega⟩ hl.1 rfl (tw_r8 [.inr q2] (Nat.le_of_ble_eq_true rfl)) dX4_writeTree_22) (fun E q σ H locs hX hR hS hi => tw_out C hR hS (fun x hx => (hnx x hx).elim) hi hX) (fun σ H locs hw hR hS => ?_)
    refine tk_astore_n (L' := [(2, .inr q2), (0, .inr l0), (1, .inl l1)]) C hl dX4_writeTree_25 (by decide) rfl (fun ls hl => ?_)
    refine tk_aload_n C hl 1 dX4_writeTree_26 rfl ?_
    refine tk_aload_n C hl 1 dX4_writeTree_27 rfl ?_
    refine tk_gr C hR hw rfl in_X4 (by decide) q2052 (fun _ h => h) dX4_writeTree_28 (fun x4 hw => ?_)
    refine tk_iload_n C hl 2 dX4_writeTree_31 rfl ?_
    refine tk_lr C hR hw dX4_writeTree_32 (fun x5 hw => ?_)
    refine lv_iconst (v := 0) C.hx C.hb dX4_writeTree_33 (by decide) ?_
    refine tk_aload_n C hl 0 dX4_writeTree_34 rfl ?_
    obtain ⟨hv, hw⟩ := hw
    refine tw_cbv C hS (tk_runV (As := [.inr x5, .inl 0, .inr q2]) C hR hS (wk_X4_writes l C.hst G 64 (R.frames - 1) (by omega) _ _ _ _ _ _ σ hw) hv rfl q2207 q2209 qs32 q74 q2210 pd_X4_writes ⟨by omega, by omega⟩ hl.1 rfl (tw_r8 [] (Nat.le_of_ble_eq_true rfl)) dX4_writeTree_35) (fun E q σ H locs hX hR hS hi => tw_out C hR hS (fun x hx => (hnx x hx).elim) hi hX) (fun σ H locs hw hR hS => ?_)
    refine tk_aload_n C hl 1 dX4_writeTree_38 rfl ?_
    refine tk_aload_n C hl 0 dX4_writeTree_39 rfl ?_
    obtain ⟨hv, hw⟩ := hw
    refine tw_cbq C hS (tk_runV (As := []) C hR hS (wk_J1_toString l C.hst G (R.frames - 1) (by omega) _ _ _ σ hw) hv rfl q2222 q842 q843 q66 q844 pd_J1_toString ⟨by omega, by omega⟩ hl.1 rfl (tw_r8 [.inr l0] (Nat.le_of_ble_eq_true rfl)) dX4_writeTree_40) (fun E q σ H locs hX hR hS hi => tw_out C hR hS (fun x hx => (hnx x hx).elim) hi hX) (fun x7 σ H locs hw hR hS => ?_)
    refine tk_p (x := .inr x7) C hR hS hw (by decide) rfl in_X4 tyX4 tyX4_ok nmX4 (by decide) q2059 (fun _ h => h) rfl (tw_nr _ _) dX4_writeTree_43 (fun σ H locs hw hR hS => ?_)
    refine tk_aload_n C hl 1 dX4_writeTree_46 rfl ?_
    refine tk_gr C hR hw rfl in_X4 (by decide) q2059 (fun _ h => h) dX4_writeTree_47 (fun x8 hw => ?_)
    obtain ⟨hv, hw⟩ := hw
    refine tw_cbi C hS (tk_runV (As := []) C hR hS (wk_J2_length l C.hst G (R.frames - 1) (by omega) _ _ _ σ hw) hv rfl q2223 q773 q774 q67 q775 pd_J2_length ⟨by omega, by omega⟩ hl.1 rfl (tw_r8 [] (Nat.le_of_ble_eq_true rfl)) dX4_writeTree_50) (fun E q σ H locs hX hR hS hi => tw_out C hR hS (fun x hx => (hnx x hx).elim) hi hX) (fun x9 σ H locs hw hR hS => ?_)
    exact tw_iret C hR hS hr rfl dX4_writeTree_53 hw
  · replace hw := hw.1 c9
    refine tk_aload_n C hl 0 dX4_writeTree_12 rfl ?_
    refine lv_iconst (v := 1) C.hx C.hb dX4_writeTree_13 (by decide) ?_
    obtain ⟨hv, hw⟩ := hw
    refine tw_cbi C hS (tk_runV (As := [.inl 1]) C hR hS (wk_X4_fails l C.hst G (R.frames - 1) (by omega) _ _ _ _ σ hw) hv rfl q2155 q2157 qs24 q74 q2158 pd_X4_fails ⟨by omega, by omega⟩ hl.1 rfl (tw_r8 [] (Nat.le_of_ble_eq_true rfl)) dX4_writeTree_14) (fun E q σ H locs hX hR hS hi => tw_out C hR hS (fun x hx => (hnx x hx).elim) hi hX) (fun x10 σ H locs hw hR hS => ?_)
    exact tw_iret C hR hS hr rfl dX4_writeTree_17 hw
-- TreeDifferModel.writeScript()I
def w_X4_writeScript_b72 (k28 : Option Nat → Option Nat → Int32 → Tst → Prop) (Q : Int32 → Tst → Prop) (X : String → Nat → Tst → Prop) (l0 : Option Nat) (l1 : Option Nat) (l2 : Int32) (s0 : Option Nat) (s1 : Int32) (σ : Tst) : Prop := w_rc σ s0 cJ1 <| w_J1_append_2 s0 s1 (fun x1 σ => k28 l0 l1 (l2 + 1) σ) X σ
def w_X4_writeScript_b28 (Q : Int32 → Tst → Prop) (X : String → Nat → Tst → Prop) : Nat → Option Nat → Option Nat → Int32 → Tst → Prop
  | 0, _, _, _, _ => False
  | n + 1, l0, l1, l2, σ => w_gi σ l0 cX4 24 fun x1 => w_if (x1 ≤ l2) (w_rc σ l1 cJ1 <| w_J1_toString l1 (fun x2 σ => w_p σ l0 cX4 7 (.inr x2) fun σ => w_gr σ l0 cX4 7 fun x3 => w_rc σ x3 cJ2 <| w_J2_length x3 (fun x4 σ => Q x4 σ) X σ) X σ) (w_gr σ l0 cX4 18 fun x5 => w_lc σ x5 l2 fun x6 => w_rc σ l1 cJ1 <| w_J1_append_3 l1 x6 (fun x7 σ => w_gr σ l0 cX4 18 fun x8 => w_lc σ x8 l2 fun x9 => w_if (x9 = 105) (w_gr σ l0 cX4 20 fun x12 => w_li σ x12 l2 fun x13 => w_X4_writeScript_b72 (w_X4_writeScript_b28 Q X n) Q X l0 l1 l2 x7 x13 σ) (w_gr σ l0 cX4 19 fun x10 => w_li σ x10 l2 fun x11 => w_X4_writeScript_b72 (w_X4_writeScript_b28 Q X n) Q X l0 l1 l2 x7 x11 σ)) X σ)
def w_X4_writeScript (l0 : Option Nat) (Q : Int32 → Tst → Prop) (X : String → Nat → Tst → Prop) (σ : Tst) : Prop := w_p σ l0 cX4 1 (.inl 0) fun σ => w_gi σ l0 cX4 23 fun x1 => w_if (x1 = 0) (w_rc σ l0 cX4 <| w_X4_fails l0 1 (fun x4 σ => Q x4 σ) X σ) (w_nw σ cJ1 4 [.inr none, .inl 0, .inl 0, .inl 0] fun q2 σ => w_rf q2 <| w_J1_init q2 (fun σ => ∃ z, w_X4_writeScript_b28 Q X z l0 q2 0 σ) X σ)
set_option maxHeartbeats 4000000 in
theorem wk_X4_writeScript_b72  (C : tw_C p l R s m args meth c G cX4_writeScript 3 yX4_writeScript.cls) (hr : meth.sig.returnType = (some .int)) (hmn : meth.name = yX4_writeScript.name) (hnx : (∀ x ∈ c.exceptionTable.toList, False)) (hfr : 9 ≤ R.frames) (hRl : R.locals = 40 * R.frames) {Q : Int32 → Tst → Prop} {X : String → Nat → Tst → Prop}  {k28 : Option Nat → Option Nat → Int32 → Tst → Prop} (hk28 : ∀ (l0 : Option Nat) (l1 : Option Nat) (l2 : Int32) (σ : Tst) (H : Heap) (locs : List Loc) (ls : Array Slot), k28 l0 l1 l2 σ → tw_R G σ H → va_S (tw_A G) s.heap H locs → tw_l ls 3 [(0, .inr l0), (1, .inr l1), (2, .inl l2)] → tw_W p l e R s m args below meth c σ H locs (tw_E below G (tw_Qi G Q) X args s R) (F0 m 28 ls [])) (l0 : Option Nat) (l1 : Option Nat) (l2 : Int32) (s0 : Option Nat) (s1 : Int32) (σ : Tst) (H : Heap) (locs : List Loc) (ls : Array Slot) (hw : w_X4_writeScript_b72 k28 Q X l0 l1 l2 s0 s1 σ) (hR : tw_R G σ H) (hS : va_S (tw_A G) s.heap H locs) (hl : tw_l ls 3 [(0, .inr l0), (1, .inr l1), (2, .inl l2)]) : tw_W p l e R s m args below meth c σ H locs (tw_E below G (tw_Qi G Q) X args s R) (F0 m 72 ls [.int s1, va_rf s0]) := by
  unfold w_X4_writeScript_b72 at hw
  obtain ⟨hv, hw⟩ := hw
  refine tw_cbq C hS (tk_runV (As := [.inl s1]) C hR hS (wk_J1_append_2 l C.hst G (R.frames - 1) (by omega) _ _ _ _ σ hw) hv rfl q2212 q816 q817 q66 q818 pd_J1_append_2 ⟨by omega, by omega⟩ hl.1 rfl (tw_r8 [] (Nat.le_of_ble_eq_true rfl)) dX4_writeScript_72) (fun E q σ H locs hX hR hS hi => tw_out C hR hS (fun x hx => (hnx x hx).elim) hi hX) (fun x1 σ H locs hw hR hS => ?_)
  refine tw_pop (x := .inr x1) C.hx C.hb dX4_writeScript_75 ?_
  refine tk_iinc (L' := [(2, .inl (l2 + 1)), (0, .inr l0), (1, .inr l1)]) (y := (l2 + 1)) C hl 2 dX4_writeScript_76 rfl rfl (by decide) rfl (fun ls hl => ?_)
  refine lv_goto (tgt := 28) C.hx C.hb dX4_writeScript_79 (by decide) ?_
  exact hk28 _ _ _ σ _ _ _ hw hR hS (tk_sub hl [1, 2, 0] rfl)
set_option maxHeartbeats 4000000 in
theorem wk_X4_writeScript_b28  (C : tw_C p l R s m args meth c G cX4_writeScript 3 yX4_writeScript.cls) (hr : meth.sig.returnType = (some .int)) (hmn : meth.name = yX4_writeScript.name) (hnx : (∀ x ∈ c.exceptionTable.toList, False)) (hfr : 9 ≤ R.frames) (hRl : R.locals = 40 * R.frames) {Q : Int32 → Tst → Prop} {X : String → Nat → Tst → Prop}  : ∀ (n : Nat) (l0 : Option Nat) (l1 : Option Nat) (l2 : Int32) (σ : Tst) (H : Heap) (locs : List Loc) (ls : Array Slot), w_X4_writeScript_b28 Q X n l0 l1 l2 σ → tw_R G σ H → va_S (tw_A G) s.heap H locs → tw_l ls 3 [(0, .inr l0), (1, .inr l1), (2, .inl l2)] → tw_W p l e R s m args below meth c σ H locs (tw_E below G (tw_Qi G Q) X args s R) (F0 m 28 ls []) := by
  intro n
  induction n with
  | zero => intro l0 l1 l2 σ H locs ls hw; exact False.elim hw
  | succ n hk28 =>
    intro l0 l1 l2 σ H locs ls hw hR hS hl
    rw [w_X4_writeScript_b28] at hw
    refine tk_iload_n C hl 2 dX4_writeScript_28 rfl ?_
    refine tk_aload_n C hl 0 dX4_writeScript_29 rfl ?_
    refine tk_gi C hR hw rfl in_X4 (by decide) q2076 (fun _ h => h) dX4_writeScript_30 (fun x1 hw => ?_)
    refine lv_icmp_ge (tgt := 82) C.hx C.hb dX4_writeScript_33 (by decide) (fun c33 => ?_) (fun c33 => ?_)
    · replace hw := hw.1 c33
      refine tk_aload_n C hl 0 dX4_writeScript_82 rfl ?_
      refine tk_aload_n C hl 1 dX4_writeScript_83 rfl ?_
      obtain ⟨hv, hw⟩ := hw
      refine tw_cbq C hS (tk_runV (As := []) C hR hS (wk_J1_toString l C.hst G (R.frames - 1) (by omega) _ _ _ σ hw) hv rfl q2222 q842 q843 q66 q844 pd_J1_toString ⟨by omega, by omega⟩ hl.1 rfl (tw_r8 [.inr l0] (Nat.le_of_ble_eq_true rfl)) dX4_writeScript_84) (fun E q σ H locs hX hR hS hi => tw_out C hR hS (fun x hx => (hnx x hx).elim) hi hX) (fun x2 σ H locs hw hR hS => ?_)
      refine tk_p (x := .inr x2) C hR hS hw (by decide) rfl in_X4 tyX4 tyX4_ok nmX4 (by decide) q2059 (fun _ h => h) rfl (tw_nr _ _) dX4_writeScript_87 (fun σ H locs hw hR hS => ?_)
      refine tk_aload_n C hl 0 dX4_writeScript_90 rfl ?_
      refine tk_gr C hR hw rfl in_X4 (by decide) q2059 (fun _ h => h) dX4_writeScript_91 (fun x3 hw => ?_)
      obtain ⟨hv, hw⟩ := hw
      refine tw_cbi C hS (tk_runV (As := []) C hR hS (wk_J2_length l C.hst G (R.frames - 1) (by omega) _ _ _ σ hw) hv rfl q2223 q773 q774 q67 q775 pd_J2_length ⟨by omega, by omega⟩ hl.1 rfl (tw_r8 [] (Nat.le_of_ble_eq_true rfl)) dX4_writeScript_94) (fun E q σ H locs hX hR hS hi => tw_out C hR hS (fun x hx => (hnx x hx).elim) hi hX) (fun x4 σ H locs hw hR hS => ?_)
      exact tw_iret C hR hS hr rfl dX4_writeScript_97 hw
    · replace hw := hw.2 c33
      refine tk_aload_n C hl 1 dX4_writeScript_36 rfl ?_
      refine tk_aload_n C hl 0 dX4_writeScript_37 rfl ?_
      refine tk_gr C hR hw rfl in_X4 (by decide) q2070 (fun _ h => h) dX4_writeScript_38 (fun x5 hw => ?_)
      refine tk_iload_n C hl 2 dX4_writeScript_41 rfl ?_
      refine tk_lc C hR hw dX4_writeScript_42 (fun x6 hw => ?_)
      obtain ⟨hv, hw⟩ := hw
      refine tw_cbq C hS (tk_runV (As := [.inl x6]) C hR hS (wk_J1_append_3 l C.hst G (R.frames - 1) (by omega) _ _ _ _ σ hw) hv rfl q2211 q1372 q1373 q66 q1374 pd_J1_append_3 ⟨by omega, by omega⟩ hl.1 rfl (tw_r8 [] (Nat.le_of_ble_eq_true rfl)) dX4_writeScript_43) (fun E q σ H locs hX hR hS hi => tw_out C hR hS (fun x hx => (hnx x hx).elim) hi hX) (fun x7 σ H locs hw hR hS => ?_)
      refine tk_aload_n C hl 0 dX4_writeScript_46 rfl ?_
      refine tk_gr C hR hw rfl in_X4 (by decide) q2070 (fun _ h => h) dX4_writeScript_47 (fun x8 hw => ?_)
      refine tk_iload_n C hl 2 dX4_writeScript_50 rfl ?_
      refine tk_lc C hR hw dX4_writeScript_51 (fun x9 hw => ?_)
      refine lv_bipush (v := 105) C.hx C.hb dX4_writeScript_52 (by decide) ?_
      refine lv_icmp_ne (tgt := 66) C.hx C.hb dX4_writeScript_54 (by decide) (fun c54 => ?_) (fun c54 => ?_)
      · replace hw := hw.2 c54
        refine tk_aload_n C hl 0 dX4_writeScript_66 rfl ?_
        refine tk_gr C hR hw rfl in_X4 (by decide) q2071 (fun _ h => h) dX4_writeScript_67 (fun x10 hw => ?_)
        refine tk_iload_n C hl 2 dX4_writeScript_70 rfl ?_
        refine tk_li C hR hw dX4_writeScript_71 (fun x11 hw => ?_)
        exact wk_X4_writeScript_b72 C hr hmn hnx hfr hRl hk28 _ _ _ _ _ σ _ _ _ hw hR hS (tk_sub hl [0, 1, 2] rfl)
      · replace hw := hw.1 c54
        refine tk_aload_n C hl 0 dX4_writeScript_57 rfl ?_
        refine tk_gr C hR hw rfl in_X4 (by decide) q2072 (fun _ h => h) dX4_writeScript_58 (fun x12 hw => ?_)
        refine tk_iload_n C hl 2 dX4_writeScript_61 rfl ?_
        refine tk_li C hR hw dX4_writeScript_62 (fun x13 hw => ?_)
        refine lv_goto (tgt := 72) C.hx C.hb dX4_writeScript_63 (by decide) ?_
        exact wk_X4_writeScript_b72 C hr hmn hnx hfr hRl hk28 _ _ _ _ _ σ _ _ _ hw hR hS (tk_sub hl [0, 1, 2] rfl)
set_option maxHeartbeats 4000000 in
theorem wk_X4_writeScript (l : Launch) (hl0 : l.stackTraces = false) (G : Tgl) (fr : Nat)  (hfr : 9 ≤ fr) (l0 : Option Nat) (Q : Int32 → Tst → Prop) (X : String → Nat → Tst → Prop) (σ : Tst) (hw : w_X4_writeScript l0 Q X σ) : tw_M l yX4_writeScript (ws_ yX4_writeScript cX4_writeScript 3 (some .int)) fr (40 * fr) G σ [.inr l0] (tw_Qi G Q) X := by
  unfold w_X4_writeScript at hw
  refine tw_of (ret := (some .int)) hl0 (by decide) (Nat.le_of_ble_eq_true rfl) (fun p e R s m args below meth c hRf hRl C hr hmn hnx hR hS ls hl => ?_)
  have hfr : 9 ≤ R.frames := by rw [hRf]; exact hfr
  have hRl : R.locals = 40 * R.frames := by rw [hRl, hRf]
  have hl : tw_l ls 3 [(0, .inr l0)] := hl
  refine tk_aload_n C hl 0 dX4_writeScript_0 rfl ?_
  refine lv_iconst (v := 0) C.hx C.hb dX4_writeScript_1 (by decide) ?_
  refine tk_p (x := .inl 0) C hR hS hw (by decide) rfl in_X4 tyX4 tyX4_ok nmX4 (by decide) q2053 (fun _ h => h) rfl (tw_ni _) dX4_writeScript_2 (fun σ H locs hw hR hS => ?_)
  refine tk_aload_n C hl 0 dX4_writeScript_5 rfl ?_
  refine tk_gi C hR hw rfl in_X4 (by decide) q2075 (fun _ h => h) dX4_writeScript_6 (fun x1 hw => ?_)
  refine lv_if_ne (tgt := 18) C.hx C.hb dX4_writeScript_9 (by decide) (fun c9 => ?_) (fun c9 => ?_)
  · replace hw := hw.2 c9
    refine tk_nw C hR hS hw rfl in_J1 tyJ1 tyJ1_ok q2205 q124 q66 (fun j hj => by rcases (show j = 0 ∨ j = 1 ∨ j = 2 ∨ j = 3 by omega) with rfl | rfl | rfl | rfl <;> rfl) dX4_writeScript_18 (fun q2 σ H hw hR hS => ?_)
    refine tw_dup (x := .inr q2) C.hx C.hb dX4_writeScript_21 ?_
    obtain ⟨hv, hw⟩ := hw
    refine tw_cbv C hS (tk_runI (As := []) hv C hR hS (wk_J1_init l C.hst G (R.frames - 1) (by omega) _ _ _ σ hw) q2206 q126 q66 q127 rfl pd_J1_init ⟨by omega, by omega⟩ hl.1 rfl (tw_r8 [.inr q2] (Nat.le_of_ble_eq_true rfl)) dX4_writeScript_22) (fun E q σ H locs hX hR hS hi => tw_out C hR hS (fun x hx => (hnx x hx).elim) hi hX) (fun σ H locs hw hR hS => ?_)
    refine tk_astore_n (L' := [(1, .inr q2), (0, .inr l0)]) C hl dX4_writeScript_25 (by decide) rfl (fun ls hl => ?_)
    refine lv_iconst (v := 0) C.hx C.hb dX4_writeScript_26 (by decide) ?_
    refine tk_istore_n (L' := [(2, .inl 0), (1, .inr q2), (0, .inr l0)]) C hl dX4_writeScript_27 (by decide) rfl (fun ls hl => ?_)
    obtain ⟨z, hw⟩ := hw
    exact wk_X4_writeScript_b28 C hr hmn hnx hfr hRl z _ _ _ σ _ _ _ hw hR hS (tk_sub hl [2, 1, 0] rfl)
  · replace hw := hw.1 c9
    refine tk_aload_n C hl 0 dX4_writeScript_12 rfl ?_
    refine lv_iconst (v := 1) C.hx C.hb dX4_writeScript_13 (by decide) ?_
    obtain ⟨hv, hw⟩ := hw
    refine tw_cbi C hS (tk_runV (As := [.inl 1]) C hR hS (wk_X4_fails l C.hst G (R.frames - 1) (by omega) _ _ _ _ σ hw) hv rfl q2155 q2157 qs24 q74 q2158 pd_X4_fails ⟨by omega, by omega⟩ hl.1 rfl (tw_r8 [] (Nat.le_of_ble_eq_true rfl)) dX4_writeScript_14) (fun E q σ H locs hX hR hS hi => tw_out C hR hS (fun x hx => (hnx x hx).elim) hi hX) (fun x4 σ H locs hw hR hS => ?_)
    exact tw_iret C hR hS hr rfl dX4_writeScript_17 hw
-- java/lang/String.isLatin1()Z
def w_J2_isLatin1_b18 (Q : Int32 → Tst → Prop) (X : String → Nat → Tst → Prop) (s0 : Int32) (σ : Tst) : Prop := narrow .boolean (.int s0) = .int s0 ∧ Q s0 σ
def w_J2_isLatin1_b17 (Q : Int32 → Tst → Prop) (X : String → Nat → Tst → Prop) (σ : Tst) : Prop := w_J2_isLatin1_b18 Q X 0 σ
def w_J2_isLatin1 (l0 : Option Nat) (Q : Int32 → Tst → Prop) (X : String → Nat → Tst → Prop) (σ : Tst) : Prop := w_if ((1 : Int32) = 0) (w_J2_isLatin1_b17 Q X σ) (w_gi σ l0 cJ2 1 fun x2 => w_if (x2 = 0) (w_J2_isLatin1_b18 Q X 1 σ) (w_J2_isLatin1_b17 Q X σ))
set_option maxHeartbeats 4000000 in
theorem wk_J2_isLatin1_b18  (C : tw_C p l R s m args meth c G cJ2_isLatin1 1 yJ2_isLatin1.cls) (hr : meth.sig.returnType = (some .boolean)) (hmn : meth.name = yJ2_isLatin1.name) (hnx : (∀ x ∈ c.exceptionTable.toList, False)) (hfr : 1 ≤ R.frames) (hRl : R.locals = 40 * R.frames) {Q : Int32 → Tst → Prop} {X : String → Nat → Tst → Prop}  (s0 : Int32) (σ : Tst) (H : Heap) (locs : List Loc) (ls : Array Slot) (hw : w_J2_isLatin1_b18 Q X s0 σ) (hR : tw_R G σ H) (hS : va_S (tw_A G) s.heap H locs) (hl : tw_l ls 1 []) : tw_W p l e R s m args below meth c σ H locs (tw_E below G (tw_Qi G Q) X args s R) (F0 m 18 ls [.int s0]) := by
  unfold w_J2_isLatin1_b18 at hw
  obtain ⟨hok, hw⟩ := hw
  exact tw_iret C hR hS hr hok dJ2_isLatin1_18 hw
set_option maxHeartbeats 4000000 in
theorem wk_J2_isLatin1_b17  (C : tw_C p l R s m args meth c G cJ2_isLatin1 1 yJ2_isLatin1.cls) (hr : meth.sig.returnType = (some .boolean)) (hmn : meth.name = yJ2_isLatin1.name) (hnx : (∀ x ∈ c.exceptionTable.toList, False)) (hfr : 1 ≤ R.frames) (hRl : R.locals = 40 * R.frames) {Q : Int32 → Tst → Prop} {X : String → Nat → Tst → Prop}   (σ : Tst) (H : Heap) (locs : List Loc) (ls : Array Slot) (hw : w_J2_isLatin1_b17 Q X  σ) (hR : tw_R G σ H) (hS : va_S (tw_A G) s.heap H locs) (hl : tw_l ls 1 []) : tw_W p l e R s m args below meth c σ H locs (tw_E below G (tw_Qi G Q) X args s R) (F0 m 17 ls []) := by
  unfold w_J2_isLatin1_b17 at hw
  refine lv_iconst (v := 0) C.hx C.hb dJ2_isLatin1_17 (by decide) ?_
  exact wk_J2_isLatin1_b18 C hr hmn hnx hfr hRl _ σ _ _ _ hw hR hS (tk_sub hl [] rfl)
set_option maxHeartbeats 4000000 in
theorem wk_J2_isLatin1 (l : Launch) (hl0 : l.stackTraces = false) (G : Tgl) (fr : Nat)  (hfr : 1 ≤ fr) (l0 : Option Nat) (Q : Int32 → Tst → Prop) (X : String → Nat → Tst → Prop) (σ : Tst) (hw : w_J2_isLatin1 l0 Q X σ) : tw_M l yJ2_isLatin1 (ws_ yJ2_isLatin1 cJ2_isLatin1 1 (some .boolean)) fr (40 * fr) G σ [.inr l0] (tw_Qi G Q) X := by
  unfold w_J2_isLatin1 at hw
  refine tw_of (ret := (some .boolean)) hl0 (by decide) (Nat.le_of_ble_eq_true rfl) (fun p e R s m args below meth c hRf hRl C hr hmn hnx hR hS ls hl => ?_)
  have hfr : 1 ≤ R.frames := by rw [hRf]; exact hfr
  have hRl : R.locals = 40 * R.frames := by rw [hRl, hRf]
  have hl : tw_l ls 1 [(0, .inr l0)] := hl
  refine tk_gs (x := .inl 1) C hR hS 3 rfl q780 (fun _ h => h) dJ2_isLatin1_0 ?_
  refine lv_if_eq (tgt := 17) C.hx C.hb dJ2_isLatin1_3 (by decide) (fun c3 => ?_) (fun c3 => ?_)
  · replace hw := hw.1 c3
    exact wk_J2_isLatin1_b17 C hr hmn hnx hfr hRl σ _ _ _ hw hR hS (tk_sub hl [] rfl)
  · replace hw := hw.2 c3
    refine tk_aload_n C hl 0 dJ2_isLatin1_6 rfl ?_
    refine tk_gi C hR hw rfl in_J2 (by decide) q912 (fun _ h => h) dJ2_isLatin1_7 (fun x2 hw => ?_)
    refine lv_if_ne (tgt := 17) C.hx C.hb dJ2_isLatin1_10 (by decide) (fun c10 => ?_) (fun c10 => ?_)
    · replace hw := hw.2 c10
      exact wk_J2_isLatin1_b17 C hr hmn hnx hfr hRl σ _ _ _ hw hR hS (tk_sub hl [] rfl)
    · replace hw := hw.1 c10
      refine lv_iconst (v := 1) C.hx C.hb dJ2_isLatin1_13 (by decide) ?_
      refine lv_goto (tgt := 18) C.hx C.hb dJ2_isLatin1_14 (by decide) ?_
      exact wk_J2_isLatin1_b18 C hr hmn hnx hfr hRl _ σ _ _ _ hw hR hS (tk_sub hl [] rfl)
-- java/lang/StringLatin1.charAt([BI)C
def w_J14_charAt (l0 : Option Nat) (l1 : Int32) (Q : Int32 → Tst → Prop) (X : String → Nat → Tst → Prop) (σ : Tst) : Prop := w_al σ l0 fun x1 => w_J2_checkIndex l1 x1 (fun σ => w_lb σ l0 l1 fun x3 => narrow .char (.int (((x3 &&& 255).toUInt32 % 65536).toInt32)) = .int (((x3 &&& 255).toUInt32 % 65536).toInt32) ∧ Q (((x3 &&& 255).toUInt32 % 65536).toInt32) σ) X σ
set_option maxHeartbeats 4000000 in
theorem wk_J14_charAt (l : Launch) (hl0 : l.stackTraces = false) (G : Tgl) (fr : Nat)  (hfr : 3 ≤ fr) (l0 : Option Nat) (l1 : Int32) (Q : Int32 → Tst → Prop) (X : String → Nat → Tst → Prop) (σ : Tst) (hw : w_J14_charAt l0 l1 Q X σ) : tw_M l yJ14_charAt (ws_ yJ14_charAt cJ14_charAt 2 (some .char)) fr (40 * fr) G σ [.inr l0, .inl l1] (tw_Qi G Q) X := by
  unfold w_J14_charAt at hw
  refine tw_of (ret := (some .char)) hl0 (by decide) (Nat.le_of_ble_eq_true rfl) (fun p e R s m args below meth c hRf hRl C hr hmn hnx hR hS ls hl => ?_)
  have hfr : 3 ≤ R.frames := by rw [hRf]; exact hfr
  have hRl : R.locals = 40 * R.frames := by rw [hRl, hRf]
  have hl : tw_l ls 2 [(0, .inr l0), (1, .inl l1)] := hl
  refine tk_iload_n C hl 1 dJ14_charAt_0 rfl ?_
  refine tk_aload_n C hl 0 dJ14_charAt_1 rfl ?_
  refine tk_al C hR hw dJ14_charAt_2 (fun x1 hw => ?_)
  refine tw_cbv C hS (tw_runS (As := [.inl l1, .inl x1]) C hR hS (wk_J2_checkIndex l C.hst G (R.frames - 1) (by omega) _ _ _ _ σ hw) q2243 q1388 q67 q1389 pd_J2_checkIndex ⟨by omega, by omega⟩ hl.1 rfl (tw_r8 [] (Nat.le_of_ble_eq_true rfl)) dJ14_charAt_3) (fun E q σ H locs hX hR hS hi => tw_out C hR hS (fun x hx => (hnx x hx).elim) hi hX) (fun σ H locs hw hR hS => ?_)
  refine tk_aload_n C hl 0 dJ14_charAt_6 rfl ?_
  refine tk_iload_n C hl 1 dJ14_charAt_7 rfl ?_
  refine tk_lb C hR hw dJ14_charAt_8 (fun x3 hw => ?_)
  refine lv_sipush (v := 255) C.hx C.hb dJ14_charAt_9 (by decide) ?_
  refine lv_iand C.hx C.hb dJ14_charAt_12 ?_
  refine lv_i2c (v := ((x3 &&& 255).toUInt32 % 65536).toInt32) C.hx C.hb dJ14_charAt_13 rfl ?_
  obtain ⟨hok, hw⟩ := hw
  exact tw_iret C hR hS hr hok dJ14_charAt_14 hw
-- java/lang/StringUTF16.charAt([BI)C
def w_J3_charAt (l0 : Option Nat) (l1 : Int32) (Q : Int32 → Tst → Prop) (X : String → Nat → Tst → Prop) (σ : Tst) : Prop := w_J3_checkIndex l1 l0 (fun σ => w_J3_getChar l0 l1 (fun x2 σ => narrow .char (.int x2) = .int x2 ∧ Q x2 σ) X σ) X σ
set_option maxHeartbeats 4000000 in
theorem wk_J3_charAt (l : Launch) (hl0 : l.stackTraces = false) (G : Tgl) (fr : Nat)  (hfr : 4 ≤ fr) (l0 : Option Nat) (l1 : Int32) (Q : Int32 → Tst → Prop) (X : String → Nat → Tst → Prop) (σ : Tst) (hw : w_J3_charAt l0 l1 Q X σ) : tw_M l yJ3_charAt (ws_ yJ3_charAt cJ3_charAt 2 (some .char)) fr (40 * fr) G σ [.inr l0, .inl l1] (tw_Qi G Q) X := by
  unfold w_J3_charAt at hw
  refine tw_of (ret := (some .char)) hl0 (by decide) (Nat.le_of_ble_eq_true rfl) (fun p e R s m args below meth c hRf hRl C hr hmn hnx hR hS ls hl => ?_)
  have hfr : 4 ≤ R.frames := by rw [hRf]; exact hfr
  have hRl : R.locals = 40 * R.frames := by rw [hRl, hRf]
  have hl : tw_l ls 2 [(0, .inr l0), (1, .inl l1)] := hl
  refine tk_iload_n C hl 1 dJ3_charAt_0 rfl ?_
  refine tk_aload_n C hl 0 dJ3_charAt_1 rfl ?_
  refine tw_cbv C hS (tw_runS (As := [.inl l1, .inr l0]) C hR hS (wk_J3_checkIndex l C.hst G (R.frames - 1) (by omega) _ _ _ _ σ hw) q1384 q1385 q68 q1386 pd_J3_checkIndex ⟨by omega, by omega⟩ hl.1 rfl (tw_r8 [] (Nat.le_of_ble_eq_true rfl)) dJ3_charAt_2) (fun E q σ H locs hX hR hS hi => tw_out C hR hS (fun x hx => (hnx x hx).elim) hi hX) (fun σ H locs hw hR hS => ?_)
  refine tk_aload_n C hl 0 dJ3_charAt_5 rfl ?_
  refine tk_iload_n C hl 1 dJ3_charAt_6 rfl ?_
  refine tw_cbi C hS (tw_runS (As := [.inr l0, .inl l1]) C hR hS (wk_J3_getChar l C.hst G (R.frames - 1) (by omega) _ _ _ _ σ hw) q904 q905 q68 q906 pd_J3_getChar ⟨by omega, by omega⟩ hl.1 rfl (tw_r8 [] (Nat.le_of_ble_eq_true rfl)) dJ3_charAt_7) (fun E q σ H locs hX hR hS hi => tw_out C hR hS (fun x hx => (hnx x hx).elim) hi hX) (fun x2 σ H locs hw hR hS => ?_)
  obtain ⟨hok, hw⟩ := hw
  exact tw_iret C hR hS hr hok dJ3_charAt_10 hw
-- java/lang/String.charAt(I)C
def w_J2_charAt (l0 : Option Nat) (l1 : Int32) (Q : Int32 → Tst → Prop) (X : String → Nat → Tst → Prop) (σ : Tst) : Prop := w_rc σ l0 cJ2 <| w_J2_isLatin1 l0 (fun x1 σ => w_if (x1 = 0) (w_gr σ l0 cJ2 0 fun x2 => w_J3_charAt x2 l1 (fun x3 σ => narrow .char (.int x3) = .int x3 ∧ Q x3 σ) X σ) (w_gr σ l0 cJ2 0 fun x4 => w_J14_charAt x4 l1 (fun x5 σ => narrow .char (.int x5) = .int x5 ∧ Q x5 σ) X σ)) X σ
set_option maxHeartbeats 4000000 in
theorem wk_J2_charAt (l : Launch) (hl0 : l.stackTraces = false) (G : Tgl) (fr : Nat)  (hfr : 5 ≤ fr) (l0 : Option Nat) (l1 : Int32) (Q : Int32 → Tst → Prop) (X : String → Nat → Tst → Prop) (σ : Tst) (hw : w_J2_charAt l0 l1 Q X σ) : tw_M l yJ2_charAt (ws_ yJ2_charAt cJ2_charAt 2 (some .char)) fr (40 * fr) G σ [.inr l0, .inl l1] (tw_Qi G Q) X := by
  unfold w_J2_charAt at hw
  refine tw_of (ret := (some .char)) hl0 (by decide) (Nat.le_of_ble_eq_true rfl) (fun p e R s m args below meth c hRf hRl C hr hmn hnx hR hS ls hl => ?_)
  have hfr : 5 ≤ R.frames := by rw [hRf]; exact hfr
  have hRl : R.locals = 40 * R.frames := by rw [hRl, hRf]
  have hl : tw_l ls 2 [(0, .inr l0), (1, .inl l1)] := hl
  refine tk_aload_n C hl 0 dJ2_charAt_0 rfl ?_
  obtain ⟨hv, hw⟩ := hw
  refine tw_cbi C hS (tk_runV (As := []) C hR hS (wk_J2_isLatin1 l C.hst G (R.frames - 1) (by omega) _ _ _ σ hw) hv rfl q2236 q2237 q2238 q67 q2239 pd_J2_isLatin1 ⟨by omega, by omega⟩ hl.1 rfl (tw_r8 [] (Nat.le_of_ble_eq_true rfl)) dJ2_charAt_1) (fun E q σ H locs hX hR hS hi => tw_out C hR hS (fun x hx => (hnx x hx).elim) hi hX) (fun x1 σ H locs hw hR hS => ?_)
  refine lv_if_eq (tgt := 16) C.hx C.hb dJ2_charAt_4 (by decide) (fun c4 => ?_) (fun c4 => ?_)
  · replace hw := hw.1 c4
    refine tk_aload_n C hl 0 dJ2_charAt_16 rfl ?_
    refine tk_gr C hR hw rfl in_J2 (by decide) q911 (fun _ h => h) dJ2_charAt_17 (fun x2 hw => ?_)
    refine tk_iload_n C hl 1 dJ2_charAt_20 rfl ?_
    refine tw_cbi C hS (tw_runS (As := [.inr x2, .inl l1]) C hR hS (wk_J3_charAt l C.hst G (R.frames - 1) (by omega) _ _ _ _ σ hw) q2244 q2245 q68 q2246 pd_J3_charAt ⟨by omega, by omega⟩ hl.1 rfl (tw_r8 [] (Nat.le_of_ble_eq_true rfl)) dJ2_charAt_21) (fun E q σ H locs hX hR hS hi => tw_out C hR hS (fun x hx => (hnx x hx).elim) hi hX) (fun x3 σ H locs hw hR hS => ?_)
    obtain ⟨hok, hw⟩ := hw
    exact tw_iret C hR hS hr hok dJ2_charAt_24 hw
  · replace hw := hw.2 c4
    refine tk_aload_n C hl 0 dJ2_charAt_7 rfl ?_
    refine tk_gr C hR hw rfl in_J2 (by decide) q911 (fun _ h => h) dJ2_charAt_8 (fun x4 hw => ?_)
    refine tk_iload_n C hl 1 dJ2_charAt_11 rfl ?_
    refine tw_cbi C hS (tw_runS (As := [.inr x4, .inl l1]) C hR hS (wk_J14_charAt l C.hst G (R.frames - 1) (by omega) _ _ _ _ σ hw) q2240 q2241 q84 q2242 pd_J14_charAt ⟨by omega, by omega⟩ hl.1 rfl (tw_r8 [] (Nat.le_of_ble_eq_true rfl)) dJ2_charAt_12) (fun E q σ H locs hX hR hS hi => tw_out C hR hS (fun x hx => (hnx x hx).elim) hi hX) (fun x5 σ H locs hw hR hS => ?_)
    obtain ⟨hok, hw⟩ := hw
    exact tw_iret C hR hS hr hok dJ2_charAt_15 hw
-- TreeDifferModel.charAt(I)C
def w_X4_charAt_b39 (Q : Int32 → Tst → Prop) (X : String → Nat → Tst → Prop) (s0 : Int32) (σ : Tst) : Prop := narrow .char (.int s0) = .int s0 ∧ Q s0 σ
def w_X4_charAt (l0 : Option Nat) (l1 : Int32) (Q : Int32 → Tst → Prop) (X : String → Nat → Tst → Prop) (σ : Tst) : Prop := w_p σ l0 cX4 1 (.inl 0) fun σ => w_gr σ l0 cX4 7 fun x1 => w_rc σ x1 cJ2 <| w_J2_length x1 (fun x2 σ => w_X4_isBetween l1 0 (x2 - 1) (fun x3 σ => w_if (x3 = 0) (w_rc σ l0 cX4 <| w_X4_fails l0 1 (fun x4 σ => w_X4_charAt_b39 Q X ((x4.toUInt32 % 65536).toInt32) σ) X σ) (w_gr σ l0 cX4 7 fun x5 => w_rc σ x5 cJ2 <| w_J2_charAt x5 l1 (fun x6 σ => w_X4_charAt_b39 Q X x6 σ) X σ)) X σ) X σ
set_option maxHeartbeats 4000000 in
theorem wk_X4_charAt_b39  (C : tw_C p l R s m args meth c G cX4_charAt 2 yX4_charAt.cls) (hr : meth.sig.returnType = (some .char)) (hmn : meth.name = yX4_charAt.name) (hnx : (∀ x ∈ c.exceptionTable.toList, False)) (hfr : 6 ≤ R.frames) (hRl : R.locals = 40 * R.frames) {Q : Int32 → Tst → Prop} {X : String → Nat → Tst → Prop}  (s0 : Int32) (σ : Tst) (H : Heap) (locs : List Loc) (ls : Array Slot) (hw : w_X4_charAt_b39 Q X s0 σ) (hR : tw_R G σ H) (hS : va_S (tw_A G) s.heap H locs) (hl : tw_l ls 2 []) : tw_W p l e R s m args below meth c σ H locs (tw_E below G (tw_Qi G Q) X args s R) (F0 m 39 ls [.int s0]) := by
  unfold w_X4_charAt_b39 at hw
  obtain ⟨hok, hw⟩ := hw
  exact tw_iret C hR hS hr hok dX4_charAt_39 hw
set_option maxHeartbeats 4000000 in
theorem wk_X4_charAt (l : Launch) (hl0 : l.stackTraces = false) (G : Tgl) (fr : Nat)  (hfr : 6 ≤ fr) (l0 : Option Nat) (l1 : Int32) (Q : Int32 → Tst → Prop) (X : String → Nat → Tst → Prop) (σ : Tst) (hw : w_X4_charAt l0 l1 Q X σ) : tw_M l yX4_charAt (ws_ yX4_charAt cX4_charAt 2 (some .char)) fr (40 * fr) G σ [.inr l0, .inl l1] (tw_Qi G Q) X := by
  unfold w_X4_charAt at hw
  refine tw_of (ret := (some .char)) hl0 (by decide) (Nat.le_of_ble_eq_true rfl) (fun p e R s m args below meth c hRf hRl C hr hmn hnx hR hS ls hl => ?_)
  have hfr : 6 ≤ R.frames := by rw [hRf]; exact hfr
  have hRl : R.locals = 40 * R.frames := by rw [hRl, hRf]
  have hl : tw_l ls 2 [(0, .inr l0), (1, .inl l1)] := hl
  refine tk_aload_n C hl 0 dX4_charAt_0 rfl ?_
  refine lv_iconst (v := 0) C.hx C.hb dX4_charAt_1 (by decide) ?_
  refine tk_p (x := .inl 0) C hR hS hw (by decide) rfl in_X4 tyX4 tyX4_ok nmX4 (by decide) q2053 (fun _ h => h) rfl (tw_ni _) dX4_charAt_2 (fun σ H locs hw hR hS => ?_)
  refine tk_iload_n C hl 1 dX4_charAt_5 rfl ?_
  refine lv_iconst (v := 0) C.hx C.hb dX4_charAt_6 (by decide) ?_
  refine tk_aload_n C hl 0 dX4_charAt_7 rfl ?_
  refine tk_gr C hR hw rfl in_X4 (by decide) q2059 (fun _ h => h) dX4_charAt_8 (fun x1 hw => ?_)
  obtain ⟨hv, hw⟩ := hw
  refine tw_cbi C hS (tk_runV (As := []) C hR hS (wk_J2_length l C.hst G (R.frames - 1) (by omega) _ _ _ σ hw) hv rfl q2223 q773 q774 q67 q775 pd_J2_length ⟨by omega, by omega⟩ hl.1 rfl (tw_r8 [.inl 0, .inl l1] (Nat.le_of_ble_eq_true rfl)) dX4_charAt_11) (fun E q σ H locs hX hR hS hi => tw_out C hR hS (fun x hx => (hnx x hx).elim) hi hX) (fun x2 σ H locs hw hR hS => ?_)
  refine lv_iconst (v := 1) C.hx C.hb dX4_charAt_14 (by decide) ?_
  refine lv_isub C.hx C.hb dX4_charAt_15 ?_
  refine tw_cbi C hS (tw_runS (As := [.inl l1, .inl 0, .inl (x2 - 1)]) C hR hS (wk_X4_isBetween l C.hst G (R.frames - 1) (by omega) _ _ _ _ _ σ hw) q2166 q2167 q74 q2168 pd_X4_isBetween ⟨by omega, by omega⟩ hl.1 rfl (tw_r8 [] (Nat.le_of_ble_eq_true rfl)) dX4_charAt_16) (fun E q σ H locs hX hR hS hi => tw_out C hR hS (fun x hx => (hnx x hx).elim) hi hX) (fun x3 σ H locs hw hR hS => ?_)
  refine lv_if_eq (tgt := 33) C.hx C.hb dX4_charAt_19 (by decide) (fun c19 => ?_) (fun c19 => ?_)
  · replace hw := hw.1 c19
    refine tk_aload_n C hl 0 dX4_charAt_33 rfl ?_
    refine lv_iconst (v := 1) C.hx C.hb dX4_charAt_34 (by decide) ?_
    obtain ⟨hv, hw⟩ := hw
    refine tw_cbi C hS (tk_runV (As := [.inl 1]) C hR hS (wk_X4_fails l C.hst G (R.frames - 1) (by omega) _ _ _ _ σ hw) hv rfl q2155 q2157 qs24 q74 q2158 pd_X4_fails ⟨by omega, by omega⟩ hl.1 rfl (tw_r8 [] (Nat.le_of_ble_eq_true rfl)) dX4_charAt_35) (fun E q σ H locs hX hR hS hi => tw_out C hR hS (fun x hx => (hnx x hx).elim) hi hX) (fun x4 σ H locs hw hR hS => ?_)
    refine lv_i2c (v := (x4.toUInt32 % 65536).toInt32) C.hx C.hb dX4_charAt_38 rfl ?_
    exact wk_X4_charAt_b39 C hr hmn hnx hfr hRl _ σ _ _ _ hw hR hS (tk_sub hl [] rfl)
  · replace hw := hw.2 c19
    refine tk_aload_n C hl 0 dX4_charAt_22 rfl ?_
    refine tk_gr C hR hw rfl in_X4 (by decide) q2059 (fun _ h => h) dX4_charAt_23 (fun x5 hw => ?_)
    refine tk_iload_n C hl 1 dX4_charAt_26 rfl ?_
    obtain ⟨hv, hw⟩ := hw
    refine tw_cbi C hS (tk_runV (As := [.inl l1]) C hR hS (wk_J2_charAt l C.hst G (R.frames - 1) (by omega) _ _ _ _ σ hw) hv rfl q2232 q2233 q2234 q67 q2235 pd_J2_charAt ⟨by omega, by omega⟩ hl.1 rfl (tw_r8 [] (Nat.le_of_ble_eq_true rfl)) dX4_charAt_27) (fun E q σ H locs hX hR hS hi => tw_out C hR hS (fun x hx => (hnx x hx).elim) hi hX) (fun x6 σ H locs hw hR hS => ?_)
    refine lv_goto (tgt := 39) C.hx C.hb dX4_charAt_30 (by decide) ?_
    exact wk_X4_charAt_b39 C hr hmn hnx hfr hRl _ σ _ _ _ hw hR hS (tk_sub hl [] rfl)
-- TreeDifferModel.isNode(II)Z
def w_X4_isNode_b31 (Q : Int32 → Tst → Prop) (X : String → Nat → Tst → Prop) (s0 : Int32) (σ : Tst) : Prop := narrow .boolean (.int s0) = .int s0 ∧ Q s0 σ
def w_X4_isNode_b30 (Q : Int32 → Tst → Prop) (X : String → Nat → Tst → Prop) (σ : Tst) : Prop := w_X4_isNode_b31 Q X 0 σ
def w_X4_isNode (l0 : Option Nat) (l1 : Int32) (l2 : Int32) (Q : Int32 → Tst → Prop) (X : String → Nat → Tst → Prop) (σ : Tst) : Prop := w_X4_isTree l1 (fun x1 σ => w_if (x1 = 0) (w_X4_isNode_b30 Q X σ) (w_gr σ l0 cX4 0 fun x2 => w_lr σ x2 l1 fun x3 => w_gi σ x3 cX5 4 fun x4 => w_X4_isBetween l2 0 (x4 - 1) (fun x5 σ => w_if (x5 = 0) (w_X4_isNode_b30 Q X σ) (w_X4_isNode_b31 Q X 1 σ)) X σ)) X σ
set_option maxHeartbeats 4000000 in
theorem wk_X4_isNode_b31  (C : tw_C p l R s m args meth c G cX4_isNode 3 yX4_isNode.cls) (hr : meth.sig.returnType = (some .boolean)) (hmn : meth.name = yX4_isNode.name) (hnx : (∀ x ∈ c.exceptionTable.toList, False)) (hfr : 3 ≤ R.frames) (hRl : R.locals = 40 * R.frames) {Q : Int32 → Tst → Prop} {X : String → Nat → Tst → Prop}  (s0 : Int32) (σ : Tst) (H : Heap) (locs : List Loc) (ls : Array Slot) (hw : w_X4_isNode_b31 Q X s0 σ) (hR : tw_R G σ H) (hS : va_S (tw_A G) s.heap H locs) (hl : tw_l ls 3 []) : tw_W p l e R s m args below meth c σ H locs (tw_E below G (tw_Qi G Q) X args s R) (F0 m 31 ls [.int s0]) := by
  unfold w_X4_isNode_b31 at hw
  obtain ⟨hok, hw⟩ := hw
  exact tw_iret C hR hS hr hok dX4_isNode_31 hw
set_option maxHeartbeats 4000000 in
theorem wk_X4_isNode_b30  (C : tw_C p l R s m args meth c G cX4_isNode 3 yX4_isNode.cls) (hr : meth.sig.returnType = (some .boolean)) (hmn : meth.name = yX4_isNode.name) (hnx : (∀ x ∈ c.exceptionTable.toList, False)) (hfr : 3 ≤ R.frames) (hRl : R.locals = 40 * R.frames) {Q : Int32 → Tst → Prop} {X : String → Nat → Tst → Prop}   (σ : Tst) (H : Heap) (locs : List Loc) (ls : Array Slot) (hw : w_X4_isNode_b30 Q X  σ) (hR : tw_R G σ H) (hS : va_S (tw_A G) s.heap H locs) (hl : tw_l ls 3 []) : tw_W p l e R s m args below meth c σ H locs (tw_E below G (tw_Qi G Q) X args s R) (F0 m 30 ls []) := by
  unfold w_X4_isNode_b30 at hw
  refine lv_iconst (v := 0) C.hx C.hb dX4_isNode_30 (by decide) ?_
  exact wk_X4_isNode_b31 C hr hmn hnx hfr hRl _ σ _ _ _ hw hR hS (tk_sub hl [] rfl)
set_option maxHeartbeats 4000000 in
theorem wk_X4_isNode (l : Launch) (hl0 : l.stackTraces = false) (G : Tgl) (fr : Nat)  (hfr : 3 ≤ fr) (l0 : Option Nat) (l1 : Int32) (l2 : Int32) (Q : Int32 → Tst → Prop) (X : String → Nat → Tst → Prop) (σ : Tst) (hw : w_X4_isNode l0 l1 l2 Q X σ) : tw_M l yX4_isNode (ws_ yX4_isNode cX4_isNode 3 (some .boolean)) fr (40 * fr) G σ [.inr l0, .inl l1, .inl l2] (tw_Qi G Q) X := by
  unfold w_X4_isNode at hw
  refine tw_of (ret := (some .boolean)) hl0 (by decide) (Nat.le_of_ble_eq_true rfl) (fun p e R s m args below meth c hRf hRl C hr hmn hnx hR hS ls hl => ?_)
  have hfr : 3 ≤ R.frames := by rw [hRf]; exact hfr
  have hRl : R.locals = 40 * R.frames := by rw [hRl, hRf]
  have hl : tw_l ls 3 [(0, .inr l0), (1, .inl l1), (2, .inl l2)] := hl
  refine tk_iload_n C hl 1 dX4_isNode_0 rfl ?_
  refine tw_cbi C hS (tw_runS (As := [.inl l1]) C hR hS (wk_X4_isTree l C.hst G (R.frames - 1) (by omega) _ _ _ σ hw) q2163 q2164 q74 q2165 pd_X4_isTree ⟨by omega, by omega⟩ hl.1 rfl (tw_r8 [] (Nat.le_of_ble_eq_true rfl)) dX4_isNode_1) (fun E q σ H locs hX hR hS hi => tw_out C hR hS (fun x hx => (hnx x hx).elim) hi hX) (fun x1 σ H locs hw hR hS => ?_)
  refine lv_if_eq (tgt := 30) C.hx C.hb dX4_isNode_4 (by decide) (fun c4 => ?_) (fun c4 => ?_)
  · replace hw := hw.1 c4
    exact wk_X4_isNode_b30 C hr hmn hnx hfr hRl σ _ _ _ hw hR hS (tk_sub hl [] rfl)
  · replace hw := hw.2 c4
    refine tk_iload_n C hl 2 dX4_isNode_7 rfl ?_
    refine lv_iconst (v := 0) C.hx C.hb dX4_isNode_8 (by decide) ?_
    refine tk_aload_n C hl 0 dX4_isNode_9 rfl ?_
    refine tk_gr C hR hw rfl in_X4 (by decide) q2052 (fun _ h => h) dX4_isNode_10 (fun x2 hw => ?_)
    refine tk_iload_n C hl 1 dX4_isNode_13 rfl ?_
    refine tk_lr C hR hw dX4_isNode_14 (fun x3 hw => ?_)
    refine tk_giN C hR hw rfl in_X5 (by decide) q2027 (fun _ h => h) dX4_isNode_15 (fun x4 hw => ?_)
    refine lv_iconst (v := 1) C.hx C.hb dX4_isNode_18 (by decide) ?_
    refine lv_isub C.hx C.hb dX4_isNode_19 ?_
    refine tw_cbi C hS (tw_runS (As := [.inl l2, .inl 0, .inl (x4 - 1)]) C hR hS (wk_X4_isBetween l C.hst G (R.frames - 1) (by omega) _ _ _ _ _ σ hw) q2166 q2167 q74 q2168 pd_X4_isBetween ⟨by omega, by omega⟩ hl.1 rfl (tw_r8 [] (Nat.le_of_ble_eq_true rfl)) dX4_isNode_20) (fun E q σ H locs hX hR hS hi => tw_out C hR hS (fun x hx => (hnx x hx).elim) hi hX) (fun x5 σ H locs hw hR hS => ?_)
    refine lv_if_eq (tgt := 30) C.hx C.hb dX4_isNode_23 (by decide) (fun c23 => ?_) (fun c23 => ?_)
    · replace hw := hw.1 c23
      exact wk_X4_isNode_b30 C hr hmn hnx hfr hRl σ _ _ _ hw hR hS (tk_sub hl [] rfl)
    · replace hw := hw.2 c23
      refine lv_iconst (v := 1) C.hx C.hb dX4_isNode_26 (by decide) ?_
      refine lv_goto (tgt := 31) C.hx C.hb dX4_isNode_27 (by decide) ?_
      exact wk_X4_isNode_b31 C hr hmn hnx hfr hRl _ σ _ _ _ hw hR hS (tk_sub hl [] rfl)
-- TreeDifferModel.isNowhere(II)Z
def w_X4_isNowhere_b30 (Q : Int32 → Tst → Prop) (X : String → Nat → Tst → Prop) (s0 : Int32) (σ : Tst) : Prop := narrow .boolean (.int s0) = .int s0 ∧ Q s0 σ
def w_X4_isNowhere_b15 (Q : Int32 → Tst → Prop) (X : String → Nat → Tst → Prop) (l0 : Option Nat) (s0 : Option Nat) (s1 : Int32) (σ : Tst) : Prop := w_p σ s0 cX4 1 (.inl s1) fun σ => w_gi σ l0 cX4 1 fun x1 => w_if (x1 ≤ 0) (w_X4_isNowhere_b30 Q X 0 σ) (w_X4_isNowhere_b30 Q X 1 σ)
def w_X4_isNowhere (l0 : Option Nat) (l1 : Int32) (l2 : Int32) (Q : Int32 → Tst → Prop) (X : String → Nat → Tst → Prop) (σ : Tst) : Prop := w_rc σ l0 cX4 <| w_X4_isNode l0 l1 l2 (fun x1 σ => w_if (x1 = 0) (w_X4_isNowhere_b15 Q X l0 l0 1 σ) (w_X4_isNowhere_b15 Q X l0 l0 0 σ)) X σ
set_option maxHeartbeats 4000000 in
theorem wk_X4_isNowhere_b30  (C : tw_C p l R s m args meth c G cX4_isNowhere 3 yX4_isNowhere.cls) (hr : meth.sig.returnType = (some .boolean)) (hmn : meth.name = yX4_isNowhere.name) (hnx : (∀ x ∈ c.exceptionTable.toList, False)) (hfr : 4 ≤ R.frames) (hRl : R.locals = 40 * R.frames) {Q : Int32 → Tst → Prop} {X : String → Nat → Tst → Prop}  (s0 : Int32) (σ : Tst) (H : Heap) (locs : List Loc) (ls : Array Slot) (hw : w_X4_isNowhere_b30 Q X s0 σ) (hR : tw_R G σ H) (hS : va_S (tw_A G) s.heap H locs) (hl : tw_l ls 3 []) : tw_W p l e R s m args below meth c σ H locs (tw_E below G (tw_Qi G Q) X args s R) (F0 m 30 ls [.int s0]) := by
  unfold w_X4_isNowhere_b30 at hw
  obtain ⟨hok, hw⟩ := hw
  exact tw_iret C hR hS hr hok dX4_isNowhere_30 hw
set_option maxHeartbeats 4000000 in
theorem wk_X4_isNowhere_b15  (C : tw_C p l R s m args meth c G cX4_isNowhere 3 yX4_isNowhere.cls) (hr : meth.sig.returnType = (some .boolean)) (hmn : meth.name = yX4_isNowhere.name) (hnx : (∀ x ∈ c.exceptionTable.toList, False)) (hfr : 4 ≤ R.frames) (hRl : R.locals = 40 * R.frames) {Q : Int32 → Tst → Prop} {X : String → Nat → Tst → Prop}  (l0 : Option Nat) (s0 : Option Nat) (s1 : Int32) (σ : Tst) (H : Heap) (locs : List Loc) (ls : Array Slot) (hw : w_X4_isNowhere_b15 Q X l0 s0 s1 σ) (hR : tw_R G σ H) (hS : va_S (tw_A G) s.heap H locs) (hl : tw_l ls 3 [(0, .inr l0)]) : tw_W p l e R s m args below meth c σ H locs (tw_E below G (tw_Qi G Q) X args s R) (F0 m 15 ls [.int s1, va_rf s0]) := by
  unfold w_X4_isNowhere_b15 at hw
  refine tk_p (x := .inl s1) C hR hS hw (by decide) rfl in_X4 tyX4 tyX4_ok nmX4 (by decide) q2053 (fun _ h => h) rfl (tw_ni _) dX4_isNowhere_15 (fun σ H locs hw hR hS => ?_)
  refine tk_aload_n C hl 0 dX4_isNowhere_18 rfl ?_
  refine tk_gi C hR hw rfl in_X4 (by decide) q2053 (fun _ h => h) dX4_isNowhere_19 (fun x1 hw => ?_)
  refine lv_if_le (tgt := 29) C.hx C.hb dX4_isNowhere_22 (by decide) (fun c22 => ?_) (fun c22 => ?_)
  · replace hw := hw.1 c22
    refine lv_iconst (v := 0) C.hx C.hb dX4_isNowhere_29 (by decide) ?_
    exact wk_X4_isNowhere_b30 C hr hmn hnx hfr hRl _ σ _ _ _ hw hR hS (tk_sub hl [] rfl)
  · replace hw := hw.2 c22
    refine lv_iconst (v := 1) C.hx C.hb dX4_isNowhere_25 (by decide) ?_
    refine lv_goto (tgt := 30) C.hx C.hb dX4_isNowhere_26 (by decide) ?_
    exact wk_X4_isNowhere_b30 C hr hmn hnx hfr hRl _ σ _ _ _ hw hR hS (tk_sub hl [] rfl)
set_option maxHeartbeats 4000000 in
theorem wk_X4_isNowhere (l : Launch) (hl0 : l.stackTraces = false) (G : Tgl) (fr : Nat)  (hfr : 4 ≤ fr) (l0 : Option Nat) (l1 : Int32) (l2 : Int32) (Q : Int32 → Tst → Prop) (X : String → Nat → Tst → Prop) (σ : Tst) (hw : w_X4_isNowhere l0 l1 l2 Q X σ) : tw_M l yX4_isNowhere (ws_ yX4_isNowhere cX4_isNowhere 3 (some .boolean)) fr (40 * fr) G σ [.inr l0, .inl l1, .inl l2] (tw_Qi G Q) X := by
  unfold w_X4_isNowhere at hw
  refine tw_of (ret := (some .boolean)) hl0 (by decide) (Nat.le_of_ble_eq_true rfl) (fun p e R s m args below meth c hRf hRl C hr hmn hnx hR hS ls hl => ?_)
  have hfr : 4 ≤ R.frames := by rw [hRf]; exact hfr
  have hRl : R.locals = 40 * R.frames := by rw [hRl, hRf]
  have hl : tw_l ls 3 [(0, .inr l0), (1, .inl l1), (2, .inl l2)] := hl
  refine tk_aload_n C hl 0 dX4_isNowhere_0 rfl ?_
  refine tk_aload_n C hl 0 dX4_isNowhere_1 rfl ?_
  refine tk_iload_n C hl 1 dX4_isNowhere_2 rfl ?_
  refine tk_iload_n C hl 2 dX4_isNowhere_3 rfl ?_
  obtain ⟨hv, hw⟩ := hw
  refine tw_cbi C hS (tk_runV (As := [.inl l1, .inl l2]) C hR hS (wk_X4_isNode l C.hst G (R.frames - 1) (by omega) _ _ _ _ _ σ hw) hv rfl q2255 q2257 qs36 q74 q2258 pd_X4_isNode ⟨by omega, by omega⟩ hl.1 rfl (tw_r8 [.inr l0] (Nat.le_of_ble_eq_true rfl)) dX4_isNowhere_4) (fun E q σ H locs hX hR hS hi => tw_out C hR hS (fun x hx => (hnx x hx).elim) hi hX) (fun x1 σ H locs hw hR hS => ?_)
  refine lv_if_eq (tgt := 14) C.hx C.hb dX4_isNowhere_7 (by decide) (fun c7 => ?_) (fun c7 => ?_)
  · replace hw := hw.1 c7
    refine lv_iconst (v := 1) C.hx C.hb dX4_isNowhere_14 (by decide) ?_
    exact wk_X4_isNowhere_b15 C hr hmn hnx hfr hRl _ _ _ σ _ _ _ hw hR hS (tk_sub hl [0] rfl)
  · replace hw := hw.2 c7
    refine lv_iconst (v := 0) C.hx C.hb dX4_isNowhere_10 (by decide) ?_
    refine lv_goto (tgt := 15) C.hx C.hb dX4_isNowhere_11 (by decide) ?_
    exact wk_X4_isNowhere_b15 C hr hmn hnx hfr hRl _ _ _ σ _ _ _ hw hR hS (tk_sub hl [0] rfl)
-- TreeDifferModel.isLabel(C)Z
def w_X4_isLabel (l0 : Int32) (Q : Int32 → Tst → Prop) (X : String → Nat → Tst → Prop) (σ : Tst) : Prop := w_X4_isBetween l0 97 122 (fun x1 σ => narrow .boolean (.int x1) = .int x1 ∧ Q x1 σ) X σ
set_option maxHeartbeats 4000000 in
theorem wk_X4_isLabel (l : Launch) (hl0 : l.stackTraces = false) (G : Tgl) (fr : Nat)  (hfr : 2 ≤ fr) (l0 : Int32) (Q : Int32 → Tst → Prop) (X : String → Nat → Tst → Prop) (σ : Tst) (hw : w_X4_isLabel l0 Q X σ) : tw_M l yX4_isLabel (ws_ yX4_isLabel cX4_isLabel 1 (some .boolean)) fr (40 * fr) G σ [.inl l0] (tw_Qi G Q) X := by
  unfold w_X4_isLabel at hw
  refine tw_of (ret := (some .boolean)) hl0 (by decide) (Nat.le_of_ble_eq_true rfl) (fun p e R s m args below meth c hRf hRl C hr hmn hnx hR hS ls hl => ?_)
  have hfr : 2 ≤ R.frames := by rw [hRf]; exact hfr
  have hRl : R.locals = 40 * R.frames := by rw [hRl, hRf]
  have hl : tw_l ls 1 [(0, .inl l0)] := hl
  refine tk_iload_n C hl 0 dX4_isLabel_0 rfl ?_
  refine lv_bipush (v := 97) C.hx C.hb dX4_isLabel_1 (by decide) ?_
  refine lv_bipush (v := 122) C.hx C.hb dX4_isLabel_3 (by decide) ?_
  refine tw_cbi C hS (tw_runS (As := [.inl l0, .inl 97, .inl 122]) C hR hS (wk_X4_isBetween l C.hst G (R.frames - 1) (by omega) _ _ _ _ _ σ hw) q2166 q2167 q74 q2168 pd_X4_isBetween ⟨by omega, by omega⟩ hl.1 rfl (tw_r8 [] (Nat.le_of_ble_eq_true rfl)) dX4_isLabel_5) (fun E q σ H locs hX hR hS hi => tw_out C hR hS (fun x hx => (hnx x hx).elim) hi hX) (fun x1 σ H locs hw hR hS => ?_)
  obtain ⟨hok, hw⟩ := hw
  exact tw_iret C hR hS hr hok dX4_isLabel_8 hw
-- TreeDifferModel$Tree.end(I)I
def w_X5_end_b28 (Q : Int32 → Tst → Prop) (X : String → Nat → Tst → Prop) (l2 : Int32) (σ : Tst) : Prop := Q l2 σ
def w_X5_end_b4 (Q : Int32 → Tst → Prop) (X : String → Nat → Tst → Prop) : Nat → Option Nat → Int32 → Int32 → Tst → Prop
  | 0, _, _, _, _ => False
  | n + 1, l0, l1, l2, σ => w_gi σ l0 cX5 4 fun x1 => w_if (x1 ≤ l2) (w_X5_end_b28 Q X l2 σ) (w_gr σ l0 cX5 3 fun x2 => w_li σ x2 l2 fun x3 => w_if (x3 < l1) (w_X5_end_b28 Q X l2 σ) ((w_X5_end_b4 Q X n) l0 l1 (l2 + 1) σ))
def w_X5_end (l0 : Option Nat) (l1 : Int32) (Q : Int32 → Tst → Prop) (X : String → Nat → Tst → Prop) (σ : Tst) : Prop := ∃ z, w_X5_end_b4 Q X z l0 l1 (l1 + 1) σ
set_option maxHeartbeats 4000000 in
theorem wk_X5_end_b28  (C : tw_C p l R s m args meth c G cX5_end 3 yX5_end.cls) (hr : meth.sig.returnType = (some .int)) (hmn : meth.name = yX5_end.name) (hnx : (∀ x ∈ c.exceptionTable.toList, False)) (hfr : 1 ≤ R.frames) (hRl : R.locals = 40 * R.frames) {Q : Int32 → Tst → Prop} {X : String → Nat → Tst → Prop}  (l2 : Int32) (σ : Tst) (H : Heap) (locs : List Loc) (ls : Array Slot) (hw : w_X5_end_b28 Q X l2 σ) (hR : tw_R G σ H) (hS : va_S (tw_A G) s.heap H locs) (hl : tw_l ls 3 [(2, .inl l2)]) : tw_W p l e R s m args below meth c σ H locs (tw_E below G (tw_Qi G Q) X args s R) (F0 m 28 ls []) := by
  unfold w_X5_end_b28 at hw
  refine tk_iload_n C hl 0 dX5_end_28 rfl ?_
  exact tw_iret C hR hS hr rfl dX5_end_29 hw
set_option maxHeartbeats 4000000 in
theorem wk_X5_end_b4  (C : tw_C p l R s m args meth c G cX5_end 3 yX5_end.cls) (hr : meth.sig.returnType = (some .int)) (hmn : meth.name = yX5_end.name) (hnx : (∀ x ∈ c.exceptionTable.toList, False)) (hfr : 1 ≤ R.frames) (hRl : R.locals = 40 * R.frames) {Q : Int32 → Tst → Prop} {X : String → Nat → Tst → Prop}  : ∀ (n : Nat) (l0 : Option Nat) (l1 : Int32) (l2 : Int32) (σ : Tst) (H : Heap) (locs : List Loc) (ls : Array Slot), w_X5_end_b4 Q X n l0 l1 l2 σ → tw_R G σ H → va_S (tw_A G) s.heap H locs → tw_l ls 3 [(0, .inr l0), (1, .inl l1), (2, .inl l2)] → tw_W p l e R s m args below meth c σ H locs (tw_E below G (tw_Qi G Q) X args s R) (F0 m 4 ls []) := by
  intro n
  induction n with
  | zero => intro l0 l1 l2 σ H locs ls hw; exact False.elim hw
  | succ n hk4 =>
    intro l0 l1 l2 σ H locs ls hw hR hS hl
    rw [w_X5_end_b4] at hw
    refine tk_iload_n C hl 2 dX5_end_4 rfl ?_
    refine tk_aload_n C hl 0 dX5_end_5 rfl ?_
    refine tk_gi C hR hw rfl in_X5 (by decide) q2026 (fun _ h => h) dX5_end_6 (fun x1 hw => ?_)
    refine lv_icmp_ge (tgt := 28) C.hx C.hb dX5_end_9 (by decide) (fun c9 => ?_) (fun c9 => ?_)
    · replace hw := hw.1 c9
      exact wk_X5_end_b28 C hr hmn hnx hfr hRl _ σ _ _ _ hw hR hS (tk_sub hl [2] rfl)
    · replace hw := hw.2 c9
      refine tk_aload_n C hl 0 dX5_end_12 rfl ?_
      refine tk_gr C hR hw rfl in_X5 (by decide) q2024 (fun _ h => h) dX5_end_13 (fun x2 hw => ?_)
      refine tk_iload_n C hl 2 dX5_end_16 rfl ?_
      refine tk_li C hR hw dX5_end_17 (fun x3 hw => ?_)
      refine tk_iload_n C hl 1 dX5_end_18 rfl ?_
      refine lv_icmp_lt (tgt := 28) C.hx C.hb dX5_end_19 (by decide) (fun c19 => ?_) (fun c19 => ?_)
      · replace hw := hw.1 c19
        exact wk_X5_end_b28 C hr hmn hnx hfr hRl _ σ _ _ _ hw hR hS (tk_sub hl [2] rfl)
      · replace hw := hw.2 c19
        refine tk_iinc (L' := [(2, .inl (l2 + 1)), (0, .inr l0), (1, .inl l1)]) (y := (l2 + 1)) C hl 2 dX5_end_22 rfl rfl (by decide) rfl (fun ls hl => ?_)
        refine lv_goto (tgt := 4) C.hx C.hb dX5_end_25 (by decide) ?_
        exact hk4 _ _ _ σ _ _ _ hw hR hS (tk_sub hl [1, 2, 0] rfl)
set_option maxHeartbeats 4000000 in
theorem wk_X5_end (l : Launch) (hl0 : l.stackTraces = false) (G : Tgl) (fr : Nat)  (hfr : 1 ≤ fr) (l0 : Option Nat) (l1 : Int32) (Q : Int32 → Tst → Prop) (X : String → Nat → Tst → Prop) (σ : Tst) (hw : w_X5_end l0 l1 Q X σ) : tw_M l yX5_end (ws_ yX5_end cX5_end 3 (some .int)) fr (40 * fr) G σ [.inr l0, .inl l1] (tw_Qi G Q) X := by
  unfold w_X5_end at hw
  refine tw_of (ret := (some .int)) hl0 (by decide) (Nat.le_of_ble_eq_true rfl) (fun p e R s m args below meth c hRf hRl C hr hmn hnx hR hS ls hl => ?_)
  have hfr : 1 ≤ R.frames := by rw [hRf]; exact hfr
  have hRl : R.locals = 40 * R.frames := by rw [hRl, hRf]
  have hl : tw_l ls 3 [(0, .inr l0), (1, .inl l1)] := hl
  refine tk_iload_n C hl 1 dX5_end_0 rfl ?_
  refine lv_iconst (v := 1) C.hx C.hb dX5_end_1 (by decide) ?_
  refine lv_iadd C.hx C.hb dX5_end_2 ?_
  refine tk_istore_n (L' := [(2, .inl (l1 + 1)), (0, .inr l0), (1, .inl l1)]) C hl dX5_end_3 (by decide) rfl (fun ls hl => ?_)
  obtain ⟨z, hw⟩ := hw
  exact wk_X5_end_b4 C hr hmn hnx hfr hRl z _ _ _ σ _ _ _ hw hR hS (tk_sub hl [1, 2, 0] rfl)
-- TreeDifferModel$Tree.moves(II)V
def w_X5_moves_b65 (k11 : Option Nat → Int32 → Int32 → Int32 → Tst → Prop) (Q : Tst → Prop) (X : String → Nat → Tst → Prop) (l0 : Option Nat) (l1 : Int32) (l2 : Int32) (l3 : Int32) (s0 : Option Nat) (s1 : Int32) (s2 : Int32) (s3 : Int32) (s4 : Int32) (s5 : Int32) (σ : Tst) : Prop := w_rc σ s0 cX5 <| w_X5_sets s0 s1 s2 s3 s4 s5 (fun σ => k11 l0 l1 l2 (l3 + (-1)) σ) X σ
def w_X5_moves_b147 (Q : Tst → Prop) (X : String → Nat → Tst → Prop) (l0 : Option Nat) (l2 : Int32) (σ : Tst) : Prop := w_gi σ l0 cX5 4 fun x1 => w_p σ l0 cX5 4 (.inl (x1 + l2)) fun σ => Q σ
def w_X5_moves_b11 (Q : Tst → Prop) (X : String → Nat → Tst → Prop) : Nat → Option Nat → Int32 → Int32 → Int32 → Tst → Prop
  | 0, _, _, _, _, _ => False
  | n + 1, l0, l1, l2, l3, σ => w_if (l3 < l1) (w_X5_moves_b147 Q X l0 l2 σ) (w_gr σ l0 cX5 0 fun x1 => w_li σ x1 l3 fun x2 => w_gr σ l0 cX5 1 fun x3 => w_li σ x3 l3 fun x4 => w_gr σ l0 cX5 2 fun x5 => w_li σ x5 l3 fun x6 => w_gr σ l0 cX5 3 fun x7 => w_li σ x7 l3 fun x8 => w_if (x8 < l1) (w_gr σ l0 cX5 3 fun x9 => w_li σ x9 l3 fun x10 => w_X5_moves_b65 (w_X5_moves_b11 Q X n) Q X l0 l1 l2 l3 l0 (l3 + l2) x2 x4 x6 x10 σ) (w_gr σ l0 cX5 3 fun x11 => w_li σ x11 l3 fun x12 => w_X5_moves_b65 (w_X5_moves_b11 Q X n) Q X l0 l1 l2 l3 l0 (l3 + l2) x2 x4 x6 (x12 + l2) σ))
def w_X5_moves_b138 (k81 : Option Nat → Int32 → Int32 → Int32 → Tst → Prop) (Q : Tst → Prop) (X : String → Nat → Tst → Prop) (l0 : Option Nat) (l1 : Int32) (l2 : Int32) (l3 : Int32) (s0 : Option Nat) (s1 : Int32) (s2 : Int32) (s3 : Int32) (s4 : Int32) (s5 : Int32) (σ : Tst) : Prop := w_rc σ s0 cX5 <| w_X5_sets s0 s1 s2 s3 s4 s5 (fun σ => k81 l0 l1 l2 (l3 + 1) σ) X σ
def w_X5_moves_b81 (Q : Tst → Prop) (X : String → Nat → Tst → Prop) : Nat → Option Nat → Int32 → Int32 → Int32 → Tst → Prop
  | 0, _, _, _, _, _ => False
  | n + 1, l0, l1, l2, l3, σ => w_gi σ l0 cX5 4 fun x1 => w_if (x1 ≤ l3) (w_X5_moves_b147 Q X l0 l2 σ) (w_gr σ l0 cX5 0 fun x2 => w_li σ x2 l3 fun x3 => w_gr σ l0 cX5 1 fun x4 => w_li σ x4 l3 fun x5 => w_gr σ l0 cX5 2 fun x6 => w_li σ x6 l3 fun x7 => w_gr σ l0 cX5 3 fun x8 => w_li σ x8 l3 fun x9 => w_if (x9 < l1) (w_gr σ l0 cX5 3 fun x10 => w_li σ x10 l3 fun x11 => w_X5_moves_b138 (w_X5_moves_b81 Q X n) Q X l0 l1 l2 l3 l0 (l3 + l2) x3 x5 x7 x11 σ) (w_gr σ l0 cX5 3 fun x12 => w_li σ x12 l3 fun x13 => w_X5_moves_b138 (w_X5_moves_b81 Q X n) Q X l0 l1 l2 l3 l0 (l3 + l2) x3 x5 x7 (x13 + l2) σ))
def w_X5_moves (l0 : Option Nat) (l1 : Int32) (l2 : Int32) (Q : Tst → Prop) (X : String → Nat → Tst → Prop) (σ : Tst) : Prop := w_if (l2 ≤ 0) (∃ z, w_X5_moves_b81 Q X z l0 l1 l2 (l1 - l2) σ) (w_gi σ l0 cX5 4 fun x1 => ∃ z, w_X5_moves_b11 Q X z l0 l1 l2 (x1 - 1) σ)
set_option maxHeartbeats 4000000 in
theorem wk_X5_moves_b65  (C : tw_C p l R s m args meth c G cX5_moves 4 yX5_moves.cls) (hr : meth.sig.returnType = none) (hmn : meth.name = yX5_moves.name) (hnx : (∀ x ∈ c.exceptionTable.toList, False)) (hfr : 2 ≤ R.frames) (hRl : R.locals = 40 * R.frames) {Q : Tst → Prop} {X : String → Nat → Tst → Prop}  {k11 : Option Nat → Int32 → Int32 → Int32 → Tst → Prop} (hk11 : ∀ (l0 : Option Nat) (l1 : Int32) (l2 : Int32) (l3 : Int32) (σ : Tst) (H : Heap) (locs : List Loc) (ls : Array Slot), k11 l0 l1 l2 l3 σ → tw_R G σ H → va_S (tw_A G) s.heap H locs → tw_l ls 4 [(0, .inr l0), (1, .inl l1), (2, .inl l2), (3, .inl l3)] → tw_W p l e R s m args below meth c σ H locs (tw_E below G (tw_Qv G Q) X args s R) (F0 m 11 ls [])) (l0 : Option Nat) (l1 : Int32) (l2 : Int32) (l3 : Int32) (s0 : Option Nat) (s1 : Int32) (s2 : Int32) (s3 : Int32) (s4 : Int32) (s5 : Int32) (σ : Tst) (H : Heap) (locs : List Loc) (ls : Array Slot) (hw : w_X5_moves_b65 k11 Q X l0 l1 l2 l3 s0 s1 s2 s3 s4 s5 σ) (hR : tw_R G σ H) (hS : va_S (tw_A G) s.heap H locs) (hl : tw_l ls 4 [(0, .inr l0), (1, .inl l1), (2, .inl l2), (3, .inl l3)]) : tw_W p l e R s m args below meth c σ H locs (tw_E below G (tw_Qv G Q) X args s R) (F0 m 65 ls [.int s5, .int s4, .int s3, .int s2, .int s1, va_rf s0]) := by
  unfold w_X5_moves_b65 at hw
  obtain ⟨hv, hw⟩ := hw
  refine tw_cbv C hS (tk_runV (As := [.inl s1, .inl s2, .inl s3, .inl s4, .inl s5]) C hR hS (wk_X5_sets l C.hst G (R.frames - 1) (by omega) _ _ _ _ _ _ _ _ σ hw) hv rfl q2048 q2050 qs23 q75 q2051 pd_X5_sets ⟨by omega, by omega⟩ hl.1 rfl (tw_r8 [] (Nat.le_of_ble_eq_true rfl)) dX5_moves_65) (fun E q σ H locs hX hR hS hi => tw_out C hR hS (fun x hx => (hnx x hx).elim) hi hX) (fun σ H locs hw hR hS => ?_)
  refine tk_iinc (L' := [(3, .inl (l3 + (-1))), (0, .inr l0), (1, .inl l1), (2, .inl l2)]) (y := (l3 + (-1))) C hl 3 dX5_moves_68 rfl rfl (by decide) rfl (fun ls hl => ?_)
  refine lv_goto (tgt := 11) C.hx C.hb dX5_moves_71 (by decide) ?_
  exact hk11 _ _ _ _ σ _ _ _ hw hR hS (tk_sub hl [1, 2, 3, 0] rfl)
set_option maxHeartbeats 4000000 in
theorem wk_X5_moves_b147  (C : tw_C p l R s m args meth c G cX5_moves 4 yX5_moves.cls) (hr : meth.sig.returnType = none) (hmn : meth.name = yX5_moves.name) (hnx : (∀ x ∈ c.exceptionTable.toList, False)) (hfr : 2 ≤ R.frames) (hRl : R.locals = 40 * R.frames) {Q : Tst → Prop} {X : String → Nat → Tst → Prop}  (l0 : Option Nat) (l2 : Int32) (σ : Tst) (H : Heap) (locs : List Loc) (ls : Array Slot) (hw : w_X5_moves_b147 Q X l0 l2 σ) (hR : tw_R G σ H) (hS : va_S (tw_A G) s.heap H locs) (hl : tw_l ls 4 [(0, .inr l0), (2, .inl l2)]) : tw_W p l e R s m args below meth c σ H locs (tw_E below G (tw_Qv G Q) X args s R) (F0 m 147 ls []) := by
  unfold w_X5_moves_b147 at hw
  refine tk_aload_n C hl 0 dX5_moves_147 rfl ?_
  refine tw_dup (x := .inr l0) C.hx C.hb dX5_moves_148 ?_
  refine tk_gi C hR hw rfl in_X5 (by decide) q2026 (fun _ h => h) dX5_moves_149 (fun x1 hw => ?_)
  refine tk_iload_n C hl 1 dX5_moves_152 rfl ?_
  refine lv_iadd C.hx C.hb dX5_moves_153 ?_
  refine tk_p (x := .inl (x1 + l2)) C hR hS hw (by decide) rfl in_X5 tyX5 tyX5_ok nmX5 (by decide) q2026 (fun _ h => h) rfl (tw_ni _) dX5_moves_154 (fun σ H locs hw hR hS => ?_)
  exact tw_vret C hR hS hr dX5_moves_157 hw
set_option maxHeartbeats 4000000 in
theorem wk_X5_moves_b11  (C : tw_C p l R s m args meth c G cX5_moves 4 yX5_moves.cls) (hr : meth.sig.returnType = none) (hmn : meth.name = yX5_moves.name) (hnx : (∀ x ∈ c.exceptionTable.toList, False)) (hfr : 2 ≤ R.frames) (hRl : R.locals = 40 * R.frames) {Q : Tst → Prop} {X : String → Nat → Tst → Prop}  : ∀ (n : Nat) (l0 : Option Nat) (l1 : Int32) (l2 : Int32) (l3 : Int32) (σ : Tst) (H : Heap) (locs : List Loc) (ls : Array Slot), w_X5_moves_b11 Q X n l0 l1 l2 l3 σ → tw_R G σ H → va_S (tw_A G) s.heap H locs → tw_l ls 4 [(0, .inr l0), (1, .inl l1), (2, .inl l2), (3, .inl l3)] → tw_W p l e R s m args below meth c σ H locs (tw_E below G (tw_Qv G Q) X args s R) (F0 m 11 ls []) := by
  intro n
  induction n with
  | zero => intro l0 l1 l2 l3 σ H locs ls hw; exact False.elim hw
  | succ n hk11 =>
    intro l0 l1 l2 l3 σ H locs ls hw hR hS hl
    rw [w_X5_moves_b11] at hw
    refine tk_iload_n C hl 3 dX5_moves_11 rfl ?_
    refine tk_iload_n C hl 1 dX5_moves_12 rfl ?_
    refine lv_icmp_lt (tgt := 74) C.hx C.hb dX5_moves_13 (by decide) (fun c13 => ?_) (fun c13 => ?_)
    · replace hw := hw.1 c13
      refine lv_goto (tgt := 147) C.hx C.hb dX5_moves_74 (by decide) ?_
      exact wk_X5_moves_b147 C hr hmn hnx hfr hRl _ _ σ _ _ _ hw hR hS (tk_sub hl [0, 2] rfl)
    · replace hw := hw.2 c13
      refine tk_aload_n C hl 0 dX5_moves_16 rfl ?_
      refine tk_iload_n C hl 3 dX5_moves_17 rfl ?_
      refine tk_iload_n C hl 2 dX5_moves_18 rfl ?_
      refine lv_iadd C.hx C.hb dX5_moves_19 ?_
      refine tk_aload_n C hl 0 dX5_moves_20 rfl ?_
      refine tk_gr C hR hw rfl in_X5 (by decide) q2018 (fun _ h => h) dX5_moves_21 (fun x1 hw => ?_)
      refine tk_iload_n C hl 3 dX5_moves_24 rfl ?_
      refine tk_li C hR hw dX5_moves_25 (fun x2 hw => ?_)
      refine tk_aload_n C hl 0 dX5_moves_26 rfl ?_
      refine tk_gr C hR hw rfl in_X5 (by decide) q2020 (fun _ h => h) dX5_moves_27 (fun x3 hw => ?_)
      refine tk_iload_n C hl 3 dX5_moves_30 rfl ?_
      refine tk_li C hR hw dX5_moves_31 (fun x4 hw => ?_)
      refine tk_aload_n C hl 0 dX5_moves_32 rfl ?_
      refine tk_gr C hR hw rfl in_X5 (by decide) q2022 (fun _ h => h) dX5_moves_33 (fun x5 hw => ?_)
      refine tk_iload_n C hl 3 dX5_moves_36 rfl ?_
      refine tk_li C hR hw dX5_moves_37 (fun x6 hw => ?_)
      refine tk_aload_n C hl 0 dX5_moves_38 rfl ?_
      refine tk_gr C hR hw rfl in_X5 (by decide) q2024 (fun _ h => h) dX5_moves_39 (fun x7 hw => ?_)
      refine tk_iload_n C hl 3 dX5_moves_42 rfl ?_
      refine tk_li C hR hw dX5_moves_43 (fun x8 hw => ?_)
      refine tk_iload_n C hl 1 dX5_moves_44 rfl ?_
      refine lv_icmp_lt (tgt := 59) C.hx C.hb dX5_moves_45 (by decide) (fun c45 => ?_) (fun c45 => ?_)
      · replace hw := hw.1 c45
        refine tk_aload_n C hl 0 dX5_moves_59 rfl ?_
        refine tk_gr C hR hw rfl in_X5 (by decide) q2024 (fun _ h => h) dX5_moves_60 (fun x9 hw => ?_)
        refine tk_iload_n C hl 3 dX5_moves_63 rfl ?_
        refine tk_li C hR hw dX5_moves_64 (fun x10 hw => ?_)
        exact wk_X5_moves_b65 C hr hmn hnx hfr hRl hk11 _ _ _ _ _ _ _ _ _ _ σ _ _ _ hw hR hS (tk_sub hl [0, 1, 2, 3] rfl)
      · replace hw := hw.2 c45
        refine tk_aload_n C hl 0 dX5_moves_48 rfl ?_
        refine tk_gr C hR hw rfl in_X5 (by decide) q2024 (fun _ h => h) dX5_moves_49 (fun x11 hw => ?_)
        refine tk_iload_n C hl 3 dX5_moves_52 rfl ?_
        refine tk_li C hR hw dX5_moves_53 (fun x12 hw => ?_)
        refine tk_iload_n C hl 2 dX5_moves_54 rfl ?_
        refine lv_iadd C.hx C.hb dX5_moves_55 ?_
        refine lv_goto (tgt := 65) C.hx C.hb dX5_moves_56 (by decide) ?_
        exact wk_X5_moves_b65 C hr hmn hnx hfr hRl hk11 _ _ _ _ _ _ _ _ _ _ σ _ _ _ hw hR hS (tk_sub hl [0, 1, 2, 3] rfl)
set_option maxHeartbeats 4000000 in
theorem wk_X5_moves_b138  (C : tw_C p l R s m args meth c G cX5_moves 4 yX5_moves.cls) (hr : meth.sig.returnType = none) (hmn : meth.name = yX5_moves.name) (hnx : (∀ x ∈ c.exceptionTable.toList, False)) (hfr : 2 ≤ R.frames) (hRl : R.locals = 40 * R.frames) {Q : Tst → Prop} {X : String → Nat → Tst → Prop}  {k81 : Option Nat → Int32 → Int32 → Int32 → Tst → Prop} (hk81 : ∀ (l0 : Option Nat) (l1 : Int32) (l2 : Int32) (l3 : Int32) (σ : Tst) (H : Heap) (locs : List Loc) (ls : Array Slot), k81 l0 l1 l2 l3 σ → tw_R G σ H → va_S (tw_A G) s.heap H locs → tw_l ls 4 [(0, .inr l0), (1, .inl l1), (2, .inl l2), (3, .inl l3)] → tw_W p l e R s m args below meth c σ H locs (tw_E below G (tw_Qv G Q) X args s R) (F0 m 81 ls [])) (l0 : Option Nat) (l1 : Int32) (l2 : Int32) (l3 : Int32) (s0 : Option Nat) (s1 : Int32) (s2 : Int32) (s3 : Int32) (s4 : Int32) (s5 : Int32) (σ : Tst) (H : Heap) (locs : List Loc) (ls : Array Slot) (hw : w_X5_moves_b138 k81 Q X l0 l1 l2 l3 s0 s1 s2 s3 s4 s5 σ) (hR : tw_R G σ H) (hS : va_S (tw_A G) s.heap H locs) (hl : tw_l ls 4 [(0, .inr l0), (1, .inl l1), (2, .inl l2), (3, .inl l3)]) : tw_W p l e R s m args below meth c σ H locs (tw_E below G (tw_Qv G Q) X args s R) (F0 m 138 ls [.int s5, .int s4, .int s3, .int s2, .int s1, va_rf s0]) := by
  unfold w_X5_moves_b138 at hw
  obtain ⟨hv, hw⟩ := hw
  refine tw_cbv C hS (tk_runV (As := [.inl s1, .inl s2, .inl s3, .inl s4, .inl s5]) C hR hS (wk_X5_sets l C.hst G (R.frames - 1) (by omega) _ _ _ _ _ _ _ _ σ hw) hv rfl q2048 q2050 qs23 q75 q2051 pd_X5_sets ⟨by omega, by omega⟩ hl.1 rfl (tw_r8 [] (Nat.le_of_ble_eq_true rfl)) dX5_moves_138) (fun E q σ H locs hX hR hS hi => tw_out C hR hS (fun x hx => (hnx x hx).elim) hi hX) (fun σ H locs hw hR hS => ?_)
  refine tk_iinc (L' := [(3, .inl (l3 + 1)), (0, .inr l0), (1, .inl l1), (2, .inl l2)]) (y := (l3 + 1)) C hl 3 dX5_moves_141 rfl rfl (by decide) rfl (fun ls hl => ?_)
  refine lv_goto (tgt := 81) C.hx C.hb dX5_moves_144 (by decide) ?_
  exact hk81 _ _ _ _ σ _ _ _ hw hR hS (tk_sub hl [1, 2, 3, 0] rfl)
set_option maxHeartbeats 4000000 in
theorem wk_X5_moves_b81  (C : tw_C p l R s m args meth c G cX5_moves 4 yX5_moves.cls) (hr : meth.sig.returnType = none) (hmn : meth.name = yX5_moves.name) (hnx : (∀ x ∈ c.exceptionTable.toList, False)) (hfr : 2 ≤ R.frames) (hRl : R.locals = 40 * R.frames) {Q : Tst → Prop} {X : String → Nat → Tst → Prop}  : ∀ (n : Nat) (l0 : Option Nat) (l1 : Int32) (l2 : Int32) (l3 : Int32) (σ : Tst) (H : Heap) (locs : List Loc) (ls : Array Slot), w_X5_moves_b81 Q X n l0 l1 l2 l3 σ → tw_R G σ H → va_S (tw_A G) s.heap H locs → tw_l ls 4 [(0, .inr l0), (1, .inl l1), (2, .inl l2), (3, .inl l3)] → tw_W p l e R s m args below meth c σ H locs (tw_E below G (tw_Qv G Q) X args s R) (F0 m 81 ls []) := by
  intro n
  induction n with
  | zero => intro l0 l1 l2 l3 σ H locs ls hw; exact False.elim hw
  | succ n hk81 =>
    intro l0 l1 l2 l3 σ H locs ls hw hR hS hl
    rw [w_X5_moves_b81] at hw
    refine tk_iload_n C hl 3 dX5_moves_81 rfl ?_
    refine tk_aload_n C hl 0 dX5_moves_82 rfl ?_
    refine tk_gi C hR hw rfl in_X5 (by decide) q2026 (fun _ h => h) dX5_moves_83 (fun x1 hw => ?_)
    refine lv_icmp_ge (tgt := 147) C.hx C.hb dX5_moves_86 (by decide) (fun c86 => ?_) (fun c86 => ?_)
    · replace hw := hw.1 c86
      exact wk_X5_moves_b147 C hr hmn hnx hfr hRl _ _ σ _ _ _ hw hR hS (tk_sub hl [0, 2] rfl)
    · replace hw := hw.2 c86
      refine tk_aload_n C hl 0 dX5_moves_89 rfl ?_
      refine tk_iload_n C hl 3 dX5_moves_90 rfl ?_
      refine tk_iload_n C hl 2 dX5_moves_91 rfl ?_
      refine lv_iadd C.hx C.hb dX5_moves_92 ?_
      refine tk_aload_n C hl 0 dX5_moves_93 rfl ?_
      refine tk_gr C hR hw rfl in_X5 (by decide) q2018 (fun _ h => h) dX5_moves_94 (fun x2 hw => ?_)
      refine tk_iload_n C hl 3 dX5_moves_97 rfl ?_
      refine tk_li C hR hw dX5_moves_98 (fun x3 hw => ?_)
      refine tk_aload_n C hl 0 dX5_moves_99 rfl ?_
      refine tk_gr C hR hw rfl in_X5 (by decide) q2020 (fun _ h => h) dX5_moves_100 (fun x4 hw => ?_)
      refine tk_iload_n C hl 3 dX5_moves_103 rfl ?_
      refine tk_li C hR hw dX5_moves_104 (fun x5 hw => ?_)
      refine tk_aload_n C hl 0 dX5_moves_105 rfl ?_
      refine tk_gr C hR hw rfl in_X5 (by decide) q2022 (fun _ h => h) dX5_moves_106 (fun x6 hw => ?_)
      refine tk_iload_n C hl 3 dX5_moves_109 rfl ?_
      refine tk_li C hR hw dX5_moves_110 (fun x7 hw => ?_)
      refine tk_aload_n C hl 0 dX5_moves_111 rfl ?_
      refine tk_gr C hR hw rfl in_X5 (by decide) q2024 (fun _ h => h) dX5_moves_112 (fun x8 hw => ?_)
      refine tk_iload_n C hl 3 dX5_moves_115 rfl ?_
      refine tk_li C hR hw dX5_moves_116 (fun x9 hw => ?_)
      refine tk_iload_n C hl 1 dX5_moves_117 rfl ?_
      refine lv_icmp_lt (tgt := 132) C.hx C.hb dX5_moves_118 (by decide) (fun c118 => ?_) (fun c118 => ?_)
      · replace hw := hw.1 c118
        refine tk_aload_n C hl 0 dX5_moves_132 rfl ?_
        refine tk_gr C hR hw rfl in_X5 (by decide) q2024 (fun _ h => h) dX5_moves_133 (fun x10 hw => ?_)
        refine tk_iload_n C hl 3 dX5_moves_136 rfl ?_
        refine tk_li C hR hw dX5_moves_137 (fun x11 hw => ?_)
        exact wk_X5_moves_b138 C hr hmn hnx hfr hRl hk81 _ _ _ _ _ _ _ _ _ _ σ _ _ _ hw hR hS (tk_sub hl [0, 1, 2, 3] rfl)
      · replace hw := hw.2 c118
        refine tk_aload_n C hl 0 dX5_moves_121 rfl ?_
        refine tk_gr C hR hw rfl in_X5 (by decide) q2024 (fun _ h => h) dX5_moves_122 (fun x12 hw => ?_)
        refine tk_iload_n C hl 3 dX5_moves_125 rfl ?_
        refine tk_li C hR hw dX5_moves_126 (fun x13 hw => ?_)
        refine tk_iload_n C hl 2 dX5_moves_127 rfl ?_
        refine lv_iadd C.hx C.hb dX5_moves_128 ?_
        refine lv_goto (tgt := 138) C.hx C.hb dX5_moves_129 (by decide) ?_
        exact wk_X5_moves_b138 C hr hmn hnx hfr hRl hk81 _ _ _ _ _ _ _ _ _ _ σ _ _ _ hw hR hS (tk_sub hl [0, 1, 2, 3] rfl)
set_option maxHeartbeats 4000000 in
theorem wk_X5_moves (l : Launch) (hl0 : l.stackTraces = false) (G : Tgl) (fr : Nat)  (hfr : 2 ≤ fr) (l0 : Option Nat) (l1 : Int32) (l2 : Int32) (Q : Tst → Prop) (X : String → Nat → Tst → Prop) (σ : Tst) (hw : w_X5_moves l0 l1 l2 Q X σ) : tw_M l yX5_moves (ws_ yX5_moves cX5_moves 4 none) fr (40 * fr) G σ [.inr l0, .inl l1, .inl l2] (tw_Qv G Q) X := by
  unfold w_X5_moves at hw
  refine tw_of (ret := none) hl0 (by decide) (Nat.le_of_ble_eq_true rfl) (fun p e R s m args below meth c hRf hRl C hr hmn hnx hR hS ls hl => ?_)
  have hfr : 2 ≤ R.frames := by rw [hRf]; exact hfr
  have hRl : R.locals = 40 * R.frames := by rw [hRl, hRf]
  have hl : tw_l ls 4 [(0, .inr l0), (1, .inl l1), (2, .inl l2)] := hl
  refine tk_iload_n C hl 2 dX5_moves_0 rfl ?_
  refine lv_if_le (tgt := 77) C.hx C.hb dX5_moves_1 (by decide) (fun c1 => ?_) (fun c1 => ?_)
  · replace hw := hw.1 c1
    refine tk_iload_n C hl 1 dX5_moves_77 rfl ?_
    refine tk_iload_n C hl 2 dX5_moves_78 rfl ?_
    refine lv_isub C.hx C.hb dX5_moves_79 ?_
    refine tk_istore_n (L' := [(3, .inl (l1 - l2)), (0, .inr l0), (1, .inl l1), (2, .inl l2)]) C hl dX5_moves_80 (by decide) rfl (fun ls hl => ?_)
    obtain ⟨z, hw⟩ := hw
    exact wk_X5_moves_b81 C hr hmn hnx hfr hRl z _ _ _ _ σ _ _ _ hw hR hS (tk_sub hl [1, 2, 3, 0] rfl)
  · replace hw := hw.2 c1
    refine tk_aload_n C hl 0 dX5_moves_4 rfl ?_
    refine tk_gi C hR hw rfl in_X5 (by decide) q2026 (fun _ h => h) dX5_moves_5 (fun x1 hw => ?_)
    refine lv_iconst (v := 1) C.hx C.hb dX5_moves_8 (by decide) ?_
    refine lv_isub C.hx C.hb dX5_moves_9 ?_
    refine tk_istore_n (L' := [(3, .inl (x1 - 1)), (0, .inr l0), (1, .inl l1), (2, .inl l2)]) C hl dX5_moves_10 (by decide) rfl (fun ls hl => ?_)
    obtain ⟨z, hw⟩ := hw
    exact wk_X5_moves_b11 C hr hmn hnx hfr hRl z _ _ _ _ σ _ _ _ hw hR hS (tk_sub hl [1, 2, 3, 0] rfl)
-- TreeDifferModel.addNode(IIIC)I
def w_X4_addNode_b94 (Q : Int32 → Tst → Prop) (X : String → Nat → Tst → Prop) (l2 : Int32) (l4 : Int32) (l5 : Option Nat) (s0 : Int32) (σ : Tst) : Prop := w_rc σ l5 cX5 <| w_X5_moves l5 s0 1 (fun σ => w_rc σ l5 cX5 <| w_X5_sets l5 s0 l4 0 0 l2 (fun σ => Q s0 σ) X σ) X σ
def w_X4_addNode (l0 : Option Nat) (l1 : Int32) (l2 : Int32) (l3 : Int32) (l4 : Int32) (Q : Int32 → Tst → Prop) (X : String → Nat → Tst → Prop) (σ : Tst) : Prop := w_rc σ l0 cX4 <| w_X4_isNowhere l0 l1 l2 (fun x1 σ => w_if (x1 = 0) (w_gr σ l0 cX4 0 fun x2 => w_lr σ x2 l1 fun x3 => w_rc σ x3 cX5 <| w_X5_kids x3 l2 (fun x4 σ => w_al σ x4 fun x5 => w_X4_isBetween l3 0 x5 (fun x6 σ => w_if (x6 = 0) (w_rc σ l0 cX4 <| w_X4_fails l0 1 (fun x14 σ => Q x14 σ) X σ) (w_X4_isLabel l4 (fun x7 σ => w_if (x7 = 0) (w_rc σ l0 cX4 <| w_X4_fails l0 2 (fun x13 σ => Q x13 σ) X σ) (w_gi σ x3 cX5 4 fun x8 => w_if (x8 = 20) (w_rc σ l0 cX4 <| w_X4_fails l0 3 (fun x12 σ => Q x12 σ) X σ) (w_al σ x4 fun x9 => w_if (x9 ≤ l3) (w_rc σ x3 cX5 <| w_X5_end x3 l2 (fun x10 σ => w_X4_addNode_b94 Q X l2 l4 x3 x10 σ) X σ) (w_li σ x4 l3 fun x11 => w_X4_addNode_b94 Q X l2 l4 x3 x11 σ)))) X σ)) X σ) X σ) (Q 0 σ)) X σ
set_option maxHeartbeats 4000000 in
theorem wk_X4_addNode_b94  (C : tw_C p l R s m args meth c G cX4_addNode 8 yX4_addNode.cls) (hr : meth.sig.returnType = (some .int)) (hmn : meth.name = yX4_addNode.name) (hnx : (∀ x ∈ c.exceptionTable.toList, False)) (hfr : 5 ≤ R.frames) (hRl : R.locals = 40 * R.frames) {Q : Int32 → Tst → Prop} {X : String → Nat → Tst → Prop}  (l2 : Int32) (l4 : Int32) (l5 : Option Nat) (s0 : Int32) (σ : Tst) (H : Heap) (locs : List Loc) (ls : Array Slot) (hw : w_X4_addNode_b94 Q X l2 l4 l5 s0 σ) (hR : tw_R G σ H) (hS : va_S (tw_A G) s.heap H locs) (hl : tw_l ls 8 [(2, .inl l2), (4, .inl l4), (5, .inr l5)]) : tw_W p l e R s m args below meth c σ H locs (tw_E below G (tw_Qi G Q) X args s R) (F0 m 94 ls [.int s0]) := by
  unfold w_X4_addNode_b94 at hw
  refine tk_istore (L' := [(7, .inl s0), (2, .inl l2), (4, .inl l4), (5, .inr l5)]) C hl dX4_addNode_94 (by decide) rfl (fun ls hl => ?_)
  refine tk_aload C hl 3 dX4_addNode_96 rfl ?_
  refine tk_iload C hl 0 dX4_addNode_98 rfl ?_
  refine lv_iconst (v := 1) C.hx C.hb dX4_addNode_100 (by decide) ?_
  obtain ⟨hv, hw⟩ := hw
  refine tw_cbv C hS (tk_runVN (As := [.inl s0, .inl 1]) C hR hS (wk_X5_moves l C.hst G (R.frames - 1) (by omega) _ _ _ _ _ σ hw) hv rfl q2266 q2268 qs38 q75 q2269 pd_X5_moves ⟨by omega, by omega⟩ hl.1 rfl (tw_r8 [] (Nat.le_of_ble_eq_true rfl)) dX4_addNode_101) (fun E q σ H locs hX hR hS hi => tw_out C hR hS (fun x hx => (hnx x hx).elim) hi hX) (fun σ H locs hw hR hS => ?_)
  refine tk_aload C hl 3 dX4_addNode_104 rfl ?_
  refine tk_iload C hl 0 dX4_addNode_106 rfl ?_
  refine tk_iload C hl 2 dX4_addNode_108 rfl ?_
  refine lv_iconst (v := 0) C.hx C.hb dX4_addNode_110 (by decide) ?_
  refine lv_iconst (v := 0) C.hx C.hb dX4_addNode_111 (by decide) ?_
  refine tk_iload_n C hl 1 dX4_addNode_112 rfl ?_
  obtain ⟨hv, hw⟩ := hw
  refine tw_cbv C hS (tk_runVN (As := [.inl s0, .inl l4, .inl 0, .inl 0, .inl l2]) C hR hS (wk_X5_sets l C.hst G (R.frames - 1) (by omega) _ _ _ _ _ _ _ _ σ hw) hv rfl q2270 q2050 qs23 q75 q2051 pd_X5_sets ⟨by omega, by omega⟩ hl.1 rfl (tw_r8 [] (Nat.le_of_ble_eq_true rfl)) dX4_addNode_113) (fun E q σ H locs hX hR hS hi => tw_out C hR hS (fun x hx => (hnx x hx).elim) hi hX) (fun σ H locs hw hR hS => ?_)
  refine tk_iload C hl 0 dX4_addNode_116 rfl ?_
  exact tw_iret C hR hS hr rfl dX4_addNode_118 hw
set_option maxHeartbeats 4000000 in
theorem wk_X4_addNode (l : Launch) (hl0 : l.stackTraces = false) (G : Tgl) (fr : Nat)  (hfr : 5 ≤ fr) (l0 : Option Nat) (l1 : Int32) (l2 : Int32) (l3 : Int32) (l4 : Int32) (Q : Int32 → Tst → Prop) (X : String → Nat → Tst → Prop) (σ : Tst) (hw : w_X4_addNode l0 l1 l2 l3 l4 Q X σ) : tw_M l yX4_addNode (ws_ yX4_addNode cX4_addNode 8 (some .int)) fr (40 * fr) G σ [.inr l0, .inl l1, .inl l2, .inl l3, .inl l4] (tw_Qi G Q) X := by
  unfold w_X4_addNode at hw
  refine tw_of (ret := (some .int)) hl0 (by decide) (Nat.le_of_ble_eq_true rfl) (fun p e R s m args below meth c hRf hRl C hr hmn hnx hR hS ls hl => ?_)
  have hfr : 5 ≤ R.frames := by rw [hRf]; exact hfr
  have hRl : R.locals = 40 * R.frames := by rw [hRl, hRf]
  have hl : tw_l ls 8 [(0, .inr l0), (1, .inl l1), (2, .inl l2), (3, .inl l3), (4, .inl l4)] := hl
  refine tk_aload_n C hl 0 dX4_addNode_0 rfl ?_
  refine tk_iload_n C hl 1 dX4_addNode_1 rfl ?_
  refine tk_iload_n C hl 2 dX4_addNode_2 rfl ?_
  obtain ⟨hv, hw⟩ := hw
  refine tw_cbi C hS (tk_runV (As := [.inl l1, .inl l2]) C hR hS (wk_X4_isNowhere l C.hst G (R.frames - 1) (by omega) _ _ _ _ _ σ hw) hv rfl q2251 q2253 qs35 q74 q2254 pd_X4_isNowhere ⟨by omega, by omega⟩ hl.1 rfl (tw_r8 [] (Nat.le_of_ble_eq_true rfl)) dX4_addNode_3) (fun E q σ H locs hX hR hS hi => tw_out C hR hS (fun x hx => (hnx x hx).elim) hi hX) (fun x1 σ H locs hw hR hS => ?_)
  refine lv_if_eq (tgt := 11) C.hx C.hb dX4_addNode_6 (by decide) (fun c6 => ?_) (fun c6 => ?_)
  · replace hw := hw.1 c6
    refine tk_aload_n C hl 0 dX4_addNode_11 rfl ?_
    refine tk_gr C hR hw rfl in_X4 (by decide) q2052 (fun _ h => h) dX4_addNode_12 (fun x2 hw => ?_)
    refine tk_iload_n C hl 1 dX4_addNode_15 rfl ?_
    refine tk_lr C hR hw dX4_addNode_16 (fun x3 hw => ?_)
    refine tk_astore (L' := [(5, .inr x3), (0, .inr l0), (1, .inl l1), (2, .inl l2), (3, .inl l3), (4, .inl l4)]) C hl dX4_addNode_17 (by decide) rfl (fun ls hl => ?_)
    refine tk_aload C hl 0 dX4_addNode_19 rfl ?_
    refine tk_iload_n C hl 3 dX4_addNode_21 rfl ?_
    obtain ⟨hv, hw⟩ := hw
    refine tw_cbq C hS (tk_runVN (As := [.inl l2]) C hR hS (wk_X5_kids l C.hst G (R.frames - 1) (by omega) _ _ _ _ σ hw) hv rfl q2217 q2219 qs34 q75 q2220 pd_X5_kids ⟨by omega, by omega⟩ hl.1 rfl (tw_r8 [] (Nat.le_of_ble_eq_true rfl)) dX4_addNode_22) (fun E q σ H locs hX hR hS hi => tw_out C hR hS (fun x hx => (hnx x hx).elim) hi hX) (fun x4 σ H locs hw hR hS => ?_)
    refine tk_astore (L' := [(6, .inr x4), (5, .inr x3), (0, .inr l0), (1, .inl l1), (2, .inl l2), (3, .inl l3), (4, .inl l4)]) C hl dX4_addNode_25 (by decide) rfl (fun ls hl => ?_)
    refine tk_iload_n C hl 5 dX4_addNode_27 rfl ?_
    refine lv_iconst (v := 0) C.hx C.hb dX4_addNode_28 (by decide) ?_
    refine tk_aload C hl 0 dX4_addNode_29 rfl ?_
    refine tk_al C hR hw dX4_addNode_31 (fun x5 hw => ?_)
    refine tw_cbi C hS (tw_runS (As := [.inl l3, .inl 0, .inl x5]) C hR hS (wk_X4_isBetween l C.hst G (R.frames - 1) (by omega) _ _ _ _ _ σ hw) q2166 q2167 q74 q2168 pd_X4_isBetween ⟨by omega, by omega⟩ hl.1 rfl (tw_r8 [] (Nat.le_of_ble_eq_true rfl)) dX4_addNode_32) (fun E q σ H locs hX hR hS hi => tw_out C hR hS (fun x hx => (hnx x hx).elim) hi hX) (fun x6 σ H locs hw hR hS => ?_)
    refine lv_if_ne (tgt := 44) C.hx C.hb dX4_addNode_35 (by decide) (fun c35 => ?_) (fun c35 => ?_)
    · replace hw := hw.2 c35
      refine tk_iload C hl 6 dX4_addNode_44 rfl ?_
      refine tw_cbi C hS (tw_runS (As := [.inl l4]) C hR hS (wk_X4_isLabel l C.hst G (R.frames - 1) (by omega) _ _ _ σ hw) q2259 q2260 q74 q2261 pd_X4_isLabel ⟨by omega, by omega⟩ hl.1 rfl (tw_r8 [] (Nat.le_of_ble_eq_true rfl)) dX4_addNode_46) (fun E q σ H locs hX hR hS hi => tw_out C hR hS (fun x hx => (hnx x hx).elim) hi hX) (fun x7 σ H locs hw hR hS => ?_)
      refine lv_if_ne (tgt := 58) C.hx C.hb dX4_addNode_49 (by decide) (fun c49 => ?_) (fun c49 => ?_)
      · replace hw := hw.2 c49
        refine tk_aload C hl 1 dX4_addNode_58 rfl ?_
        refine tk_giN C hR hw rfl in_X5 (by decide) q2027 (fun _ h => h) dX4_addNode_60 (fun x8 hw => ?_)
        refine lv_bipush (v := 20) C.hx C.hb dX4_addNode_63 (by decide) ?_
        refine lv_icmp_ne (tgt := 74) C.hx C.hb dX4_addNode_65 (by decide) (fun c65 => ?_) (fun c65 => ?_)
        · replace hw := hw.2 c65
          refine tk_iload_n C hl 5 dX4_addNode_74 rfl ?_
          refine tk_aload C hl 0 dX4_addNode_75 rfl ?_
          refine tk_al C hR hw dX4_addNode_77 (fun x9 hw => ?_)
          refine lv_icmp_ge (tgt := 88) C.hx C.hb dX4_addNode_78 (by decide) (fun c78 => ?_) (fun c78 => ?_)
          · replace hw := hw.1 c78
            refine tk_aload C hl 1 dX4_addNode_88 rfl ?_
            refine tk_iload_n C hl 4 dX4_addNode_90 rfl ?_
            obtain ⟨hv, hw⟩ := hw
            refine tw_cbi C hS (tk_runVN (As := [.inl l2]) C hR hS (wk_X5_end l C.hst G (R.frames - 1) (by omega) _ _ _ _ σ hw) hv rfl q2262 q2264 qs37 q75 q2265 pd_X5_end ⟨by omega, by omega⟩ hl.1 rfl (tw_r8 [] (Nat.le_of_ble_eq_true rfl)) dX4_addNode_91) (fun E q σ H locs hX hR hS hi => tw_out C hR hS (fun x hx => (hnx x hx).elim) hi hX) (fun x10 σ H locs hw hR hS => ?_)
            exact wk_X4_addNode_b94 C hr hmn hnx hfr hRl _ _ _ _ σ _ _ _ hw hR hS (tk_sub hl [4, 6, 1] rfl)
          · replace hw := hw.2 c78
            refine tk_aload C hl 0 dX4_addNode_81 rfl ?_
            refine tk_iload_n C hl 5 dX4_addNode_83 rfl ?_
            refine tk_li C hR hw dX4_addNode_84 (fun x11 hw => ?_)
            refine lv_goto (tgt := 94) C.hx C.hb dX4_addNode_85 (by decide) ?_
            exact wk_X4_addNode_b94 C hr hmn hnx hfr hRl _ _ _ _ σ _ _ _ hw hR hS (tk_sub hl [4, 6, 1] rfl)
        · replace hw := hw.1 c65
          refine tk_aload_n C hl 2 dX4_addNode_68 rfl ?_
          refine lv_iconst (v := 3) C.hx C.hb dX4_addNode_69 (by decide) ?_
          obtain ⟨hv, hw⟩ := hw
          refine tw_cbi C hS (tk_runV (As := [.inl 3]) C hR hS (wk_X4_fails l C.hst G (R.frames - 1) (by omega) _ _ _ _ σ hw) hv rfl q2155 q2157 qs24 q74 q2158 pd_X4_fails ⟨by omega, by omega⟩ hl.1 rfl (tw_r8 [] (Nat.le_of_ble_eq_true rfl)) dX4_addNode_70) (fun E q σ H locs hX hR hS hi => tw_out C hR hS (fun x hx => (hnx x hx).elim) hi hX) (fun x12 σ H locs hw hR hS => ?_)
          exact tw_iret C hR hS hr rfl dX4_addNode_73 hw
      · replace hw := hw.1 c49
        refine tk_aload_n C hl 2 dX4_addNode_52 rfl ?_
        refine lv_iconst (v := 2) C.hx C.hb dX4_addNode_53 (by decide) ?_
        obtain ⟨hv, hw⟩ := hw
        refine tw_cbi C hS (tk_runV (As := [.inl 2]) C hR hS (wk_X4_fails l C.hst G (R.frames - 1) (by omega) _ _ _ _ σ hw) hv rfl q2155 q2157 qs24 q74 q2158 pd_X4_fails ⟨by omega, by omega⟩ hl.1 rfl (tw_r8 [] (Nat.le_of_ble_eq_true rfl)) dX4_addNode_54) (fun E q σ H locs hX hR hS hi => tw_out C hR hS (fun x hx => (hnx x hx).elim) hi hX) (fun x13 σ H locs hw hR hS => ?_)
        exact tw_iret C hR hS hr rfl dX4_addNode_57 hw
    · replace hw := hw.1 c35
      refine tk_aload_n C hl 2 dX4_addNode_38 rfl ?_
      refine lv_iconst (v := 1) C.hx C.hb dX4_addNode_39 (by decide) ?_
      obtain ⟨hv, hw⟩ := hw
      refine tw_cbi C hS (tk_runV (As := [.inl 1]) C hR hS (wk_X4_fails l C.hst G (R.frames - 1) (by omega) _ _ _ _ σ hw) hv rfl q2155 q2157 qs24 q74 q2158 pd_X4_fails ⟨by omega, by omega⟩ hl.1 rfl (tw_r8 [] (Nat.le_of_ble_eq_true rfl)) dX4_addNode_40) (fun E q σ H locs hX hR hS hi => tw_out C hR hS (fun x hx => (hnx x hx).elim) hi hX) (fun x14 σ H locs hw hR hS => ?_)
      exact tw_iret C hR hS hr rfl dX4_addNode_43 hw
  · replace hw := hw.2 c6
    refine lv_iconst (v := 0) C.hx C.hb dX4_addNode_9 (by decide) ?_
    exact tw_iret C hR hS hr rfl dX4_addNode_10 hw
end GW23
