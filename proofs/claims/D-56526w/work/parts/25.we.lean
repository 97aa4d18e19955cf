set_option maxRecDepth 100000
section GW25
variable {p : Program} {l : Launch} {e : Env} {R : Room} {s : State} {m : MethodId} {args : Array Value} {below : List Frame} {meth : Method} {c : Code} {H : Heap} {locs : List Loc} {G : Tgl}
-- TreeDifferModel.notes(CII)V
def w_X4_notes (l0 : Option Nat) (l1 : Int32) (l2 : Int32) (l3 : Int32) (Q : Tst → Prop) (X : String → Nat → Tst → Prop) (σ : Tst) : Prop := w_gr σ l0 cX4 10 fun x1 => w_gi σ l0 cX4 15 fun x2 => w_sc σ x1 x2 l1 fun σ => w_gr σ l0 cX4 11 fun x3 => w_gi σ l0 cX4 15 fun x4 => w_si σ x3 x4 l2 fun σ => w_gr σ l0 cX4 12 fun x5 => w_gi σ l0 cX4 15 fun x6 => w_si σ x5 x6 l3 fun σ => w_gi σ l0 cX4 15 fun x7 => w_p σ l0 cX4 15 (.inl (x7 + 1)) fun σ => Q σ
set_option maxHeartbeats 4000000 in
theorem wk_X4_notes (l : Launch) (hl0 : l.stackTraces = false) (G : Tgl) (fr : Nat)  (hfr : 1 ≤ fr) (l0 : Option Nat) (l1 : Int32) (l2 : Int32) (l3 : Int32) (Q : Tst → Prop) (X : String → Nat → Tst → Prop) (σ : Tst) (hw : w_X4_notes l0 l1 l2 l3 Q X σ) : tw_M l yX4_notes (ws_ yX4_notes cX4_notes 4 none) fr (40 * fr) G σ [.inr l0, .inl l1, .inl l2, .inl l3] (tw_Qv G Q) X := by
  unfold w_X4_notes at hw
  refine tw_of (ret := none) hl0 (by decide) (Nat.le_of_ble_eq_true rfl) (fun p e R s m args below meth c hRf hRl C hr hmn hnx hR hS ls hl => ?_)
  have hfr : 1 ≤ R.frames := by rw [hRf]; exact hfr
  have hRl : R.locals = 40 * R.frames := by rw [hRl, hRf]
  have hl : tw_l ls 4 [(0, .inr l0), (1, .inl l1), (2, .inl l2), (3, .inl l3)] := hl
  refine tk_aload_n C hl 0 dX4_notes_0 rfl ?_
  refine tk_gr C hR hw rfl in_X4 (by decide) q2062 (fun _ h => h) dX4_notes_1 (fun x1 hw => ?_)
  refine tk_aload_n C hl 0 dX4_notes_4 rfl ?_
  refine tk_gi C hR hw rfl in_X4 (by decide) q2067 (fun _ h => h) dX4_notes_5 (fun x2 hw => ?_)
  refine tk_iload_n C hl 1 dX4_notes_8 rfl ?_
  refine tk_sc C hR hS hw dX4_notes_9 (fun σ H locs hw hR hS => ?_)
  refine tk_aload_n C hl 0 dX4_notes_10 rfl ?_
  refine tk_gr C hR hw rfl in_X4 (by decide) q2063 (fun _ h => h) dX4_notes_11 (fun x3 hw => ?_)
  refine tk_aload_n C hl 0 dX4_notes_14 rfl ?_
  refine tk_gi C hR hw rfl in_X4 (by decide) q2067 (fun _ h => h) dX4_notes_15 (fun x4 hw => ?_)
  refine tk_iload_n C hl 2 dX4_notes_18 rfl ?_
  refine tk_si C hR hS hw dX4_notes_19 (fun σ H locs hw hR hS => ?_)
  refine tk_aload_n C hl 0 dX4_notes_20 rfl ?_
  refine tk_gr C hR hw rfl in_X4 (by decide) q2064 (fun _ h => h) dX4_notes_21 (fun x5 hw => ?_)
  refine tk_aload_n C hl 0 dX4_notes_24 rfl ?_
  refine tk_gi C hR hw rfl in_X4 (by decide) q2067 (fun _ h => h) dX4_notes_25 (fun x6 hw => ?_)
  refine tk_iload_n C hl 3 dX4_notes_28 rfl ?_
  refine tk_si C hR hS hw dX4_notes_29 (fun σ H locs hw hR hS => ?_)
  refine tk_aload_n C hl 0 dX4_notes_30 rfl ?_
  refine tw_dup (x := .inr l0) C.hx C.hb dX4_notes_31 ?_
  refine tk_gi C hR hw rfl in_X4 (by decide) q2067 (fun _ h => h) dX4_notes_32 (fun x7 hw => ?_)
  refine lv_iconst (v := 1) C.hx C.hb dX4_notes_35 (by decide) ?_
  refine lv_iadd C.hx C.hb dX4_notes_36 ?_
  refine tk_p (x := .inl (x7 + 1)) C hR hS hw (by decide) rfl in_X4 tyX4 tyX4_ok nmX4 (by decide) q2067 (fun _ h => h) rfl (tw_ni _) dX4_notes_37 (fun σ H locs hw hR hS => ?_)
  exact tw_vret C hR hS hr dX4_notes_40 hw
-- TreeDifferModel.pairs(LTreeDifferModel$Tree;ILTreeDifferModel$Tree;I)V
def w_X4_pairs_b311 (rf_X4_pairs : (Option Nat) → (Option Nat) → Int32 → (Option Nat) → Int32 → (Tst → Prop) → (String → Nat → Tst → Prop) → Tst → Prop) (k99 : Option Nat → Option Nat → Option Nat → Option Nat → Option Nat → Option Nat → Int32 → Int32 → Tst → Prop) (Q : Tst → Prop) (X : String → Nat → Tst → Prop) (l0 : Option Nat) (l1 : Option Nat) (l3 : Option Nat) (l5 : Option Nat) (l6 : Option Nat) (l7 : Option Nat) (l8 : Int32) (l9 : Int32) (σ : Tst) : Prop := k99 l0 l1 l3 l5 l6 l7 l8 l9 σ
def w_X4_pairs_b296 (rf_X4_pairs : (Option Nat) → (Option Nat) → Int32 → (Option Nat) → Int32 → (Tst → Prop) → (String → Nat → Tst → Prop) → Tst → Prop) (k99 : Option Nat → Option Nat → Option Nat → Option Nat → Option Nat → Option Nat → Int32 → Int32 → Tst → Prop) (Q : Tst → Prop) (X : String → Nat → Tst → Prop) (l0 : Option Nat) (l1 : Option Nat) (l3 : Option Nat) (l5 : Option Nat) (l6 : Option Nat) (l7 : Option Nat) (l8 : Int32) (l9 : Int32) (σ : Tst) : Prop := w_li σ l6 l9 fun x1 => w_rc σ l0 cX4 <| w_X4_notes l0 105 (-1) x1 (fun σ => w_X4_pairs_b311 rf_X4_pairs k99 Q X l0 l1 l3 l5 l6 l7 l8 (l9 + 1) σ) X σ
def w_X4_pairs_b231 (rf_X4_pairs : (Option Nat) → (Option Nat) → Int32 → (Option Nat) → Int32 → (Tst → Prop) → (String → Nat → Tst → Prop) → Tst → Prop) (k99 : Option Nat → Option Nat → Option Nat → Option Nat → Option Nat → Option Nat → Int32 → Int32 → Tst → Prop) (Q : Tst → Prop) (X : String → Nat → Tst → Prop) (l0 : Option Nat) (l1 : Option Nat) (l3 : Option Nat) (l5 : Option Nat) (l6 : Option Nat) (l7 : Option Nat) (l8 : Int32) (l9 : Int32) (σ : Tst) : Prop := w_al σ l5 fun x1 => w_if (x1 ≤ l8) (w_X4_pairs_b296 rf_X4_pairs k99 Q X l0 l1 l3 l5 l6 l7 l8 l9 σ) (w_li σ l5 l8 fun x2 => w_rc σ l1 cX5 <| w_X5_end l1 x2 (fun x3 σ => w_li σ l5 l8 fun x4 => w_lr σ l7 (l8 + 1) fun x5 => w_li σ x5 l9 fun x6 => w_lr σ l7 l8 fun x7 => w_li σ x7 l9 fun x8 => w_if (((2 * (x3 - x4)) + x6) = x8) (w_li σ l5 l8 fun x9 => w_rc σ l0 cX4 <| w_X4_notes l0 100 x9 (-1) (fun σ => w_X4_pairs_b311 rf_X4_pairs k99 Q X l0 l1 l3 l5 l6 l7 (l8 + 1) l9 σ) X σ) (w_X4_pairs_b296 rf_X4_pairs k99 Q X l0 l1 l3 l5 l6 l7 l8 l9 σ)) X σ)
def w_X4_pairs_b136 (rf_X4_pairs : (Option Nat) → (Option Nat) → Int32 → (Option Nat) → Int32 → (Tst → Prop) → (String → Nat → Tst → Prop) → Tst → Prop) (k99 : Option Nat → Option Nat → Option Nat → Option Nat → Option Nat → Option Nat → Int32 → Int32 → Tst → Prop) (Q : Tst → Prop) (X : String → Nat → Tst → Prop) (l0 : Option Nat) (l1 : Option Nat) (l3 : Option Nat) (l5 : Option Nat) (l6 : Option Nat) (l7 : Option Nat) (l8 : Int32) (l9 : Int32) (s0 : Int32) (σ : Tst) : Prop := w_if (s0 = 0) (w_X4_pairs_b231 rf_X4_pairs k99 Q X l0 l1 l3 l5 l6 l7 l8 l9 σ) (w_gr σ l1 cX5 1 fun x1 => w_li σ l5 l8 fun x2 => w_li σ x1 x2 fun x3 => w_gr σ l3 cX5 1 fun x4 => w_li σ l6 l9 fun x5 => w_li σ x4 x5 fun x6 => w_if (x3 = x6) (w_gr σ l0 cX4 9 fun x7 => w_li σ l5 l8 fun x8 => w_lr σ x7 x8 fun x9 => w_li σ l6 l9 fun x10 => w_li σ x9 x10 fun x11 => w_lr σ l7 (l8 + 1) fun x12 => w_li σ x12 (l9 + 1) fun x13 => w_lr σ l7 l8 fun x14 => w_li σ x14 l9 fun x15 => w_if ((x11 + x13) = x15) (w_li σ l5 l8 fun x16 => w_li σ l6 l9 fun x17 => w_rc σ l0 cX4 <| rf_X4_pairs l0 l1 x16 l3 x17 (fun σ => w_X4_pairs_b311 rf_X4_pairs k99 Q X l0 l1 l3 l5 l6 l7 (l8 + 1) (l9 + 1) σ) X σ) (w_X4_pairs_b231 rf_X4_pairs k99 Q X l0 l1 l3 l5 l6 l7 l8 l9 σ)) (w_X4_pairs_b231 rf_X4_pairs k99 Q X l0 l1 l3 l5 l6 l7 l8 l9 σ))
def w_X4_pairs_b135 (rf_X4_pairs : (Option Nat) → (Option Nat) → Int32 → (Option Nat) → Int32 → (Tst → Prop) → (String → Nat → Tst → Prop) → Tst → Prop) (k99 : Option Nat → Option Nat → Option Nat → Option Nat → Option Nat → Option Nat → Int32 → Int32 → Tst → Prop) (Q : Tst → Prop) (X : String → Nat → Tst → Prop) (l0 : Option Nat) (l1 : Option Nat) (l3 : Option Nat) (l5 : Option Nat) (l6 : Option Nat) (l7 : Option Nat) (l8 : Int32) (l9 : Int32) (σ : Tst) : Prop := w_X4_pairs_b136 rf_X4_pairs k99 Q X l0 l1 l3 l5 l6 l7 l8 l9 0 σ
def w_X4_pairs_b115 (rf_X4_pairs : (Option Nat) → (Option Nat) → Int32 → (Option Nat) → Int32 → (Tst → Prop) → (String → Nat → Tst → Prop) → Tst → Prop) (k99 : Option Nat → Option Nat → Option Nat → Option Nat → Option Nat → Option Nat → Int32 → Int32 → Tst → Prop) (Q : Tst → Prop) (X : String → Nat → Tst → Prop) (l0 : Option Nat) (l1 : Option Nat) (l3 : Option Nat) (l5 : Option Nat) (l6 : Option Nat) (l7 : Option Nat) (l8 : Int32) (l9 : Int32) (σ : Tst) : Prop := w_al σ l5 fun x1 => w_if (x1 ≤ l8) (w_X4_pairs_b135 rf_X4_pairs k99 Q X l0 l1 l3 l5 l6 l7 l8 l9 σ) (w_al σ l6 fun x2 => w_if (x2 ≤ l9) (w_X4_pairs_b135 rf_X4_pairs k99 Q X l0 l1 l3 l5 l6 l7 l8 l9 σ) (w_X4_pairs_b136 rf_X4_pairs k99 Q X l0 l1 l3 l5 l6 l7 l8 l9 1 σ))
def w_X4_pairs_b99 (rf_X4_pairs : (Option Nat) → (Option Nat) → Int32 → (Option Nat) → Int32 → (Tst → Prop) → (String → Nat → Tst → Prop) → Tst → Prop) (Q : Tst → Prop) (X : String → Nat → Tst → Prop) : Nat → Option Nat → Option Nat → Option Nat → Option Nat → Option Nat → Option Nat → Int32 → Int32 → Tst → Prop
  | 0, _, _, _, _, _, _, _, _, _ => False
  | n + 1, l0, l1, l3, l5, l6, l7, l8, l9, σ => w_al σ l5 fun x1 => w_if (l8 < x1) (w_X4_pairs_b115 rf_X4_pairs (w_X4_pairs_b99 rf_X4_pairs Q X n) Q X l0 l1 l3 l5 l6 l7 l8 l9 σ) (w_al σ l6 fun x2 => w_if (x2 ≤ l9) (Q σ) (w_X4_pairs_b115 rf_X4_pairs (w_X4_pairs_b99 rf_X4_pairs Q X n) Q X l0 l1 l3 l5 l6 l7 l8 l9 σ))
def w_X4_pairs_b66 (rf_X4_pairs : (Option Nat) → (Option Nat) → Int32 → (Option Nat) → Int32 → (Tst → Prop) → (String → Nat → Tst → Prop) → Tst → Prop) (Q : Tst → Prop) (X : String → Nat → Tst → Prop) (l0 : Option Nat) (l1 : Option Nat) (l2 : Int32) (l3 : Option Nat) (l4 : Int32) (σ : Tst) : Prop := w_rc σ l1 cX5 <| w_X5_kids l1 l2 (fun x1 σ => w_rc σ l3 cX5 <| w_X5_kids l3 l4 (fun x2 σ => w_rc σ l0 cX4 <| w_X4_left l0 l1 x1 l3 x2 (fun x3 σ => ∃ z, w_X4_pairs_b99 rf_X4_pairs Q X z l0 l1 l3 x1 x2 x3 0 0 σ) X σ) X σ) X σ
def w_X4_pairs_b41 (rf_X4_pairs : (Option Nat) → (Option Nat) → Int32 → (Option Nat) → Int32 → (Tst → Prop) → (String → Nat → Tst → Prop) → Tst → Prop) (Q : Tst → Prop) (X : String → Nat → Tst → Prop) (l0 : Option Nat) (l1 : Option Nat) (l2 : Int32) (l3 : Option Nat) (l4 : Int32) (σ : Tst) : Prop := w_gr σ l1 cX5 2 fun x1 => w_li σ x1 l2 fun x2 => w_gr σ l3 cX5 2 fun x3 => w_li σ x3 l4 fun x4 => w_if (x2 = x4) (w_X4_pairs_b66 rf_X4_pairs Q X l0 l1 l2 l3 l4 σ) (w_rc σ l0 cX4 <| w_X4_notes l0 118 l2 l4 (fun σ => w_X4_pairs_b66 rf_X4_pairs Q X l0 l1 l2 l3 l4 σ) X σ)
def w_X4_pairs : Nat → Option Nat → Option Nat → Int32 → Option Nat → Int32 → (Tst → Prop) → (String → Nat → Tst → Prop) → Tst → Prop
  | 0, _, _, _, _, _, _, _, _ => False
  | d + 1, l0, l1, l2, l3, l4, Q, X, σ => w_gr σ l0 cX4 13 fun x1 => w_si σ x1 l2 l4 fun σ => w_gr σ l0 cX4 14 fun x2 => w_si σ x2 l4 l2 fun σ => w_gr σ l1 cX5 0 fun x3 => w_li σ x3 l2 fun x4 => w_gr σ l3 cX5 0 fun x5 => w_li σ x5 l4 fun x6 => w_if (x4 = x6) (w_X4_pairs_b41 (w_X4_pairs d) Q X l0 l1 l2 l3 l4 σ) (w_rc σ l0 cX4 <| w_X4_notes l0 108 l2 l4 (fun σ => w_X4_pairs_b41 (w_X4_pairs d) Q X l0 l1 l2 l3 l4 σ) X σ)
set_option maxHeartbeats 4000000 in
theorem wk_X4_pairs_b311 {rf_X4_pairs : (Option Nat) → (Option Nat) → Int32 → (Option Nat) → Int32 → (Tst → Prop) → (String → Nat → Tst → Prop) → Tst → Prop} {frf_X4_pairs : Nat}  (C : tw_C p l R s m args meth c G cX4_pairs 11 yX4_pairs.cls) (hr : meth.sig.returnType = none) (hmn : meth.name = yX4_pairs.name) (hnx : (∀ x ∈ c.exceptionTable.toList, False)) (hfr : 3 ≤ R.frames ∧ frf_X4_pairs + 1 ≤ R.frames) (hRl : R.locals = 40 * R.frames) {Q : Tst → Prop} {X : String → Nat → Tst → Prop} (hrf_X4_pairs : ∀ fr : Nat, frf_X4_pairs ≤ fr → ∀ (a0 : Option Nat) (a1 : Option Nat) (a2 : Int32) (a3 : Option Nat) (a4 : Int32) (Q : Tst → Prop) (X : String → Nat → Tst → Prop) (σ : Tst), rf_X4_pairs a0 a1 a2 a3 a4 Q X σ → tw_M l yX4_pairs (ws_ yX4_pairs cX4_pairs 11 none) fr (40 * fr) G σ [.inr a0, .inr a1, .inl a2, .inr a3, .inl a4] (tw_Qv G Q) X) {k99 : Option Nat → Option Nat → Option Nat → Option Nat → Option Nat → Option Nat → Int32 → Int32 → Tst → Prop} (hk99 : ∀ (l0 : Option Nat) (l1 : Option Nat) (l3 : Option Nat) (l5 : Option Nat) (l6 : Option Nat) (l7 : Option Nat) (l8 : Int32) (l9 : Int32) (σ : Tst) (H : Heap) (locs : List Loc) (ls : Array Slot), k99 l0 l1 l3 l5 l6 l7 l8 l9 σ → tw_R G σ H → va_S (tw_A G) s.heap H locs → tw_l ls 11 [(0, .inr l0), (1, .inr l1), (3, .inr l3), (5, .inr l5), (6, .inr l6), (7, .inr l7), (8, .inl l8), (9, .inl l9)] → tw_W p l e R s m args below meth c σ H locs (tw_E below G (tw_Qv G Q) X args s R) (F0 m 99 ls [])) (l0 : Option Nat) (l1 : Option Nat) (l3 : Option Nat) (l5 : Option Nat) (l6 : Option Nat) (l7 : Option Nat) (l8 : Int32) (l9 : Int32) (σ : Tst) (H : Heap) (locs : List Loc) (ls : Array Slot) (hw : w_X4_pairs_b311 rf_X4_pairs k99 Q X l0 l1 l3 l5 l6 l7 l8 l9 σ) (hR : tw_R G σ H) (hS : va_S (tw_A G) s.heap H locs) (hl : tw_l ls 11 [(0, .inr l0), (1, .inr l1), (3, .inr l3), (5, .inr l5), (6, .inr l6), (7, .inr l7), (8, .inl l8), (9, .inl l9)]) : tw_W p l e R s m args below meth c σ H locs (tw_E below G (tw_Qv G Q) X args s R) (F0 m 311 ls []) := by
  unfold w_X4_pairs_b311 at hw
  refine lv_goto (tgt := 99) C.hx C.hb dX4_pairs_311 (by decide) ?_
  exact hk99 _ _ _ _ _ _ _ _ σ _ _ _ hw hR hS (tk_sub hl [0, 1, 2, 3, 4, 5, 6, 7] rfl)
set_option maxHeartbeats 4000000 in
theorem wk_X4_pairs_b296 {rf_X4_pairs : (Option Nat) → (Option Nat) → Int32 → (Option Nat) → Int32 → (Tst → Prop) → (String → Nat → Tst → Prop) → Tst → Prop} {frf_X4_pairs : Nat}  (C : tw_C p l R s m args meth c G cX4_pairs 11 yX4_pairs.cls) (hr : meth.sig.returnType = none) (hmn : meth.name = yX4_pairs.name) (hnx : (∀ x ∈ c.exceptionTable.toList, False)) (hfr : 3 ≤ R.frames ∧ frf_X4_pairs + 1 ≤ R.frames) (hRl : R.locals = 40 * R.frames) {Q : Tst → Prop} {X : String → Nat → Tst → Prop} (hrf_X4_pairs : ∀ fr : Nat, frf_X4_pairs ≤ fr → ∀ (a0 : Option Nat) (a1 : Option Nat) (a2 : Int32) (a3 : Option Nat) (a4 : Int32) (Q : Tst → Prop) (X : String → Nat → Tst → Prop) (σ : Tst), rf_X4_pairs a0 a1 a2 a3 a4 Q X σ → tw_M l yX4_pairs (ws_ yX4_pairs cX4_pairs 11 none) fr (40 * fr) G σ [.inr a0, .inr a1, .inl a2, .inr a3, .inl a4] (tw_Qv G Q) X) {k99 : Option Nat → Option Nat → Option Nat → Option Nat → Option Nat → Option Nat → Int32 → Int32 → Tst → Prop} (hk99 : ∀ (l0 : Option Nat) (l1 : Option Nat) (l3 : Option Nat) (l5 : Option Nat) (l6 : Option Nat) (l7 : Option Nat) (l8 : Int32) (l9 : Int32) (σ : Tst) (H : Heap) (locs : List Loc) (ls : Array Slot), k99 l0 l1 l3 l5 l6 l7 l8 l9 σ → tw_R G σ H → va_S (tw_A G) s.heap H locs → tw_l ls 11 [(0, .inr l0), (1, .inr l1), (3, .inr l3), (5, .inr l5), (6, .inr l6), (7, .inr l7), (8, .inl l8), (9, .inl l9)] → tw_W p l e R s m args below meth c σ H locs (tw_E below G (tw_Qv G Q) X args s R) (F0 m 99 ls [])) (l0 : Option Nat) (l1 : Option Nat) (l3 : Option Nat) (l5 : Option Nat) (l6 : Option Nat) (l7 : Option Nat) (l8 : Int32) (l9 : Int32) (σ : Tst) (H : Heap) (locs : List Loc) (ls : Array Slot) (hw : w_X4_pairs_b296 rf_X4_pairs k99 Q X l0 l1 l3 l5 l6 l7 l8 l9 σ) (hR : tw_R G σ H) (hS : va_S (tw_A G) s.heap H locs) (hl : tw_l ls 11 [(0, .inr l0), (1, .inr l1), (3, .inr l3), (5, .inr l5), (6, .inr l6), (7, .inr l7), (8, .inl l8), (9, .inl l9)]) : tw_W p l e R s m args below meth c σ H locs (tw_E below G (tw_Qv G Q) X args s R) (F0 m 296 ls []) := by
  unfold w_X4_pairs_b296 at hw
  refine tk_aload_n C hl 0 dX4_pairs_296 rfl ?_
  refine lv_bipush (v := 105) C.hx C.hb dX4_pairs_297 (by decide) ?_
  refine lv_iconst (v := (-1)) C.hx C.hb dX4_pairs_299 (by decide) ?_
  refine tk_aload C hl 4 dX4_pairs_300 rfl ?_
  refine tk_iload C hl 7 dX4_pairs_302 rfl ?_
  refine tk_li C hR hw dX4_pairs_304 (fun x1 hw => ?_)
  obtain ⟨hv, hw⟩ := hw
  refine tw_cbv C hS (tk_runV (As := [.inl 105, .inl (-1), .inl x1]) C hR hS (wk_X4_notes l C.hst G (R.frames - 1) (by omega) _ _ _ _ _ _ σ hw) hv rfl q2386 q2388 qs46 q74 q2389 pd_X4_notes ⟨by omega, by omega⟩ hl.1 rfl (tw_r8 [] (Nat.le_of_ble_eq_true rfl)) dX4_pairs_305) (fun E q σ H locs hX hR hS hi => tw_out C hR hS (fun x hx => (hnx x hx).elim) hi hX) (fun σ H locs hw hR hS => ?_)
  refine tk_iinc (L' := [(9, .inl (l9 + 1)), (0, .inr l0), (1, .inr l1), (3, .inr l3), (5, .inr l5), (6, .inr l6), (7, .inr l7), (8, .inl l8)]) (y := (l9 + 1)) C hl 7 dX4_pairs_308 rfl rfl (by decide) rfl (fun ls hl => ?_)
  exact wk_X4_pairs_b311 C hr hmn hnx hfr hRl hrf_X4_pairs hk99 _ _ _ _ _ _ _ _ σ _ _ _ hw hR hS (tk_sub hl [1, 2, 3, 4, 5, 6, 7, 0] rfl)
set_option maxHeartbeats 4000000 in
theorem wk_X4_pairs_b231 {rf_X4_pairs : (Option Nat) → (Option Nat) → Int32 → (Option Nat) → Int32 → (Tst → Prop) → (String → Nat → Tst → Prop) → Tst → Prop} {frf_X4_pairs : Nat}  (C : tw_C p l R s m args meth c G cX4_pairs 11 yX4_pairs.cls) (hr : meth.sig.returnType = none) (hmn : meth.name = yX4_pairs.name) (hnx : (∀ x ∈ c.exceptionTable.toList, False)) (hfr : 3 ≤ R.frames ∧ frf_X4_pairs + 1 ≤ R.frames) (hRl : R.locals = 40 * R.frames) {Q : Tst → Prop} {X : String → Nat → Tst → Prop} (hrf_X4_pairs : ∀ fr : Nat, frf_X4_pairs ≤ fr → ∀ (a0 : Option Nat) (a1 : Option Nat) (a2 : Int32) (a3 : Option Nat) (a4 : Int32) (Q : Tst → Prop) (X : String → Nat → Tst → Prop) (σ : Tst), rf_X4_pairs a0 a1 a2 a3 a4 Q X σ → tw_M l yX4_pairs (ws_ yX4_pairs cX4_pairs 11 none) fr (40 * fr) G σ [.inr a0, .inr a1, .inl a2, .inr a3, .inl a4] (tw_Qv G Q) X) {k99 : Option Nat → Option Nat → Option Nat → Option Nat → Option Nat → Option Nat → Int32 → Int32 → Tst → Prop} (hk99 : ∀ (l0 : Option Nat) (l1 : Option Nat) (l3 : Option Nat) (l5 : Option Nat) (l6 : Option Nat) (l7 : Option Nat) (l8 : Int32) (l9 : Int32) (σ : Tst) (H : Heap) (locs : List Loc) (ls : Array Slot), k99 l0 l1 l3 l5 l6 l7 l8 l9 σ → tw_R G σ H → va_S (tw_A G) s.heap H locs → tw_l ls 11 [(0, .inr l0), (1, .inr l1), (3, .inr l3), (5, .inr l5), (6, .inr l6), (7, .inr l7), (8, .inl l8), (9, .inl l9)] → tw_W p l e R s m args below meth c σ H locs (tw_E below G (tw_Qv G Q) X args s R) (F0 m 99 ls [])) (l0 : Option Nat) (l1 : Option Nat) (l3 : Option Nat) (l5 : Option Nat) (l6 : Option Nat) (l7 : Option Nat) (l8 : Int32) (l9 : Int32) (σ : Tst) (H : Heap) (locs : List Loc) (ls : Array Slot) (hw : w_X4_pairs_b231 rf_X4_pairs k99 Q X l0 l1 l3 l5 l6 l7 l8 l9 σ) (hR : tw_R G σ H) (hS : va_S (tw_A G) s.heap H locs) (hl : tw_l ls 11 [(0, .inr l0), (1, .inr l1), (3, .inr l3), (5, .inr l5), (6, .inr l6), (7, .inr l7), (8, .inl l8), (9, .inl l9)]) : tw_W p l e R s m args below meth c σ H locs (tw_E below G (tw_Qv G Q) X args s R) (F0 m 231 ls []) := by
  unfold w_X4_pairs_b231 at hw
  refine tk_iload C hl 6 dX4_pairs_231 rfl ?_
  refine tk_aload C hl 3 dX4_pairs_233 rfl ?_
  refine tk_al C hR hw dX4_pairs_235 (fun x1 hw => ?_)
  refine lv_icmp_ge (tgt := 296) C.hx C.hb dX4_pairs_236 (by decide) (fun c236 => ?_) (fun c236 => ?_)
  · replace hw := hw.1 c236
    exact wk_X4_pairs_b296 C hr hmn hnx hfr hRl hrf_X4_pairs hk99 _ _ _ _ _ _ _ _ σ _ _ _ hw hR hS (tk_sub hl [0, 1, 2, 3, 4, 5, 6, 7] rfl)
  · replace hw := hw.2 c236
    refine lv_iconst (v := 2) C.hx C.hb dX4_pairs_239 (by decide) ?_
    refine tk_aload_n C hl 1 dX4_pairs_240 rfl ?_
    refine tk_aload C hl 3 dX4_pairs_241 rfl ?_
    refine tk_iload C hl 6 dX4_pairs_243 rfl ?_
    refine tk_li C hR hw dX4_pairs_245 (fun x2 hw => ?_)
    obtain ⟨hv, hw⟩ := hw
    refine tw_cbi C hS (tk_runVN (As := [.inl x2]) C hR hS (wk_X5_end l C.hst G (R.frames - 1) (by omega) _ _ _ _ σ hw) hv rfl q2262 q2264 qs37 q75 q2265 pd_X5_end ⟨by omega, by omega⟩ hl.1 rfl (tw_r8 [.inl 2] (Nat.le_of_ble_eq_true rfl)) dX4_pairs_246) (fun E q σ H locs hX hR hS hi => tw_out C hR hS (fun x hx => (hnx x hx).elim) hi hX) (fun x3 σ H locs hw hR hS => ?_)
    refine tk_aload C hl 3 dX4_pairs_249 rfl ?_
    refine tk_iload C hl 6 dX4_pairs_251 rfl ?_
    refine tk_li C hR hw dX4_pairs_253 (fun x4 hw => ?_)
    refine lv_isub C.hx C.hb dX4_pairs_254 ?_
    refine lv_imul C.hx C.hb dX4_pairs_255 ?_
    refine tk_aload C hl 5 dX4_pairs_256 rfl ?_
    refine tk_iload C hl 6 dX4_pairs_258 rfl ?_
    refine lv_iconst (v := 1) C.hx C.hb dX4_pairs_260 (by decide) ?_
    refine lv_iadd C.hx C.hb dX4_pairs_261 ?_
    refine tk_lr C hR hw dX4_pairs_262 (fun x5 hw => ?_)
    refine tk_iload C hl 7 dX4_pairs_263 rfl ?_
    refine tk_li C hR hw dX4_pairs_265 (fun x6 hw => ?_)
    refine lv_iadd C.hx C.hb dX4_pairs_266 ?_
    refine tk_aload C hl 5 dX4_pairs_267 rfl ?_
    refine tk_iload C hl 6 dX4_pairs_269 rfl ?_
    refine tk_lr C hR hw dX4_pairs_271 (fun x7 hw => ?_)
    refine tk_iload C hl 7 dX4_pairs_272 rfl ?_
    refine tk_li C hR hw dX4_pairs_274 (fun x8 hw => ?_)
    refine lv_icmp_ne (tgt := 296) C.hx C.hb dX4_pairs_275 (by decide) (fun c275 => ?_) (fun c275 => ?_)
    · replace hw := hw.2 c275
      exact wk_X4_pairs_b296 C hr hmn hnx hfr hRl hrf_X4_pairs hk99 _ _ _ _ _ _ _ _ σ _ _ _ hw hR hS (tk_sub hl [0, 1, 2, 3, 4, 5, 6, 7] rfl)
    · replace hw := hw.1 c275
      refine tk_aload_n C hl 0 dX4_pairs_278 rfl ?_
      refine lv_bipush (v := 100) C.hx C.hb dX4_pairs_279 (by decide) ?_
      refine tk_aload C hl 3 dX4_pairs_281 rfl ?_
      refine tk_iload C hl 6 dX4_pairs_283 rfl ?_
      refine tk_li C hR hw dX4_pairs_285 (fun x9 hw => ?_)
      refine lv_iconst (v := (-1)) C.hx C.hb dX4_pairs_286 (by decide) ?_
      obtain ⟨hv, hw⟩ := hw
      refine tw_cbv C hS (tk_runV (As := [.inl 100, .inl x9, .inl (-1)]) C hR hS (wk_X4_notes l C.hst G (R.frames - 1) (by omega) _ _ _ _ _ _ σ hw) hv rfl q2386 q2388 qs46 q74 q2389 pd_X4_notes ⟨by omega, by omega⟩ hl.1 rfl (tw_r8 [] (Nat.le_of_ble_eq_true rfl)) dX4_pairs_287) (fun E q σ H locs hX hR hS hi => tw_out C hR hS (fun x hx => (hnx x hx).elim) hi hX) (fun σ H locs hw hR hS => ?_)
      refine tk_iinc (L' := [(8, .inl (l8 + 1)), (0, .inr l0), (1, .inr l1), (3, .inr l3), (5, .inr l5), (6, .inr l6), (7, .inr l7), (9, .inl l9)]) (y := (l8 + 1)) C hl 6 dX4_pairs_290 rfl rfl (by decide) rfl (fun ls hl => ?_)
      refine lv_goto (tgt := 311) C.hx C.hb dX4_pairs_293 (by decide) ?_
      exact wk_X4_pairs_b311 C hr hmn hnx hfr hRl hrf_X4_pairs hk99 _ _ _ _ _ _ _ _ σ _ _ _ hw hR hS (tk_sub hl [1, 2, 3, 4, 5, 6, 0, 7] rfl)
set_option maxHeartbeats 4000000 in
theorem wk_X4_pairs_b136 {rf_X4_pairs : (Option Nat) → (Option Nat) → Int32 → (Option Nat) → Int32 → (Tst → Prop) → (String → Nat → Tst → Prop) → Tst → Prop} {frf_X4_pairs : Nat}  (C : tw_C p l R s m args meth c G cX4_pairs 11 yX4_pairs.cls) (hr : meth.sig.returnType = none) (hmn : meth.name = yX4_pairs.name) (hnx : (∀ x ∈ c.exceptionTable.toList, False)) (hfr : 3 ≤ R.frames ∧ frf_X4_pairs + 1 ≤ R.frames) (hRl : R.locals = 40 * R.frames) {Q : Tst → Prop} {X : String → Nat → Tst → Prop} (hrf_X4_pairs : ∀ fr : Nat, frf_X4_pairs ≤ fr → ∀ (a0 : Option Nat) (a1 : Option Nat) (a2 : Int32) (a3 : Option Nat) (a4 : Int32) (Q : Tst → Prop) (X : String → Nat → Tst → Prop) (σ : Tst), rf_X4_pairs a0 a1 a2 a3 a4 Q X σ → tw_M l yX4_pairs (ws_ yX4_pairs cX4_pairs 11 none) fr (40 * fr) G σ [.inr a0, .inr a1, .inl a2, .inr a3, .inl a4] (tw_Qv G Q) X) {k99 : Option Nat → Option Nat → Option Nat → Option Nat → Option Nat → Option Nat → Int32 → Int32 → Tst → Prop} (hk99 : ∀ (l0 : Option Nat) (l1 : Option Nat) (l3 : Option Nat) (l5 : Option Nat) (l6 : Option Nat) (l7 : Option Nat) (l8 : Int32) (l9 : Int32) (σ : Tst) (H : Heap) (locs : List Loc) (ls : Array Slot), k99 l0 l1 l3 l5 l6 l7 l8 l9 σ → tw_R G σ H → va_S (tw_A G) s.heap H locs → tw_l ls 11 [(0, .inr l0), (1, .inr l1), (3, .inr l3), (5, .inr l5), (6, .inr l6), (7, .inr l7), (8, .inl l8), (9, .inl l9)] → tw_W p l e R s m args below meth c σ H locs (tw_E below G (tw_Qv G Q) X args s R) (F0 m 99 ls [])) (l0 : Option Nat) (l1 : Option Nat) (l3 : Option Nat) (l5 : Option Nat) (l6 : Option Nat) (l7 : Option Nat) (l8 : Int32) (l9 : Int32) (s0 : Int32) (σ : Tst) (H : Heap) (locs : List Loc) (ls : Array Slot) (hw : w_X4_pairs_b136 rf_X4_pairs k99 Q X l0 l1 l3 l5 l6 l7 l8 l9 s0 σ) (hR : tw_R G σ H) (hS : va_S (tw_A G) s.heap H locs) (hl : tw_l ls 11 [(0, .inr l0), (1, .inr l1), (3, .inr l3), (5, .inr l5), (6, .inr l6), (7, .inr l7), (8, .inl l8), (9, .inl l9)]) : tw_W p l e R s m args below meth c σ H locs (tw_E below G (tw_Qv G Q) X args s R) (F0 m 136 ls [.int s0]) := by
  unfold w_X4_pairs_b136 at hw
  refine tk_istore (L' := [(10, .inl s0), (0, .inr l0), (1, .inr l1), (3, .inr l3), (5, .inr l5), (6, .inr l6), (7, .inr l7), (8, .inl l8), (9, .inl l9)]) C hl dX4_pairs_136 (by decide) rfl (fun ls hl => ?_)
  refine tk_iload C hl 0 dX4_pairs_138 rfl ?_
  refine lv_if_eq (tgt := 231) C.hx C.hb dX4_pairs_140 (by decide) (fun c140 => ?_) (fun c140 => ?_)
  · replace hw := hw.1 c140
    exact wk_X4_pairs_b231 C hr hmn hnx hfr hRl hrf_X4_pairs hk99 _ _ _ _ _ _ _ _ σ _ _ _ hw hR hS (tk_sub hl [1, 2, 3, 4, 5, 6, 7, 8] rfl)
  · replace hw := hw.2 c140
    refine tk_aload_n C hl 2 dX4_pairs_143 rfl ?_
    refine tk_grN C hR hw rfl in_X5 (by decide) q2021 (fun _ h => h) dX4_pairs_144 (fun x1 hw => ?_)
    refine tk_aload C hl 4 dX4_pairs_147 rfl ?_
    refine tk_iload C hl 7 dX4_pairs_149 rfl ?_
    refine tk_li C hR hw dX4_pairs_151 (fun x2 hw => ?_)
    refine tk_li C hR hw dX4_pairs_152 (fun x3 hw => ?_)
    refine tk_aload_n C hl 3 dX4_pairs_153 rfl ?_
    refine tk_grN C hR hw rfl in_X5 (by decide) q2021 (fun _ h => h) dX4_pairs_154 (fun x4 hw => ?_)
    refine tk_aload C hl 5 dX4_pairs_157 rfl ?_
    refine tk_iload C hl 8 dX4_pairs_159 rfl ?_
    refine tk_li C hR hw dX4_pairs_161 (fun x5 hw => ?_)
    refine tk_li C hR hw dX4_pairs_162 (fun x6 hw => ?_)
    refine lv_icmp_ne (tgt := 231) C.hx C.hb dX4_pairs_163 (by decide) (fun c163 => ?_) (fun c163 => ?_)
    · replace hw := hw.2 c163
      exact wk_X4_pairs_b231 C hr hmn hnx hfr hRl hrf_X4_pairs hk99 _ _ _ _ _ _ _ _ σ _ _ _ hw hR hS (tk_sub hl [1, 2, 3, 4, 5, 6, 7, 8] rfl)
    · replace hw := hw.1 c163
      refine tk_aload_n C hl 1 dX4_pairs_166 rfl ?_
      refine tk_gr C hR hw rfl in_X4 (by decide) q2061 (fun _ h => h) dX4_pairs_167 (fun x7 hw => ?_)
      refine tk_aload C hl 4 dX4_pairs_170 rfl ?_
      refine tk_iload C hl 7 dX4_pairs_172 rfl ?_
      refine tk_li C hR hw dX4_pairs_174 (fun x8 hw => ?_)
      refine tk_lr C hR hw dX4_pairs_175 (fun x9 hw => ?_)
      refine tk_aload C hl 5 dX4_pairs_176 rfl ?_
      refine tk_iload C hl 8 dX4_pairs_178 rfl ?_
      refine tk_li C hR hw dX4_pairs_180 (fun x10 hw => ?_)
      refine tk_li C hR hw dX4_pairs_181 (fun x11 hw => ?_)
      refine tk_aload C hl 6 dX4_pairs_182 rfl ?_
      refine tk_iload C hl 7 dX4_pairs_184 rfl ?_
      refine lv_iconst (v := 1) C.hx C.hb dX4_pairs_186 (by decide) ?_
      refine lv_iadd C.hx C.hb dX4_pairs_187 ?_
      refine tk_lr C hR hw dX4_pairs_188 (fun x12 hw => ?_)
      refine tk_iload C hl 8 dX4_pairs_189 rfl ?_
      refine lv_iconst (v := 1) C.hx C.hb dX4_pairs_191 (by decide) ?_
      refine lv_iadd C.hx C.hb dX4_pairs_192 ?_
      refine tk_li C hR hw dX4_pairs_193 (fun x13 hw => ?_)
      refine lv_iadd C.hx C.hb dX4_pairs_194 ?_
      refine tk_aload C hl 6 dX4_pairs_195 rfl ?_
      refine tk_iload C hl 7 dX4_pairs_197 rfl ?_
      refine tk_lr C hR hw dX4_pairs_199 (fun x14 hw => ?_)
      refine tk_iload C hl 8 dX4_pairs_200 rfl ?_
      refine tk_li C hR hw dX4_pairs_202 (fun x15 hw => ?_)
      refine lv_icmp_ne (tgt := 231) C.hx C.hb dX4_pairs_203 (by decide) (fun c203 => ?_) (fun c203 => ?_)
      · replace hw := hw.2 c203
        exact wk_X4_pairs_b231 C hr hmn hnx hfr hRl hrf_X4_pairs hk99 _ _ _ _ _ _ _ _ σ _ _ _ hw hR hS (tk_sub hl [1, 2, 3, 4, 5, 6, 7, 8] rfl)
      · replace hw := hw.1 c203
        refine tk_aload_n C hl 1 dX4_pairs_206 rfl ?_
        refine tk_aload_n C hl 2 dX4_pairs_207 rfl ?_
        refine tk_aload C hl 4 dX4_pairs_208 rfl ?_
        refine tk_iload C hl 7 dX4_pairs_210 rfl ?_
        refine tk_li C hR hw dX4_pairs_212 (fun x16 hw => ?_)
        refine tk_aload_n C hl 3 dX4_pairs_213 rfl ?_
        refine tk_aload C hl 5 dX4_pairs_214 rfl ?_
        refine tk_iload C hl 8 dX4_pairs_216 rfl ?_
        refine tk_li C hR hw dX4_pairs_218 (fun x17 hw => ?_)
        obtain ⟨hv, hw⟩ := hw
        refine tw_cbv C hS (tk_runV (As := [.inr l1, .inl x16, .inr l3, .inl x17]) C hR hS (hrf_X4_pairs (R.frames - 1) (by omega) _ _ _ _ _ _ _ σ hw) hv rfl q2382 q2384 qs45 q74 q2385 pd_X4_pairs ⟨by omega, by omega⟩ hl.1 rfl (tw_r8 [] (Nat.le_of_ble_eq_true rfl)) dX4_pairs_219) (fun E q σ H locs hX hR hS hi => tw_out C hR hS (fun x hx => (hnx x hx).elim) hi hX) (fun σ H locs hw hR hS => ?_)
        refine tk_iinc (L' := [(8, .inl (l8 + 1)), (10, .inl s0), (0, .inr l0), (1, .inr l1), (3, .inr l3), (5, .inr l5), (6, .inr l6), (7, .inr l7), (9, .inl l9)]) (y := (l8 + 1)) C hl 7 dX4_pairs_222 rfl rfl (by decide) rfl (fun ls hl => ?_)
        refine tk_iinc (L' := [(9, .inl (l9 + 1)), (8, .inl (l8 + 1)), (10, .inl s0), (0, .inr l0), (1, .inr l1), (3, .inr l3), (5, .inr l5), (6, .inr l6), (7, .inr l7)]) (y := (l9 + 1)) C hl 8 dX4_pairs_225 rfl rfl (by decide) rfl (fun ls hl => ?_)
        refine lv_goto (tgt := 311) C.hx C.hb dX4_pairs_228 (by decide) ?_
        exact wk_X4_pairs_b311 C hr hmn hnx hfr hRl hrf_X4_pairs hk99 _ _ _ _ _ _ _ _ σ _ _ _ hw hR hS (tk_sub hl [3, 4, 5, 6, 7, 8, 1, 0] rfl)
set_option maxHeartbeats 4000000 in
theorem wk_X4_pairs_b135 {rf_X4_pairs : (Option Nat) → (Option Nat) → Int32 → (Option Nat) → Int32 → (Tst → Prop) → (String → Nat → Tst → Prop) → Tst → Prop} {frf_X4_pairs : Nat}  (C : tw_C p l R s m args meth c G cX4_pairs 11 yX4_pairs.cls) (hr : meth.sig.returnType = none) (hmn : meth.name = yX4_pairs.name) (hnx : (∀ x ∈ c.exceptionTable.toList, False)) (hfr : 3 ≤ R.frames ∧ frf_X4_pairs + 1 ≤ R.frames) (hRl : R.locals = 40 * R.frames) {Q : Tst → Prop} {X : String → Nat → Tst → Prop} (hrf_X4_pairs : ∀ fr : Nat, frf_X4_pairs ≤ fr → ∀ (a0 : Option Nat) (a1 : Option Nat) (a2 : Int32) (a3 : Option Nat) (a4 : Int32) (Q : Tst → Prop) (X : String → Nat → Tst → Prop) (σ : Tst), rf_X4_pairs a0 a1 a2 a3 a4 Q X σ → tw_M l yX4_pairs (ws_ yX4_pairs cX4_pairs 11 none) fr (40 * fr) G σ [.inr a0, .inr a1, .inl a2, .inr a3, .inl a4] (tw_Qv G Q) X) {k99 : Option Nat → Option Nat → Option Nat → Option Nat → Option Nat → Option Nat → Int32 → Int32 → Tst → Prop} (hk99 : ∀ (l0 : Option Nat) (l1 : Option Nat) (l3 : Option Nat) (l5 : Option Nat) (l6 : Option Nat) (l7 : Option Nat) (l8 : Int32) (l9 : Int32) (σ : Tst) (H : Heap) (locs : List Loc) (ls : Array Slot), k99 l0 l1 l3 l5 l6 l7 l8 l9 σ → tw_R G σ H → va_S (tw_A G) s.heap H locs → tw_l ls 11 [(0, .inr l0), (1, .inr l1), (3, .inr l3), (5, .inr l5), (6, .inr l6), (7, .inr l7), (8, .inl l8), (9, .inl l9)] → tw_W p l e R s m args below meth c σ H locs (tw_E below G (tw_Qv G Q) X args s R) (F0 m 99 ls [])) (l0 : Option Nat) (l1 : Option Nat) (l3 : Option Nat) (l5 : Option Nat) (l6 : Option Nat) (l7 : Option Nat) (l8 : Int32) (l9 : Int32) (σ : Tst) (H : Heap) (locs : List Loc) (ls : Array Slot) (hw : w_X4_pairs_b135 rf_X4_pairs k99 Q X l0 l1 l3 l5 l6 l7 l8 l9 σ) (hR : tw_R G σ H) (hS : va_S (tw_A G) s.heap H locs) (hl : tw_l ls 11 [(0, .inr l0), (1, .inr l1), (3, .inr l3), (5, .inr l5), (6, .inr l6), (7, .inr l7), (8, .inl l8), (9, .inl l9)]) : tw_W p l e R s m args below meth c σ H locs (tw_E below G (tw_Qv G Q) X args s R) (F0 m 135 ls []) := by
  unfold w_X4_pairs_b135 at hw
  refine lv_iconst (v := 0) C.hx C.hb dX4_pairs_135 (by decide) ?_
  exact wk_X4_pairs_b136 C hr hmn hnx hfr hRl hrf_X4_pairs hk99 _ _ _ _ _ _ _ _ _ σ _ _ _ hw hR hS (tk_sub hl [0, 1, 2, 3, 4, 5, 6, 7] rfl)
set_option maxHeartbeats 4000000 in
theorem wk_X4_pairs_b115 {rf_X4_pairs : (Option Nat) → (Option Nat) → Int32 → (Option Nat) → Int32 → (Tst → Prop) → (String → Nat → Tst → Prop) → Tst → Prop} {frf_X4_pairs : Nat}  (C : tw_C p l R s m args meth c G cX4_pairs 11 yX4_pairs.cls) (hr : meth.sig.returnType = none) (hmn : meth.name = yX4_pairs.name) (hnx : (∀ x ∈ c.exceptionTable.toList, False)) (hfr : 3 ≤ R.frames ∧ frf_X4_pairs + 1 ≤ R.frames) (hRl : R.locals = 40 * R.frames) {Q : Tst → Prop} {X : String → Nat → Tst → Prop} (hrf_X4_pairs : ∀ fr : Nat, frf_X4_pairs ≤ fr → ∀ (a0 : Option Nat) (a1 : Option Nat) (a2 : Int32) (a3 : Option Nat) (a4 : Int32) (Q : Tst → Prop) (X : String → Nat → Tst → Prop) (σ : Tst), rf_X4_pairs a0 a1 a2 a3 a4 Q X σ → tw_M l yX4_pairs (ws_ yX4_pairs cX4_pairs 11 none) fr (40 * fr) G σ [.inr a0, .inr a1, .inl a2, .inr a3, .inl a4] (tw_Qv G Q) X) {k99 : Option Nat → Option Nat → Option Nat → Option Nat → Option Nat → Option Nat → Int32 → Int32 → Tst → Prop} (hk99 : ∀ (l0 : Option Nat) (l1 : Option Nat) (l3 : Option Nat) (l5 : Option Nat) (l6 : Option Nat) (l7 : Option Nat) (l8 : Int32) (l9 : Int32) (σ : Tst) (H : Heap) (locs : List Loc) (ls : Array Slot), k99 l0 l1 l3 l5 l6 l7 l8 l9 σ → tw_R G σ H → va_S (tw_A G) s.heap H locs → tw_l ls 11 [(0, .inr l0), (1, .inr l1), (3, .inr l3), (5, .inr l5), (6, .inr l6), (7, .inr l7), (8, .inl l8), (9, .inl l9)] → tw_W p l e R s m args below meth c σ H locs (tw_E below G (tw_Qv G Q) X args s R) (F0 m 99 ls [])) (l0 : Option Nat) (l1 : Option Nat) (l3 : Option Nat) (l5 : Option Nat) (l6 : Option Nat) (l7 : Option Nat) (l8 : Int32) (l9 : Int32) (σ : Tst) (H : Heap) (locs : List Loc) (ls : Array Slot) (hw : w_X4_pairs_b115 rf_X4_pairs k99 Q X l0 l1 l3 l5 l6 l7 l8 l9 σ) (hR : tw_R G σ H) (hS : va_S (tw_A G) s.heap H locs) (hl : tw_l ls 11 [(0, .inr l0), (1, .inr l1), (3, .inr l3), (5, .inr l5), (6, .inr l6), (7, .inr l7), (8, .inl l8), (9, .inl l9)]) : tw_W p l e R s m args below meth c σ H locs (tw_E below G (tw_Qv G Q) X args s R) (F0 m 115 ls []) := by
  unfold w_X4_pairs_b115 at hw
  refine tk_iload C hl 6 dX4_pairs_115 rfl ?_
  refine tk_aload C hl 3 dX4_pairs_117 rfl ?_
  refine tk_al C hR hw dX4_pairs_119 (fun x1 hw => ?_)
  refine lv_icmp_ge (tgt := 135) C.hx C.hb dX4_pairs_120 (by decide) (fun c120 => ?_) (fun c120 => ?_)
  · replace hw := hw.1 c120
    exact wk_X4_pairs_b135 C hr hmn hnx hfr hRl hrf_X4_pairs hk99 _ _ _ _ _ _ _ _ σ _ _ _ hw hR hS (tk_sub hl [0, 1, 2, 3, 4, 5, 6, 7] rfl)
  · replace hw := hw.2 c120
    refine tk_iload C hl 7 dX4_pairs_123 rfl ?_
    refine tk_aload C hl 4 dX4_pairs_125 rfl ?_
    refine tk_al C hR hw dX4_pairs_127 (fun x2 hw => ?_)
    refine lv_icmp_ge (tgt := 135) C.hx C.hb dX4_pairs_128 (by decide) (fun c128 => ?_) (fun c128 => ?_)
    · replace hw := hw.1 c128
      exact wk_X4_pairs_b135 C hr hmn hnx hfr hRl hrf_X4_pairs hk99 _ _ _ _ _ _ _ _ σ _ _ _ hw hR hS (tk_sub hl [0, 1, 2, 3, 4, 5, 6, 7] rfl)
    · replace hw := hw.2 c128
      refine lv_iconst (v := 1) C.hx C.hb dX4_pairs_131 (by decide) ?_
      refine lv_goto (tgt := 136) C.hx C.hb dX4_pairs_132 (by decide) ?_
      exact wk_X4_pairs_b136 C hr hmn hnx hfr hRl hrf_X4_pairs hk99 _ _ _ _ _ _ _ _ _ σ _ _ _ hw hR hS (tk_sub hl [0, 1, 2, 3, 4, 5, 6, 7] rfl)
set_option maxHeartbeats 4000000 in
theorem wk_X4_pairs_b99 {rf_X4_pairs : (Option Nat) → (Option Nat) → Int32 → (Option Nat) → Int32 → (Tst → Prop) → (String → Nat → Tst → Prop) → Tst → Prop} {frf_X4_pairs : Nat}  (C : tw_C p l R s m args meth c G cX4_pairs 11 yX4_pairs.cls) (hr : meth.sig.returnType = none) (hmn : meth.name = yX4_pairs.name) (hnx : (∀ x ∈ c.exceptionTable.toList, False)) (hfr : 3 ≤ R.frames ∧ frf_X4_pairs + 1 ≤ R.frames) (hRl : R.locals = 40 * R.frames) {Q : Tst → Prop} {X : String → Nat → Tst → Prop} (hrf_X4_pairs : ∀ fr : Nat, frf_X4_pairs ≤ fr → ∀ (a0 : Option Nat) (a1 : Option Nat) (a2 : Int32) (a3 : Option Nat) (a4 : Int32) (Q : Tst → Prop) (X : String → Nat → Tst → Prop) (σ : Tst), rf_X4_pairs a0 a1 a2 a3 a4 Q X σ → tw_M l yX4_pairs (ws_ yX4_pairs cX4_pairs 11 none) fr (40 * fr) G σ [.inr a0, .inr a1, .inl a2, .inr a3, .inl a4] (tw_Qv G Q) X) : ∀ (n : Nat) (l0 : Option Nat) (l1 : Option Nat) (l3 : Option Nat) (l5 : Option Nat) (l6 : Option Nat) (l7 : Option Nat) (l8 : Int32) (l9 : Int32) (σ : Tst) (H : Heap) (locs : List Loc) (ls : Array Slot), w_X4_pairs_b99 rf_X4_pairs Q X n l0 l1 l3 l5 l6 l7 l8 l9 σ → tw_R G σ H → va_S (tw_A G) s.heap H locs → tw_l ls 11 [(0, .inr l0), (1, .inr l1), (3, .inr l3), (5, .inr l5), (6, .inr l6), (7, .inr l7), (8, .inl l8), (9, .inl l9)] → tw_W p l e R s m args below meth c σ H locs (tw_E below G (tw_Qv G Q) X args s R) (F0 m 99 ls []) := by
  intro n
  induction n with
  | zero => intro l0 l1 l3 l5 l6 l7 l8 l9 σ H locs ls hw; exact False.elim hw
  | succ n hk99 =>
    intro l0 l1 l3 l5 l6 l7 l8 l9 σ H locs ls hw hR hS hl
    rw [w_X4_pairs_b99] at hw
    refine tk_iload C hl 6 dX4_pairs_99 rfl ?_
    refine tk_aload C hl 3 dX4_pairs_101 rfl ?_
    refine tk_al C hR hw dX4_pairs_103 (fun x1 hw => ?_)
    refine lv_icmp_lt (tgt := 115) C.hx C.hb dX4_pairs_104 (by decide) (fun c104 => ?_) (fun c104 => ?_)
    · replace hw := hw.1 c104
      exact wk_X4_pairs_b115 C hr hmn hnx hfr hRl hrf_X4_pairs hk99 _ _ _ _ _ _ _ _ σ _ _ _ hw hR hS (tk_sub hl [0, 1, 2, 3, 4, 5, 6, 7] rfl)
    · replace hw := hw.2 c104
      refine tk_iload C hl 7 dX4_pairs_107 rfl ?_
      refine tk_aload C hl 4 dX4_pairs_109 rfl ?_
      refine tk_al C hR hw dX4_pairs_111 (fun x2 hw => ?_)
      refine lv_icmp_ge (tgt := 314) C.hx C.hb dX4_pairs_112 (by decide) (fun c112 => ?_) (fun c112 => ?_)
      · replace hw := hw.1 c112
        exact tw_vret C hR hS hr dX4_pairs_314 hw
      · replace hw := hw.2 c112
        exact wk_X4_pairs_b115 C hr hmn hnx hfr hRl hrf_X4_pairs hk99 _ _ _ _ _ _ _ _ σ _ _ _ hw hR hS (tk_sub hl [0, 1, 2, 3, 4, 5, 6, 7] rfl)
set_option maxHeartbeats 4000000 in
theorem wk_X4_pairs_b66 {rf_X4_pairs : (Option Nat) → (Option Nat) → Int32 → (Option Nat) → Int32 → (Tst → Prop) → (String → Nat → Tst → Prop) → Tst → Prop} {frf_X4_pairs : Nat}  (C : tw_C p l R s m args meth c G cX4_pairs 11 yX4_pairs.cls) (hr : meth.sig.returnType = none) (hmn : meth.name = yX4_pairs.name) (hnx : (∀ x ∈ c.exceptionTable.toList, False)) (hfr : 3 ≤ R.frames ∧ frf_X4_pairs + 1 ≤ R.frames) (hRl : R.locals = 40 * R.frames) {Q : Tst → Prop} {X : String → Nat → Tst → Prop} (hrf_X4_pairs : ∀ fr : Nat, frf_X4_pairs ≤ fr → ∀ (a0 : Option Nat) (a1 : Option Nat) (a2 : Int32) (a3 : Option Nat) (a4 : Int32) (Q : Tst → Prop) (X : String → Nat → Tst → Prop) (σ : Tst), rf_X4_pairs a0 a1 a2 a3 a4 Q X σ → tw_M l yX4_pairs (ws_ yX4_pairs cX4_pairs 11 none) fr (40 * fr) G σ [.inr a0, .inr a1, .inl a2, .inr a3, .inl a4] (tw_Qv G Q) X) (l0 : Option Nat) (l1 : Option Nat) (l2 : Int32) (l3 : Option Nat) (l4 : Int32) (σ : Tst) (H : Heap) (locs : List Loc) (ls : Array Slot) (hw : w_X4_pairs_b66 rf_X4_pairs Q X l0 l1 l2 l3 l4 σ) (hR : tw_R G σ H) (hS : va_S (tw_A G) s.heap H locs) (hl : tw_l ls 11 [(0, .inr l0), (1, .inr l1), (2, .inl l2), (3, .inr l3), (4, .inl l4)]) : tw_W p l e R s m args below meth c σ H locs (tw_E below G (tw_Qv G Q) X args s R) (F0 m 66 ls []) := by
  unfold w_X4_pairs_b66 at hw
  refine tk_aload_n C hl 1 dX4_pairs_66 rfl ?_
  refine tk_iload_n C hl 2 dX4_pairs_67 rfl ?_
  obtain ⟨hv, hw⟩ := hw
  refine tw_cbq C hS (tk_runVN (As := [.inl l2]) C hR hS (wk_X5_kids l C.hst G (R.frames - 1) (by omega) _ _ _ _ σ hw) hv rfl q2217 q2219 qs34 q75 q2220 pd_X5_kids ⟨by omega, by omega⟩ hl.1 rfl (tw_r8 [] (Nat.le_of_ble_eq_true rfl)) dX4_pairs_68) (fun E q σ H locs hX hR hS hi => tw_out C hR hS (fun x hx => (hnx x hx).elim) hi hX) (fun x1 σ H locs hw hR hS => ?_)
  refine tk_astore (L' := [(5, .inr x1), (0, .inr l0), (1, .inr l1), (2, .inl l2), (3, .inr l3), (4, .inl l4)]) C hl dX4_pairs_71 (by decide) rfl (fun ls hl => ?_)
  refine tk_aload_n C hl 4 dX4_pairs_73 rfl ?_
  refine tk_iload C hl 5 dX4_pairs_74 rfl ?_
  obtain ⟨hv, hw⟩ := hw
  refine tw_cbq C hS (tk_runVN (As := [.inl l4]) C hR hS (wk_X5_kids l C.hst G (R.frames - 1) (by omega) _ _ _ _ σ hw) hv rfl q2217 q2219 qs34 q75 q2220 pd_X5_kids ⟨by omega, by omega⟩ hl.1 rfl (tw_r8 [] (Nat.le_of_ble_eq_true rfl)) dX4_pairs_76) (fun E q σ H locs hX hR hS hi => tw_out C hR hS (fun x hx => (hnx x hx).elim) hi hX) (fun x2 σ H locs hw hR hS => ?_)
  refine tk_astore (L' := [(6, .inr x2), (5, .inr x1), (0, .inr l0), (1, .inr l1), (2, .inl l2), (3, .inr l3), (4, .inl l4)]) C hl dX4_pairs_79 (by decide) rfl (fun ls hl => ?_)
  refine tk_aload_n C hl 2 dX4_pairs_81 rfl ?_
  refine tk_aload_n C hl 3 dX4_pairs_82 rfl ?_
  refine tk_aload C hl 1 dX4_pairs_83 rfl ?_
  refine tk_aload_n C hl 5 dX4_pairs_85 rfl ?_
  refine tk_aload C hl 0 dX4_pairs_86 rfl ?_
  obtain ⟨hv, hw⟩ := hw
  refine tw_cbq C hS (tk_runV (As := [.inr l1, .inr x1, .inr l3, .inr x2]) C hR hS (wk_X4_left l C.hst G (R.frames - 1) (by omega) _ _ _ _ _ _ _ σ hw) hv rfl q2360 q2362 qs43 q74 q2363 pd_X4_left ⟨by omega, by omega⟩ hl.1 rfl (tw_r8 [] (Nat.le_of_ble_eq_true rfl)) dX4_pairs_88) (fun E q σ H locs hX hR hS hi => tw_out C hR hS (fun x hx => (hnx x hx).elim) hi hX) (fun x3 σ H locs hw hR hS => ?_)
  refine tk_astore (L' := [(7, .inr x3), (6, .inr x2), (5, .inr x1), (0, .inr l0), (1, .inr l1), (2, .inl l2), (3, .inr l3), (4, .inl l4)]) C hl dX4_pairs_91 (by decide) rfl (fun ls hl => ?_)
  refine lv_iconst (v := 0) C.hx C.hb dX4_pairs_93 (by decide) ?_
  refine tk_istore (L' := [(8, .inl 0), (7, .inr x3), (6, .inr x2), (5, .inr x1), (0, .inr l0), (1, .inr l1), (2, .inl l2), (3, .inr l3), (4, .inl l4)]) C hl dX4_pairs_94 (by decide) rfl (fun ls hl => ?_)
  refine lv_iconst (v := 0) C.hx C.hb dX4_pairs_96 (by decide) ?_
  refine tk_istore (L' := [(9, .inl 0), (8, .inl 0), (7, .inr x3), (6, .inr x2), (5, .inr x1), (0, .inr l0), (1, .inr l1), (2, .inl l2), (3, .inr l3), (4, .inl l4)]) C hl dX4_pairs_97 (by decide) rfl (fun ls hl => ?_)
  obtain ⟨z, hw⟩ := hw
  exact wk_X4_pairs_b99 C hr hmn hnx hfr hRl hrf_X4_pairs z _ _ _ _ _ _ _ _ σ _ _ _ hw hR hS (tk_sub hl [5, 6, 8, 4, 3, 2, 1, 0] rfl)
set_option maxHeartbeats 4000000 in
theorem wk_X4_pairs_b41 {rf_X4_pairs : (Option Nat) → (Option Nat) → Int32 → (Option Nat) → Int32 → (Tst → Prop) → (String → Nat → Tst → Prop) → Tst → Prop} {frf_X4_pairs : Nat}  (C : tw_C p l R s m args meth c G cX4_pairs 11 yX4_pairs.cls) (hr : meth.sig.returnType = none) (hmn : meth.name = yX4_pairs.name) (hnx : (∀ x ∈ c.exceptionTable.toList, False)) (hfr : 3 ≤ R.frames ∧ frf_X4_pairs + 1 ≤ R.frames) (hRl : R.locals = 40 * R.frames) {Q : Tst → Prop} {X : String → Nat → Tst → Prop} (hrf_X4_pairs : ∀ fr : Nat, frf_X4_pairs ≤ fr → ∀ (a0 : Option Nat) (a1 : Option Nat) (a2 : Int32) (a3 : Option Nat) (a4 : Int32) (Q : Tst → Prop) (X : String → Nat → Tst → Prop) (σ : Tst), rf_X4_pairs a0 a1 a2 a3 a4 Q X σ → tw_M l yX4_pairs (ws_ yX4_pairs cX4_pairs 11 none) fr (40 * fr) G σ [.inr a0, .inr a1, .inl a2, .inr a3, .inl a4] (tw_Qv G Q) X) (l0 : Option Nat) (l1 : Option Nat) (l2 : Int32) (l3 : Option Nat) (l4 : Int32) (σ : Tst) (H : Heap) (locs : List Loc) (ls : Array Slot) (hw : w_X4_pairs_b41 rf_X4_pairs Q X l0 l1 l2 l3 l4 σ) (hR : tw_R G σ H) (hS : va_S (tw_A G) s.heap H locs) (hl : tw_l ls 11 [(0, .inr l0), (1, .inr l1), (2, .inl l2), (3, .inr l3), (4, .inl l4)]) : tw_W p l e R s m args below meth c σ H locs (tw_E below G (tw_Qv G Q) X args s R) (F0 m 41 ls []) := by
  unfold w_X4_pairs_b41 at hw
  refine tk_aload_n C hl 1 dX4_pairs_41 rfl ?_
  refine tk_grN C hR hw rfl in_X5 (by decide) q2023 (fun _ h => h) dX4_pairs_42 (fun x1 hw => ?_)
  refine tk_iload_n C hl 2 dX4_pairs_45 rfl ?_
  refine tk_li C hR hw dX4_pairs_46 (fun x2 hw => ?_)
  refine tk_aload_n C hl 3 dX4_pairs_47 rfl ?_
  refine tk_grN C hR hw rfl in_X5 (by decide) q2023 (fun _ h => h) dX4_pairs_48 (fun x3 hw => ?_)
  refine tk_iload C hl 4 dX4_pairs_51 rfl ?_
  refine tk_li C hR hw dX4_pairs_53 (fun x4 hw => ?_)
  refine lv_icmp_eq (tgt := 66) C.hx C.hb dX4_pairs_54 (by decide) (fun c54 => ?_) (fun c54 => ?_)
  · replace hw := hw.1 c54
    exact wk_X4_pairs_b66 C hr hmn hnx hfr hRl hrf_X4_pairs _ _ _ _ _ σ _ _ _ hw hR hS (tk_sub hl [0, 1, 2, 3, 4] rfl)
  · replace hw := hw.2 c54
    refine tk_aload_n C hl 0 dX4_pairs_57 rfl ?_
    refine lv_bipush (v := 118) C.hx C.hb dX4_pairs_58 (by decide) ?_
    refine tk_iload_n C hl 2 dX4_pairs_60 rfl ?_
    refine tk_iload C hl 4 dX4_pairs_61 rfl ?_
    obtain ⟨hv, hw⟩ := hw
    refine tw_cbv C hS (tk_runV (As := [.inl 118, .inl l2, .inl l4]) C hR hS (wk_X4_notes l C.hst G (R.frames - 1) (by omega) _ _ _ _ _ _ σ hw) hv rfl q2386 q2388 qs46 q74 q2389 pd_X4_notes ⟨by omega, by omega⟩ hl.1 rfl (tw_r8 [] (Nat.le_of_ble_eq_true rfl)) dX4_pairs_63) (fun E q σ H locs hX hR hS hi => tw_out C hR hS (fun x hx => (hnx x hx).elim) hi hX) (fun σ H locs hw hR hS => ?_)
    exact wk_X4_pairs_b66 C hr hmn hnx hfr hRl hrf_X4_pairs _ _ _ _ _ σ _ _ _ hw hR hS (tk_sub hl [0, 1, 2, 3, 4] rfl)
set_option maxHeartbeats 4000000 in
theorem wk_X4_pairs (l : Launch) (hl0 : l.stackTraces = false) (G : Tgl)  : ∀ (d fr : Nat), 3 + 1 * d ≤ fr → ∀ (l0 : Option Nat) (l1 : Option Nat) (l2 : Int32) (l3 : Option Nat) (l4 : Int32) (Q : Tst → Prop) (X : String → Nat → Tst → Prop) (σ : Tst), w_X4_pairs d l0 l1 l2 l3 l4 Q X σ → tw_M l yX4_pairs (ws_ yX4_pairs cX4_pairs 11 none) fr (40 * fr) G σ [.inr l0, .inr l1, .inl l2, .inr l3, .inl l4] (tw_Qv G Q) X := by
  intro d
  induction d with
  | zero => intro fr hfr l0 l1 l2 l3 l4 Q X σ hw; exact False.elim hw
  | succ d ih =>
    intro fr hfr l0 l1 l2 l3 l4 Q X σ hw
    have hrf_X4_pairs := fun (fr : Nat) (h : 3 + 1 * d ≤ fr) => ih fr (by omega)
    rw [w_X4_pairs] at hw
    generalize hg : w_X4_pairs d = rf_X4_pairs at hw hrf_X4_pairs
    clear hg ih
    obtain ⟨frf_X4_pairs, hfrf_X4_pairs⟩ : ∃ f, f = 3 + 1 * d := ⟨_, rfl⟩
    rw [← hfrf_X4_pairs] at hrf_X4_pairs
    have hfr : 3 ≤ fr ∧ frf_X4_pairs + 1 ≤ fr := by refine ⟨?_, ?_⟩ <;> omega
    refine tw_of (ret := none) hl0 (by decide) (Nat.le_of_ble_eq_true rfl) (fun p e R s m args below meth c hRf hRl C hr hmn hnx hR hS ls hl => ?_)
    have hfr : 3 ≤ R.frames ∧ frf_X4_pairs + 1 ≤ R.frames := by rw [hRf]; exact hfr
    have hRl : R.locals = 40 * R.frames := by rw [hRl, hRf]
    have hl : tw_l ls 11 [(0, .inr l0), (1, .inr l1), (2, .inl l2), (3, .inr l3), (4, .inl l4)] := hl
    refine tk_aload_n C hl 0 dX4_pairs_0 rfl ?_
    refine tk_gr C hR hw rfl in_X4 (by decide) q2065 (fun _ h => h) dX4_pairs_1 (fun x1 hw => ?_)
    refine tk_iload_n C hl 2 dX4_pairs_4 rfl ?_
    refine tk_iload C hl 4 dX4_pairs_5 rfl ?_
    refine tk_si C hR hS hw dX4_pairs_7 (fun σ H locs hw hR hS => ?_)
    refine tk_aload_n C hl 0 dX4_pairs_8 rfl ?_
    refine tk_gr C hR hw rfl in_X4 (by decide) q2066 (fun _ h => h) dX4_pairs_9 (fun x2 hw => ?_)
    refine tk_iload C hl 4 dX4_pairs_12 rfl ?_
    refine tk_iload_n C hl 2 dX4_pairs_14 rfl ?_
    refine tk_si C hR hS hw dX4_pairs_15 (fun σ H locs hw hR hS => ?_)
    refine tk_aload_n C hl 1 dX4_pairs_16 rfl ?_
    refine tk_grN C hR hw rfl in_X5 (by decide) q2019 (fun _ h => h) dX4_pairs_17 (fun x3 hw => ?_)
    refine tk_iload_n C hl 2 dX4_pairs_20 rfl ?_
    refine tk_li C hR hw dX4_pairs_21 (fun x4 hw => ?_)
    refine tk_aload_n C hl 3 dX4_pairs_22 rfl ?_
    refine tk_grN C hR hw rfl in_X5 (by decide) q2019 (fun _ h => h) dX4_pairs_23 (fun x5 hw => ?_)
    refine tk_iload C hl 4 dX4_pairs_26 rfl ?_
    refine tk_li C hR hw dX4_pairs_28 (fun x6 hw => ?_)
    refine lv_icmp_eq (tgt := 41) C.hx C.hb dX4_pairs_29 (by decide) (fun c29 => ?_) (fun c29 => ?_)
    · replace hw := hw.1 c29
      exact wk_X4_pairs_b41 C hr hmn hnx hfr hRl hrf_X4_pairs _ _ _ _ _ σ _ _ _ hw hR hS (tk_sub hl [0, 1, 2, 3, 4] rfl)
    · replace hw := hw.2 c29
      refine tk_aload_n C hl 0 dX4_pairs_32 rfl ?_
      refine lv_bipush (v := 108) C.hx C.hb dX4_pairs_33 (by decide) ?_
      refine tk_iload_n C hl 2 dX4_pairs_35 rfl ?_
      refine tk_iload C hl 4 dX4_pairs_36 rfl ?_
      obtain ⟨hv, hw⟩ := hw
      refine tw_cbv C hS (tk_runV (As := [.inl 108, .inl l2, .inl l4]) C hR hS (wk_X4_notes l C.hst G (R.frames - 1) (by omega) _ _ _ _ _ _ σ hw) hv rfl q2386 q2388 qs46 q74 q2389 pd_X4_notes ⟨by omega, by omega⟩ hl.1 rfl (tw_r8 [] (Nat.le_of_ble_eq_true rfl)) dX4_pairs_38) (fun E q σ H locs hX hR hS hi => tw_out C hR hS (fun x hx => (hnx x hx).elim) hi hX) (fun σ H locs hw hR hS => ?_)
      exact wk_X4_pairs_b41 C hr hmn hnx hfr hRl hrf_X4_pairs _ _ _ _ _ σ _ _ _ hw hR hS (tk_sub hl [0, 1, 2, 3, 4] rfl)
-- TreeDifferModel.matches(LTreeDifferModel$Tree;LTreeDifferModel$Tree;)V
def w_X4_matches_b7 (Q : Tst → Prop) (X : String → Nat → Tst → Prop) : Nat → Option Nat → Option Nat → Option Nat → Int32 → Tst → Prop
  | 0, _, _, _, _, _ => False
  | n + 1, l0, l1, l2, l3, σ => w_if (20 ≤ l3) (w_rc σ l0 cX4 <| w_X4_fills l0 l1 l2 (fun x1 σ => w_rc σ l0 cX4 <| w_X4_pairs 64 l0 l1 0 l2 0 (fun σ => Q σ) X σ) X σ) (w_gr σ l0 cX4 13 fun x3 => w_si σ x3 l3 (-1) fun σ => w_gr σ l0 cX4 14 fun x4 => w_si σ x4 l3 (-1) fun σ => (w_X4_matches_b7 Q X n) l0 l1 l2 (l3 + 1) σ)
def w_X4_matches (l0 : Option Nat) (l1 : Option Nat) (l2 : Option Nat) (Q : Tst → Prop) (X : String → Nat → Tst → Prop) (σ : Tst) : Prop := w_p σ l0 cX4 15 (.inl 0) fun σ => ∃ z, w_X4_matches_b7 Q X z l0 l1 l2 0 σ
set_option maxHeartbeats 4000000 in
theorem wk_X4_matches_b7  (C : tw_C p l R s m args meth c G cX4_matches 4 yX4_matches.cls) (hr : meth.sig.returnType = none) (hmn : meth.name = yX4_matches.name) (hnx : (∀ x ∈ c.exceptionTable.toList, False)) (hfr : 68 ≤ R.frames) (hRl : R.locals = 40 * R.frames) {Q : Tst → Prop} {X : String → Nat → Tst → Prop}  : ∀ (n : Nat) (l0 : Option Nat) (l1 : Option Nat) (l2 : Option Nat) (l3 : Int32) (σ : Tst) (H : Heap) (locs : List Loc) (ls : Array Slot), w_X4_matches_b7 Q X n l0 l1 l2 l3 σ → tw_R G σ H → va_S (tw_A G) s.heap H locs → tw_l ls 4 [(0, .inr l0), (1, .inr l1), (2, .inr l2), (3, .inl l3)] → tw_W p l e R s m args below meth c σ H locs (tw_E below G (tw_Qv G Q) X args s R) (F0 m 7 ls []) := by
  intro n
  induction n with
  | zero => intro l0 l1 l2 l3 σ H locs ls hw; exact False.elim hw
  | succ n hk7 =>
    intro l0 l1 l2 l3 σ H locs ls hw hR hS hl
    rw [w_X4_matches_b7] at hw
    refine tk_iload_n C hl 3 dX4_matches_7 rfl ?_
    refine lv_bipush (v := 20) C.hx C.hb dX4_matches_8 (by decide) ?_
    refine lv_icmp_ge (tgt := 33) C.hx C.hb dX4_matches_10 (by decide) (fun c10 => ?_) (fun c10 => ?_)
    · replace hw := hw.1 c10
      refine tk_aload_n C hl 0 dX4_matches_33 rfl ?_
      refine tk_aload_n C hl 1 dX4_matches_34 rfl ?_
      refine tk_aload_n C hl 2 dX4_matches_35 rfl ?_
      obtain ⟨hv, hw⟩ := hw
      refine tw_cbi C hS (tk_runV (As := [.inr l1, .inr l2]) C hR hS (wk_X4_fills l C.hst G (R.frames - 1) (by omega) _ _ _ _ _ σ hw) hv rfl q2356 q2358 qs42 q74 q2359 pd_X4_fills ⟨by omega, by omega⟩ hl.1 rfl (tw_r8 [] (Nat.le_of_ble_eq_true rfl)) dX4_matches_36) (fun E q σ H locs hX hR hS hi => tw_out C hR hS (fun x hx => (hnx x hx).elim) hi hX) (fun x1 σ H locs hw hR hS => ?_)
      refine tw_pop (x := .inl x1) C.hx C.hb dX4_matches_39 ?_
      refine tk_aload_n C hl 0 dX4_matches_40 rfl ?_
      refine tk_aload_n C hl 1 dX4_matches_41 rfl ?_
      refine lv_iconst (v := 0) C.hx C.hb dX4_matches_42 (by decide) ?_
      refine tk_aload_n C hl 2 dX4_matches_43 rfl ?_
      refine lv_iconst (v := 0) C.hx C.hb dX4_matches_44 (by decide) ?_
      obtain ⟨hv, hw⟩ := hw
      refine tw_cbv C hS (tk_runV (As := [.inr l1, .inl 0, .inr l2, .inl 0]) C hR hS (wk_X4_pairs l C.hst G 64 (R.frames - 1) (by omega) _ _ _ _ _ _ _ σ hw) hv rfl q2382 q2384 qs45 q74 q2385 pd_X4_pairs ⟨by omega, by omega⟩ hl.1 rfl (tw_r8 [] (Nat.le_of_ble_eq_true rfl)) dX4_matches_45) (fun E q σ H locs hX hR hS hi => tw_out C hR hS (fun x hx => (hnx x hx).elim) hi hX) (fun σ H locs hw hR hS => ?_)
      exact tw_vret C hR hS hr dX4_matches_48 hw
    · replace hw := hw.2 c10
      refine tk_aload_n C hl 0 dX4_matches_13 rfl ?_
      refine tk_gr C hR hw rfl in_X4 (by decide) q2065 (fun _ h => h) dX4_matches_14 (fun x3 hw => ?_)
      refine tk_iload_n C hl 3 dX4_matches_17 rfl ?_
      refine lv_iconst (v := (-1)) C.hx C.hb dX4_matches_18 (by decide) ?_
      refine tk_si C hR hS hw dX4_matches_19 (fun σ H locs hw hR hS => ?_)
      refine tk_aload_n C hl 0 dX4_matches_20 rfl ?_
      refine tk_gr C hR hw rfl in_X4 (by decide) q2066 (fun _ h => h) dX4_matches_21 (fun x4 hw => ?_)
      refine tk_iload_n C hl 3 dX4_matches_24 rfl ?_
      refine lv_iconst (v := (-1)) C.hx C.hb dX4_matches_25 (by decide) ?_
      refine tk_si C hR hS hw dX4_matches_26 (fun σ H locs hw hR hS => ?_)
      refine tk_iinc (L' := [(3, .inl (l3 + 1)), (0, .inr l0), (1, .inr l1), (2, .inr l2)]) (y := (l3 + 1)) C hl 3 dX4_matches_27 rfl rfl (by decide) rfl (fun ls hl => ?_)
      refine lv_goto (tgt := 7) C.hx C.hb dX4_matches_30 (by decide) ?_
      exact hk7 _ _ _ _ σ _ _ _ hw hR hS (tk_sub hl [1, 2, 3, 0] rfl)
set_option maxHeartbeats 4000000 in
theorem wk_X4_matches (l : Launch) (hl0 : l.stackTraces = false) (G : Tgl) (fr : Nat)  (hfr : 68 ≤ fr) (l0 : Option Nat) (l1 : Option Nat) (l2 : Option Nat) (Q : Tst → Prop) (X : String → Nat → Tst → Prop) (σ : Tst) (hw : w_X4_matches l0 l1 l2 Q X σ) : tw_M l yX4_matches (ws_ yX4_matches cX4_matches 4 none) fr (40 * fr) G σ [.inr l0, .inr l1, .inr l2] (tw_Qv G Q) X := by
  unfold w_X4_matches at hw
  refine tw_of (ret := none) hl0 (by decide) (Nat.le_of_ble_eq_true rfl) (fun p e R s m args below meth c hRf hRl C hr hmn hnx hR hS ls hl => ?_)
  have hfr : 68 ≤ R.frames := by rw [hRf]; exact hfr
  have hRl : R.locals = 40 * R.frames := by rw [hRl, hRf]
  have hl : tw_l ls 4 [(0, .inr l0), (1, .inr l1), (2, .inr l2)] := hl
  refine tk_aload_n C hl 0 dX4_matches_0 rfl ?_
  refine lv_iconst (v := 0) C.hx C.hb dX4_matches_1 (by decide) ?_
  refine tk_p (x := .inl 0) C hR hS hw (by decide) rfl in_X4 tyX4 tyX4_ok nmX4 (by decide) q2067 (fun _ h => h) rfl (tw_ni _) dX4_matches_2 (fun σ H locs hw hR hS => ?_)
  refine lv_iconst (v := 0) C.hx C.hb dX4_matches_5 (by decide) ?_
  refine tk_istore_n (L' := [(3, .inl 0), (0, .inr l0), (1, .inr l1), (2, .inr l2)]) C hl dX4_matches_6 (by decide) rfl (fun ls hl => ?_)
  obtain ⟨z, hw⟩ := hw
  exact wk_X4_matches_b7 C hr hmn hnx hfr hRl z _ _ _ _ σ _ _ _ hw hR hS (tk_sub hl [1, 2, 3, 0] rfl)
-- TreeDifferModel.recognizes()V
def w_X4_recognizes_b117 (k2 : Option Nat → Int32 → Tst → Prop) (Q : Tst → Prop) (X : String → Nat → Tst → Prop) (l0 : Option Nat) (l1 : Int32) (σ : Tst) : Prop := k2 l0 (l1 + 1) σ
def w_X4_recognizes_b78 (k2 : Option Nat → Int32 → Tst → Prop) (Q : Tst → Prop) (X : String → Nat → Tst → Prop) (l0 : Option Nat) (l1 : Int32) (l2 : Int32) (σ : Tst) : Prop := w_gi σ l0 cX4 15 fun x1 => w_if (l2 = x1) (w_X4_recognizes_b117 k2 Q X l0 l1 σ) (w_gr σ l0 cX4 10 fun x2 => w_sc σ x2 l2 109 fun σ => w_gr σ l0 cX4 11 fun x3 => w_gr σ l0 cX4 11 fun x4 => w_li σ x4 l1 fun x5 => w_si σ x3 l2 x5 fun σ => w_gr σ l0 cX4 10 fun x6 => w_sc σ x6 l1 45 fun σ => w_X4_recognizes_b117 k2 Q X l0 l1 σ)
def w_X4_recognizes_b72 (k2 : Option Nat → Int32 → Tst → Prop) (k26 : Option Nat → Int32 → Int32 → Tst → Prop) (Q : Tst → Prop) (X : String → Nat → Tst → Prop) (l0 : Option Nat) (l1 : Int32) (l2 : Int32) (σ : Tst) : Prop := k26 l0 l1 (l2 + 1) σ
def w_X4_recognizes_b26 (k2 : Option Nat → Int32 → Tst → Prop) (Q : Tst → Prop) (X : String → Nat → Tst → Prop) : Nat → Option Nat → Int32 → Int32 → Tst → Prop
  | 0, _, _, _, _ => False
  | n + 1, l0, l1, l2, σ => w_gi σ l0 cX4 15 fun x1 => w_if (x1 ≤ l2) (w_X4_recognizes_b78 k2 Q X l0 l1 l2 σ) (w_gr σ l0 cX4 10 fun x2 => w_lc σ x2 l2 fun x3 => w_if (x3 = 105) (w_gr σ l0 cX4 16 fun x4 => w_gr σ l0 cX4 11 fun x5 => w_li σ x5 l1 fun x6 => w_gr σ l0 cX4 17 fun x7 => w_gr σ l0 cX4 12 fun x8 => w_li σ x8 l2 fun x9 => w_X4_areLike x4 x6 x7 x9 0 (fun x10 σ => w_if (x10 = 0) (w_X4_recognizes_b72 k2 (w_X4_recognizes_b26 k2 Q X n) Q X l0 l1 l2 σ) (w_X4_recognizes_b78 k2 Q X l0 l1 l2 σ)) X σ) (w_X4_recognizes_b72 k2 (w_X4_recognizes_b26 k2 Q X n) Q X l0 l1 l2 σ))
def w_X4_recognizes_b2 (Q : Tst → Prop) (X : String → Nat → Tst → Prop) : Nat → Option Nat → Int32 → Tst → Prop
  | 0, _, _, _ => False
  | n + 1, l0, l1, σ => w_gi σ l0 cX4 15 fun x1 => w_if (x1 ≤ l1) (Q σ) (w_gr σ l0 cX4 10 fun x2 => w_lc σ x2 l1 fun x3 => w_if (x3 = 100) (∃ z, w_X4_recognizes_b26 (w_X4_recognizes_b2 Q X n) Q X z l0 l1 0 σ) (w_X4_recognizes_b117 (w_X4_recognizes_b2 Q X n) Q X l0 l1 σ))
def w_X4_recognizes (l0 : Option Nat) (Q : Tst → Prop) (X : String → Nat → Tst → Prop) (σ : Tst) : Prop := ∃ z, w_X4_recognizes_b2 Q X z l0 0 σ
set_option maxHeartbeats 4000000 in
theorem wk_X4_recognizes_b117  (C : tw_C p l R s m args meth c G cX4_recognizes 3 yX4_recognizes.cls) (hr : meth.sig.returnType = none) (hmn : meth.name = yX4_recognizes.name) (hnx : (∀ x ∈ c.exceptionTable.toList, False)) (hfr : 3 ≤ R.frames) (hRl : R.locals = 40 * R.frames) {Q : Tst → Prop} {X : String → Nat → Tst → Prop}  {k2 : Option Nat → Int32 → Tst → Prop} (hk2 : ∀ (l0 : Option Nat) (l1 : Int32) (σ : Tst) (H : Heap) (locs : List Loc) (ls : Array Slot), k2 l0 l1 σ → tw_R G σ H → va_S (tw_A G) s.heap H locs → tw_l ls 3 [(0, .inr l0), (1, .inl l1)] → tw_W p l e R s m args below meth c σ H locs (tw_E below G (tw_Qv G Q) X args s R) (F0 m 2 ls [])) (l0 : Option Nat) (l1 : Int32) (σ : Tst) (H : Heap) (locs : List Loc) (ls : Array Slot) (hw : w_X4_recognizes_b117 k2 Q X l0 l1 σ) (hR : tw_R G σ H) (hS : va_S (tw_A G) s.heap H locs) (hl : tw_l ls 3 [(0, .inr l0), (1, .inl l1)]) : tw_W p l e R s m args below meth c σ H locs (tw_E below G (tw_Qv G Q) X args s R) (F0 m 117 ls []) := by
  unfold w_X4_recognizes_b117 at hw
  refine tk_iinc (L' := [(1, .inl (l1 + 1)), (0, .inr l0)]) (y := (l1 + 1)) C hl 1 dX4_recognizes_117 rfl rfl (by decide) rfl (fun ls hl => ?_)
  refine lv_goto (tgt := 2) C.hx C.hb dX4_recognizes_120 (by decide) ?_
  exact hk2 _ _ σ _ _ _ hw hR hS (tk_sub hl [1, 0] rfl)
set_option maxHeartbeats 4000000 in
theorem wk_X4_recognizes_b78  (C : tw_C p l R s m args meth c G cX4_recognizes 3 yX4_recognizes.cls) (hr : meth.sig.returnType = none) (hmn : meth.name = yX4_recognizes.name) (hnx : (∀ x ∈ c.exceptionTable.toList, False)) (hfr : 3 ≤ R.frames) (hRl : R.locals = 40 * R.frames) {Q : Tst → Prop} {X : String → Nat → Tst → Prop}  {k2 : Option Nat → Int32 → Tst → Prop} (hk2 : ∀ (l0 : Option Nat) (l1 : Int32) (σ : Tst) (H : Heap) (locs : List Loc) (ls : Array Slot), k2 l0 l1 σ → tw_R G σ H → va_S (tw_A G) s.heap H locs → tw_l ls 3 [(0, .inr l0), (1, .inl l1)] → tw_W p l e R s m args below meth c σ H locs (tw_E below G (tw_Qv G Q) X args s R) (F0 m 2 ls [])) (l0 : Option Nat) (l1 : Int32) (l2 : Int32) (σ : Tst) (H : Heap) (locs : List Loc) (ls : Array Slot) (hw : w_X4_recognizes_b78 k2 Q X l0 l1 l2 σ) (hR : tw_R G σ H) (hS : va_S (tw_A G) s.heap H locs) (hl : tw_l ls 3 [(0, .inr l0), (1, .inl l1), (2, .inl l2)]) : tw_W p l e R s m args below meth c σ H locs (tw_E below G (tw_Qv G Q) X args s R) (F0 m 78 ls []) := by
  unfold w_X4_recognizes_b78 at hw
  refine tk_iload_n C hl 2 dX4_recognizes_78 rfl ?_
  refine tk_aload_n C hl 0 dX4_recognizes_79 rfl ?_
  refine tk_gi C hR hw rfl in_X4 (by decide) q2067 (fun _ h => h) dX4_recognizes_80 (fun x1 hw => ?_)
  refine lv_icmp_ne (tgt := 89) C.hx C.hb dX4_recognizes_83 (by decide) (fun c83 => ?_) (fun c83 => ?_)
  · replace hw := hw.2 c83
    refine tk_aload_n C hl 0 dX4_recognizes_89 rfl ?_
    refine tk_gr C hR hw rfl in_X4 (by decide) q2062 (fun _ h => h) dX4_recognizes_90 (fun x2 hw => ?_)
    refine tk_iload_n C hl 2 dX4_recognizes_93 rfl ?_
    refine lv_bipush (v := 109) C.hx C.hb dX4_recognizes_94 (by decide) ?_
    refine tk_sc C hR hS hw dX4_recognizes_96 (fun σ H locs hw hR hS => ?_)
    refine tk_aload_n C hl 0 dX4_recognizes_97 rfl ?_
    refine tk_gr C hR hw rfl in_X4 (by decide) q2063 (fun _ h => h) dX4_recognizes_98 (fun x3 hw => ?_)
    refine tk_iload_n C hl 2 dX4_recognizes_101 rfl ?_
    refine tk_aload_n C hl 0 dX4_recognizes_102 rfl ?_
    refine tk_gr C hR hw rfl in_X4 (by decide) q2063 (fun _ h => h) dX4_recognizes_103 (fun x4 hw => ?_)
    refine tk_iload_n C hl 1 dX4_recognizes_106 rfl ?_
    refine tk_li C hR hw dX4_recognizes_107 (fun x5 hw => ?_)
    refine tk_si C hR hS hw dX4_recognizes_108 (fun σ H locs hw hR hS => ?_)
    refine tk_aload_n C hl 0 dX4_recognizes_109 rfl ?_
    refine tk_gr C hR hw rfl in_X4 (by decide) q2062 (fun _ h => h) dX4_recognizes_110 (fun x6 hw => ?_)
    refine tk_iload_n C hl 1 dX4_recognizes_113 rfl ?_
    refine lv_bipush (v := 45) C.hx C.hb dX4_recognizes_114 (by decide) ?_
    refine tk_sc C hR hS hw dX4_recognizes_116 (fun σ H locs hw hR hS => ?_)
    exact wk_X4_recognizes_b117 C hr hmn hnx hfr hRl hk2 _ _ σ _ _ _ hw hR hS (tk_sub hl [0, 1] rfl)
  · replace hw := hw.1 c83
    refine lv_goto (tgt := 117) C.hx C.hb dX4_recognizes_86 (by decide) ?_
    exact wk_X4_recognizes_b117 C hr hmn hnx hfr hRl hk2 _ _ σ _ _ _ hw hR hS (tk_sub hl [0, 1] rfl)
set_option maxHeartbeats 4000000 in
theorem wk_X4_recognizes_b72  (C : tw_C p l R s m args meth c G cX4_recognizes 3 yX4_recognizes.cls) (hr : meth.sig.returnType = none) (hmn : meth.name = yX4_recognizes.name) (hnx : (∀ x ∈ c.exceptionTable.toList, False)) (hfr : 3 ≤ R.frames) (hRl : R.locals = 40 * R.frames) {Q : Tst → Prop} {X : String → Nat → Tst → Prop}  {k2 : Option Nat → Int32 → Tst → Prop} (hk2 : ∀ (l0 : Option Nat) (l1 : Int32) (σ : Tst) (H : Heap) (locs : List Loc) (ls : Array Slot), k2 l0 l1 σ → tw_R G σ H → va_S (tw_A G) s.heap H locs → tw_l ls 3 [(0, .inr l0), (1, .inl l1)] → tw_W p l e R s m args below meth c σ H locs (tw_E below G (tw_Qv G Q) X args s R) (F0 m 2 ls [])) {k26 : Option Nat → Int32 → Int32 → Tst → Prop} (hk26 : ∀ (l0 : Option Nat) (l1 : Int32) (l2 : Int32) (σ : Tst) (H : Heap) (locs : List Loc) (ls : Array Slot), k26 l0 l1 l2 σ → tw_R G σ H → va_S (tw_A G) s.heap H locs → tw_l ls 3 [(0, .inr l0), (1, .inl l1), (2, .inl l2)] → tw_W p l e R s m args below meth c σ H locs (tw_E below G (tw_Qv G Q) X args s R) (F0 m 26 ls [])) (l0 : Option Nat) (l1 : Int32) (l2 : Int32) (σ : Tst) (H : Heap) (locs : List Loc) (ls : Array Slot) (hw : w_X4_recognizes_b72 k2 k26 Q X l0 l1 l2 σ) (hR : tw_R G σ H) (hS : va_S (tw_A G) s.heap H locs) (hl : tw_l ls 3 [(0, .inr l0), (1, .inl l1), (2, .inl l2)]) : tw_W p l e R s m args below meth c σ H locs (tw_E below G (tw_Qv G Q) X args s R) (F0 m 72 ls []) := by
  unfold w_X4_recognizes_b72 at hw
  refine tk_iinc (L' := [(2, .inl (l2 + 1)), (0, .inr l0), (1, .inl l1)]) (y := (l2 + 1)) C hl 2 dX4_recognizes_72 rfl rfl (by decide) rfl (fun ls hl => ?_)
  refine lv_goto (tgt := 26) C.hx C.hb dX4_recognizes_75 (by decide) ?_
  exact hk26 _ _ _ σ _ _ _ hw hR hS (tk_sub hl [1, 2, 0] rfl)
set_option maxHeartbeats 4000000 in
theorem wk_X4_recognizes_b26  (C : tw_C p l R s m args meth c G cX4_recognizes 3 yX4_recognizes.cls) (hr : meth.sig.returnType = none) (hmn : meth.name = yX4_recognizes.name) (hnx : (∀ x ∈ c.exceptionTable.toList, False)) (hfr : 3 ≤ R.frames) (hRl : R.locals = 40 * R.frames) {Q : Tst → Prop} {X : String → Nat → Tst → Prop}  {k2 : Option Nat → Int32 → Tst → Prop} (hk2 : ∀ (l0 : Option Nat) (l1 : Int32) (σ : Tst) (H : Heap) (locs : List Loc) (ls : Array Slot), k2 l0 l1 σ → tw_R G σ H → va_S (tw_A G) s.heap H locs → tw_l ls 3 [(0, .inr l0), (1, .inl l1)] → tw_W p l e R s m args below meth c σ H locs (tw_E below G (tw_Qv G Q) X args s R) (F0 m 2 ls [])) : ∀ (n : Nat) (l0 : Option Nat) (l1 : Int32) (l2 : Int32) (σ : Tst) (H : Heap) (locs : List Loc) (ls : Array Slot), w_X4_recognizes_b26 k2 Q X n l0 l1 l2 σ → tw_R G σ H → va_S (tw_A G) s.heap H locs → tw_l ls 3 [(0, .inr l0), (1, .inl l1), (2, .inl l2)] → tw_W p l e R s m args below meth c σ H locs (tw_E below G (tw_Qv G Q) X args s R) (F0 m 26 ls []) := by
  intro n
  induction n with
  | zero => intro l0 l1 l2 σ H locs ls hw; exact False.elim hw
  | succ n hk26 =>
    intro l0 l1 l2 σ H locs ls hw hR hS hl
    rw [w_X4_recognizes_b26] at hw
    refine tk_iload_n C hl 2 dX4_recognizes_26 rfl ?_
    refine tk_aload_n C hl 0 dX4_recognizes_27 rfl ?_
    refine tk_gi C hR hw rfl in_X4 (by decide) q2067 (fun _ h => h) dX4_recognizes_28 (fun x1 hw => ?_)
    refine lv_icmp_ge (tgt := 78) C.hx C.hb dX4_recognizes_31 (by decide) (fun c31 => ?_) (fun c31 => ?_)
    · replace hw := hw.1 c31
      exact wk_X4_recognizes_b78 C hr hmn hnx hfr hRl hk2 _ _ _ σ _ _ _ hw hR hS (tk_sub hl [0, 1, 2] rfl)
    · replace hw := hw.2 c31
      refine tk_aload_n C hl 0 dX4_recognizes_34 rfl ?_
      refine tk_gr C hR hw rfl in_X4 (by decide) q2062 (fun _ h => h) dX4_recognizes_35 (fun x2 hw => ?_)
      refine tk_iload_n C hl 2 dX4_recognizes_38 rfl ?_
      refine tk_lc C hR hw dX4_recognizes_39 (fun x3 hw => ?_)
      refine lv_bipush (v := 105) C.hx C.hb dX4_recognizes_40 (by decide) ?_
      refine lv_icmp_ne (tgt := 72) C.hx C.hb dX4_recognizes_42 (by decide) (fun c42 => ?_) (fun c42 => ?_)
      · replace hw := hw.2 c42
        exact wk_X4_recognizes_b72 C hr hmn hnx hfr hRl hk2 hk26 _ _ _ σ _ _ _ hw hR hS (tk_sub hl [0, 1, 2] rfl)
      · replace hw := hw.1 c42
        refine tk_aload_n C hl 0 dX4_recognizes_45 rfl ?_
        refine tk_gr C hR hw rfl in_X4 (by decide) q2068 (fun _ h => h) dX4_recognizes_46 (fun x4 hw => ?_)
        refine tk_aload_n C hl 0 dX4_recognizes_49 rfl ?_
        refine tk_gr C hR hw rfl in_X4 (by decide) q2063 (fun _ h => h) dX4_recognizes_50 (fun x5 hw => ?_)
        refine tk_iload_n C hl 1 dX4_recognizes_53 rfl ?_
        refine tk_li C hR hw dX4_recognizes_54 (fun x6 hw => ?_)
        refine tk_aload_n C hl 0 dX4_recognizes_55 rfl ?_
        refine tk_gr C hR hw rfl in_X4 (by decide) q2069 (fun _ h => h) dX4_recognizes_56 (fun x7 hw => ?_)
        refine tk_aload_n C hl 0 dX4_recognizes_59 rfl ?_
        refine tk_gr C hR hw rfl in_X4 (by decide) q2064 (fun _ h => h) dX4_recognizes_60 (fun x8 hw => ?_)
        refine tk_iload_n C hl 2 dX4_recognizes_63 rfl ?_
        refine tk_li C hR hw dX4_recognizes_64 (fun x9 hw => ?_)
        refine lv_iconst (v := 0) C.hx C.hb dX4_recognizes_65 (by decide) ?_
        refine tw_cbi C hS (tw_runS (As := [.inr x4, .inl x6, .inr x7, .inl x9, .inl 0]) C hR hS (wk_X4_areLike l C.hst G (R.frames - 1) (by omega) _ _ _ _ _ _ _ σ hw) q2337 q2338 q74 q2339 pd_X4_areLike ⟨by omega, by omega⟩ hl.1 rfl (tw_r8 [] (Nat.le_of_ble_eq_true rfl)) dX4_recognizes_66) (fun E q σ H locs hX hR hS hi => tw_out C hR hS (fun x hx => (hnx x hx).elim) hi hX) (fun x10 σ H locs hw hR hS => ?_)
        refine lv_if_ne (tgt := 78) C.hx C.hb dX4_recognizes_69 (by decide) (fun c69 => ?_) (fun c69 => ?_)
        · replace hw := hw.2 c69
          exact wk_X4_recognizes_b78 C hr hmn hnx hfr hRl hk2 _ _ _ σ _ _ _ hw hR hS (tk_sub hl [0, 1, 2] rfl)
        · replace hw := hw.1 c69
          exact wk_X4_recognizes_b72 C hr hmn hnx hfr hRl hk2 hk26 _ _ _ σ _ _ _ hw hR hS (tk_sub hl [0, 1, 2] rfl)
set_option maxHeartbeats 4000000 in
theorem wk_X4_recognizes_b2  (C : tw_C p l R s m args meth c G cX4_recognizes 3 yX4_recognizes.cls) (hr : meth.sig.returnType = none) (hmn : meth.name = yX4_recognizes.name) (hnx : (∀ x ∈ c.exceptionTable.toList, False)) (hfr : 3 ≤ R.frames) (hRl : R.locals = 40 * R.frames) {Q : Tst → Prop} {X : String → Nat → Tst → Prop}  : ∀ (n : Nat) (l0 : Option Nat) (l1 : Int32) (σ : Tst) (H : Heap) (locs : List Loc) (ls : Array Slot), w_X4_recognizes_b2 Q X n l0 l1 σ → tw_R G σ H → va_S (tw_A G) s.heap H locs → tw_l ls 3 [(0, .inr l0), (1, .inl l1)] → tw_W p l e R s m args below meth c σ H locs (tw_E below G (tw_Qv G Q) X args s R) (F0 m 2 ls []) := by
  intro n
  induction n with
  | zero => intro l0 l1 σ H locs ls hw; exact False.elim hw
  | succ n hk2 =>
    intro l0 l1 σ H locs ls hw hR hS hl
    rw [w_X4_recognizes_b2] at hw
    refine tk_iload_n C hl 1 dX4_recognizes_2 rfl ?_
    refine tk_aload_n C hl 0 dX4_recognizes_3 rfl ?_
    refine tk_gi C hR hw rfl in_X4 (by decide) q2067 (fun _ h => h) dX4_recognizes_4 (fun x1 hw => ?_)
    refine lv_icmp_ge (tgt := 123) C.hx C.hb dX4_recognizes_7 (by decide) (fun c7 => ?_) (fun c7 => ?_)
    · replace hw := hw.1 c7
      exact tw_vret C hR hS hr dX4_recognizes_123 hw
    · replace hw := hw.2 c7
      refine tk_aload_n C hl 0 dX4_recognizes_10 rfl ?_
      refine tk_gr C hR hw rfl in_X4 (by decide) q2062 (fun _ h => h) dX4_recognizes_11 (fun x2 hw => ?_)
      refine tk_iload_n C hl 1 dX4_recognizes_14 rfl ?_
      refine tk_lc C hR hw dX4_recognizes_15 (fun x3 hw => ?_)
      refine lv_bipush (v := 100) C.hx C.hb dX4_recognizes_16 (by decide) ?_
      refine lv_icmp_eq (tgt := 24) C.hx C.hb dX4_recognizes_18 (by decide) (fun c18 => ?_) (fun c18 => ?_)
      · replace hw := hw.1 c18
        refine lv_iconst (v := 0) C.hx C.hb dX4_recognizes_24 (by decide) ?_
        refine tk_istore_n (L' := [(2, .inl 0), (0, .inr l0), (1, .inl l1)]) C hl dX4_recognizes_25 (by decide) rfl (fun ls hl => ?_)
        obtain ⟨z, hw⟩ := hw
        exact wk_X4_recognizes_b26 C hr hmn hnx hfr hRl hk2 z _ _ _ σ _ _ _ hw hR hS (tk_sub hl [1, 2, 0] rfl)
      · replace hw := hw.2 c18
        refine lv_goto (tgt := 117) C.hx C.hb dX4_recognizes_21 (by decide) ?_
        exact wk_X4_recognizes_b117 C hr hmn hnx hfr hRl hk2 _ _ σ _ _ _ hw hR hS (tk_sub hl [0, 1] rfl)
set_option maxHeartbeats 4000000 in
theorem wk_X4_recognizes (l : Launch) (hl0 : l.stackTraces = false) (G : Tgl) (fr : Nat)  (hfr : 3 ≤ fr) (l0 : Option Nat) (Q : Tst → Prop) (X : String → Nat → Tst → Prop) (σ : Tst) (hw : w_X4_recognizes l0 Q X σ) : tw_M l yX4_recognizes (ws_ yX4_recognizes cX4_recognizes 3 none) fr (40 * fr) G σ [.inr l0] (tw_Qv G Q) X := by
  unfold w_X4_recognizes at hw
  refine tw_of (ret := none) hl0 (by decide) (Nat.le_of_ble_eq_true rfl) (fun p e R s m args below meth c hRf hRl C hr hmn hnx hR hS ls hl => ?_)
  have hfr : 3 ≤ R.frames := by rw [hRf]; exact hfr
  have hRl : R.locals = 40 * R.frames := by rw [hRl, hRf]
  have hl : tw_l ls 3 [(0, .inr l0)] := hl
  refine lv_iconst (v := 0) C.hx C.hb dX4_recognizes_0 (by decide) ?_
  refine tk_istore_n (L' := [(1, .inl 0), (0, .inr l0)]) C hl dX4_recognizes_1 (by decide) rfl (fun ls hl => ?_)
  obtain ⟨z, hw⟩ := hw
  exact wk_X4_recognizes_b2 C hr hmn hnx hfr hRl z _ _ σ _ _ _ hw hR hS (tk_sub hl [1, 0] rfl)
-- TreeDifferModel.diff(II)I
def w_X4_diff_b137 (k60 : Option Nat → Int32 → Tst → Prop) (Q : Int32 → Tst → Prop) (X : String → Nat → Tst → Prop) (l0 : Option Nat) (l3 : Int32) (σ : Tst) : Prop := k60 l0 (l3 + 1) σ
def w_X4_diff_b145 (Q : Int32 → Tst → Prop) (X : String → Nat → Tst → Prop) : Nat → Option Nat → Int32 → Tst → Prop
  | 0, _, _, _ => False
  | n + 1, l0, l3, σ => w_if (20 ≤ l3) (w_ok .boolean 1 ∧ w_p σ l0 cX4 23 (.inl 1) fun σ => w_gi σ l0 cX4 24 fun x1 => Q x1 σ) (w_gr σ l0 cX4 21 fun x2 => w_gr σ l0 cX4 13 fun x3 => w_li σ x3 l3 fun x4 => w_si σ x2 l3 x4 fun σ => w_gr σ l0 cX4 22 fun x5 => w_gr σ l0 cX4 14 fun x6 => w_li σ x6 l3 fun x7 => w_si σ x5 l3 x7 fun σ => (w_X4_diff_b145 Q X n) l0 (l3 + 1) σ)
def w_X4_diff_b60 (Q : Int32 → Tst → Prop) (X : String → Nat → Tst → Prop) : Nat → Option Nat → Int32 → Tst → Prop
  | 0, _, _, _ => False
  | n + 1, l0, l3, σ => w_gi σ l0 cX4 15 fun x1 => w_if (x1 ≤ l3) (∃ z, w_X4_diff_b145 Q X z l0 0 σ) (w_gr σ l0 cX4 10 fun x2 => w_lc σ x2 l3 fun x3 => w_if (x3 = 45) (w_X4_diff_b137 (w_X4_diff_b60 Q X n) Q X l0 l3 σ) (w_gr σ l0 cX4 18 fun x4 => w_gi σ l0 cX4 24 fun x5 => w_gr σ l0 cX4 10 fun x6 => w_lc σ x6 l3 fun x7 => w_sc σ x4 x5 x7 fun σ => w_gr σ l0 cX4 19 fun x8 => w_gi σ l0 cX4 24 fun x9 => w_gr σ l0 cX4 11 fun x10 => w_li σ x10 l3 fun x11 => w_si σ x8 x9 x11 fun σ => w_gr σ l0 cX4 20 fun x12 => w_gi σ l0 cX4 24 fun x13 => w_gr σ l0 cX4 12 fun x14 => w_li σ x14 l3 fun x15 => w_si σ x12 x13 x15 fun σ => w_gi σ l0 cX4 24 fun x16 => w_p σ l0 cX4 24 (.inl (x16 + 1)) fun σ => w_X4_diff_b137 (w_X4_diff_b60 Q X n) Q X l0 l3 σ))
def w_X4_diff (l0 : Option Nat) (l1 : Int32) (l2 : Int32) (Q : Int32 → Tst → Prop) (X : String → Nat → Tst → Prop) (σ : Tst) : Prop := w_rc σ l0 cX4 <| w_X4_areNone l0 l1 l2 (fun x1 σ => w_if (x1 = 0) (w_gr σ l0 cX4 16 fun x2 => w_gr σ l0 cX4 0 fun x3 => w_lr σ x3 l1 fun x4 => w_rc σ x2 cX5 <| w_X5_copies x2 x4 (fun σ => w_gr σ l0 cX4 17 fun x6 => w_gr σ l0 cX4 0 fun x7 => w_lr σ x7 l2 fun x8 => w_rc σ x6 cX5 <| w_X5_copies x6 x8 (fun σ => w_gr σ l0 cX4 16 fun x10 => w_gr σ l0 cX4 17 fun x11 => w_rc σ l0 cX4 <| w_X4_matches l0 x10 x11 (fun σ => w_rc σ l0 cX4 <| w_X4_recognizes l0 (fun σ => w_p σ l0 cX4 24 (.inl 0) fun σ => ∃ z, w_X4_diff_b60 Q X z l0 0 σ) X σ) X σ) X σ) X σ) (Q 0 σ)) X σ
set_option maxHeartbeats 4000000 in
theorem wk_X4_diff_b137  (C : tw_C p l R s m args meth c G cX4_diff 4 yX4_diff.cls) (hr : meth.sig.returnType = (some .int)) (hmn : meth.name = yX4_diff.name) (hnx : (∀ x ∈ c.exceptionTable.toList, False)) (hfr : 69 ≤ R.frames) (hRl : R.locals = 40 * R.frames) {Q : Int32 → Tst → Prop} {X : String → Nat → Tst → Prop}  {k60 : Option Nat → Int32 → Tst → Prop} (hk60 : ∀ (l0 : Option Nat) (l3 : Int32) (σ : Tst) (H : Heap) (locs : List Loc) (ls : Array Slot), k60 l0 l3 σ → tw_R G σ H → va_S (tw_A G) s.heap H locs → tw_l ls 4 [(0, .inr l0), (3, .inl l3)] → tw_W p l e R s m args below meth c σ H locs (tw_E below G (tw_Qi G Q) X args s R) (F0 m 60 ls [])) (l0 : Option Nat) (l3 : Int32) (σ : Tst) (H : Heap) (locs : List Loc) (ls : Array Slot) (hw : w_X4_diff_b137 k60 Q X l0 l3 σ) (hR : tw_R G σ H) (hS : va_S (tw_A G) s.heap H locs) (hl : tw_l ls 4 [(0, .inr l0), (3, .inl l3)]) : tw_W p l e R s m args below meth c σ H locs (tw_E below G (tw_Qi G Q) X args s R) (F0 m 137 ls []) := by
  unfold w_X4_diff_b137 at hw
  refine tk_iinc (L' := [(3, .inl (l3 + 1)), (0, .inr l0)]) (y := (l3 + 1)) C hl 1 dX4_diff_137 rfl rfl (by decide) rfl (fun ls hl => ?_)
  refine lv_goto (tgt := 60) C.hx C.hb dX4_diff_140 (by decide) ?_
  exact hk60 _ _ σ _ _ _ hw hR hS (tk_sub hl [1, 0] rfl)
set_option maxHeartbeats 4000000 in
theorem wk_X4_diff_b145  (C : tw_C p l R s m args meth c G cX4_diff 4 yX4_diff.cls) (hr : meth.sig.returnType = (some .int)) (hmn : meth.name = yX4_diff.name) (hnx : (∀ x ∈ c.exceptionTable.toList, False)) (hfr : 69 ≤ R.frames) (hRl : R.locals = 40 * R.frames) {Q : Int32 → Tst → Prop} {X : String → Nat → Tst → Prop}  : ∀ (n : Nat) (l0 : Option Nat) (l3 : Int32) (σ : Tst) (H : Heap) (locs : List Loc) (ls : Array Slot), w_X4_diff_b145 Q X n l0 l3 σ → tw_R G σ H → va_S (tw_A G) s.heap H locs → tw_l ls 4 [(0, .inr l0), (3, .inl l3)] → tw_W p l e R s m args below meth c σ H locs (tw_E below G (tw_Qi G Q) X args s R) (F0 m 145 ls []) := by
  intro n
  induction n with
  | zero => intro l0 l3 σ H locs ls hw; exact False.elim hw
  | succ n hk145 =>
    intro l0 l3 σ H locs ls hw hR hS hl
    rw [w_X4_diff_b145] at hw
    refine tk_iload_n C hl 1 dX4_diff_145 rfl ?_
    refine lv_bipush (v := 20) C.hx C.hb dX4_diff_146 (by decide) ?_
    refine lv_icmp_ge (tgt := 181) C.hx C.hb dX4_diff_148 (by decide) (fun c148 => ?_) (fun c148 => ?_)
    · replace hw := hw.1 c148
      refine tk_aload_n C hl 0 dX4_diff_181 rfl ?_
      refine lv_iconst (v := 1) C.hx C.hb dX4_diff_182 (by decide) ?_
      obtain ⟨hok, hw⟩ := hw
      refine tk_p (x := .inl 1) C hR hS hw (by decide) rfl in_X4 tyX4 tyX4_ok nmX4 (by decide) q2075 (fun _ h => h) rfl hok dX4_diff_183 (fun σ H locs hw hR hS => ?_)
      refine tk_aload_n C hl 0 dX4_diff_186 rfl ?_
      refine tk_gi C hR hw rfl in_X4 (by decide) q2076 (fun _ h => h) dX4_diff_187 (fun x1 hw => ?_)
      exact tw_iret C hR hS hr rfl dX4_diff_190 hw
    · replace hw := hw.2 c148
      refine tk_aload_n C hl 0 dX4_diff_151 rfl ?_
      refine tk_gr C hR hw rfl in_X4 (by decide) q2073 (fun _ h => h) dX4_diff_152 (fun x2 hw => ?_)
      refine tk_iload_n C hl 1 dX4_diff_155 rfl ?_
      refine tk_aload_n C hl 0 dX4_diff_156 rfl ?_
      refine tk_gr C hR hw rfl in_X4 (by decide) q2065 (fun _ h => h) dX4_diff_157 (fun x3 hw => ?_)
      refine tk_iload_n C hl 1 dX4_diff_160 rfl ?_
      refine tk_li C hR hw dX4_diff_161 (fun x4 hw => ?_)
      refine tk_si C hR hS hw dX4_diff_162 (fun σ H locs hw hR hS => ?_)
      refine tk_aload_n C hl 0 dX4_diff_163 rfl ?_
      refine tk_gr C hR hw rfl in_X4 (by decide) q2074 (fun _ h => h) dX4_diff_164 (fun x5 hw => ?_)
      refine tk_iload_n C hl 1 dX4_diff_167 rfl ?_
      refine tk_aload_n C hl 0 dX4_diff_168 rfl ?_
      refine tk_gr C hR hw rfl in_X4 (by decide) q2066 (fun _ h => h) dX4_diff_169 (fun x6 hw => ?_)
      refine tk_iload_n C hl 1 dX4_diff_172 rfl ?_
      refine tk_li C hR hw dX4_diff_173 (fun x7 hw => ?_)
      refine tk_si C hR hS hw dX4_diff_174 (fun σ H locs hw hR hS => ?_)
      refine tk_iinc (L' := [(3, .inl (l3 + 1)), (0, .inr l0)]) (y := (l3 + 1)) C hl 1 dX4_diff_175 rfl rfl (by decide) rfl (fun ls hl => ?_)
      refine lv_goto (tgt := 145) C.hx C.hb dX4_diff_178 (by decide) ?_
      exact hk145 _ _ σ _ _ _ hw hR hS (tk_sub hl [1, 0] rfl)
set_option maxHeartbeats 4000000 in
theorem wk_X4_diff_b60  (C : tw_C p l R s m args meth c G cX4_diff 4 yX4_diff.cls) (hr : meth.sig.returnType = (some .int)) (hmn : meth.name = yX4_diff.name) (hnx : (∀ x ∈ c.exceptionTable.toList, False)) (hfr : 69 ≤ R.frames) (hRl : R.locals = 40 * R.frames) {Q : Int32 → Tst → Prop} {X : String → Nat → Tst → Prop}  : ∀ (n : Nat) (l0 : Option Nat) (l3 : Int32) (σ : Tst) (H : Heap) (locs : List Loc) (ls : Array Slot), w_X4_diff_b60 Q X n l0 l3 σ → tw_R G σ H → va_S (tw_A G) s.heap H locs → tw_l ls 4 [(0, .inr l0), (3, .inl l3)] → tw_W p l e R s m args below meth c σ H locs (tw_E below G (tw_Qi G Q) X args s R) (F0 m 60 ls []) := by
  intro n
  induction n with
  | zero => intro l0 l3 σ H locs ls hw; exact False.elim hw
  | succ n hk60 =>
    intro l0 l3 σ H locs ls hw hR hS hl
    rw [w_X4_diff_b60] at hw
    refine tk_iload_n C hl 1 dX4_diff_60 rfl ?_
    refine tk_aload_n C hl 0 dX4_diff_61 rfl ?_
    refine tk_gi C hR hw rfl in_X4 (by decide) q2067 (fun _ h => h) dX4_diff_62 (fun x1 hw => ?_)
    refine lv_icmp_ge (tgt := 143) C.hx C.hb dX4_diff_65 (by decide) (fun c65 => ?_) (fun c65 => ?_)
    · replace hw := hw.1 c65
      refine lv_iconst (v := 0) C.hx C.hb dX4_diff_143 (by decide) ?_
      refine tk_istore_n (L' := [(3, .inl 0), (0, .inr l0)]) C hl dX4_diff_144 (by decide) rfl (fun ls hl => ?_)
      obtain ⟨z, hw⟩ := hw
      exact wk_X4_diff_b145 C hr hmn hnx hfr hRl z _ _ σ _ _ _ hw hR hS (tk_sub hl [1, 0] rfl)
    · replace hw := hw.2 c65
      refine tk_aload_n C hl 0 dX4_diff_68 rfl ?_
      refine tk_gr C hR hw rfl in_X4 (by decide) q2062 (fun _ h => h) dX4_diff_69 (fun x2 hw => ?_)
      refine tk_iload_n C hl 1 dX4_diff_72 rfl ?_
      refine tk_lc C hR hw dX4_diff_73 (fun x3 hw => ?_)
      refine lv_bipush (v := 45) C.hx C.hb dX4_diff_74 (by decide) ?_
      refine lv_icmp_ne (tgt := 82) C.hx C.hb dX4_diff_76 (by decide) (fun c76 => ?_) (fun c76 => ?_)
      · replace hw := hw.2 c76
        refine tk_aload_n C hl 0 dX4_diff_82 rfl ?_
        refine tk_gr C hR hw rfl in_X4 (by decide) q2070 (fun _ h => h) dX4_diff_83 (fun x4 hw => ?_)
        refine tk_aload_n C hl 0 dX4_diff_86 rfl ?_
        refine tk_gi C hR hw rfl in_X4 (by decide) q2076 (fun _ h => h) dX4_diff_87 (fun x5 hw => ?_)
        refine tk_aload_n C hl 0 dX4_diff_90 rfl ?_
        refine tk_gr C hR hw rfl in_X4 (by decide) q2062 (fun _ h => h) dX4_diff_91 (fun x6 hw => ?_)
        refine tk_iload_n C hl 1 dX4_diff_94 rfl ?_
        refine tk_lc C hR hw dX4_diff_95 (fun x7 hw => ?_)
        refine tk_sc C hR hS hw dX4_diff_96 (fun σ H locs hw hR hS => ?_)
        refine tk_aload_n C hl 0 dX4_diff_97 rfl ?_
        refine tk_gr C hR hw rfl in_X4 (by decide) q2071 (fun _ h => h) dX4_diff_98 (fun x8 hw => ?_)
        refine tk_aload_n C hl 0 dX4_diff_101 rfl ?_
        refine tk_gi C hR hw rfl in_X4 (by decide) q2076 (fun _ h => h) dX4_diff_102 (fun x9 hw => ?_)
        refine tk_aload_n C hl 0 dX4_diff_105 rfl ?_
        refine tk_gr C hR hw rfl in_X4 (by decide) q2063 (fun _ h => h) dX4_diff_106 (fun x10 hw => ?_)
        refine tk_iload_n C hl 1 dX4_diff_109 rfl ?_
        refine tk_li C hR hw dX4_diff_110 (fun x11 hw => ?_)
        refine tk_si C hR hS hw dX4_diff_111 (fun σ H locs hw hR hS => ?_)
        refine tk_aload_n C hl 0 dX4_diff_112 rfl ?_
        refine tk_gr C hR hw rfl in_X4 (by decide) q2072 (fun _ h => h) dX4_diff_113 (fun x12 hw => ?_)
        refine tk_aload_n C hl 0 dX4_diff_116 rfl ?_
        refine tk_gi C hR hw rfl in_X4 (by decide) q2076 (fun _ h => h) dX4_diff_117 (fun x13 hw => ?_)
        refine tk_aload_n C hl 0 dX4_diff_120 rfl ?_
        refine tk_gr C hR hw rfl in_X4 (by decide) q2064 (fun _ h => h) dX4_diff_121 (fun x14 hw => ?_)
        refine tk_iload_n C hl 1 dX4_diff_124 rfl ?_
        refine tk_li C hR hw dX4_diff_125 (fun x15 hw => ?_)
        refine tk_si C hR hS hw dX4_diff_126 (fun σ H locs hw hR hS => ?_)
        refine tk_aload_n C hl 0 dX4_diff_127 rfl ?_
        refine tw_dup (x := .inr l0) C.hx C.hb dX4_diff_128 ?_
        refine tk_gi C hR hw rfl in_X4 (by decide) q2076 (fun _ h => h) dX4_diff_129 (fun x16 hw => ?_)
        refine lv_iconst (v := 1) C.hx C.hb dX4_diff_132 (by decide) ?_
        refine lv_iadd C.hx C.hb dX4_diff_133 ?_
        refine tk_p (x := .inl (x16 + 1)) C hR hS hw (by decide) rfl in_X4 tyX4 tyX4_ok nmX4 (by decide) q2076 (fun _ h => h) rfl (tw_ni _) dX4_diff_134 (fun σ H locs hw hR hS => ?_)
        exact wk_X4_diff_b137 C hr hmn hnx hfr hRl hk60 _ _ σ _ _ _ hw hR hS (tk_sub hl [0, 1] rfl)
      · replace hw := hw.1 c76
        refine lv_goto (tgt := 137) C.hx C.hb dX4_diff_79 (by decide) ?_
        exact wk_X4_diff_b137 C hr hmn hnx hfr hRl hk60 _ _ σ _ _ _ hw hR hS (tk_sub hl [0, 1] rfl)
set_option maxHeartbeats 4000000 in
theorem wk_X4_diff (l : Launch) (hl0 : l.stackTraces = false) (G : Tgl) (fr : Nat)  (hfr : 69 ≤ fr) (l0 : Option Nat) (l1 : Int32) (l2 : Int32) (Q : Int32 → Tst → Prop) (X : String → Nat → Tst → Prop) (σ : Tst) (hw : w_X4_diff l0 l1 l2 Q X σ) : tw_M l yX4_diff (ws_ yX4_diff cX4_diff 4 (some .int)) fr (40 * fr) G σ [.inr l0, .inl l1, .inl l2] (tw_Qi G Q) X := by
  unfold w_X4_diff at hw
  refine tw_of (ret := (some .int)) hl0 (by decide) (Nat.le_of_ble_eq_true rfl) (fun p e R s m args below meth c hRf hRl C hr hmn hnx hR hS ls hl => ?_)
  have hfr : 69 ≤ R.frames := by rw [hRf]; exact hfr
  have hRl : R.locals = 40 * R.frames := by rw [hRl, hRf]
  have hl : tw_l ls 4 [(0, .inr l0), (1, .inl l1), (2, .inl l2)] := hl
  refine tk_aload_n C hl 0 dX4_diff_0 rfl ?_
  refine tk_iload_n C hl 1 dX4_diff_1 rfl ?_
  refine tk_iload_n C hl 2 dX4_diff_2 rfl ?_
  obtain ⟨hv, hw⟩ := hw
  refine tw_cbi C hS (tk_runV (As := [.inl l1, .inl l2]) C hR hS (wk_X4_areNone l C.hst G (R.frames - 1) (by omega) _ _ _ _ _ σ hw) hv rfl q2291 q2293 qs39 q74 q2294 pd_X4_areNone ⟨by omega, by omega⟩ hl.1 rfl (tw_r8 [] (Nat.le_of_ble_eq_true rfl)) dX4_diff_3) (fun E q σ H locs hX hR hS hi => tw_out C hR hS (fun x hx => (hnx x hx).elim) hi hX) (fun x1 σ H locs hw hR hS => ?_)
  refine lv_if_eq (tgt := 11) C.hx C.hb dX4_diff_6 (by decide) (fun c6 => ?_) (fun c6 => ?_)
  · replace hw := hw.1 c6
    refine tk_aload_n C hl 0 dX4_diff_11 rfl ?_
    refine tk_gr C hR hw rfl in_X4 (by decide) q2068 (fun _ h => h) dX4_diff_12 (fun x2 hw => ?_)
    refine tk_aload_n C hl 0 dX4_diff_15 rfl ?_
    refine tk_gr C hR hw rfl in_X4 (by decide) q2052 (fun _ h => h) dX4_diff_16 (fun x3 hw => ?_)
    refine tk_iload_n C hl 1 dX4_diff_19 rfl ?_
    refine tk_lr C hR hw dX4_diff_20 (fun x4 hw => ?_)
    obtain ⟨hv, hw⟩ := hw
    refine tw_cbv C hS (tk_runVN (As := [.inr x4]) C hR hS (wk_X5_copies l C.hst G (R.frames - 1) (by omega) _ _ _ _ σ hw) hv rfl q2193 q2195 qs31 q75 q2196 pd_X5_copies ⟨by omega, by omega⟩ hl.1 rfl (tw_r8 [] (Nat.le_of_ble_eq_true rfl)) dX4_diff_21) (fun E q σ H locs hX hR hS hi => tw_out C hR hS (fun x hx => (hnx x hx).elim) hi hX) (fun σ H locs hw hR hS => ?_)
    refine tk_aload_n C hl 0 dX4_diff_24 rfl ?_
    refine tk_gr C hR hw rfl in_X4 (by decide) q2069 (fun _ h => h) dX4_diff_25 (fun x6 hw => ?_)
    refine tk_aload_n C hl 0 dX4_diff_28 rfl ?_
    refine tk_gr C hR hw rfl in_X4 (by decide) q2052 (fun _ h => h) dX4_diff_29 (fun x7 hw => ?_)
    refine tk_iload_n C hl 2 dX4_diff_32 rfl ?_
    refine tk_lr C hR hw dX4_diff_33 (fun x8 hw => ?_)
    obtain ⟨hv, hw⟩ := hw
    refine tw_cbv C hS (tk_runVN (As := [.inr x8]) C hR hS (wk_X5_copies l C.hst G (R.frames - 1) (by omega) _ _ _ _ σ hw) hv rfl q2193 q2195 qs31 q75 q2196 pd_X5_copies ⟨by omega, by omega⟩ hl.1 rfl (tw_r8 [] (Nat.le_of_ble_eq_true rfl)) dX4_diff_34) (fun E q σ H locs hX hR hS hi => tw_out C hR hS (fun x hx => (hnx x hx).elim) hi hX) (fun σ H locs hw hR hS => ?_)
    refine tk_aload_n C hl 0 dX4_diff_37 rfl ?_
    refine tk_aload_n C hl 0 dX4_diff_38 rfl ?_
    refine tk_gr C hR hw rfl in_X4 (by decide) q2068 (fun _ h => h) dX4_diff_39 (fun x10 hw => ?_)
    refine tk_aload_n C hl 0 dX4_diff_42 rfl ?_
    refine tk_gr C hR hw rfl in_X4 (by decide) q2069 (fun _ h => h) dX4_diff_43 (fun x11 hw => ?_)
    obtain ⟨hv, hw⟩ := hw
    refine tw_cbv C hS (tk_runV (As := [.inr x10, .inr x11]) C hR hS (wk_X4_matches l C.hst G (R.frames - 1) (by omega) _ _ _ _ _ σ hw) hv rfl q2378 q2380 qs44 q74 q2381 pd_X4_matches ⟨by omega, by omega⟩ hl.1 rfl (tw_r8 [] (Nat.le_of_ble_eq_true rfl)) dX4_diff_46) (fun E q σ H locs hX hR hS hi => tw_out C hR hS (fun x hx => (hnx x hx).elim) hi hX) (fun σ H locs hw hR hS => ?_)
    refine tk_aload_n C hl 0 dX4_diff_49 rfl ?_
    obtain ⟨hv, hw⟩ := hw
    refine tw_cbv C hS (tk_runV (As := []) C hR hS (wk_X4_recognizes l C.hst G (R.frames - 1) (by omega) _ _ _ σ hw) hv rfl q2390 q2392 qs47 q74 q2393 pd_X4_recognizes ⟨by omega, by omega⟩ hl.1 rfl (tw_r8 [] (Nat.le_of_ble_eq_true rfl)) dX4_diff_50) (fun E q σ H locs hX hR hS hi => tw_out C hR hS (fun x hx => (hnx x hx).elim) hi hX) (fun σ H locs hw hR hS => ?_)
    refine tk_aload_n C hl 0 dX4_diff_53 rfl ?_
    refine lv_iconst (v := 0) C.hx C.hb dX4_diff_54 (by decide) ?_
    refine tk_p (x := .inl 0) C hR hS hw (by decide) rfl in_X4 tyX4 tyX4_ok nmX4 (by decide) q2076 (fun _ h => h) rfl (tw_ni _) dX4_diff_55 (fun σ H locs hw hR hS => ?_)
    refine lv_iconst (v := 0) C.hx C.hb dX4_diff_58 (by decide) ?_
    refine tk_istore_n (L' := [(3, .inl 0), (0, .inr l0), (1, .inl l1), (2, .inl l2)]) C hl dX4_diff_59 (by decide) rfl (fun ls hl => ?_)
    obtain ⟨z, hw⟩ := hw
    exact wk_X4_diff_b60 C hr hmn hnx hfr hRl z _ _ σ _ _ _ hw hR hS (tk_sub hl [1, 0] rfl)
  · replace hw := hw.2 c6
    refine lv_iconst (v := 0) C.hx C.hb dX4_diff_9 (by decide) ?_
    exact tw_iret C hR hS hr rfl dX4_diff_10 hw
-- TreeDifferModel.isNoScript()Z
def w_X4_isNoScript_b28 (Q : Int32 → Tst → Prop) (X : String → Nat → Tst → Prop) (s0 : Int32) (σ : Tst) : Prop := narrow .boolean (.int s0) = .int s0 ∧ Q s0 σ
def w_X4_isNoScript_b13 (Q : Int32 → Tst → Prop) (X : String → Nat → Tst → Prop) (l0 : Option Nat) (s0 : Option Nat) (s1 : Int32) (σ : Tst) : Prop := w_p σ s0 cX4 1 (.inl s1) fun σ => w_gi σ l0 cX4 1 fun x1 => w_if (x1 ≤ 0) (w_X4_isNoScript_b28 Q X 0 σ) (w_X4_isNoScript_b28 Q X 1 σ)
def w_X4_isNoScript (l0 : Option Nat) (Q : Int32 → Tst → Prop) (X : String → Nat → Tst → Prop) (σ : Tst) : Prop := w_gi σ l0 cX4 23 fun x1 => w_if (x1 = 0) (w_X4_isNoScript_b13 Q X l0 l0 1 σ) (w_X4_isNoScript_b13 Q X l0 l0 0 σ)
set_option maxHeartbeats 4000000 in
theorem wk_X4_isNoScript_b28  (C : tw_C p l R s m args meth c G cX4_isNoScript 1 yX4_isNoScript.cls) (hr : meth.sig.returnType = (some .boolean)) (hmn : meth.name = yX4_isNoScript.name) (hnx : (∀ x ∈ c.exceptionTable.toList, False)) (hfr : 1 ≤ R.frames) (hRl : R.locals = 40 * R.frames) {Q : Int32 → Tst → Prop} {X : String → Nat → Tst → Prop}  (s0 : Int32) (σ : Tst) (H : Heap) (locs : List Loc) (ls : Array Slot) (hw : w_X4_isNoScript_b28 Q X s0 σ) (hR : tw_R G σ H) (hS : va_S (tw_A G) s.heap H locs) (hl : tw_l ls 1 []) : tw_W p l e R s m args below meth c σ H locs (tw_E below G (tw_Qi G Q) X args s R) (F0 m 28 ls [.int s0]) := by
  unfold w_X4_isNoScript_b28 at hw
  obtain ⟨hok, hw⟩ := hw
  exact tw_iret C hR hS hr hok dX4_isNoScript_28 hw
set_option maxHeartbeats 4000000 in
theorem wk_X4_isNoScript_b13  (C : tw_C p l R s m args meth c G cX4_isNoScript 1 yX4_isNoScript.cls) (hr : meth.sig.returnType = (some .boolean)) (hmn : meth.name = yX4_isNoScript.name) (hnx : (∀ x ∈ c.exceptionTable.toList, False)) (hfr : 1 ≤ R.frames) (hRl : R.locals = 40 * R.frames) {Q : Int32 → Tst → Prop} {X : String → Nat → Tst → Prop}  (l0 : Option Nat) (s0 : Option Nat) (s1 : Int32) (σ : Tst) (H : Heap) (locs : List Loc) (ls : Array Slot) (hw : w_X4_isNoScript_b13 Q X l0 s0 s1 σ) (hR : tw_R G σ H) (hS : va_S (tw_A G) s.heap H locs) (hl : tw_l ls 1 [(0, .inr l0)]) : tw_W p l e R s m args below meth c σ H locs (tw_E below G (tw_Qi G Q) X args s R) (F0 m 13 ls [.int s1, va_rf s0]) := by
  unfold w_X4_isNoScript_b13 at hw
  refine tk_p (x := .inl s1) C hR hS hw (by decide) rfl in_X4 tyX4 tyX4_ok nmX4 (by decide) q2053 (fun _ h => h) rfl (tw_ni _) dX4_isNoScript_13 (fun σ H locs hw hR hS => ?_)
  refine tk_aload_n C hl 0 dX4_isNoScript_16 rfl ?_
  refine tk_gi C hR hw rfl in_X4 (by decide) q2053 (fun _ h => h) dX4_isNoScript_17 (fun x1 hw => ?_)
  refine lv_if_le (tgt := 27) C.hx C.hb dX4_isNoScript_20 (by decide) (fun c20 => ?_) (fun c20 => ?_)
  · replace hw := hw.1 c20
    refine lv_iconst (v := 0) C.hx C.hb dX4_isNoScript_27 (by decide) ?_
    exact wk_X4_isNoScript_b28 C hr hmn hnx hfr hRl _ σ _ _ _ hw hR hS (tk_sub hl [] rfl)
  · replace hw := hw.2 c20
    refine lv_iconst (v := 1) C.hx C.hb dX4_isNoScript_23 (by decide) ?_
    refine lv_goto (tgt := 28) C.hx C.hb dX4_isNoScript_24 (by decide) ?_
    exact wk_X4_isNoScript_b28 C hr hmn hnx hfr hRl _ σ _ _ _ hw hR hS (tk_sub hl [] rfl)
set_option maxHeartbeats 4000000 in
theorem wk_X4_isNoScript (l : Launch) (hl0 : l.stackTraces = false) (G : Tgl) (fr : Nat)  (hfr : 1 ≤ fr) (l0 : Option Nat) (Q : Int32 → Tst → Prop) (X : String → Nat → Tst → Prop) (σ : Tst) (hw : w_X4_isNoScript l0 Q X σ) : tw_M l yX4_isNoScript (ws_ yX4_isNoScript cX4_isNoScript 1 (some .boolean)) fr (40 * fr) G σ [.inr l0] (tw_Qi G Q) X := by
  unfold w_X4_isNoScript at hw
  refine tw_of (ret := (some .boolean)) hl0 (by decide) (Nat.le_of_ble_eq_true rfl) (fun p e R s m args below meth c hRf hRl C hr hmn hnx hR hS ls hl => ?_)
  have hfr : 1 ≤ R.frames := by rw [hRf]; exact hfr
  have hRl : R.locals = 40 * R.frames := by rw [hRl, hRf]
  have hl : tw_l ls 1 [(0, .inr l0)] := hl
  refine tk_aload_n C hl 0 dX4_isNoScript_0 rfl ?_
  refine tk_aload_n C hl 0 dX4_isNoScript_1 rfl ?_
  refine tk_gi C hR hw rfl in_X4 (by decide) q2075 (fun _ h => h) dX4_isNoScript_2 (fun x1 hw => ?_)
  refine lv_if_eq (tgt := 12) C.hx C.hb dX4_isNoScript_5 (by decide) (fun c5 => ?_) (fun c5 => ?_)
  · replace hw := hw.1 c5
    refine lv_iconst (v := 1) C.hx C.hb dX4_isNoScript_12 (by decide) ?_
    exact wk_X4_isNoScript_b13 C hr hmn hnx hfr hRl _ _ _ σ _ _ _ hw hR hS (tk_sub hl [0] rfl)
  · replace hw := hw.2 c5
    refine lv_iconst (v := 0) C.hx C.hb dX4_isNoScript_8 (by decide) ?_
    refine lv_goto (tgt := 13) C.hx C.hb dX4_isNoScript_9 (by decide) ?_
    exact wk_X4_isNoScript_b13 C hr hmn hnx hfr hRl _ _ _ σ _ _ _ hw hR hS (tk_sub hl [0] rfl)
-- TreeDifferModel.operations()I
def w_X4_operations_b15 (Q : Int32 → Tst → Prop) (X : String → Nat → Tst → Prop) (s0 : Int32) (σ : Tst) : Prop := Q s0 σ
def w_X4_operations (l0 : Option Nat) (Q : Int32 → Tst → Prop) (X : String → Nat → Tst → Prop) (σ : Tst) : Prop := w_rc σ l0 cX4 <| w_X4_isNoScript l0 (fun x1 σ => w_if (x1 = 0) (w_gi σ l0 cX4 24 fun x2 => w_X4_operations_b15 Q X x2 σ) (w_X4_operations_b15 Q X 0 σ)) X σ
set_option maxHeartbeats 4000000 in
theorem wk_X4_operations_b15  (C : tw_C p l R s m args meth c G cX4_operations 1 yX4_operations.cls) (hr : meth.sig.returnType = (some .int)) (hmn : meth.name = yX4_operations.name) (hnx : (∀ x ∈ c.exceptionTable.toList, False)) (hfr : 2 ≤ R.frames) (hRl : R.locals = 40 * R.frames) {Q : Int32 → Tst → Prop} {X : String → Nat → Tst → Prop}  (s0 : Int32) (σ : Tst) (H : Heap) (locs : List Loc) (ls : Array Slot) (hw : w_X4_operations_b15 Q X s0 σ) (hR : tw_R G σ H) (hS : va_S (tw_A G) s.heap H locs) (hl : tw_l ls 1 []) : tw_W p l e R s m args below meth c σ H locs (tw_E below G (tw_Qi G Q) X args s R) (F0 m 15 ls [.int s0]) := by
  unfold w_X4_operations_b15 at hw
  exact tw_iret C hR hS hr rfl dX4_operations_15 hw
set_option maxHeartbeats 4000000 in
theorem wk_X4_operations (l : Launch) (hl0 : l.stackTraces = false) (G : Tgl) (fr : Nat)  (hfr : 2 ≤ fr) (l0 : Option Nat) (Q : Int32 → Tst → Prop) (X : String → Nat → Tst → Prop) (σ : Tst) (hw : w_X4_operations l0 Q X σ) : tw_M l yX4_operations (ws_ yX4_operations cX4_operations 1 (some .int)) fr (40 * fr) G σ [.inr l0] (tw_Qi G Q) X := by
  unfold w_X4_operations at hw
  refine tw_of (ret := (some .int)) hl0 (by decide) (Nat.le_of_ble_eq_true rfl) (fun p e R s m args below meth c hRf hRl C hr hmn hnx hR hS ls hl => ?_)
  have hfr : 2 ≤ R.frames := by rw [hRf]; exact hfr
  have hRl : R.locals = 40 * R.frames := by rw [hRl, hRf]
  have hl : tw_l ls 1 [(0, .inr l0)] := hl
  refine tk_aload_n C hl 0 dX4_operations_0 rfl ?_
  obtain ⟨hv, hw⟩ := hw
  refine tw_cbi C hS (tk_runV (As := []) C hR hS (wk_X4_isNoScript l C.hst G (R.frames - 1) (by omega) _ _ _ σ hw) hv rfl q2398 q2400 qs48 q74 q2401 pd_X4_isNoScript ⟨by omega, by omega⟩ hl.1 rfl (tw_r8 [] (Nat.le_of_ble_eq_true rfl)) dX4_operations_1) (fun E q σ H locs hX hR hS hi => tw_out C hR hS (fun x hx => (hnx x hx).elim) hi hX) (fun x1 σ H locs hw hR hS => ?_)
  refine lv_if_eq (tgt := 11) C.hx C.hb dX4_operations_4 (by decide) (fun c4 => ?_) (fun c4 => ?_)
  · replace hw := hw.1 c4
    refine tk_aload_n C hl 0 dX4_operations_11 rfl ?_
    refine tk_gi C hR hw rfl in_X4 (by decide) q2076 (fun _ h => h) dX4_operations_12 (fun x2 hw => ?_)
    exact wk_X4_operations_b15 C hr hmn hnx hfr hRl _ σ _ _ _ hw hR hS (tk_sub hl [] rfl)
  · replace hw := hw.2 c4
    refine lv_iconst (v := 0) C.hx C.hb dX4_operations_7 (by decide) ?_
    refine lv_goto (tgt := 15) C.hx C.hb dX4_operations_8 (by decide) ?_
    exact wk_X4_operations_b15 C hr hmn hnx hfr hRl _ σ _ _ _ hw hR hS (tk_sub hl [] rfl)
-- TreeDifferModel.isNoOperation(I)Z
def w_X4_isNoOperation_b46 (Q : Int32 → Tst → Prop) (X : String → Nat → Tst → Prop) (s0 : Int32) (σ : Tst) : Prop := narrow .boolean (.int s0) = .int s0 ∧ Q s0 σ
def w_X4_isNoOperation_b31 (Q : Int32 → Tst → Prop) (X : String → Nat → Tst → Prop) (l0 : Option Nat) (s0 : Option Nat) (s1 : Int32) (σ : Tst) : Prop := w_p σ s0 cX4 1 (.inl s1) fun σ => w_gi σ l0 cX4 1 fun x1 => w_if (x1 ≤ 0) (w_X4_isNoOperation_b46 Q X 0 σ) (w_X4_isNoOperation_b46 Q X 1 σ)
def w_X4_isNoOperation (l0 : Option Nat) (l1 : Int32) (Q : Int32 → Tst → Prop) (X : String → Nat → Tst → Prop) (σ : Tst) : Prop := w_gi σ l0 cX4 23 fun x1 => w_if (x1 = 0) (w_X4_isNoOperation_b31 Q X l0 l0 1 σ) (w_gi σ l0 cX4 24 fun x2 => w_X4_isBetween l1 0 (x2 - 1) (fun x3 σ => w_if (x3 = 0) (w_X4_isNoOperation_b31 Q X l0 l0 2 σ) (w_X4_isNoOperation_b31 Q X l0 l0 0 σ)) X σ)
set_option maxHeartbeats 4000000 in
theorem wk_X4_isNoOperation_b46  (C : tw_C p l R s m args meth c G cX4_isNoOperation 2 yX4_isNoOperation.cls) (hr : meth.sig.returnType = (some .boolean)) (hmn : meth.name = yX4_isNoOperation.name) (hnx : (∀ x ∈ c.exceptionTable.toList, False)) (hfr : 2 ≤ R.frames) (hRl : R.locals = 40 * R.frames) {Q : Int32 → Tst → Prop} {X : String → Nat → Tst → Prop}  (s0 : Int32) (σ : Tst) (H : Heap) (locs : List Loc) (ls : Array Slot) (hw : w_X4_isNoOperation_b46 Q X s0 σ) (hR : tw_R G σ H) (hS : va_S (tw_A G) s.heap H locs) (hl : tw_l ls 2 []) : tw_W p l e R s m args below meth c σ H locs (tw_E below G (tw_Qi G Q) X args s R) (F0 m 46 ls [.int s0]) := by
  unfold w_X4_isNoOperation_b46 at hw
  obtain ⟨hok, hw⟩ := hw
  exact tw_iret C hR hS hr hok dX4_isNoOperation_46 hw
set_option maxHeartbeats 4000000 in
theorem wk_X4_isNoOperation_b31  (C : tw_C p l R s m args meth c G cX4_isNoOperation 2 yX4_isNoOperation.cls) (hr : meth.sig.returnType = (some .boolean)) (hmn : meth.name = yX4_isNoOperation.name) (hnx : (∀ x ∈ c.exceptionTable.toList, False)) (hfr : 2 ≤ R.frames) (hRl : R.locals = 40 * R.frames) {Q : Int32 → Tst → Prop} {X : String → Nat → Tst → Prop}  (l0 : Option Nat) (s0 : Option Nat) (s1 : Int32) (σ : Tst) (H : Heap) (locs : List Loc) (ls : Array Slot) (hw : w_X4_isNoOperation_b31 Q X l0 s0 s1 σ) (hR : tw_R G σ H) (hS : va_S (tw_A G) s.heap H locs) (hl : tw_l ls 2 [(0, .inr l0)]) : tw_W p l e R s m args below meth c σ H locs (tw_E below G (tw_Qi G Q) X args s R) (F0 m 31 ls [.int s1, va_rf s0]) := by
  unfold w_X4_isNoOperation_b31 at hw
  refine tk_p (x := .inl s1) C hR hS hw (by decide) rfl in_X4 tyX4 tyX4_ok nmX4 (by decide) q2053 (fun _ h => h) rfl (tw_ni _) dX4_isNoOperation_31 (fun σ H locs hw hR hS => ?_)
  refine tk_aload_n C hl 0 dX4_isNoOperation_34 rfl ?_
  refine tk_gi C hR hw rfl in_X4 (by decide) q2053 (fun _ h => h) dX4_isNoOperation_35 (fun x1 hw => ?_)
  refine lv_if_le (tgt := 45) C.hx C.hb dX4_isNoOperation_38 (by decide) (fun c38 => ?_) (fun c38 => ?_)
  · replace hw := hw.1 c38
    refine lv_iconst (v := 0) C.hx C.hb dX4_isNoOperation_45 (by decide) ?_
    exact wk_X4_isNoOperation_b46 C hr hmn hnx hfr hRl _ σ _ _ _ hw hR hS (tk_sub hl [] rfl)
  · replace hw := hw.2 c38
    refine lv_iconst (v := 1) C.hx C.hb dX4_isNoOperation_41 (by decide) ?_
    refine lv_goto (tgt := 46) C.hx C.hb dX4_isNoOperation_42 (by decide) ?_
    exact wk_X4_isNoOperation_b46 C hr hmn hnx hfr hRl _ σ _ _ _ hw hR hS (tk_sub hl [] rfl)
set_option maxHeartbeats 4000000 in
theorem wk_X4_isNoOperation (l : Launch) (hl0 : l.stackTraces = false) (G : Tgl) (fr : Nat)  (hfr : 2 ≤ fr) (l0 : Option Nat) (l1 : Int32) (Q : Int32 → Tst → Prop) (X : String → Nat → Tst → Prop) (σ : Tst) (hw : w_X4_isNoOperation l0 l1 Q X σ) : tw_M l yX4_isNoOperation (ws_ yX4_isNoOperation cX4_isNoOperation 2 (some .boolean)) fr (40 * fr) G σ [.inr l0, .inl l1] (tw_Qi G Q) X := by
  unfold w_X4_isNoOperation at hw
  refine tw_of (ret := (some .boolean)) hl0 (by decide) (Nat.le_of_ble_eq_true rfl) (fun p e R s m args below meth c hRf hRl C hr hmn hnx hR hS ls hl => ?_)
  have hfr : 2 ≤ R.frames := by rw [hRf]; exact hfr
  have hRl : R.locals = 40 * R.frames := by rw [hRl, hRf]
  have hl : tw_l ls 2 [(0, .inr l0), (1, .inl l1)] := hl
  refine tk_aload_n C hl 0 dX4_isNoOperation_0 rfl ?_
  refine tk_aload_n C hl 0 dX4_isNoOperation_1 rfl ?_
  refine tk_gi C hR hw rfl in_X4 (by decide) q2075 (fun _ h => h) dX4_isNoOperation_2 (fun x1 hw => ?_)
  refine lv_if_ne (tgt := 12) C.hx C.hb dX4_isNoOperation_5 (by decide) (fun c5 => ?_) (fun c5 => ?_)
  · replace hw := hw.2 c5
    refine tk_iload_n C hl 1 dX4_isNoOperation_12 rfl ?_
    refine lv_iconst (v := 0) C.hx C.hb dX4_isNoOperation_13 (by decide) ?_
    refine tk_aload_n C hl 0 dX4_isNoOperation_14 rfl ?_
    refine tk_gi C hR hw rfl in_X4 (by decide) q2076 (fun _ h => h) dX4_isNoOperation_15 (fun x2 hw => ?_)
    refine lv_iconst (v := 1) C.hx C.hb dX4_isNoOperation_18 (by decide) ?_
    refine lv_isub C.hx C.hb dX4_isNoOperation_19 ?_
    refine tw_cbi C hS (tw_runS (As := [.inl l1, .inl 0, .inl (x2 - 1)]) C hR hS (wk_X4_isBetween l C.hst G (R.frames - 1) (by omega) _ _ _ _ _ σ hw) q2166 q2167 q74 q2168 pd_X4_isBetween ⟨by omega, by omega⟩ hl.1 rfl (tw_r8 [.inr l0] (Nat.le_of_ble_eq_true rfl)) dX4_isNoOperation_20) (fun E q σ H locs hX hR hS hi => tw_out C hR hS (fun x hx => (hnx x hx).elim) hi hX) (fun x3 σ H locs hw hR hS => ?_)
    refine lv_if_eq (tgt := 30) C.hx C.hb dX4_isNoOperation_23 (by decide) (fun c23 => ?_) (fun c23 => ?_)
    · replace hw := hw.1 c23
      refine lv_iconst (v := 2) C.hx C.hb dX4_isNoOperation_30 (by decide) ?_
      exact wk_X4_isNoOperation_b31 C hr hmn hnx hfr hRl _ _ _ σ _ _ _ hw hR hS (tk_sub hl [0] rfl)
    · replace hw := hw.2 c23
      refine lv_iconst (v := 0) C.hx C.hb dX4_isNoOperation_26 (by decide) ?_
      refine lv_goto (tgt := 31) C.hx C.hb dX4_isNoOperation_27 (by decide) ?_
      exact wk_X4_isNoOperation_b31 C hr hmn hnx hfr hRl _ _ _ σ _ _ _ hw hR hS (tk_sub hl [0] rfl)
  · replace hw := hw.1 c5
    refine lv_iconst (v := 1) C.hx C.hb dX4_isNoOperation_8 (by decide) ?_
    refine lv_goto (tgt := 31) C.hx C.hb dX4_isNoOperation_9 (by decide) ?_
    exact wk_X4_isNoOperation_b31 C hr hmn hnx hfr hRl _ _ _ σ _ _ _ hw hR hS (tk_sub hl [0] rfl)
-- TreeDifferModel.opKind(I)C
def w_X4_opKind_b18 (Q : Int32 → Tst → Prop) (X : String → Nat → Tst → Prop) (s0 : Int32) (σ : Tst) : Prop := narrow .char (.int s0) = .int s0 ∧ Q s0 σ
def w_X4_opKind (l0 : Option Nat) (l1 : Int32) (Q : Int32 → Tst → Prop) (X : String → Nat → Tst → Prop) (σ : Tst) : Prop := w_rc σ l0 cX4 <| w_X4_isNoOperation l0 l1 (fun x1 σ => w_if (x1 = 0) (w_gr σ l0 cX4 18 fun x2 => w_lc σ x2 l1 fun x3 => w_X4_opKind_b18 Q X x3 σ) (w_X4_opKind_b18 Q X 0 σ)) X σ
set_option maxHeartbeats 4000000 in
theorem wk_X4_opKind_b18  (C : tw_C p l R s m args meth c G cX4_opKind 2 yX4_opKind.cls) (hr : meth.sig.returnType = (some .char)) (hmn : meth.name = yX4_opKind.name) (hnx : (∀ x ∈ c.exceptionTable.toList, False)) (hfr : 3 ≤ R.frames) (hRl : R.locals = 40 * R.frames) {Q : Int32 → Tst → Prop} {X : String → Nat → Tst → Prop}  (s0 : Int32) (σ : Tst) (H : Heap) (locs : List Loc) (ls : Array Slot) (hw : w_X4_opKind_b18 Q X s0 σ) (hR : tw_R G σ H) (hS : va_S (tw_A G) s.heap H locs) (hl : tw_l ls 2 []) : tw_W p l e R s m args below meth c σ H locs (tw_E below G (tw_Qi G Q) X args s R) (F0 m 18 ls [.int s0]) := by
  unfold w_X4_opKind_b18 at hw
  obtain ⟨hok, hw⟩ := hw
  exact tw_iret C hR hS hr hok dX4_opKind_18 hw
set_option maxHeartbeats 4000000 in
theorem wk_X4_opKind (l : Launch) (hl0 : l.stackTraces = false) (G : Tgl) (fr : Nat)  (hfr : 3 ≤ fr) (l0 : Option Nat) (l1 : Int32) (Q : Int32 → Tst → Prop) (X : String → Nat → Tst → Prop) (σ : Tst) (hw : w_X4_opKind l0 l1 Q X σ) : tw_M l yX4_opKind (ws_ yX4_opKind cX4_opKind 2 (some .char)) fr (40 * fr) G σ [.inr l0, .inl l1] (tw_Qi G Q) X := by
  unfold w_X4_opKind at hw
  refine tw_of (ret := (some .char)) hl0 (by decide) (Nat.le_of_ble_eq_true rfl) (fun p e R s m args below meth c hRf hRl C hr hmn hnx hR hS ls hl => ?_)
  have hfr : 3 ≤ R.frames := by rw [hRf]; exact hfr
  have hRl : R.locals = 40 * R.frames := by rw [hRl, hRf]
  have hl : tw_l ls 2 [(0, .inr l0), (1, .inl l1)] := hl
  refine tk_aload_n C hl 0 dX4_opKind_0 rfl ?_
  refine tk_iload_n C hl 1 dX4_opKind_1 rfl ?_
  obtain ⟨hv, hw⟩ := hw
  refine tw_cbi C hS (tk_runV (As := [.inl l1]) C hR hS (wk_X4_isNoOperation l C.hst G (R.frames - 1) (by omega) _ _ _ _ σ hw) hv rfl q2406 q2408 qs49 q74 q2409 pd_X4_isNoOperation ⟨by omega, by omega⟩ hl.1 rfl (tw_r8 [] (Nat.le_of_ble_eq_true rfl)) dX4_opKind_2) (fun E q σ H locs hX hR hS hi => tw_out C hR hS (fun x hx => (hnx x hx).elim) hi hX) (fun x1 σ H locs hw hR hS => ?_)
  refine lv_if_eq (tgt := 12) C.hx C.hb dX4_opKind_5 (by decide) (fun c5 => ?_) (fun c5 => ?_)
  · replace hw := hw.1 c5
    refine tk_aload_n C hl 0 dX4_opKind_12 rfl ?_
    refine tk_gr C hR hw rfl in_X4 (by decide) q2070 (fun _ h => h) dX4_opKind_13 (fun x2 hw => ?_)
    refine tk_iload_n C hl 1 dX4_opKind_16 rfl ?_
    refine tk_lc C hR hw dX4_opKind_17 (fun x3 hw => ?_)
    exact wk_X4_opKind_b18 C hr hmn hnx hfr hRl _ σ _ _ _ hw hR hS (tk_sub hl [] rfl)
  · replace hw := hw.2 c5
    refine lv_iconst (v := 0) C.hx C.hb dX4_opKind_8 (by decide) ?_
    refine lv_goto (tgt := 18) C.hx C.hb dX4_opKind_9 (by decide) ?_
    exact wk_X4_opKind_b18 C hr hmn hnx hfr hRl _ σ _ _ _ hw hR hS (tk_sub hl [] rfl)
-- TreeDifferModel.opNode(I)I
def w_X4_opNode_b38 (Q : Int32 → Tst → Prop) (X : String → Nat → Tst → Prop) (s0 : Int32) (σ : Tst) : Prop := Q s0 σ
def w_X4_opNode (l0 : Option Nat) (l1 : Int32) (Q : Int32 → Tst → Prop) (X : String → Nat → Tst → Prop) (σ : Tst) : Prop := w_rc σ l0 cX4 <| w_X4_isNoOperation l0 l1 (fun x1 σ => w_if (x1 = 0) (w_gr σ l0 cX4 18 fun x2 => w_lc σ x2 l1 fun x3 => w_if (x3 = 105) (w_gr σ l0 cX4 20 fun x6 => w_li σ x6 l1 fun x7 => w_X4_opNode_b38 Q X x7 σ) (w_gr σ l0 cX4 19 fun x4 => w_li σ x4 l1 fun x5 => w_X4_opNode_b38 Q X x5 σ)) (w_X4_opNode_b38 Q X 0 σ)) X σ
set_option maxHeartbeats 4000000 in
theorem wk_X4_opNode_b38  (C : tw_C p l R s m args meth c G cX4_opNode 2 yX4_opNode.cls) (hr : meth.sig.returnType = (some .int)) (hmn : meth.name = yX4_opNode.name) (hnx : (∀ x ∈ c.exceptionTable.toList, False)) (hfr : 3 ≤ R.frames) (hRl : R.locals = 40 * R.frames) {Q : Int32 → Tst → Prop} {X : String → Nat → Tst → Prop}  (s0 : Int32) (σ : Tst) (H : Heap) (locs : List Loc) (ls : Array Slot) (hw : w_X4_opNode_b38 Q X s0 σ) (hR : tw_R G σ H) (hS : va_S (tw_A G) s.heap H locs) (hl : tw_l ls 2 []) : tw_W p l e R s m args below meth c σ H locs (tw_E below G (tw_Qi G Q) X args s R) (F0 m 38 ls [.int s0]) := by
  unfold w_X4_opNode_b38 at hw
  exact tw_iret C hR hS hr rfl dX4_opNode_38 hw
set_option maxHeartbeats 4000000 in
theorem wk_X4_opNode (l : Launch) (hl0 : l.stackTraces = false) (G : Tgl) (fr : Nat)  (hfr : 3 ≤ fr) (l0 : Option Nat) (l1 : Int32) (Q : Int32 → Tst → Prop) (X : String → Nat → Tst → Prop) (σ : Tst) (hw : w_X4_opNode l0 l1 Q X σ) : tw_M l yX4_opNode (ws_ yX4_opNode cX4_opNode 2 (some .int)) fr (40 * fr) G σ [.inr l0, .inl l1] (tw_Qi G Q) X := by
  unfold w_X4_opNode at hw
  refine tw_of (ret := (some .int)) hl0 (by decide) (Nat.le_of_ble_eq_true rfl) (fun p e R s m args below meth c hRf hRl C hr hmn hnx hR hS ls hl => ?_)
  have hfr : 3 ≤ R.frames := by rw [hRf]; exact hfr
  have hRl : R.locals = 40 * R.frames := by rw [hRl, hRf]
  have hl : tw_l ls 2 [(0, .inr l0), (1, .inl l1)] := hl
  refine tk_aload_n C hl 0 dX4_opNode_0 rfl ?_
  refine tk_iload_n C hl 1 dX4_opNode_1 rfl ?_
  obtain ⟨hv, hw⟩ := hw
  refine tw_cbi C hS (tk_runV (As := [.inl l1]) C hR hS (wk_X4_isNoOperation l C.hst G (R.frames - 1) (by omega) _ _ _ _ σ hw) hv rfl q2406 q2408 qs49 q74 q2409 pd_X4_isNoOperation ⟨by omega, by omega⟩ hl.1 rfl (tw_r8 [] (Nat.le_of_ble_eq_true rfl)) dX4_opNode_2) (fun E q σ H locs hX hR hS hi => tw_out C hR hS (fun x hx => (hnx x hx).elim) hi hX) (fun x1 σ H locs hw hR hS => ?_)
  refine lv_if_eq (tgt := 12) C.hx C.hb dX4_opNode_5 (by decide) (fun c5 => ?_) (fun c5 => ?_)
  · replace hw := hw.1 c5
    refine tk_aload_n C hl 0 dX4_opNode_12 rfl ?_
    refine tk_gr C hR hw rfl in_X4 (by decide) q2070 (fun _ h => h) dX4_opNode_13 (fun x2 hw => ?_)
    refine tk_iload_n C hl 1 dX4_opNode_16 rfl ?_
    refine tk_lc C hR hw dX4_opNode_17 (fun x3 hw => ?_)
    refine lv_bipush (v := 105) C.hx C.hb dX4_opNode_18 (by decide) ?_
    refine lv_icmp_ne (tgt := 32) C.hx C.hb dX4_opNode_20 (by decide) (fun c20 => ?_) (fun c20 => ?_)
    · replace hw := hw.2 c20
      refine tk_aload_n C hl 0 dX4_opNode_32 rfl ?_
      refine tk_gr C hR hw rfl in_X4 (by decide) q2071 (fun _ h => h) dX4_opNode_33 (fun x4 hw => ?_)
      refine tk_iload_n C hl 1 dX4_opNode_36 rfl ?_
      refine tk_li C hR hw dX4_opNode_37 (fun x5 hw => ?_)
      exact wk_X4_opNode_b38 C hr hmn hnx hfr hRl _ σ _ _ _ hw hR hS (tk_sub hl [] rfl)
    · replace hw := hw.1 c20
      refine tk_aload_n C hl 0 dX4_opNode_23 rfl ?_
      refine tk_gr C hR hw rfl in_X4 (by decide) q2072 (fun _ h => h) dX4_opNode_24 (fun x6 hw => ?_)
      refine tk_iload_n C hl 1 dX4_opNode_27 rfl ?_
      refine tk_li C hR hw dX4_opNode_28 (fun x7 hw => ?_)
      refine lv_goto (tgt := 38) C.hx C.hb dX4_opNode_29 (by decide) ?_
      exact wk_X4_opNode_b38 C hr hmn hnx hfr hRl _ σ _ _ _ hw hR hS (tk_sub hl [] rfl)
  · replace hw := hw.2 c5
    refine lv_iconst (v := 0) C.hx C.hb dX4_opNode_8 (by decide) ?_
    refine lv_goto (tgt := 38) C.hx C.hb dX4_opNode_9 (by decide) ?_
    exact wk_X4_opNode_b38 C hr hmn hnx hfr hRl _ σ _ _ _ hw hR hS (tk_sub hl [] rfl)
-- TreeDifferModel.opTarget(I)I
def w_X4_opTarget_b35 (Q : Int32 → Tst → Prop) (X : String → Nat → Tst → Prop) (s0 : Int32) (σ : Tst) : Prop := Q s0 σ
def w_X4_opTarget (l0 : Option Nat) (l1 : Int32) (Q : Int32 → Tst → Prop) (X : String → Nat → Tst → Prop) (σ : Tst) : Prop := w_rc σ l0 cX4 <| w_X4_isNoOperation l0 l1 (fun x1 σ => w_if (x1 = 0) (w_gr σ l0 cX4 18 fun x2 => w_lc σ x2 l1 fun x3 => w_if (x3 = 100) (w_rc σ l0 cX4 <| w_X4_fails l0 3 (fun x6 σ => w_X4_opTarget_b35 Q X x6 σ) X σ) (w_gr σ l0 cX4 20 fun x4 => w_li σ x4 l1 fun x5 => w_X4_opTarget_b35 Q X x5 σ)) (Q 0 σ)) X σ
set_option maxHeartbeats 4000000 in
theorem wk_X4_opTarget_b35  (C : tw_C p l R s m args meth c G cX4_opTarget 2 yX4_opTarget.cls) (hr : meth.sig.returnType = (some .int)) (hmn : meth.name = yX4_opTarget.name) (hnx : (∀ x ∈ c.exceptionTable.toList, False)) (hfr : 3 ≤ R.frames) (hRl : R.locals = 40 * R.frames) {Q : Int32 → Tst → Prop} {X : String → Nat → Tst → Prop}  (s0 : Int32) (σ : Tst) (H : Heap) (locs : List Loc) (ls : Array Slot) (hw : w_X4_opTarget_b35 Q X s0 σ) (hR : tw_R G σ H) (hS : va_S (tw_A G) s.heap H locs) (hl : tw_l ls 2 []) : tw_W p l e R s m args below meth c σ H locs (tw_E below G (tw_Qi G Q) X args s R) (F0 m 35 ls [.int s0]) := by
  unfold w_X4_opTarget_b35 at hw
  exact tw_iret C hR hS hr rfl dX4_opTarget_35 hw
set_option maxHeartbeats 4000000 in
theorem wk_X4_opTarget (l : Launch) (hl0 : l.stackTraces = false) (G : Tgl) (fr : Nat)  (hfr : 3 ≤ fr) (l0 : Option Nat) (l1 : Int32) (Q : Int32 → Tst → Prop) (X : String → Nat → Tst → Prop) (σ : Tst) (hw : w_X4_opTarget l0 l1 Q X σ) : tw_M l yX4_opTarget (ws_ yX4_opTarget cX4_opTarget 2 (some .int)) fr (40 * fr) G σ [.inr l0, .inl l1] (tw_Qi G Q) X := by
  unfold w_X4_opTarget at hw
  refine tw_of (ret := (some .int)) hl0 (by decide) (Nat.le_of_ble_eq_true rfl) (fun p e R s m args below meth c hRf hRl C hr hmn hnx hR hS ls hl => ?_)
  have hfr : 3 ≤ R.frames := by rw [hRf]; exact hfr
  have hRl : R.locals = 40 * R.frames := by rw [hRl, hRf]
  have hl : tw_l ls 2 [(0, .inr l0), (1, .inl l1)] := hl
  refine tk_aload_n C hl 0 dX4_opTarget_0 rfl ?_
  refine tk_iload_n C hl 1 dX4_opTarget_1 rfl ?_
  obtain ⟨hv, hw⟩ := hw
  refine tw_cbi C hS (tk_runV (As := [.inl l1]) C hR hS (wk_X4_isNoOperation l C.hst G (R.frames - 1) (by omega) _ _ _ _ σ hw) hv rfl q2406 q2408 qs49 q74 q2409 pd_X4_isNoOperation ⟨by omega, by omega⟩ hl.1 rfl (tw_r8 [] (Nat.le_of_ble_eq_true rfl)) dX4_opTarget_2) (fun E q σ H locs hX hR hS hi => tw_out C hR hS (fun x hx => (hnx x hx).elim) hi hX) (fun x1 σ H locs hw hR hS => ?_)
  refine lv_if_eq (tgt := 10) C.hx C.hb dX4_opTarget_5 (by decide) (fun c5 => ?_) (fun c5 => ?_)
  · replace hw := hw.1 c5
    refine tk_aload_n C hl 0 dX4_opTarget_10 rfl ?_
    refine tk_gr C hR hw rfl in_X4 (by decide) q2070 (fun _ h => h) dX4_opTarget_11 (fun x2 hw => ?_)
    refine tk_iload_n C hl 1 dX4_opTarget_14 rfl ?_
    refine tk_lc C hR hw dX4_opTarget_15 (fun x3 hw => ?_)
    refine lv_bipush (v := 100) C.hx C.hb dX4_opTarget_16 (by decide) ?_
    refine lv_icmp_ne (tgt := 29) C.hx C.hb dX4_opTarget_18 (by decide) (fun c18 => ?_) (fun c18 => ?_)
    · replace hw := hw.2 c18
      refine tk_aload_n C hl 0 dX4_opTarget_29 rfl ?_
      refine tk_gr C hR hw rfl in_X4 (by decide) q2072 (fun _ h => h) dX4_opTarget_30 (fun x4 hw => ?_)
      refine tk_iload_n C hl 1 dX4_opTarget_33 rfl ?_
      refine tk_li C hR hw dX4_opTarget_34 (fun x5 hw => ?_)
      exact wk_X4_opTarget_b35 C hr hmn hnx hfr hRl _ σ _ _ _ hw hR hS (tk_sub hl [] rfl)
    · replace hw := hw.1 c18
      refine tk_aload_n C hl 0 dX4_opTarget_21 rfl ?_
      refine lv_iconst (v := 3) C.hx C.hb dX4_opTarget_22 (by decide) ?_
      obtain ⟨hv, hw⟩ := hw
      refine tw_cbi C hS (tk_runV (As := [.inl 3]) C hR hS (wk_X4_fails l C.hst G (R.frames - 1) (by omega) _ _ _ _ σ hw) hv rfl q2155 q2157 qs24 q74 q2158 pd_X4_fails ⟨by omega, by omega⟩ hl.1 rfl (tw_r8 [] (Nat.le_of_ble_eq_true rfl)) dX4_opTarget_23) (fun E q σ H locs hX hR hS hi => tw_out C hR hS (fun x hx => (hnx x hx).elim) hi hX) (fun x6 σ H locs hw hR hS => ?_)
      refine lv_goto (tgt := 35) C.hx C.hb dX4_opTarget_26 (by decide) ?_
      exact wk_X4_opTarget_b35 C hr hmn hnx hfr hRl _ σ _ _ _ hw hR hS (tk_sub hl [] rfl)
  · replace hw := hw.2 c5
    refine lv_iconst (v := 0) C.hx C.hb dX4_opTarget_8 (by decide) ?_
    exact tw_iret C hR hS hr rfl dX4_opTarget_9 hw
-- TreeDifferModel.partner(I)I
def w_X4_partner_b55 (Q : Int32 → Tst → Prop) (X : String → Nat → Tst → Prop) (s0 : Int32) (σ : Tst) : Prop := Q s0 σ
def w_X4_partner (l0 : Option Nat) (l1 : Int32) (Q : Int32 → Tst → Prop) (X : String → Nat → Tst → Prop) (σ : Tst) : Prop := w_rc σ l0 cX4 <| w_X4_isNoScript l0 (fun x1 σ => w_if (x1 = 0) (w_gr σ l0 cX4 16 fun x2 => w_gi σ x2 cX5 4 fun x3 => w_X4_isBetween l1 0 (x3 - 1) (fun x4 σ => w_if (x4 = 0) (w_rc σ l0 cX4 <| w_X4_fails l0 2 (fun x10 σ => Q x10 σ) X σ) (w_gr σ l0 cX4 21 fun x5 => w_li σ x5 l1 fun x6 => w_if (0 ≤ x6) (w_gr σ l0 cX4 21 fun x7 => w_li σ x7 l1 fun x8 => w_X4_partner_b55 Q X x8 σ) (w_rc σ l0 cX4 <| w_X4_fails l0 3 (fun x9 σ => w_X4_partner_b55 Q X x9 σ) X σ))) X σ) (Q 0 σ)) X σ
set_option maxHeartbeats 4000000 in
theorem wk_X4_partner_b55  (C : tw_C p l R s m args meth c G cX4_partner 2 yX4_partner.cls) (hr : meth.sig.returnType = (some .int)) (hmn : meth.name = yX4_partner.name) (hnx : (∀ x ∈ c.exceptionTable.toList, False)) (hfr : 2 ≤ R.frames) (hRl : R.locals = 40 * R.frames) {Q : Int32 → Tst → Prop} {X : String → Nat → Tst → Prop}  (s0 : Int32) (σ : Tst) (H : Heap) (locs : List Loc) (ls : Array Slot) (hw : w_X4_partner_b55 Q X s0 σ) (hR : tw_R G σ H) (hS : va_S (tw_A G) s.heap H locs) (hl : tw_l ls 2 []) : tw_W p l e R s m args below meth c σ H locs (tw_E below G (tw_Qi G Q) X args s R) (F0 m 55 ls [.int s0]) := by
  unfold w_X4_partner_b55 at hw
  exact tw_iret C hR hS hr rfl dX4_partner_55 hw
set_option maxHeartbeats 4000000 in
theorem wk_X4_partner (l : Launch) (hl0 : l.stackTraces = false) (G : Tgl) (fr : Nat)  (hfr : 2 ≤ fr) (l0 : Option Nat) (l1 : Int32) (Q : Int32 → Tst → Prop) (X : String → Nat → Tst → Prop) (σ : Tst) (hw : w_X4_partner l0 l1 Q X σ) : tw_M l yX4_partner (ws_ yX4_partner cX4_partner 2 (some .int)) fr (40 * fr) G σ [.inr l0, .inl l1] (tw_Qi G Q) X := by
  unfold w_X4_partner at hw
  refine tw_of (ret := (some .int)) hl0 (by decide) (Nat.le_of_ble_eq_true rfl) (fun p e R s m args below meth c hRf hRl C hr hmn hnx hR hS ls hl => ?_)
  have hfr : 2 ≤ R.frames := by rw [hRf]; exact hfr
  have hRl : R.locals = 40 * R.frames := by rw [hRl, hRf]
  have hl : tw_l ls 2 [(0, .inr l0), (1, .inl l1)] := hl
  refine tk_aload_n C hl 0 dX4_partner_0 rfl ?_
  obtain ⟨hv, hw⟩ := hw
  refine tw_cbi C hS (tk_runV (As := []) C hR hS (wk_X4_isNoScript l C.hst G (R.frames - 1) (by omega) _ _ _ σ hw) hv rfl q2398 q2400 qs48 q74 q2401 pd_X4_isNoScript ⟨by omega, by omega⟩ hl.1 rfl (tw_r8 [] (Nat.le_of_ble_eq_true rfl)) dX4_partner_1) (fun E q σ H locs hX hR hS hi => tw_out C hR hS (fun x hx => (hnx x hx).elim) hi hX) (fun x1 σ H locs hw hR hS => ?_)
  refine lv_if_eq (tgt := 9) C.hx C.hb dX4_partner_4 (by decide) (fun c4 => ?_) (fun c4 => ?_)
  · replace hw := hw.1 c4
    refine tk_iload_n C hl 1 dX4_partner_9 rfl ?_
    refine lv_iconst (v := 0) C.hx C.hb dX4_partner_10 (by decide) ?_
    refine tk_aload_n C hl 0 dX4_partner_11 rfl ?_
    refine tk_gr C hR hw rfl in_X4 (by decide) q2068 (fun _ h => h) dX4_partner_12 (fun x2 hw => ?_)
    refine tk_giN C hR hw rfl in_X5 (by decide) q2027 (fun _ h => h) dX4_partner_15 (fun x3 hw => ?_)
    refine lv_iconst (v := 1) C.hx C.hb dX4_partner_18 (by decide) ?_
    refine lv_isub C.hx C.hb dX4_partner_19 ?_
    refine tw_cbi C hS (tw_runS (As := [.inl l1, .inl 0, .inl (x3 - 1)]) C hR hS (wk_X4_isBetween l C.hst G (R.frames - 1) (by omega) _ _ _ _ _ σ hw) q2166 q2167 q74 q2168 pd_X4_isBetween ⟨by omega, by omega⟩ hl.1 rfl (tw_r8 [] (Nat.le_of_ble_eq_true rfl)) dX4_partner_20) (fun E q σ H locs hX hR hS hi => tw_out C hR hS (fun x hx => (hnx x hx).elim) hi hX) (fun x4 σ H locs hw hR hS => ?_)
    refine lv_if_ne (tgt := 32) C.hx C.hb dX4_partner_23 (by decide) (fun c23 => ?_) (fun c23 => ?_)
    · replace hw := hw.2 c23
      refine tk_aload_n C hl 0 dX4_partner_32 rfl ?_
      refine tk_gr C hR hw rfl in_X4 (by decide) q2073 (fun _ h => h) dX4_partner_33 (fun x5 hw => ?_)
      refine tk_iload_n C hl 1 dX4_partner_36 rfl ?_
      refine tk_li C hR hw dX4_partner_37 (fun x6 hw => ?_)
      refine lv_if_ge (tgt := 49) C.hx C.hb dX4_partner_38 (by decide) (fun c38 => ?_) (fun c38 => ?_)
      · replace hw := hw.1 c38
        refine tk_aload_n C hl 0 dX4_partner_49 rfl ?_
        refine tk_gr C hR hw rfl in_X4 (by decide) q2073 (fun _ h => h) dX4_partner_50 (fun x7 hw => ?_)
        refine tk_iload_n C hl 1 dX4_partner_53 rfl ?_
        refine tk_li C hR hw dX4_partner_54 (fun x8 hw => ?_)
        exact wk_X4_partner_b55 C hr hmn hnx hfr hRl _ σ _ _ _ hw hR hS (tk_sub hl [] rfl)
      · replace hw := hw.2 c38
        refine tk_aload_n C hl 0 dX4_partner_41 rfl ?_
        refine lv_iconst (v := 3) C.hx C.hb dX4_partner_42 (by decide) ?_
        obtain ⟨hv, hw⟩ := hw
        refine tw_cbi C hS (tk_runV (As := [.inl 3]) C hR hS (wk_X4_fails l C.hst G (R.frames - 1) (by omega) _ _ _ _ σ hw) hv rfl q2155 q2157 qs24 q74 q2158 pd_X4_fails ⟨by omega, by omega⟩ hl.1 rfl (tw_r8 [] (Nat.le_of_ble_eq_true rfl)) dX4_partner_43) (fun E q σ H locs hX hR hS hi => tw_out C hR hS (fun x hx => (hnx x hx).elim) hi hX) (fun x9 σ H locs hw hR hS => ?_)
        refine lv_goto (tgt := 55) C.hx C.hb dX4_partner_46 (by decide) ?_
        exact wk_X4_partner_b55 C hr hmn hnx hfr hRl _ σ _ _ _ hw hR hS (tk_sub hl [] rfl)
    · replace hw := hw.1 c23
      refine tk_aload_n C hl 0 dX4_partner_26 rfl ?_
      refine lv_iconst (v := 2) C.hx C.hb dX4_partner_27 (by decide) ?_
      obtain ⟨hv, hw⟩ := hw
      refine tw_cbi C hS (tk_runV (As := [.inl 2]) C hR hS (wk_X4_fails l C.hst G (R.frames - 1) (by omega) _ _ _ _ σ hw) hv rfl q2155 q2157 qs24 q74 q2158 pd_X4_fails ⟨by omega, by omega⟩ hl.1 rfl (tw_r8 [] (Nat.le_of_ble_eq_true rfl)) dX4_partner_28) (fun E q σ H locs hX hR hS hi => tw_out C hR hS (fun x hx => (hnx x hx).elim) hi hX) (fun x10 σ H locs hw hR hS => ?_)
      exact tw_iret C hR hS hr rfl dX4_partner_31 hw
  · replace hw := hw.2 c4
    refine lv_iconst (v := 0) C.hx C.hb dX4_partner_7 (by decide) ?_
    exact tw_iret C hR hS hr rfl dX4_partner_8 hw
-- TreeDifferModel.moves()I
def w_X4_moves_b38 (k13 : Option Nat → Int32 → Int32 → Tst → Prop) (Q : Int32 → Tst → Prop) (X : String → Nat → Tst → Prop) (l0 : Option Nat) (l2 : Int32) (s0 : Int32) (s1 : Int32) (σ : Tst) : Prop := k13 l0 (s0 + s1) (l2 + 1) σ
def w_X4_moves_b13 (Q : Int32 → Tst → Prop) (X : String → Nat → Tst → Prop) : Nat → Option Nat → Int32 → Int32 → Tst → Prop
  | 0, _, _, _, _ => False
  | n + 1, l0, l1, l2, σ => w_gi σ l0 cX4 24 fun x1 => w_if (x1 ≤ l2) (Q l1 σ) (w_gr σ l0 cX4 18 fun x2 => w_lc σ x2 l2 fun x3 => w_if (x3 = 109) (w_X4_moves_b38 (w_X4_moves_b13 Q X n) Q X l0 l2 l1 1 σ) (w_X4_moves_b38 (w_X4_moves_b13 Q X n) Q X l0 l2 l1 0 σ))
def w_X4_moves (l0 : Option Nat) (Q : Int32 → Tst → Prop) (X : String → Nat → Tst → Prop) (σ : Tst) : Prop := w_rc σ l0 cX4 <| w_X4_isNoScript l0 (fun x1 σ => w_if (x1 = 0) (∃ z, w_X4_moves_b13 Q X z l0 0 0 σ) (Q 0 σ)) X σ
set_option maxHeartbeats 4000000 in
theorem wk_X4_moves_b38  (C : tw_C p l R s m args meth c G cX4_moves 3 yX4_moves.cls) (hr : meth.sig.returnType = (some .int)) (hmn : meth.name = yX4_moves.name) (hnx : (∀ x ∈ c.exceptionTable.toList, False)) (hfr : 2 ≤ R.frames) (hRl : R.locals = 40 * R.frames) {Q : Int32 → Tst → Prop} {X : String → Nat → Tst → Prop}  {k13 : Option Nat → Int32 → Int32 → Tst → Prop} (hk13 : ∀ (l0 : Option Nat) (l1 : Int32) (l2 : Int32) (σ : Tst) (H : Heap) (locs : List Loc) (ls : Array Slot), k13 l0 l1 l2 σ → tw_R G σ H → va_S (tw_A G) s.heap H locs → tw_l ls 3 [(0, .inr l0), (1, .inl l1), (2, .inl l2)] → tw_W p l e R s m args below meth c σ H locs (tw_E below G (tw_Qi G Q) X args s R) (F0 m 13 ls [])) (l0 : Option Nat) (l2 : Int32) (s0 : Int32) (s1 : Int32) (σ : Tst) (H : Heap) (locs : List Loc) (ls : Array Slot) (hw : w_X4_moves_b38 k13 Q X l0 l2 s0 s1 σ) (hR : tw_R G σ H) (hS : va_S (tw_A G) s.heap H locs) (hl : tw_l ls 3 [(0, .inr l0), (2, .inl l2)]) : tw_W p l e R s m args below meth c σ H locs (tw_E below G (tw_Qi G Q) X args s R) (F0 m 38 ls [.int s1, .int s0]) := by
  unfold w_X4_moves_b38 at hw
  refine lv_iadd C.hx C.hb dX4_moves_38 ?_
  refine tk_istore_n (L' := [(1, .inl (s0 + s1)), (0, .inr l0), (2, .inl l2)]) C hl dX4_moves_39 (by decide) rfl (fun ls hl => ?_)
  refine tk_iinc (L' := [(2, .inl (l2 + 1)), (1, .inl (s0 + s1)), (0, .inr l0)]) (y := (l2 + 1)) C hl 2 dX4_moves_40 rfl rfl (by decide) rfl (fun ls hl => ?_)
  refine lv_goto (tgt := 13) C.hx C.hb dX4_moves_43 (by decide) ?_
  exact hk13 _ _ _ σ _ _ _ hw hR hS (tk_sub hl [2, 1, 0] rfl)
set_option maxHeartbeats 4000000 in
theorem wk_X4_moves_b13  (C : tw_C p l R s m args meth c G cX4_moves 3 yX4_moves.cls) (hr : meth.sig.returnType = (some .int)) (hmn : meth.name = yX4_moves.name) (hnx : (∀ x ∈ c.exceptionTable.toList, False)) (hfr : 2 ≤ R.frames) (hRl : R.locals = 40 * R.frames) {Q : Int32 → Tst → Prop} {X : String → Nat → Tst → Prop}  : ∀ (n : Nat) (l0 : Option Nat) (l1 : Int32) (l2 : Int32) (σ : Tst) (H : Heap) (locs : List Loc) (ls : Array Slot), w_X4_moves_b13 Q X n l0 l1 l2 σ → tw_R G σ H → va_S (tw_A G) s.heap H locs → tw_l ls 3 [(0, .inr l0), (1, .inl l1), (2, .inl l2)] → tw_W p l e R s m args below meth c σ H locs (tw_E below G (tw_Qi G Q) X args s R) (F0 m 13 ls []) := by
  intro n
  induction n with
  | zero => intro l0 l1 l2 σ H locs ls hw; exact False.elim hw
  | succ n hk13 =>
    intro l0 l1 l2 σ H locs ls hw hR hS hl
    rw [w_X4_moves_b13] at hw
    refine tk_iload_n C hl 2 dX4_moves_13 rfl ?_
    refine tk_aload_n C hl 0 dX4_moves_14 rfl ?_
    refine tk_gi C hR hw rfl in_X4 (by decide) q2076 (fun _ h => h) dX4_moves_15 (fun x1 hw => ?_)
    refine lv_icmp_ge (tgt := 46) C.hx C.hb dX4_moves_18 (by decide) (fun c18 => ?_) (fun c18 => ?_)
    · replace hw := hw.1 c18
      refine tk_iload_n C hl 1 dX4_moves_46 rfl ?_
      exact tw_iret C hR hS hr rfl dX4_moves_47 hw
    · replace hw := hw.2 c18
      refine tk_iload_n C hl 1 dX4_moves_21 rfl ?_
      refine tk_aload_n C hl 0 dX4_moves_22 rfl ?_
      refine tk_gr C hR hw rfl in_X4 (by decide) q2070 (fun _ h => h) dX4_moves_23 (fun x2 hw => ?_)
      refine tk_iload_n C hl 2 dX4_moves_26 rfl ?_
      refine tk_lc C hR hw dX4_moves_27 (fun x3 hw => ?_)
      refine lv_bipush (v := 109) C.hx C.hb dX4_moves_28 (by decide) ?_
      refine lv_icmp_ne (tgt := 37) C.hx C.hb dX4_moves_30 (by decide) (fun c30 => ?_) (fun c30 => ?_)
      · replace hw := hw.2 c30
        refine lv_iconst (v := 0) C.hx C.hb dX4_moves_37 (by decide) ?_
        exact wk_X4_moves_b38 C hr hmn hnx hfr hRl hk13 _ _ _ _ σ _ _ _ hw hR hS (tk_sub hl [0, 2] rfl)
      · replace hw := hw.1 c30
        refine lv_iconst (v := 1) C.hx C.hb dX4_moves_33 (by decide) ?_
        refine lv_goto (tgt := 38) C.hx C.hb dX4_moves_34 (by decide) ?_
        exact wk_X4_moves_b38 C hr hmn hnx hfr hRl hk13 _ _ _ _ σ _ _ _ hw hR hS (tk_sub hl [0, 2] rfl)
set_option maxHeartbeats 4000000 in
theorem wk_X4_moves (l : Launch) (hl0 : l.stackTraces = false) (G : Tgl) (fr : Nat)  (hfr : 2 ≤ fr) (l0 : Option Nat) (Q : Int32 → Tst → Prop) (X : String → Nat → Tst → Prop) (σ : Tst) (hw : w_X4_moves l0 Q X σ) : tw_M l yX4_moves (ws_ yX4_moves cX4_moves 3 (some .int)) fr (40 * fr) G σ [.inr l0] (tw_Qi G Q) X := by
  unfold w_X4_moves at hw
  refine tw_of (ret := (some .int)) hl0 (by decide) (Nat.le_of_ble_eq_true rfl) (fun p e R s m args below meth c hRf hRl C hr hmn hnx hR hS ls hl => ?_)
  have hfr : 2 ≤ R.frames := by rw [hRf]; exact hfr
  have hRl : R.locals = 40 * R.frames := by rw [hRl, hRf]
  have hl : tw_l ls 3 [(0, .inr l0)] := hl
  refine tk_aload_n C hl 0 dX4_moves_0 rfl ?_
  obtain ⟨hv, hw⟩ := hw
  refine tw_cbi C hS (tk_runV (As := []) C hR hS (wk_X4_isNoScript l C.hst G (R.frames - 1) (by omega) _ _ _ σ hw) hv rfl q2398 q2400 qs48 q74 q2401 pd_X4_isNoScript ⟨by omega, by omega⟩ hl.1 rfl (tw_r8 [] (Nat.le_of_ble_eq_true rfl)) dX4_moves_1) (fun E q σ H locs hX hR hS hi => tw_out C hR hS (fun x hx => (hnx x hx).elim) hi hX) (fun x1 σ H locs hw hR hS => ?_)
  refine lv_if_eq (tgt := 9) C.hx C.hb dX4_moves_4 (by decide) (fun c4 => ?_) (fun c4 => ?_)
  · replace hw := hw.1 c4
    refine lv_iconst (v := 0) C.hx C.hb dX4_moves_9 (by decide) ?_
    refine tk_istore_n (L' := [(1, .inl 0), (0, .inr l0)]) C hl dX4_moves_10 (by decide) rfl (fun ls hl => ?_)
    refine lv_iconst (v := 0) C.hx C.hb dX4_moves_11 (by decide) ?_
    refine tk_istore_n (L' := [(2, .inl 0), (1, .inl 0), (0, .inr l0)]) C hl dX4_moves_12 (by decide) rfl (fun ls hl => ?_)
    obtain ⟨z, hw⟩ := hw
    exact wk_X4_moves_b13 C hr hmn hnx hfr hRl z _ _ _ σ _ _ _ hw hR hS (tk_sub hl [2, 1, 0] rfl)
  · replace hw := hw.2 c4
    refine lv_iconst (v := 0) C.hx C.hb dX4_moves_7 (by decide) ?_
    exact tw_iret C hR hS hr rfl dX4_moves_8 hw
-- TreeDifferModel.cost(I)I
def w_X4_cost_b84 (Q : Int32 → Tst → Prop) (X : String → Nat → Tst → Prop) (s0 : Int32) (σ : Tst) : Prop := Q s0 σ
def w_X4_cost (l0 : Option Nat) (l1 : Int32) (Q : Int32 → Tst → Prop) (X : String → Nat → Tst → Prop) (σ : Tst) : Prop := w_gr σ l0 cX4 18 fun x1 => w_lc σ x1 l1 fun x2 => w_if (x2 = 108) (Q 3 σ) (w_gr σ l0 cX4 18 fun x3 => w_lc σ x3 l1 fun x4 => w_if (x4 = 100) (w_gr σ l0 cX4 16 fun x13 => w_gr σ l0 cX4 19 fun x14 => w_li σ x14 l1 fun x15 => w_rc σ x13 cX5 <| w_X5_end x13 x15 (fun x16 σ => w_gr σ l0 cX4 19 fun x17 => w_li σ x17 l1 fun x18 => Q (2 * (x16 - x18)) σ) X σ) (w_gr σ l0 cX4 18 fun x5 => w_lc σ x5 l1 fun x6 => w_if (x6 = 105) (w_gr σ l0 cX4 17 fun x7 => w_gr σ l0 cX4 20 fun x8 => w_li σ x8 l1 fun x9 => w_rc σ x7 cX5 <| w_X5_end x7 x9 (fun x10 σ => w_gr σ l0 cX4 20 fun x11 => w_li σ x11 l1 fun x12 => w_X4_cost_b84 Q X (2 * (x10 - x12)) σ) X σ) (w_X4_cost_b84 Q X 1 σ)))
set_option maxHeartbeats 4000000 in
theorem wk_X4_cost_b84  (C : tw_C p l R s m args meth c G cX4_cost 2 yX4_cost.cls) (hr : meth.sig.returnType = (some .int)) (hmn : meth.name = yX4_cost.name) (hnx : (∀ x ∈ c.exceptionTable.toList, False)) (hfr : 2 ≤ R.frames) (hRl : R.locals = 40 * R.frames) {Q : Int32 → Tst → Prop} {X : String → Nat → Tst → Prop}  (s0 : Int32) (σ : Tst) (H : Heap) (locs : List Loc) (ls : Array Slot) (hw : w_X4_cost_b84 Q X s0 σ) (hR : tw_R G σ H) (hS : va_S (tw_A G) s.heap H locs) (hl : tw_l ls 2 []) : tw_W p l e R s m args below meth c σ H locs (tw_E below G (tw_Qi G Q) X args s R) (F0 m 84 ls [.int s0]) := by
  unfold w_X4_cost_b84 at hw
  exact tw_iret C hR hS hr rfl dX4_cost_84 hw
set_option maxHeartbeats 4000000 in
theorem wk_X4_cost (l : Launch) (hl0 : l.stackTraces = false) (G : Tgl) (fr : Nat)  (hfr : 2 ≤ fr) (l0 : Option Nat) (l1 : Int32) (Q : Int32 → Tst → Prop) (X : String → Nat → Tst → Prop) (σ : Tst) (hw : w_X4_cost l0 l1 Q X σ) : tw_M l yX4_cost (ws_ yX4_cost cX4_cost 2 (some .int)) fr (40 * fr) G σ [.inr l0, .inl l1] (tw_Qi G Q) X := by
  unfold w_X4_cost at hw
  refine tw_of (ret := (some .int)) hl0 (by decide) (Nat.le_of_ble_eq_true rfl) (fun p e R s m args below meth c hRf hRl C hr hmn hnx hR hS ls hl => ?_)
  have hfr : 2 ≤ R.frames := by rw [hRf]; exact hfr
  have hRl : R.locals = 40 * R.frames := by rw [hRl, hRf]
  have hl : tw_l ls 2 [(0, .inr l0), (1, .inl l1)] := hl
  refine tk_aload_n C hl 0 dX4_cost_0 rfl ?_
  refine tk_gr C hR hw rfl in_X4 (by decide) q2070 (fun _ h => h) dX4_cost_1 (fun x1 hw => ?_)
  refine tk_iload_n C hl 1 dX4_cost_4 rfl ?_
  refine tk_lc C hR hw dX4_cost_5 (fun x2 hw => ?_)
  refine lv_bipush (v := 108) C.hx C.hb dX4_cost_6 (by decide) ?_
  refine lv_icmp_ne (tgt := 13) C.hx C.hb dX4_cost_8 (by decide) (fun c8 => ?_) (fun c8 => ?_)
  · replace hw := hw.2 c8
    refine tk_aload_n C hl 0 dX4_cost_13 rfl ?_
    refine tk_gr C hR hw rfl in_X4 (by decide) q2070 (fun _ h => h) dX4_cost_14 (fun x3 hw => ?_)
    refine tk_iload_n C hl 1 dX4_cost_17 rfl ?_
    refine tk_lc C hR hw dX4_cost_18 (fun x4 hw => ?_)
    refine lv_bipush (v := 100) C.hx C.hb dX4_cost_19 (by decide) ?_
    refine lv_icmp_ne (tgt := 47) C.hx C.hb dX4_cost_21 (by decide) (fun c21 => ?_) (fun c21 => ?_)
    · replace hw := hw.2 c21
      refine tk_aload_n C hl 0 dX4_cost_47 rfl ?_
      refine tk_gr C hR hw rfl in_X4 (by decide) q2070 (fun _ h => h) dX4_cost_48 (fun x5 hw => ?_)
      refine tk_iload_n C hl 1 dX4_cost_51 rfl ?_
      refine tk_lc C hR hw dX4_cost_52 (fun x6 hw => ?_)
      refine lv_bipush (v := 105) C.hx C.hb dX4_cost_53 (by decide) ?_
      refine lv_icmp_ne (tgt := 83) C.hx C.hb dX4_cost_55 (by decide) (fun c55 => ?_) (fun c55 => ?_)
      · replace hw := hw.2 c55
        refine lv_iconst (v := 1) C.hx C.hb dX4_cost_83 (by decide) ?_
        exact wk_X4_cost_b84 C hr hmn hnx hfr hRl _ σ _ _ _ hw hR hS (tk_sub hl [] rfl)
      · replace hw := hw.1 c55
        refine lv_iconst (v := 2) C.hx C.hb dX4_cost_58 (by decide) ?_
        refine tk_aload_n C hl 0 dX4_cost_59 rfl ?_
        refine tk_gr C hR hw rfl in_X4 (by decide) q2069 (fun _ h => h) dX4_cost_60 (fun x7 hw => ?_)
        refine tk_aload_n C hl 0 dX4_cost_63 rfl ?_
        refine tk_gr C hR hw rfl in_X4 (by decide) q2072 (fun _ h => h) dX4_cost_64 (fun x8 hw => ?_)
        refine tk_iload_n C hl 1 dX4_cost_67 rfl ?_
        refine tk_li C hR hw dX4_cost_68 (fun x9 hw => ?_)
        obtain ⟨hv, hw⟩ := hw
        refine tw_cbi C hS (tk_runVN (As := [.inl x9]) C hR hS (wk_X5_end l C.hst G (R.frames - 1) (by omega) _ _ _ _ σ hw) hv rfl q2262 q2264 qs37 q75 q2265 pd_X5_end ⟨by omega, by omega⟩ hl.1 rfl (tw_r8 [.inl 2] (Nat.le_of_ble_eq_true rfl)) dX4_cost_69) (fun E q σ H locs hX hR hS hi => tw_out C hR hS (fun x hx => (hnx x hx).elim) hi hX) (fun x10 σ H locs hw hR hS => ?_)
        refine tk_aload_n C hl 0 dX4_cost_72 rfl ?_
        refine tk_gr C hR hw rfl in_X4 (by decide) q2072 (fun _ h => h) dX4_cost_73 (fun x11 hw => ?_)
        refine tk_iload_n C hl 1 dX4_cost_76 rfl ?_
        refine tk_li C hR hw dX4_cost_77 (fun x12 hw => ?_)
        refine lv_isub C.hx C.hb dX4_cost_78 ?_
        refine lv_imul C.hx C.hb dX4_cost_79 ?_
        refine lv_goto (tgt := 84) C.hx C.hb dX4_cost_80 (by decide) ?_
        exact wk_X4_cost_b84 C hr hmn hnx hfr hRl _ σ _ _ _ hw hR hS (tk_sub hl [] rfl)
    · replace hw := hw.1 c21
      refine lv_iconst (v := 2) C.hx C.hb dX4_cost_24 (by decide) ?_
      refine tk_aload_n C hl 0 dX4_cost_25 rfl ?_
      refine tk_gr C hR hw rfl in_X4 (by decide) q2068 (fun _ h => h) dX4_cost_26 (fun x13 hw => ?_)
      refine tk_aload_n C hl 0 dX4_cost_29 rfl ?_
      refine tk_gr C hR hw rfl in_X4 (by decide) q2071 (fun _ h => h) dX4_cost_30 (fun x14 hw => ?_)
      refine tk_iload_n C hl 1 dX4_cost_33 rfl ?_
      refine tk_li C hR hw dX4_cost_34 (fun x15 hw => ?_)
      obtain ⟨hv, hw⟩ := hw
      refine tw_cbi C hS (tk_runVN (As := [.inl x15]) C hR hS (wk_X5_end l C.hst G (R.frames - 1) (by omega) _ _ _ _ σ hw) hv rfl q2262 q2264 qs37 q75 q2265 pd_X5_end ⟨by omega, by omega⟩ hl.1 rfl (tw_r8 [.inl 2] (Nat.le_of_ble_eq_true rfl)) dX4_cost_35) (fun E q σ H locs hX hR hS hi => tw_out C hR hS (fun x hx => (hnx x hx).elim) hi hX) (fun x16 σ H locs hw hR hS => ?_)
      refine tk_aload_n C hl 0 dX4_cost_38 rfl ?_
      refine tk_gr C hR hw rfl in_X4 (by decide) q2071 (fun _ h => h) dX4_cost_39 (fun x17 hw => ?_)
      refine tk_iload_n C hl 1 dX4_cost_42 rfl ?_
      refine tk_li C hR hw dX4_cost_43 (fun x18 hw => ?_)
      refine lv_isub C.hx C.hb dX4_cost_44 ?_
      refine lv_imul C.hx C.hb dX4_cost_45 ?_
      exact tw_iret C hR hS hr rfl dX4_cost_46 hw
  · replace hw := hw.1 c8
    refine lv_iconst (v := 3) C.hx C.hb dX4_cost_11 (by decide) ?_
    exact tw_iret C hR hS hr rfl dX4_cost_12 hw
-- TreeDifferModel.scriptCost()I
def w_X4_scriptCost_b13 (Q : Int32 → Tst → Prop) (X : String → Nat → Tst → Prop) : Nat → Option Nat → Int32 → Int32 → Tst → Prop
  | 0, _, _, _, _ => False
  | n + 1, l0, l1, l2, σ => w_gi σ l0 cX4 24 fun x1 => w_if (x1 ≤ l2) (Q l1 σ) (w_rc σ l0 cX4 <| w_X4_cost l0 l2 (fun x2 σ => (w_X4_scriptCost_b13 Q X n) l0 (l1 + x2) (l2 + 1) σ) X σ)
def w_X4_scriptCost (l0 : Option Nat) (Q : Int32 → Tst → Prop) (X : String → Nat → Tst → Prop) (σ : Tst) : Prop := w_rc σ l0 cX4 <| w_X4_isNoScript l0 (fun x1 σ => w_if (x1 = 0) (∃ z, w_X4_scriptCost_b13 Q X z l0 0 0 σ) (Q 0 σ)) X σ
set_option maxHeartbeats 4000000 in
theorem wk_X4_scriptCost_b13  (C : tw_C p l R s m args meth c G cX4_scriptCost 3 yX4_scriptCost.cls) (hr : meth.sig.returnType = (some .int)) (hmn : meth.name = yX4_scriptCost.name) (hnx : (∀ x ∈ c.exceptionTable.toList, False)) (hfr : 3 ≤ R.frames) (hRl : R.locals = 40 * R.frames) {Q : Int32 → Tst → Prop} {X : String → Nat → Tst → Prop}  : ∀ (n : Nat) (l0 : Option Nat) (l1 : Int32) (l2 : Int32) (σ : Tst) (H : Heap) (locs : List Loc) (ls : Array Slot), w_X4_scriptCost_b13 Q X n l0 l1 l2 σ → tw_R G σ H → va_S (tw_A G) s.heap H locs → tw_l ls 3 [(0, .inr l0), (1, .inl l1), (2, .inl l2)] → tw_W p l e R s m args below meth c σ H locs (tw_E below G (tw_Qi G Q) X args s R) (F0 m 13 ls []) := by
  intro n
  induction n with
  | zero => intro l0 l1 l2 σ H locs ls hw; exact False.elim hw
  | succ n hk13 =>
    intro l0 l1 l2 σ H locs ls hw hR hS hl
    rw [w_X4_scriptCost_b13] at hw
    refine tk_iload_n C hl 2 dX4_scriptCost_13 rfl ?_
    refine tk_aload_n C hl 0 dX4_scriptCost_14 rfl ?_
    refine tk_gi C hR hw rfl in_X4 (by decide) q2076 (fun _ h => h) dX4_scriptCost_15 (fun x1 hw => ?_)
    refine lv_icmp_ge (tgt := 35) C.hx C.hb dX4_scriptCost_18 (by decide) (fun c18 => ?_) (fun c18 => ?_)
    · replace hw := hw.1 c18
      refine tk_iload_n C hl 1 dX4_scriptCost_35 rfl ?_
      exact tw_iret C hR hS hr rfl dX4_scriptCost_36 hw
    · replace hw := hw.2 c18
      refine tk_iload_n C hl 1 dX4_scriptCost_21 rfl ?_
      refine tk_aload_n C hl 0 dX4_scriptCost_22 rfl ?_
      refine tk_iload_n C hl 2 dX4_scriptCost_23 rfl ?_
      obtain ⟨hv, hw⟩ := hw
      refine tw_cbi C hS (tk_runV (As := [.inl l2]) C hR hS (wk_X4_cost l C.hst G (R.frames - 1) (by omega) _ _ _ _ σ hw) hv rfl q2430 q2432 qs50 q74 q2433 pd_X4_cost ⟨by omega, by omega⟩ hl.1 rfl (tw_r8 [.inl l1] (Nat.le_of_ble_eq_true rfl)) dX4_scriptCost_24) (fun E q σ H locs hX hR hS hi => tw_out C hR hS (fun x hx => (hnx x hx).elim) hi hX) (fun x2 σ H locs hw hR hS => ?_)
      refine lv_iadd C.hx C.hb dX4_scriptCost_27 ?_
      refine tk_istore_n (L' := [(1, .inl (l1 + x2)), (0, .inr l0), (2, .inl l2)]) C hl dX4_scriptCost_28 (by decide) rfl (fun ls hl => ?_)
      refine tk_iinc (L' := [(2, .inl (l2 + 1)), (1, .inl (l1 + x2)), (0, .inr l0)]) (y := (l2 + 1)) C hl 2 dX4_scriptCost_29 rfl rfl (by decide) rfl (fun ls hl => ?_)
      refine lv_goto (tgt := 13) C.hx C.hb dX4_scriptCost_32 (by decide) ?_
      exact hk13 _ _ _ σ _ _ _ hw hR hS (tk_sub hl [2, 1, 0] rfl)
set_option maxHeartbeats 4000000 in
theorem wk_X4_scriptCost (l : Launch) (hl0 : l.stackTraces = false) (G : Tgl) (fr : Nat)  (hfr : 3 ≤ fr) (l0 : Option Nat) (Q : Int32 → Tst → Prop) (X : String → Nat → Tst → Prop) (σ : Tst) (hw : w_X4_scriptCost l0 Q X σ) : tw_M l yX4_scriptCost (ws_ yX4_scriptCost cX4_scriptCost 3 (some .int)) fr (40 * fr) G σ [.inr l0] (tw_Qi G Q) X := by
  unfold w_X4_scriptCost at hw
  refine tw_of (ret := (some .int)) hl0 (by decide) (Nat.le_of_ble_eq_true rfl) (fun p e R s m args below meth c hRf hRl C hr hmn hnx hR hS ls hl => ?_)
  have hfr : 3 ≤ R.frames := by rw [hRf]; exact hfr
  have hRl : R.locals = 40 * R.frames := by rw [hRl, hRf]
  have hl : tw_l ls 3 [(0, .inr l0)] := hl
  refine tk_aload_n C hl 0 dX4_scriptCost_0 rfl ?_
  obtain ⟨hv, hw⟩ := hw
  refine tw_cbi C hS (tk_runV (As := []) C hR hS (wk_X4_isNoScript l C.hst G (R.frames - 1) (by omega) _ _ _ σ hw) hv rfl q2398 q2400 qs48 q74 q2401 pd_X4_isNoScript ⟨by omega, by omega⟩ hl.1 rfl (tw_r8 [] (Nat.le_of_ble_eq_true rfl)) dX4_scriptCost_1) (fun E q σ H locs hX hR hS hi => tw_out C hR hS (fun x hx => (hnx x hx).elim) hi hX) (fun x1 σ H locs hw hR hS => ?_)
  refine lv_if_eq (tgt := 9) C.hx C.hb dX4_scriptCost_4 (by decide) (fun c4 => ?_) (fun c4 => ?_)
  · replace hw := hw.1 c4
    refine lv_iconst (v := 0) C.hx C.hb dX4_scriptCost_9 (by decide) ?_
    refine tk_istore_n (L' := [(1, .inl 0), (0, .inr l0)]) C hl dX4_scriptCost_10 (by decide) rfl (fun ls hl => ?_)
    refine lv_iconst (v := 0) C.hx C.hb dX4_scriptCost_11 (by decide) ?_
    refine tk_istore_n (L' := [(2, .inl 0), (1, .inl 0), (0, .inr l0)]) C hl dX4_scriptCost_12 (by decide) rfl (fun ls hl => ?_)
    obtain ⟨z, hw⟩ := hw
    exact wk_X4_scriptCost_b13 C hr hmn hnx hfr hRl z _ _ _ σ _ _ _ hw hR hS (tk_sub hl [2, 1, 0] rfl)
  · replace hw := hw.2 c4
    refine lv_iconst (v := 0) C.hx C.hb dX4_scriptCost_7 (by decide) ?_
    exact tw_iret C hR hS hr rfl dX4_scriptCost_8 hw
-- TreeDifferModel.links(LTreeDifferModel$Tree;I)[LTreeDifferModel$Item;
def w_X4_links_b105 (k13 : Option Nat → Int32 → Option Nat → Int32 → Tst → Prop) (Q : Option Nat → Tst → Prop) (X : String → Nat → Tst → Prop) (l0 : Option Nat) (l1 : Int32) (l2 : Option Nat) (l3 : Int32) (σ : Tst) : Prop := k13 l0 l1 l2 (l3 + 1) σ
def w_X4_links_b13 (Q : Option Nat → Tst → Prop) (X : String → Nat → Tst → Prop) : Nat → Option Nat → Int32 → Option Nat → Int32 → Tst → Prop
  | 0, _, _, _, _, _ => False
  | n + 1, l0, l1, l2, l3, σ => w_al σ l2 fun x1 => w_if (x1 ≤ l3) (Q l2 σ) (w_nw σ cX20 6 [.inl 0, .inl 0, .inl 0, .inl 0, .inr none, .inr none] fun q2 σ => w_rf q2 <| w_X20_init q2 (fun σ => w_sr σ l2 l3 q2 fun σ => w_lr σ l2 l3 fun x4 => w_gr σ l0 cX5 0 fun x5 => w_li σ x5 (l1 + l3) fun x6 => w_p σ x4 cX20 0 (.inl x6) fun σ => w_lr σ l2 l3 fun x7 => w_gr σ l0 cX5 1 fun x8 => w_li σ x8 (l1 + l3) fun x9 => w_p σ x7 cX20 1 (.inl x9) fun σ => w_lr σ l2 l3 fun x10 => w_gr σ l0 cX5 2 fun x11 => w_li σ x11 (l1 + l3) fun x12 => w_p σ x10 cX20 2 (.inl x12) fun σ => w_if (l3 = 0) (w_X4_links_b105 (w_X4_links_b13 Q X n) Q X l0 l1 l2 l3 σ) (w_gr σ l0 cX5 3 fun x13 => w_li σ x13 (l1 + l3) fun x14 => w_lr σ l2 (x14 - l1) fun x15 => w_lr σ l2 l3 fun x16 => w_gi σ x15 cX20 3 fun x17 => w_rc σ x15 cX20 <| w_X20_puts x15 x16 x17 (fun σ => w_X4_links_b105 (w_X4_links_b13 Q X n) Q X l0 l1 l2 l3 σ) X σ)) X σ)
def w_X4_links (l0 : Option Nat) (l1 : Int32) (Q : Option Nat → Tst → Prop) (X : String → Nat → Tst → Prop) (σ : Tst) : Prop := w_rc σ l0 cX5 <| w_X5_end l0 l1 (fun x1 σ => w_na σ 9 (x1 - l1) (.inr (.inr (.inr (.inr fun _ => none)))) fun q2 σ => ∃ z, w_X4_links_b13 Q X z l0 l1 q2 0 σ) X σ
set_option maxHeartbeats 4000000 in
theorem wk_X4_links_b105  (C : tw_C p l R s m args meth c G cX4_links 5 yX4_links.cls) (hr : meth.sig.returnType = (some (.array (.object "TreeDifferModel$Item")))) (hmn : meth.name = yX4_links.name) (hnx : (∀ x ∈ c.exceptionTable.toList, False)) (hfr : 2 ≤ R.frames) (hRl : R.locals = 40 * R.frames) {Q : Option Nat → Tst → Prop} {X : String → Nat → Tst → Prop}  {k13 : Option Nat → Int32 → Option Nat → Int32 → Tst → Prop} (hk13 : ∀ (l0 : Option Nat) (l1 : Int32) (l2 : Option Nat) (l3 : Int32) (σ : Tst) (H : Heap) (locs : List Loc) (ls : Array Slot), k13 l0 l1 l2 l3 σ → tw_R G σ H → va_S (tw_A G) s.heap H locs → tw_l ls 5 [(0, .inr l0), (1, .inl l1), (2, .inr l2), (3, .inl l3)] → tw_W p l e R s m args below meth c σ H locs (tw_E below G (tw_Qq G Q) X args s R) (F0 m 13 ls [])) (l0 : Option Nat) (l1 : Int32) (l2 : Option Nat) (l3 : Int32) (σ : Tst) (H : Heap) (locs : List Loc) (ls : Array Slot) (hw : w_X4_links_b105 k13 Q X l0 l1 l2 l3 σ) (hR : tw_R G σ H) (hS : va_S (tw_A G) s.heap H locs) (hl : tw_l ls 5 [(0, .inr l0), (1, .inl l1), (2, .inr l2), (3, .inl l3)]) : tw_W p l e R s m args below meth c σ H locs (tw_E below G (tw_Qq G Q) X args s R) (F0 m 105 ls []) := by
  unfold w_X4_links_b105 at hw
  refine tk_iinc (L' := [(3, .inl (l3 + 1)), (0, .inr l0), (1, .inl l1), (2, .inr l2)]) (y := (l3 + 1)) C hl 3 dX4_links_105 rfl rfl (by decide) rfl (fun ls hl => ?_)
  refine lv_goto (tgt := 13) C.hx C.hb dX4_links_108 (by decide) ?_
  exact hk13 _ _ _ _ σ _ _ _ hw hR hS (tk_sub hl [1, 2, 3, 0] rfl)
set_option maxHeartbeats 4000000 in
theorem wk_X4_links_b13  (C : tw_C p l R s m args meth c G cX4_links 5 yX4_links.cls) (hr : meth.sig.returnType = (some (.array (.object "TreeDifferModel$Item")))) (hmn : meth.name = yX4_links.name) (hnx : (∀ x ∈ c.exceptionTable.toList, False)) (hfr : 2 ≤ R.frames) (hRl : R.locals = 40 * R.frames) {Q : Option Nat → Tst → Prop} {X : String → Nat → Tst → Prop}  : ∀ (n : Nat) (l0 : Option Nat) (l1 : Int32) (l2 : Option Nat) (l3 : Int32) (σ : Tst) (H : Heap) (locs : List Loc) (ls : Array Slot), w_X4_links_b13 Q X n l0 l1 l2 l3 σ → tw_R G σ H → va_S (tw_A G) s.heap H locs → tw_l ls 5 [(0, .inr l0), (1, .inl l1), (2, .inr l2), (3, .inl l3)] → tw_W p l e R s m args below meth c σ H locs (tw_E below G (tw_Qq G Q) X args s R) (F0 m 13 ls []) := by
  intro n
  induction n with
  | zero => intro l0 l1 l2 l3 σ H locs ls hw; exact False.elim hw
  | succ n hk13 =>
    intro l0 l1 l2 l3 σ H locs ls hw hR hS hl
    rw [w_X4_links_b13] at hw
    refine tk_iload_n C hl 3 dX4_links_13 rfl ?_
    refine tk_aload_n C hl 2 dX4_links_14 rfl ?_
    refine tk_al C hR hw dX4_links_15 (fun x1 hw => ?_)
    refine lv_icmp_ge (tgt := 111) C.hx C.hb dX4_links_16 (by decide) (fun c16 => ?_) (fun c16 => ?_)
    · replace hw := hw.1 c16
      refine tk_aload_n C hl 2 dX4_links_111 rfl ?_
      exact tw_aret C hR hS hr (Or.inr ⟨_, rfl⟩) dX4_links_112 hw
    · replace hw := hw.2 c16
      refine tk_aload_n C hl 2 dX4_links_19 rfl ?_
      refine tk_iload_n C hl 3 dX4_links_20 rfl ?_
      refine tk_nw C hR hS hw rfl in_X20 tyX20 tyX20_ok q2042 q2445 q112 (fun j hj => by rcases (show j = 0 ∨ j = 1 ∨ j = 2 ∨ j = 3 ∨ j = 4 ∨ j = 5 by omega) with rfl | rfl | rfl | rfl | rfl | rfl <;> rfl) dX4_links_21 (fun q2 σ H hw hR hS => ?_)
      refine tw_dup (x := .inr q2) C.hx C.hb dX4_links_24 ?_
      obtain ⟨hv, hw⟩ := hw
      refine tw_cbv C hS (tk_runIN (As := []) hv C hR hS (wk_X20_init l C.hst G (R.frames - 1) (by omega) _ _ _ σ hw) q2446 q2447 q112 q2448 rfl pd_X20_init ⟨by omega, by omega⟩ hl.1 rfl (tw_r8 [.inr q2, .inl l3, .inr l2] (Nat.le_of_ble_eq_true rfl)) dX4_links_25) (fun E q σ H locs hX hR hS hi => tw_out C hR hS (fun x hx => (hnx x hx).elim) hi hX) (fun σ H locs hw hR hS => ?_)
      refine tk_sr C hR hS hw dX4_links_28 (fun σ H locs hw hR hS => ?_)
      refine tk_aload_n C hl 2 dX4_links_29 rfl ?_
      refine tk_iload_n C hl 3 dX4_links_30 rfl ?_
      refine tk_lr C hR hw dX4_links_31 (fun x4 hw => ?_)
      refine tk_aload_n C hl 0 dX4_links_32 rfl ?_
      refine tk_grN C hR hw rfl in_X5 (by decide) q2019 (fun _ h => h) dX4_links_33 (fun x5 hw => ?_)
      refine tk_iload_n C hl 1 dX4_links_36 rfl ?_
      refine tk_iload_n C hl 3 dX4_links_37 rfl ?_
      refine lv_iadd C.hx C.hb dX4_links_38 ?_
      refine tk_li C hR hw dX4_links_39 (fun x6 hw => ?_)
      refine tk_pN (x := .inl x6) C hR hS hw (by decide) rfl in_X20 tyX20 tyX20_ok nmX20 (by decide) q2451 (fun _ h => h) rfl (tw_ni _) dX4_links_40 (fun σ H locs hw hR hS => ?_)
      refine tk_aload_n C hl 2 dX4_links_43 rfl ?_
      refine tk_iload_n C hl 3 dX4_links_44 rfl ?_
      refine tk_lr C hR hw dX4_links_45 (fun x7 hw => ?_)
      refine tk_aload_n C hl 0 dX4_links_46 rfl ?_
      refine tk_grN C hR hw rfl in_X5 (by decide) q2021 (fun _ h => h) dX4_links_47 (fun x8 hw => ?_)
      refine tk_iload_n C hl 1 dX4_links_50 rfl ?_
      refine tk_iload_n C hl 3 dX4_links_51 rfl ?_
      refine lv_iadd C.hx C.hb dX4_links_52 ?_
      refine tk_li C hR hw dX4_links_53 (fun x9 hw => ?_)
      refine tk_pN (x := .inl x9) C hR hS hw (by decide) rfl in_X20 tyX20 tyX20_ok nmX20 (by decide) q2453 (fun _ h => h) rfl (tw_ni _) dX4_links_54 (fun σ H locs hw hR hS => ?_)
      refine tk_aload_n C hl 2 dX4_links_57 rfl ?_
      refine tk_iload_n C hl 3 dX4_links_58 rfl ?_
      refine tk_lr C hR hw dX4_links_59 (fun x10 hw => ?_)
      refine tk_aload_n C hl 0 dX4_links_60 rfl ?_
      refine tk_grN C hR hw rfl in_X5 (by decide) q2023 (fun _ h => h) dX4_links_61 (fun x11 hw => ?_)
      refine tk_iload_n C hl 1 dX4_links_64 rfl ?_
      refine tk_iload_n C hl 3 dX4_links_65 rfl ?_
      refine lv_iadd C.hx C.hb dX4_links_66 ?_
      refine tk_li C hR hw dX4_links_67 (fun x12 hw => ?_)
      refine tk_pN (x := .inl x12) C hR hS hw (by decide) rfl in_X20 tyX20 tyX20_ok nmX20 (by decide) q2454 (fun _ h => h) rfl (tw_ni _) dX4_links_68 (fun σ H locs hw hR hS => ?_)
      refine tk_iload_n C hl 3 dX4_links_71 rfl ?_
      refine lv_if_ne (tgt := 78) C.hx C.hb dX4_links_72 (by decide) (fun c72 => ?_) (fun c72 => ?_)
      · replace hw := hw.2 c72
        refine tk_aload_n C hl 2 dX4_links_78 rfl ?_
        refine tk_aload_n C hl 0 dX4_links_79 rfl ?_
        refine tk_grN C hR hw rfl in_X5 (by decide) q2025 (fun _ h => h) dX4_links_80 (fun x13 hw => ?_)
        refine tk_iload_n C hl 1 dX4_links_83 rfl ?_
        refine tk_iload_n C hl 3 dX4_links_84 rfl ?_
        refine lv_iadd C.hx C.hb dX4_links_85 ?_
        refine tk_li C hR hw dX4_links_86 (fun x14 hw => ?_)
        refine tk_iload_n C hl 1 dX4_links_87 rfl ?_
        refine lv_isub C.hx C.hb dX4_links_88 ?_
        refine tk_lr C hR hw dX4_links_89 (fun x15 hw => ?_)
        refine tk_astore (L' := [(4, .inr x15), (0, .inr l0), (1, .inl l1), (2, .inr l2), (3, .inl l3)]) C hl dX4_links_90 (by decide) rfl (fun ls hl => ?_)
        refine tk_aload C hl 0 dX4_links_92 rfl ?_
        refine tk_aload_n C hl 3 dX4_links_94 rfl ?_
        refine tk_iload_n C hl 4 dX4_links_95 rfl ?_
        refine tk_lr C hR hw dX4_links_96 (fun x16 hw => ?_)
        refine tk_aload C hl 0 dX4_links_97 rfl ?_
        refine tk_giN C hR hw rfl in_X20 (by decide) q2456 (fun _ h => h) dX4_links_99 (fun x17 hw => ?_)
        obtain ⟨hv, hw⟩ := hw
        refine tw_cbv C hS (tk_runVN (As := [.inr x16, .inl x17]) C hR hS (wk_X20_puts l C.hst G (R.frames - 1) (by omega) _ _ _ _ _ σ hw) hv rfl q2474 q2476 qs52 q112 q2477 pd_X20_puts ⟨by omega, by omega⟩ hl.1 rfl (tw_r8 [] (Nat.le_of_ble_eq_true rfl)) dX4_links_102) (fun E q σ H locs hX hR hS hi => tw_out C hR hS (fun x hx => (hnx x hx).elim) hi hX) (fun σ H locs hw hR hS => ?_)
        exact wk_X4_links_b105 C hr hmn hnx hfr hRl hk13 _ _ _ _ σ _ _ _ hw hR hS (tk_sub hl [1, 2, 3, 4] rfl)
      · replace hw := hw.1 c72
        refine lv_goto (tgt := 105) C.hx C.hb dX4_links_75 (by decide) ?_
        exact wk_X4_links_b105 C hr hmn hnx hfr hRl hk13 _ _ _ _ σ _ _ _ hw hR hS (tk_sub hl [0, 1, 2, 3] rfl)
set_option maxHeartbeats 4000000 in
theorem wk_X4_links (l : Launch) (hl0 : l.stackTraces = false) (G : Tgl) (fr : Nat)  (hfr : 2 ≤ fr) (l0 : Option Nat) (l1 : Int32) (Q : Option Nat → Tst → Prop) (X : String → Nat → Tst → Prop) (σ : Tst) (hw : w_X4_links l0 l1 Q X σ) : tw_M l yX4_links (ws_ yX4_links cX4_links 5 (some (.array (.object "TreeDifferModel$Item")))) fr (40 * fr) G σ [.inr l0, .inl l1] (tw_Qq G Q) X := by
  unfold w_X4_links at hw
  refine tw_of (ret := (some (.array (.object "TreeDifferModel$Item")))) hl0 (by decide) (Nat.le_of_ble_eq_true rfl) (fun p e R s m args below meth c hRf hRl C hr hmn hnx hR hS ls hl => ?_)
  have hfr : 2 ≤ R.frames := by rw [hRf]; exact hfr
  have hRl : R.locals = 40 * R.frames := by rw [hRl, hRf]
  have hl : tw_l ls 5 [(0, .inr l0), (1, .inl l1)] := hl
  refine tk_aload_n C hl 0 dX4_links_0 rfl ?_
  refine tk_iload_n C hl 1 dX4_links_1 rfl ?_
  obtain ⟨hv, hw⟩ := hw
  refine tw_cbi C hS (tk_runVN (As := [.inl l1]) C hR hS (wk_X5_end l C.hst G (R.frames - 1) (by omega) _ _ _ _ σ hw) hv rfl q2262 q2264 qs37 q75 q2265 pd_X5_end ⟨by omega, by omega⟩ hl.1 rfl (tw_r8 [] (Nat.le_of_ble_eq_true rfl)) dX4_links_2) (fun E q σ H locs hX hR hS hi => tw_out C hR hS (fun x hx => (hnx x hx).elim) hi hX) (fun x1 σ H locs hw hR hS => ?_)
  refine tk_iload_n C hl 1 dX4_links_5 rfl ?_
  refine lv_isub C.hx C.hb dX4_links_6 ?_
  refine tk_nr (t := 9) C hR hS hw q2042 (by decide) rfl dX4_links_7 (fun q2 σ H hw hR hS => ?_)
  refine tk_astore_n (L' := [(2, .inr q2), (0, .inr l0), (1, .inl l1)]) C hl dX4_links_10 (by decide) rfl (fun ls hl => ?_)
  refine lv_iconst (v := 0) C.hx C.hb dX4_links_11 (by decide) ?_
  refine tk_istore_n (L' := [(3, .inl 0), (2, .inr q2), (0, .inr l0), (1, .inl l1)]) C hl dX4_links_12 (by decide) rfl (fun ls hl => ?_)
  obtain ⟨z, hw⟩ := hw
  exact wk_X4_links_b13 C hr hmn hnx hfr hRl z _ _ _ _ σ _ _ _ hw hR hS (tk_sub hl [2, 3, 1, 0] rfl)
-- TreeDifferModel.image(I)LTreeDifferModel$Item;
def w_X4_image_b24 (Q : Option Nat → Tst → Prop) (X : String → Nat → Tst → Prop) (s0 : Option Nat) (σ : Tst) : Prop := Q s0 σ
def w_X4_image (l0 : Option Nat) (l1 : Int32) (Q : Option Nat → Tst → Prop) (X : String → Nat → Tst → Prop) (σ : Tst) : Prop := w_gr σ l0 cX4 13 fun x1 => w_li σ x1 l1 fun x2 => w_if (0 ≤ x2) (w_gr σ l0 cX4 26 fun x3 => w_gr σ l0 cX4 13 fun x4 => w_li σ x4 l1 fun x5 => w_lr σ x3 x5 fun x6 => w_X4_image_b24 Q X x6 σ) (w_X4_image_b24 Q X none σ)
set_option maxHeartbeats 4000000 in
theorem wk_X4_image_b24  (C : tw_C p l R s m args meth c G cX4_image 2 yX4_image.cls) (hr : meth.sig.returnType = (some (.object "TreeDifferModel$Item"))) (hmn : meth.name = yX4_image.name) (hnx : (∀ x ∈ c.exceptionTable.toList, False)) (hfr : 1 ≤ R.frames) (hRl : R.locals = 40 * R.frames) {Q : Option Nat → Tst → Prop} {X : String → Nat → Tst → Prop}  (s0 : Option Nat) (σ : Tst) (H : Heap) (locs : List Loc) (ls : Array Slot) (hw : w_X4_image_b24 Q X s0 σ) (hR : tw_R G σ H) (hS : va_S (tw_A G) s.heap H locs) (hl : tw_l ls 2 []) : tw_W p l e R s m args below meth c σ H locs (tw_E below G (tw_Qq G Q) X args s R) (F0 m 24 ls [va_rf s0]) := by
  unfold w_X4_image_b24 at hw
  exact tw_aret C hR hS hr (Or.inl ⟨_, rfl⟩) dX4_image_24 hw
set_option maxHeartbeats 4000000 in
theorem wk_X4_image (l : Launch) (hl0 : l.stackTraces = false) (G : Tgl) (fr : Nat)  (hfr : 1 ≤ fr) (l0 : Option Nat) (l1 : Int32) (Q : Option Nat → Tst → Prop) (X : String → Nat → Tst → Prop) (σ : Tst) (hw : w_X4_image l0 l1 Q X σ) : tw_M l yX4_image (ws_ yX4_image cX4_image 2 (some (.object "TreeDifferModel$Item"))) fr (40 * fr) G σ [.inr l0, .inl l1] (tw_Qq G Q) X := by
  unfold w_X4_image at hw
  refine tw_of (ret := (some (.object "TreeDifferModel$Item"))) hl0 (by decide) (Nat.le_of_ble_eq_true rfl) (fun p e R s m args below meth c hRf hRl C hr hmn hnx hR hS ls hl => ?_)
  have hfr : 1 ≤ R.frames := by rw [hRf]; exact hfr
  have hRl : R.locals = 40 * R.frames := by rw [hRl, hRf]
  have hl : tw_l ls 2 [(0, .inr l0), (1, .inl l1)] := hl
  refine tk_aload_n C hl 0 dX4_image_0 rfl ?_
  refine tk_gr C hR hw rfl in_X4 (by decide) q2065 (fun _ h => h) dX4_image_1 (fun x1 hw => ?_)
  refine tk_iload_n C hl 1 dX4_image_4 rfl ?_
  refine tk_li C hR hw dX4_image_5 (fun x2 hw => ?_)
  refine lv_if_ge (tgt := 13) C.hx C.hb dX4_image_6 (by decide) (fun c6 => ?_) (fun c6 => ?_)
  · replace hw := hw.1 c6
    refine tk_aload_n C hl 0 dX4_image_13 rfl ?_
    refine tk_gr C hR hw rfl in_X4 (by decide) q2078 (fun _ h => h) dX4_image_14 (fun x3 hw => ?_)
    refine tk_aload_n C hl 0 dX4_image_17 rfl ?_
    refine tk_gr C hR hw rfl in_X4 (by decide) q2065 (fun _ h => h) dX4_image_18 (fun x4 hw => ?_)
    refine tk_iload_n C hl 1 dX4_image_21 rfl ?_
    refine tk_li C hR hw dX4_image_22 (fun x5 hw => ?_)
    refine tk_lr C hR hw dX4_image_23 (fun x6 hw => ?_)
    exact wk_X4_image_b24 C hr hmn hnx hfr hRl _ σ _ _ _ hw hR hS (tk_sub hl [] rfl)
  · replace hw := hw.2 c6
    refine lv_null C.hx C.hb dX4_image_9 ?_
    refine W.eq (g2 := F0 m 10 ls (va_rf none :: [])) rfl ?_
    refine lv_goto (tgt := 24) C.hx C.hb dX4_image_10 (by decide) ?_
    exact wk_X4_image_b24 C hr hmn hnx hfr hRl _ σ _ _ _ hw hR hS (tk_sub hl [] rfl)
-- TreeDifferModel.takesOut(ILTreeDifferModel$Tree;)C
def w_X4_takesOut_b33 (Q : Int32 → Tst → Prop) (X : String → Nat → Tst → Prop) (s0 : Int32) (σ : Tst) : Prop := narrow .char (.int s0) = .int s0 ∧ Q s0 σ
def w_X4_takesOut_b77 (Q : Int32 → Tst → Prop) (X : String → Nat → Tst → Prop) (l0 : Option Nat) (l1 : Int32) (l2 : Option Nat) (l3 : Option Nat) (σ : Tst) : Prop := w_rc σ l3 cX20 <| w_X20_leaves l3 (fun σ => w_gi σ l0 cX4 28 fun x2 => w_gr σ l0 cX4 13 fun x3 => w_gr σ l0 cX4 19 fun x4 => w_li σ x4 l1 fun x5 => w_li σ x3 x5 fun x6 => w_rc σ l2 cX5 <| w_X5_end l2 x6 (fun x7 σ => w_gr σ l0 cX4 13 fun x8 => w_gr σ l0 cX4 19 fun x9 => w_li σ x9 l1 fun x10 => w_li σ x8 x10 fun x11 => w_p σ l0 cX4 28 (.inl (x2 - (x7 - x11))) fun σ => narrow .char (.int 45) = .int 45 ∧ Q 45 σ) X σ) X σ
def w_X4_takesOut (l0 : Option Nat) (l1 : Int32) (l2 : Option Nat) (Q : Int32 → Tst → Prop) (X : String → Nat → Tst → Prop) (σ : Tst) : Prop := w_gr σ l0 cX4 19 fun x1 => w_li σ x1 l1 fun x2 => w_rc σ l0 cX4 <| w_X4_image l0 x2 (fun x3 σ => w_if (x3 = none) (w_gr σ l0 cX4 18 fun x14 => w_lc σ x14 l1 fun x15 => w_if (x15 = 100) (w_X4_takesOut_b33 Q X 45 σ) (w_X4_takesOut_b33 Q X 103 σ)) (w_gr σ l0 cX4 18 fun x4 => w_lc σ x4 l1 fun x5 => w_if (x5 = 100) (w_gr σ l0 cX4 16 fun x6 => w_gr σ l0 cX4 19 fun x7 => w_li σ x7 l1 fun x8 => w_gr σ l0 cX4 13 fun x9 => w_gr σ l0 cX4 19 fun x10 => w_li σ x10 l1 fun x11 => w_li σ x9 x11 fun x12 => w_X4_areLike x6 x8 l2 x12 0 (fun x13 σ => w_if (x13 = 0) (narrow .char (.int 99) = .int 99 ∧ Q 99 σ) (w_X4_takesOut_b77 Q X l0 l1 l2 x3 σ)) X σ) (w_X4_takesOut_b77 Q X l0 l1 l2 x3 σ))) X σ
set_option maxHeartbeats 4000000 in
theorem wk_X4_takesOut_b33  (C : tw_C p l R s m args meth c G cX4_takesOut 4 yX4_takesOut.cls) (hr : meth.sig.returnType = (some .char)) (hmn : meth.name = yX4_takesOut.name) (hnx : (∀ x ∈ c.exceptionTable.toList, False)) (hfr : 3 ≤ R.frames) (hRl : R.locals = 40 * R.frames) {Q : Int32 → Tst → Prop} {X : String → Nat → Tst → Prop}  (s0 : Int32) (σ : Tst) (H : Heap) (locs : List Loc) (ls : Array Slot) (hw : w_X4_takesOut_b33 Q X s0 σ) (hR : tw_R G σ H) (hS : va_S (tw_A G) s.heap H locs) (hl : tw_l ls 4 []) : tw_W p l e R s m args below meth c σ H locs (tw_E below G (tw_Qi G Q) X args s R) (F0 m 33 ls [.int s0]) := by
  unfold w_X4_takesOut_b33 at hw
  obtain ⟨hok, hw⟩ := hw
  exact tw_iret C hR hS hr hok dX4_takesOut_33 hw
set_option maxHeartbeats 4000000 in
theorem wk_X4_takesOut_b77  (C : tw_C p l R s m args meth c G cX4_takesOut 4 yX4_takesOut.cls) (hr : meth.sig.returnType = (some .char)) (hmn : meth.name = yX4_takesOut.name) (hnx : (∀ x ∈ c.exceptionTable.toList, False)) (hfr : 3 ≤ R.frames) (hRl : R.locals = 40 * R.frames) {Q : Int32 → Tst → Prop} {X : String → Nat → Tst → Prop}  (l0 : Option Nat) (l1 : Int32) (l2 : Option Nat) (l3 : Option Nat) (σ : Tst) (H : Heap) (locs : List Loc) (ls : Array Slot) (hw : w_X4_takesOut_b77 Q X l0 l1 l2 l3 σ) (hR : tw_R G σ H) (hS : va_S (tw_A G) s.heap H locs) (hl : tw_l ls 4 [(0, .inr l0), (1, .inl l1), (2, .inr l2), (3, .inr l3)]) : tw_W p l e R s m args below meth c σ H locs (tw_E below G (tw_Qi G Q) X args s R) (F0 m 77 ls []) := by
  unfold w_X4_takesOut_b77 at hw
  refine tk_aload_n C hl 3 dX4_takesOut_77 rfl ?_
  obtain ⟨hv, hw⟩ := hw
  refine tw_cbv C hS (tk_runVN (As := []) C hR hS (wk_X20_leaves l C.hst G (R.frames - 1) (by omega) _ _ _ σ hw) hv rfl q2490 q2492 qs56 q112 q2493 pd_X20_leaves ⟨by omega, by omega⟩ hl.1 rfl (tw_r8 [] (Nat.le_of_ble_eq_true rfl)) dX4_takesOut_78) (fun E q σ H locs hX hR hS hi => tw_out C hR hS (fun x hx => (hnx x hx).elim) hi hX) (fun σ H locs hw hR hS => ?_)
  refine tk_aload_n C hl 0 dX4_takesOut_81 rfl ?_
  refine tw_dup (x := .inr l0) C.hx C.hb dX4_takesOut_82 ?_
  refine tk_gi C hR hw rfl in_X4 (by decide) q2080 (fun _ h => h) dX4_takesOut_83 (fun x2 hw => ?_)
  refine tk_aload_n C hl 2 dX4_takesOut_86 rfl ?_
  refine tk_aload_n C hl 0 dX4_takesOut_87 rfl ?_
  refine tk_gr C hR hw rfl in_X4 (by decide) q2065 (fun _ h => h) dX4_takesOut_88 (fun x3 hw => ?_)
  refine tk_aload_n C hl 0 dX4_takesOut_91 rfl ?_
  refine tk_gr C hR hw rfl in_X4 (by decide) q2071 (fun _ h => h) dX4_takesOut_92 (fun x4 hw => ?_)
  refine tk_iload_n C hl 1 dX4_takesOut_95 rfl ?_
  refine tk_li C hR hw dX4_takesOut_96 (fun x5 hw => ?_)
  refine tk_li C hR hw dX4_takesOut_97 (fun x6 hw => ?_)
  obtain ⟨hv, hw⟩ := hw
  refine tw_cbi C hS (tk_runVN (As := [.inl x6]) C hR hS (wk_X5_end l C.hst G (R.frames - 1) (by omega) _ _ _ _ σ hw) hv rfl q2262 q2264 qs37 q75 q2265 pd_X5_end ⟨by omega, by omega⟩ hl.1 rfl (tw_r8 [.inl x2, .inr l0] (Nat.le_of_ble_eq_true rfl)) dX4_takesOut_98) (fun E q σ H locs hX hR hS hi => tw_out C hR hS (fun x hx => (hnx x hx).elim) hi hX) (fun x7 σ H locs hw hR hS => ?_)
  refine tk_aload_n C hl 0 dX4_takesOut_101 rfl ?_
  refine tk_gr C hR hw rfl in_X4 (by decide) q2065 (fun _ h => h) dX4_takesOut_102 (fun x8 hw => ?_)
  refine tk_aload_n C hl 0 dX4_takesOut_105 rfl ?_
  refine tk_gr C hR hw rfl in_X4 (by decide) q2071 (fun _ h => h) dX4_takesOut_106 (fun x9 hw => ?_)
  refine tk_iload_n C hl 1 dX4_takesOut_109 rfl ?_
  refine tk_li C hR hw dX4_takesOut_110 (fun x10 hw => ?_)
  refine tk_li C hR hw dX4_takesOut_111 (fun x11 hw => ?_)
  refine lv_isub C.hx C.hb dX4_takesOut_112 ?_
  refine lv_isub C.hx C.hb dX4_takesOut_113 ?_
  refine tk_p (x := .inl (x2 - (x7 - x11))) C hR hS hw (by decide) rfl in_X4 tyX4 tyX4_ok nmX4 (by decide) q2080 (fun _ h => h) rfl (tw_ni _) dX4_takesOut_114 (fun σ H locs hw hR hS => ?_)
  refine lv_bipush (v := 45) C.hx C.hb dX4_takesOut_117 (by decide) ?_
  obtain ⟨hok, hw⟩ := hw
  exact tw_iret C hR hS hr hok dX4_takesOut_119 hw
set_option maxHeartbeats 4000000 in
theorem wk_X4_takesOut (l : Launch) (hl0 : l.stackTraces = false) (G : Tgl) (fr : Nat)  (hfr : 3 ≤ fr) (l0 : Option Nat) (l1 : Int32) (l2 : Option Nat) (Q : Int32 → Tst → Prop) (X : String → Nat → Tst → Prop) (σ : Tst) (hw : w_X4_takesOut l0 l1 l2 Q X σ) : tw_M l yX4_takesOut (ws_ yX4_takesOut cX4_takesOut 4 (some .char)) fr (40 * fr) G σ [.inr l0, .inl l1, .inr l2] (tw_Qi G Q) X := by
  unfold w_X4_takesOut at hw
  refine tw_of (ret := (some .char)) hl0 (by decide) (Nat.le_of_ble_eq_true rfl) (fun p e R s m args below meth c hRf hRl C hr hmn hnx hR hS ls hl => ?_)
  have hfr : 3 ≤ R.frames := by rw [hRf]; exact hfr
  have hRl : R.locals = 40 * R.frames := by rw [hRl, hRf]
  have hl : tw_l ls 4 [(0, .inr l0), (1, .inl l1), (2, .inr l2)] := hl
  refine tk_aload_n C hl 0 dX4_takesOut_0 rfl ?_
  refine tk_aload_n C hl 0 dX4_takesOut_1 rfl ?_
  refine tk_gr C hR hw rfl in_X4 (by decide) q2071 (fun _ h => h) dX4_takesOut_2 (fun x1 hw => ?_)
  refine tk_iload_n C hl 1 dX4_takesOut_5 rfl ?_
  refine tk_li C hR hw dX4_takesOut_6 (fun x2 hw => ?_)
  obtain ⟨hv, hw⟩ := hw
  refine tw_cbq C hS (tk_runV (As := [.inl x2]) C hR hS (wk_X4_image l C.hst G (R.frames - 1) (by omega) _ _ _ _ σ hw) hv rfl q2486 q2488 qs55 q74 q2489 pd_X4_image ⟨by omega, by omega⟩ hl.1 rfl (tw_r8 [] (Nat.le_of_ble_eq_true rfl)) dX4_takesOut_7) (fun E q σ H locs hX hR hS hi => tw_out C hR hS (fun x hx => (hnx x hx).elim) hi hX) (fun x3 σ H locs hw hR hS => ?_)
  refine tk_astore_n (L' := [(3, .inr x3), (0, .inr l0), (1, .inl l1), (2, .inr l2)]) C hl dX4_takesOut_10 (by decide) rfl (fun ls hl => ?_)
  refine tk_aload_n C hl 0 dX4_takesOut_11 rfl ?_
  refine tw_ifnonnull (tgt := 34) C.hx C.hb dX4_takesOut_12 (by decide) (fun c12 => ?_) (fun c12 => ?_)
  · replace hw := hw.2 c12
    refine tk_aload_n C hl 1 dX4_takesOut_34 rfl ?_
    refine tk_gr C hR hw rfl in_X4 (by decide) q2070 (fun _ h => h) dX4_takesOut_35 (fun x4 hw => ?_)
    refine tk_iload_n C hl 2 dX4_takesOut_38 rfl ?_
    refine tk_lc C hR hw dX4_takesOut_39 (fun x5 hw => ?_)
    refine lv_bipush (v := 100) C.hx C.hb dX4_takesOut_40 (by decide) ?_
    refine lv_icmp_ne (tgt := 77) C.hx C.hb dX4_takesOut_42 (by decide) (fun c42 => ?_) (fun c42 => ?_)
    · replace hw := hw.2 c42
      exact wk_X4_takesOut_b77 C hr hmn hnx hfr hRl _ _ _ _ σ _ _ _ hw hR hS (tk_sub hl [1, 2, 3, 0] rfl)
    · replace hw := hw.1 c42
      refine tk_aload_n C hl 1 dX4_takesOut_45 rfl ?_
      refine tk_gr C hR hw rfl in_X4 (by decide) q2068 (fun _ h => h) dX4_takesOut_46 (fun x6 hw => ?_)
      refine tk_aload_n C hl 1 dX4_takesOut_49 rfl ?_
      refine tk_gr C hR hw rfl in_X4 (by decide) q2071 (fun _ h => h) dX4_takesOut_50 (fun x7 hw => ?_)
      refine tk_iload_n C hl 2 dX4_takesOut_53 rfl ?_
      refine tk_li C hR hw dX4_takesOut_54 (fun x8 hw => ?_)
      refine tk_aload_n C hl 3 dX4_takesOut_55 rfl ?_
      refine tk_aload_n C hl 1 dX4_takesOut_56 rfl ?_
      refine tk_gr C hR hw rfl in_X4 (by decide) q2065 (fun _ h => h) dX4_takesOut_57 (fun x9 hw => ?_)
      refine tk_aload_n C hl 1 dX4_takesOut_60 rfl ?_
      refine tk_gr C hR hw rfl in_X4 (by decide) q2071 (fun _ h => h) dX4_takesOut_61 (fun x10 hw => ?_)
      refine tk_iload_n C hl 2 dX4_takesOut_64 rfl ?_
      refine tk_li C hR hw dX4_takesOut_65 (fun x11 hw => ?_)
      refine tk_li C hR hw dX4_takesOut_66 (fun x12 hw => ?_)
      refine lv_iconst (v := 0) C.hx C.hb dX4_takesOut_67 (by decide) ?_
      refine tw_cbi C hS (tw_runS (As := [.inr x6, .inl x8, .inr l2, .inl x12, .inl 0]) C hR hS (wk_X4_areLike l C.hst G (R.frames - 1) (by omega) _ _ _ _ _ _ _ σ hw) q2337 q2338 q74 q2339 pd_X4_areLike ⟨by omega, by omega⟩ hl.1 rfl (tw_r8 [] (Nat.le_of_ble_eq_true rfl)) dX4_takesOut_68) (fun E q σ H locs hX hR hS hi => tw_out C hR hS (fun x hx => (hnx x hx).elim) hi hX) (fun x13 σ H locs hw hR hS => ?_)
      refine lv_if_ne (tgt := 77) C.hx C.hb dX4_takesOut_71 (by decide) (fun c71 => ?_) (fun c71 => ?_)
      · replace hw := hw.2 c71
        exact wk_X4_takesOut_b77 C hr hmn hnx hfr hRl _ _ _ _ σ _ _ _ hw hR hS (tk_sub hl [1, 2, 3, 0] rfl)
      · replace hw := hw.1 c71
        refine lv_bipush (v := 99) C.hx C.hb dX4_takesOut_74 (by decide) ?_
        obtain ⟨hok, hw⟩ := hw
        exact tw_iret C hR hS hr hok dX4_takesOut_76 hw
  · replace hw := hw.1 c12
    refine tk_aload_n C hl 1 dX4_takesOut_15 rfl ?_
    refine tk_gr C hR hw rfl in_X4 (by decide) q2070 (fun _ h => h) dX4_takesOut_16 (fun x14 hw => ?_)
    refine tk_iload_n C hl 2 dX4_takesOut_19 rfl ?_
    refine tk_lc C hR hw dX4_takesOut_20 (fun x15 hw => ?_)
    refine lv_bipush (v := 100) C.hx C.hb dX4_takesOut_21 (by decide) ?_
    refine lv_icmp_ne (tgt := 31) C.hx C.hb dX4_takesOut_23 (by decide) (fun c23 => ?_) (fun c23 => ?_)
    · replace hw := hw.2 c23
      refine lv_bipush (v := 103) C.hx C.hb dX4_takesOut_31 (by decide) ?_
      exact wk_X4_takesOut_b33 C hr hmn hnx hfr hRl _ σ _ _ _ hw hR hS (tk_sub hl [] rfl)
    · replace hw := hw.1 c23
      refine lv_bipush (v := 45) C.hx C.hb dX4_takesOut_26 (by decide) ?_
      refine lv_goto (tgt := 33) C.hx C.hb dX4_takesOut_28 (by decide) ?_
      exact wk_X4_takesOut_b33 C hr hmn hnx hfr hRl _ σ _ _ _ hw hR hS (tk_sub hl [] rfl)
-- TreeDifferModel.changes(I)C
def w_X4_changes_b158 (Q : Int32 → Tst → Prop) (X : String → Nat → Tst → Prop) (σ : Tst) : Prop := narrow .char (.int 45) = .int 45 ∧ Q 45 σ
def w_X4_changes_b139 (Q : Int32 → Tst → Prop) (X : String → Nat → Tst → Prop) (l2 : Option Nat) (l3 : Int32) (l5 : Int32) (σ : Tst) : Prop := w_if (l3 = 0) (w_p σ l2 cX20 2 (.inl l5) fun σ => w_X4_changes_b158 Q X σ) (w_p σ l2 cX20 0 (.inl l5) fun σ => w_X4_changes_b158 Q X σ)
def w_X4_changes_b133 (Q : Int32 → Tst → Prop) (X : String → Nat → Tst → Prop) (l2 : Option Nat) (l3 : Int32) (l5 : Int32) (s0 : Int32) (s1 : Int32) (σ : Tst) : Prop := w_if (s0 = s1) (w_X4_changes_b139 Q X l2 l3 l5 σ) (narrow .char (.int 99) = .int 99 ∧ Q 99 σ)
def w_X4_changes_b87 (Q : Int32 → Tst → Prop) (X : String → Nat → Tst → Prop) (l0 : Option Nat) (l1 : Int32) (l2 : Option Nat) (l3 : Int32) (l4 : Int32) (s0 : Int32) (σ : Tst) : Prop := w_if (l4 = s0) (w_X4_changes_b139 Q X l2 l3 s0 σ) (w_if (l3 = 0) (w_gr σ l0 cX4 16 fun x1 => w_gr σ x1 cX5 2 fun x2 => w_gr σ l0 cX4 19 fun x3 => w_li σ x3 l1 fun x4 => w_li σ x2 x4 fun x5 => w_X4_changes_b133 Q X l2 l3 s0 l4 x5 σ) (w_gr σ l0 cX4 16 fun x6 => w_gr σ x6 cX5 0 fun x7 => w_gr σ l0 cX4 19 fun x8 => w_li σ x8 l1 fun x9 => w_li σ x7 x9 fun x10 => w_X4_changes_b133 Q X l2 l3 s0 l4 x10 σ))
def w_X4_changes_b50 (Q : Int32 → Tst → Prop) (X : String → Nat → Tst → Prop) (l0 : Option Nat) (l1 : Int32) (l2 : Option Nat) (l3 : Int32) (s0 : Int32) (σ : Tst) : Prop := w_if (l3 = 0) (w_gr σ l0 cX4 17 fun x1 => w_gr σ x1 cX5 2 fun x2 => w_gr σ l0 cX4 20 fun x3 => w_li σ x3 l1 fun x4 => w_li σ x2 x4 fun x5 => w_X4_changes_b87 Q X l0 l1 l2 l3 s0 x5 σ) (w_gr σ l0 cX4 17 fun x6 => w_gr σ x6 cX5 0 fun x7 => w_gr σ l0 cX4 20 fun x8 => w_li σ x8 l1 fun x9 => w_li σ x7 x9 fun x10 => w_X4_changes_b87 Q X l0 l1 l2 l3 s0 x10 σ)
def w_X4_changes_b34 (Q : Int32 → Tst → Prop) (X : String → Nat → Tst → Prop) (l0 : Option Nat) (l1 : Int32) (l2 : Option Nat) (s0 : Int32) (σ : Tst) : Prop := w_if (s0 = 0) (w_gi σ l2 cX20 2 fun x1 => w_X4_changes_b50 Q X l0 l1 l2 s0 x1 σ) (w_gi σ l2 cX20 0 fun x2 => w_X4_changes_b50 Q X l0 l1 l2 s0 x2 σ)
def w_X4_changes (l0 : Option Nat) (l1 : Int32) (Q : Int32 → Tst → Prop) (X : String → Nat → Tst → Prop) (σ : Tst) : Prop := w_gr σ l0 cX4 19 fun x1 => w_li σ x1 l1 fun x2 => w_rc σ l0 cX4 <| w_X4_image l0 x2 (fun x3 σ => w_if (x3 = none) (narrow .char (.int 103) = .int 103 ∧ Q 103 σ) (w_gr σ l0 cX4 18 fun x4 => w_lc σ x4 l1 fun x5 => w_if (x5 = 108) (w_X4_changes_b34 Q X l0 l1 x3 1 σ) (w_X4_changes_b34 Q X l0 l1 x3 0 σ))) X σ
set_option maxHeartbeats 4000000 in
theorem wk_X4_changes_b158  (C : tw_C p l R s m args meth c G cX4_changes 6 yX4_changes.cls) (hr : meth.sig.returnType = (some .char)) (hmn : meth.name = yX4_changes.name) (hnx : (∀ x ∈ c.exceptionTable.toList, False)) (hfr : 2 ≤ R.frames) (hRl : R.locals = 40 * R.frames) {Q : Int32 → Tst → Prop} {X : String → Nat → Tst → Prop}   (σ : Tst) (H : Heap) (locs : List Loc) (ls : Array Slot) (hw : w_X4_changes_b158 Q X  σ) (hR : tw_R G σ H) (hS : va_S (tw_A G) s.heap H locs) (hl : tw_l ls 6 []) : tw_W p l e R s m args below meth c σ H locs (tw_E below G (tw_Qi G Q) X args s R) (F0 m 158 ls []) := by
  unfold w_X4_changes_b158 at hw
  refine lv_bipush (v := 45) C.hx C.hb dX4_changes_158 (by decide) ?_
  obtain ⟨hok, hw⟩ := hw
  exact tw_iret C hR hS hr hok dX4_changes_160 hw
set_option maxHeartbeats 4000000 in
theorem wk_X4_changes_b139  (C : tw_C p l R s m args meth c G cX4_changes 6 yX4_changes.cls) (hr : meth.sig.returnType = (some .char)) (hmn : meth.name = yX4_changes.name) (hnx : (∀ x ∈ c.exceptionTable.toList, False)) (hfr : 2 ≤ R.frames) (hRl : R.locals = 40 * R.frames) {Q : Int32 → Tst → Prop} {X : String → Nat → Tst → Prop}  (l2 : Option Nat) (l3 : Int32) (l5 : Int32) (σ : Tst) (H : Heap) (locs : List Loc) (ls : Array Slot) (hw : w_X4_changes_b139 Q X l2 l3 l5 σ) (hR : tw_R G σ H) (hS : va_S (tw_A G) s.heap H locs) (hl : tw_l ls 6 [(2, .inr l2), (3, .inl l3), (5, .inl l5)]) : tw_W p l e R s m args below meth c σ H locs (tw_E below G (tw_Qi G Q) X args s R) (F0 m 139 ls []) := by
  unfold w_X4_changes_b139 at hw
  refine tk_iload_n C hl 1 dX4_changes_139 rfl ?_
  refine lv_if_eq (tgt := 152) C.hx C.hb dX4_changes_140 (by decide) (fun c140 => ?_) (fun c140 => ?_)
  · replace hw := hw.1 c140
    refine tk_aload_n C hl 0 dX4_changes_152 rfl ?_
    refine tk_iload C hl 2 dX4_changes_153 rfl ?_
    refine tk_pN (x := .inl l5) C hR hS hw (by decide) rfl in_X20 tyX20 tyX20_ok nmX20 (by decide) q2454 (fun _ h => h) rfl (tw_ni _) dX4_changes_155 (fun σ H locs hw hR hS => ?_)
    exact wk_X4_changes_b158 C hr hmn hnx hfr hRl σ _ _ _ hw hR hS (tk_sub hl [] rfl)
  · replace hw := hw.2 c140
    refine tk_aload_n C hl 0 dX4_changes_143 rfl ?_
    refine tk_iload C hl 2 dX4_changes_144 rfl ?_
    refine tk_pN (x := .inl l5) C hR hS hw (by decide) rfl in_X20 tyX20 tyX20_ok nmX20 (by decide) q2451 (fun _ h => h) rfl (tw_ni _) dX4_changes_146 (fun σ H locs hw hR hS => ?_)
    refine lv_goto (tgt := 158) C.hx C.hb dX4_changes_149 (by decide) ?_
    exact wk_X4_changes_b158 C hr hmn hnx hfr hRl σ _ _ _ hw hR hS (tk_sub hl [] rfl)
set_option maxHeartbeats 4000000 in
theorem wk_X4_changes_b133  (C : tw_C p l R s m args meth c G cX4_changes 6 yX4_changes.cls) (hr : meth.sig.returnType = (some .char)) (hmn : meth.name = yX4_changes.name) (hnx : (∀ x ∈ c.exceptionTable.toList, False)) (hfr : 2 ≤ R.frames) (hRl : R.locals = 40 * R.frames) {Q : Int32 → Tst → Prop} {X : String → Nat → Tst → Prop}  (l2 : Option Nat) (l3 : Int32) (l5 : Int32) (s0 : Int32) (s1 : Int32) (σ : Tst) (H : Heap) (locs : List Loc) (ls : Array Slot) (hw : w_X4_changes_b133 Q X l2 l3 l5 s0 s1 σ) (hR : tw_R G σ H) (hS : va_S (tw_A G) s.heap H locs) (hl : tw_l ls 6 [(2, .inr l2), (3, .inl l3), (5, .inl l5)]) : tw_W p l e R s m args below meth c σ H locs (tw_E below G (tw_Qi G Q) X args s R) (F0 m 133 ls [.int s1, .int s0]) := by
  unfold w_X4_changes_b133 at hw
  refine lv_icmp_eq (tgt := 139) C.hx C.hb dX4_changes_133 (by decide) (fun c133 => ?_) (fun c133 => ?_)
  · replace hw := hw.1 c133
    exact wk_X4_changes_b139 C hr hmn hnx hfr hRl _ _ _ σ _ _ _ hw hR hS (tk_sub hl [0, 1, 2] rfl)
  · replace hw := hw.2 c133
    refine lv_bipush (v := 99) C.hx C.hb dX4_changes_136 (by decide) ?_
    obtain ⟨hok, hw⟩ := hw
    exact tw_iret C hR hS hr hok dX4_changes_138 hw
set_option maxHeartbeats 4000000 in
theorem wk_X4_changes_b87  (C : tw_C p l R s m args meth c G cX4_changes 6 yX4_changes.cls) (hr : meth.sig.returnType = (some .char)) (hmn : meth.name = yX4_changes.name) (hnx : (∀ x ∈ c.exceptionTable.toList, False)) (hfr : 2 ≤ R.frames) (hRl : R.locals = 40 * R.frames) {Q : Int32 → Tst → Prop} {X : String → Nat → Tst → Prop}  (l0 : Option Nat) (l1 : Int32) (l2 : Option Nat) (l3 : Int32) (l4 : Int32) (s0 : Int32) (σ : Tst) (H : Heap) (locs : List Loc) (ls : Array Slot) (hw : w_X4_changes_b87 Q X l0 l1 l2 l3 l4 s0 σ) (hR : tw_R G σ H) (hS : va_S (tw_A G) s.heap H locs) (hl : tw_l ls 6 [(0, .inr l0), (1, .inl l1), (2, .inr l2), (3, .inl l3), (4, .inl l4)]) : tw_W p l e R s m args below meth c σ H locs (tw_E below G (tw_Qi G Q) X args s R) (F0 m 87 ls [.int s0]) := by
  unfold w_X4_changes_b87 at hw
  refine tk_istore (L' := [(5, .inl s0), (0, .inr l0), (1, .inl l1), (2, .inr l2), (3, .inl l3), (4, .inl l4)]) C hl dX4_changes_87 (by decide) rfl (fun ls hl => ?_)
  refine tk_iload C hl 5 dX4_changes_89 rfl ?_
  refine tk_iload C hl 0 dX4_changes_91 rfl ?_
  refine lv_icmp_eq (tgt := 139) C.hx C.hb dX4_changes_93 (by decide) (fun c93 => ?_) (fun c93 => ?_)
  · replace hw := hw.1 c93
    exact wk_X4_changes_b139 C hr hmn hnx hfr hRl _ _ _ σ _ _ _ hw hR hS (tk_sub hl [3, 4, 0] rfl)
  · replace hw := hw.2 c93
    refine tk_iload C hl 5 dX4_changes_96 rfl ?_
    refine tk_iload_n C hl 4 dX4_changes_98 rfl ?_
    refine lv_if_eq (tgt := 119) C.hx C.hb dX4_changes_99 (by decide) (fun c99 => ?_) (fun c99 => ?_)
    · replace hw := hw.1 c99
      refine tk_aload_n C hl 1 dX4_changes_119 rfl ?_
      refine tk_gr C hR hw rfl in_X4 (by decide) q2068 (fun _ h => h) dX4_changes_120 (fun x1 hw => ?_)
      refine tk_grN C hR hw rfl in_X5 (by decide) q2023 (fun _ h => h) dX4_changes_123 (fun x2 hw => ?_)
      refine tk_aload_n C hl 1 dX4_changes_126 rfl ?_
      refine tk_gr C hR hw rfl in_X4 (by decide) q2071 (fun _ h => h) dX4_changes_127 (fun x3 hw => ?_)
      refine tk_iload_n C hl 2 dX4_changes_130 rfl ?_
      refine tk_li C hR hw dX4_changes_131 (fun x4 hw => ?_)
      refine tk_li C hR hw dX4_changes_132 (fun x5 hw => ?_)
      exact wk_X4_changes_b133 C hr hmn hnx hfr hRl _ _ _ _ _ σ _ _ _ hw hR hS (tk_sub hl [3, 4, 0] rfl)
    · replace hw := hw.2 c99
      refine tk_aload_n C hl 1 dX4_changes_102 rfl ?_
      refine tk_gr C hR hw rfl in_X4 (by decide) q2068 (fun _ h => h) dX4_changes_103 (fun x6 hw => ?_)
      refine tk_grN C hR hw rfl in_X5 (by decide) q2019 (fun _ h => h) dX4_changes_106 (fun x7 hw => ?_)
      refine tk_aload_n C hl 1 dX4_changes_109 rfl ?_
      refine tk_gr C hR hw rfl in_X4 (by decide) q2071 (fun _ h => h) dX4_changes_110 (fun x8 hw => ?_)
      refine tk_iload_n C hl 2 dX4_changes_113 rfl ?_
      refine tk_li C hR hw dX4_changes_114 (fun x9 hw => ?_)
      refine tk_li C hR hw dX4_changes_115 (fun x10 hw => ?_)
      refine lv_goto (tgt := 133) C.hx C.hb dX4_changes_116 (by decide) ?_
      exact wk_X4_changes_b133 C hr hmn hnx hfr hRl _ _ _ _ _ σ _ _ _ hw hR hS (tk_sub hl [3, 4, 0] rfl)
set_option maxHeartbeats 4000000 in
theorem wk_X4_changes_b50  (C : tw_C p l R s m args meth c G cX4_changes 6 yX4_changes.cls) (hr : meth.sig.returnType = (some .char)) (hmn : meth.name = yX4_changes.name) (hnx : (∀ x ∈ c.exceptionTable.toList, False)) (hfr : 2 ≤ R.frames) (hRl : R.locals = 40 * R.frames) {Q : Int32 → Tst → Prop} {X : String → Nat → Tst → Prop}  (l0 : Option Nat) (l1 : Int32) (l2 : Option Nat) (l3 : Int32) (s0 : Int32) (σ : Tst) (H : Heap) (locs : List Loc) (ls : Array Slot) (hw : w_X4_changes_b50 Q X l0 l1 l2 l3 s0 σ) (hR : tw_R G σ H) (hS : va_S (tw_A G) s.heap H locs) (hl : tw_l ls 6 [(0, .inr l0), (1, .inl l1), (2, .inr l2), (3, .inl l3)]) : tw_W p l e R s m args below meth c σ H locs (tw_E below G (tw_Qi G Q) X args s R) (F0 m 50 ls [.int s0]) := by
  unfold w_X4_changes_b50 at hw
  refine tk_istore (L' := [(4, .inl s0), (0, .inr l0), (1, .inl l1), (2, .inr l2), (3, .inl l3)]) C hl dX4_changes_50 (by decide) rfl (fun ls hl => ?_)
  refine tk_iload_n C hl 4 dX4_changes_52 rfl ?_
  refine lv_if_eq (tgt := 73) C.hx C.hb dX4_changes_53 (by decide) (fun c53 => ?_) (fun c53 => ?_)
  · replace hw := hw.1 c53
    refine tk_aload_n C hl 1 dX4_changes_73 rfl ?_
    refine tk_gr C hR hw rfl in_X4 (by decide) q2069 (fun _ h => h) dX4_changes_74 (fun x1 hw => ?_)
    refine tk_grN C hR hw rfl in_X5 (by decide) q2023 (fun _ h => h) dX4_changes_77 (fun x2 hw => ?_)
    refine tk_aload_n C hl 1 dX4_changes_80 rfl ?_
    refine tk_gr C hR hw rfl in_X4 (by decide) q2072 (fun _ h => h) dX4_changes_81 (fun x3 hw => ?_)
    refine tk_iload_n C hl 2 dX4_changes_84 rfl ?_
    refine tk_li C hR hw dX4_changes_85 (fun x4 hw => ?_)
    refine tk_li C hR hw dX4_changes_86 (fun x5 hw => ?_)
    exact wk_X4_changes_b87 C hr hmn hnx hfr hRl _ _ _ _ _ _ σ _ _ _ hw hR hS (tk_sub hl [1, 2, 3, 4, 0] rfl)
  · replace hw := hw.2 c53
    refine tk_aload_n C hl 1 dX4_changes_56 rfl ?_
    refine tk_gr C hR hw rfl in_X4 (by decide) q2069 (fun _ h => h) dX4_changes_57 (fun x6 hw => ?_)
    refine tk_grN C hR hw rfl in_X5 (by decide) q2019 (fun _ h => h) dX4_changes_60 (fun x7 hw => ?_)
    refine tk_aload_n C hl 1 dX4_changes_63 rfl ?_
    refine tk_gr C hR hw rfl in_X4 (by decide) q2072 (fun _ h => h) dX4_changes_64 (fun x8 hw => ?_)
    refine tk_iload_n C hl 2 dX4_changes_67 rfl ?_
    refine tk_li C hR hw dX4_changes_68 (fun x9 hw => ?_)
    refine tk_li C hR hw dX4_changes_69 (fun x10 hw => ?_)
    refine lv_goto (tgt := 87) C.hx C.hb dX4_changes_70 (by decide) ?_
    exact wk_X4_changes_b87 C hr hmn hnx hfr hRl _ _ _ _ _ _ σ _ _ _ hw hR hS (tk_sub hl [1, 2, 3, 4, 0] rfl)
set_option maxHeartbeats 4000000 in
theorem wk_X4_changes_b34  (C : tw_C p l R s m args meth c G cX4_changes 6 yX4_changes.cls) (hr : meth.sig.returnType = (some .char)) (hmn : meth.name = yX4_changes.name) (hnx : (∀ x ∈ c.exceptionTable.toList, False)) (hfr : 2 ≤ R.frames) (hRl : R.locals = 40 * R.frames) {Q : Int32 → Tst → Prop} {X : String → Nat → Tst → Prop}  (l0 : Option Nat) (l1 : Int32) (l2 : Option Nat) (s0 : Int32) (σ : Tst) (H : Heap) (locs : List Loc) (ls : Array Slot) (hw : w_X4_changes_b34 Q X l0 l1 l2 s0 σ) (hR : tw_R G σ H) (hS : va_S (tw_A G) s.heap H locs) (hl : tw_l ls 6 [(0, .inr l0), (1, .inl l1), (2, .inr l2)]) : tw_W p l e R s m args below meth c σ H locs (tw_E below G (tw_Qi G Q) X args s R) (F0 m 34 ls [.int s0]) := by
  unfold w_X4_changes_b34 at hw
  refine tk_istore_n (L' := [(3, .inl s0), (0, .inr l0), (1, .inl l1), (2, .inr l2)]) C hl dX4_changes_34 (by decide) rfl (fun ls hl => ?_)
  refine tk_iload_n C hl 0 dX4_changes_35 rfl ?_
  refine lv_if_eq (tgt := 46) C.hx C.hb dX4_changes_36 (by decide) (fun c36 => ?_) (fun c36 => ?_)
  · replace hw := hw.1 c36
    refine tk_aload_n C hl 3 dX4_changes_46 rfl ?_
    refine tk_giN C hR hw rfl in_X20 (by decide) q2454 (fun _ h => h) dX4_changes_47 (fun x1 hw => ?_)
    exact wk_X4_changes_b50 C hr hmn hnx hfr hRl _ _ _ _ _ σ _ _ _ hw hR hS (tk_sub hl [1, 2, 3, 0] rfl)
  · replace hw := hw.2 c36
    refine tk_aload_n C hl 3 dX4_changes_39 rfl ?_
    refine tk_giN C hR hw rfl in_X20 (by decide) q2451 (fun _ h => h) dX4_changes_40 (fun x2 hw => ?_)
    refine lv_goto (tgt := 50) C.hx C.hb dX4_changes_43 (by decide) ?_
    exact wk_X4_changes_b50 C hr hmn hnx hfr hRl _ _ _ _ _ σ _ _ _ hw hR hS (tk_sub hl [1, 2, 3, 0] rfl)
set_option maxHeartbeats 4000000 in
theorem wk_X4_changes (l : Launch) (hl0 : l.stackTraces = false) (G : Tgl) (fr : Nat)  (hfr : 2 ≤ fr) (l0 : Option Nat) (l1 : Int32) (Q : Int32 → Tst → Prop) (X : String → Nat → Tst → Prop) (σ : Tst) (hw : w_X4_changes l0 l1 Q X σ) : tw_M l yX4_changes (ws_ yX4_changes cX4_changes 6 (some .char)) fr (40 * fr) G σ [.inr l0, .inl l1] (tw_Qi G Q) X := by
  unfold w_X4_changes at hw
  refine tw_of (ret := (some .char)) hl0 (by decide) (Nat.le_of_ble_eq_true rfl) (fun p e R s m args below meth c hRf hRl C hr hmn hnx hR hS ls hl => ?_)
  have hfr : 2 ≤ R.frames := by rw [hRf]; exact hfr
  have hRl : R.locals = 40 * R.frames := by rw [hRl, hRf]
  have hl : tw_l ls 6 [(0, .inr l0), (1, .inl l1)] := hl
  refine tk_aload_n C hl 0 dX4_changes_0 rfl ?_
  refine tk_aload_n C hl 0 dX4_changes_1 rfl ?_
  refine tk_gr C hR hw rfl in_X4 (by decide) q2071 (fun _ h => h) dX4_changes_2 (fun x1 hw => ?_)
  refine tk_iload_n C hl 1 dX4_changes_5 rfl ?_
  refine tk_li C hR hw dX4_changes_6 (fun x2 hw => ?_)
  obtain ⟨hv, hw⟩ := hw
  refine tw_cbq C hS (tk_runV (As := [.inl x2]) C hR hS (wk_X4_image l C.hst G (R.frames - 1) (by omega) _ _ _ _ σ hw) hv rfl q2486 q2488 qs55 q74 q2489 pd_X4_image ⟨by omega, by omega⟩ hl.1 rfl (tw_r8 [] (Nat.le_of_ble_eq_true rfl)) dX4_changes_7) (fun E q σ H locs hX hR hS hi => tw_out C hR hS (fun x hx => (hnx x hx).elim) hi hX) (fun x3 σ H locs hw hR hS => ?_)
  refine tk_astore_n (L' := [(2, .inr x3), (0, .inr l0), (1, .inl l1)]) C hl dX4_changes_10 (by decide) rfl (fun ls hl => ?_)
  refine tk_aload_n C hl 0 dX4_changes_11 rfl ?_
  refine tw_ifnonnull (tgt := 18) C.hx C.hb dX4_changes_12 (by decide) (fun c12 => ?_) (fun c12 => ?_)
  · replace hw := hw.2 c12
    refine tk_aload_n C hl 1 dX4_changes_18 rfl ?_
    refine tk_gr C hR hw rfl in_X4 (by decide) q2070 (fun _ h => h) dX4_changes_19 (fun x4 hw => ?_)
    refine tk_iload_n C hl 2 dX4_changes_22 rfl ?_
    refine tk_lc C hR hw dX4_changes_23 (fun x5 hw => ?_)
    refine lv_bipush (v := 108) C.hx C.hb dX4_changes_24 (by decide) ?_
    refine lv_icmp_ne (tgt := 33) C.hx C.hb dX4_changes_26 (by decide) (fun c26 => ?_) (fun c26 => ?_)
    · replace hw := hw.2 c26
      refine lv_iconst (v := 0) C.hx C.hb dX4_changes_33 (by decide) ?_
      exact wk_X4_changes_b34 C hr hmn hnx hfr hRl _ _ _ _ σ _ _ _ hw hR hS (tk_sub hl [1, 2, 0] rfl)
    · replace hw := hw.1 c26
      refine lv_iconst (v := 1) C.hx C.hb dX4_changes_29 (by decide) ?_
      refine lv_goto (tgt := 34) C.hx C.hb dX4_changes_30 (by decide) ?_
      exact wk_X4_changes_b34 C hr hmn hnx hfr hRl _ _ _ _ σ _ _ _ hw hR hS (tk_sub hl [1, 2, 0] rfl)
  · replace hw := hw.1 c12
    refine lv_bipush (v := 103) C.hx C.hb dX4_changes_15 (by decide) ?_
    obtain ⟨hok, hw⟩ := hw
    exact tw_iret C hR hS hr hok dX4_changes_17 hw
end GW25
