set_option maxRecDepth 100000
section GW21
variable {p : Program} {l : Launch} {e : Env} {R : Room} {s : State} {m : MethodId} {args : Array Value} {below : List Frame} {meth : Method} {c : Code} {H : Heap} {locs : List Loc} {G : Tgl}
-- java/util/AbstractCollection.<init>()V
def w_J4_init (l0 : Option Nat) (Q : Tst → Prop) (X : String → Nat → Tst → Prop) (σ : Tst) : Prop := w_rf l0 <| Q σ
set_option maxHeartbeats 4000000 in
theorem wk_J4_init (l : Launch) (hl0 : l.stackTraces = false) (G : Tgl) (fr : Nat)  (hfr : 1 ≤ fr) (l0 : Option Nat) (Q : Tst → Prop) (X : String → Nat → Tst → Prop) (σ : Tst) (hw : w_J4_init l0 Q X σ) : tw_M l yJ4_init (ws_ yJ4_init cJ4_init 1 none) fr (40 * fr) G σ [.inr l0] (tw_Qv G Q) X := by
  unfold w_J4_init at hw
  refine tw_of (ret := none) hl0 (by decide) (Nat.le_of_ble_eq_true rfl) (fun p e R s m args below meth c hRf hRl C hr hmn hnx hR hS ls hl => ?_)
  have hfr : 1 ≤ R.frames := by rw [hRf]; exact hfr
  have hRl : R.locals = 40 * R.frames := by rw [hRl, hRf]
  have hl : tw_l ls 1 [(0, .inr l0)] := hl
  refine tk_aload_n C hl 0 dJ4_init_0 rfl ?_
  refine tk_obj C hw q174 q119 q120 hl.1 (tw_r8 [] (Nat.le_of_ble_eq_true rfl)) (by omega) (by omega) dJ4_init_1 (fun hw => ?_)
  exact tw_vret C hR hS hr dJ4_init_4 hw
-- java/util/AbstractList.<init>()V
def w_J5_init (l0 : Option Nat) (Q : Tst → Prop) (X : String → Nat → Tst → Prop) (σ : Tst) : Prop := w_rf l0 <| w_J4_init l0 (fun σ => w_p σ l0 cJ6 0 (.inl 0) fun σ => Q σ) X σ
set_option maxHeartbeats 4000000 in
theorem wk_J5_init (l : Launch) (hl0 : l.stackTraces = false) (G : Tgl) (fr : Nat)  (hfr : 2 ≤ fr) (l0 : Option Nat) (Q : Tst → Prop) (X : String → Nat → Tst → Prop) (σ : Tst) (hw : w_J5_init l0 Q X σ) : tw_M l yJ5_init (ws_ yJ5_init cJ5_init 1 none) fr (40 * fr) G σ [.inr l0] (tw_Qv G Q) X := by
  unfold w_J5_init at hw
  refine tw_of (ret := none) hl0 (by decide) (Nat.le_of_ble_eq_true rfl) (fun p e R s m args below meth c hRf hRl C hr hmn hnx hR hS ls hl => ?_)
  have hfr : 2 ≤ R.frames := by rw [hRf]; exact hfr
  have hRl : R.locals = 40 * R.frames := by rw [hRl, hRf]
  have hl : tw_l ls 1 [(0, .inr l0)] := hl
  refine tk_aload_n C hl 0 dJ5_init_0 rfl ?_
  obtain ⟨hv, hw⟩ := hw
  refine tw_cbv C hS (tk_runI (As := []) hv C hR hS (wk_J4_init l C.hst G (R.frames - 1) (by omega) _ _ _ σ hw) q171 q172 q71 q173 rfl pd_J4_init ⟨by omega, by omega⟩ hl.1 rfl (tw_r8 [] (Nat.le_of_ble_eq_true rfl)) dJ5_init_1) (fun E q σ H locs hX hR hS hi => tw_out C hR hS (fun x hx => (hnx x hx).elim) hi hX) (fun σ H locs hw hR hS => ?_)
  refine tk_aload_n C hl 0 dJ5_init_4 rfl ?_
  refine lv_iconst (v := 0) C.hx C.hb dJ5_init_5 (by decide) ?_
  refine tk_p (x := .inl 0) C hR hS hw (by decide) rfl in_J6 tyJ6 tyJ6_ok nmJ6 (by decide) q181 (fun _ h => h) rfl (tw_ni _) dJ5_init_6 (fun σ H locs hw hR hS => ?_)
  exact tw_vret C hR hS hr dJ5_init_9 hw
-- java/util/ArrayList.<init>()V
def w_J6_init (l0 : Option Nat) (Q : Tst → Prop) (X : String → Nat → Tst → Prop) (σ : Tst) : Prop := w_rf l0 <| w_J5_init l0 (fun σ => w_k σ 0 fun x2 => w_p σ l0 cJ6 1 (.inr x2) fun σ => Q σ) X σ
set_option maxHeartbeats 4000000 in
theorem wk_J6_init (l : Launch) (hl0 : l.stackTraces = false) (G : Tgl) (fr : Nat)  (hfr : 3 ≤ fr) (l0 : Option Nat) (Q : Tst → Prop) (X : String → Nat → Tst → Prop) (σ : Tst) (hw : w_J6_init l0 Q X σ) : tw_M l yJ6_init (ws_ yJ6_init cJ6_init 1 none) fr (40 * fr) G σ [.inr l0] (tw_Qv G Q) X := by
  unfold w_J6_init at hw
  refine tw_of (ret := none) hl0 (by decide) (Nat.le_of_ble_eq_true rfl) (fun p e R s m args below meth c hRf hRl C hr hmn hnx hR hS ls hl => ?_)
  have hfr : 3 ≤ R.frames := by rw [hRf]; exact hfr
  have hRl : R.locals = 40 * R.frames := by rw [hRl, hRf]
  have hl : tw_l ls 1 [(0, .inr l0)] := hl
  refine tk_aload_n C hl 0 dJ6_init_0 rfl ?_
  obtain ⟨hv, hw⟩ := hw
  refine tw_cbv C hS (tk_runI (As := []) hv C hR hS (wk_J5_init l C.hst G (R.frames - 1) (by omega) _ _ _ σ hw) q168 q169 q72 q170 rfl pd_J5_init ⟨by omega, by omega⟩ hl.1 rfl (tw_r8 [] (Nat.le_of_ble_eq_true rfl)) dJ6_init_1) (fun E q σ H locs hX hR hS hi => tw_out C hR hS (fun x hx => (hnx x hx).elim) hi hX) (fun σ H locs hw hR hS => ?_)
  refine tk_aload_n C hl 0 dJ6_init_4 rfl ?_
  refine tk_gk (n := 0) C hR hS hw 0 rfl q175 (fun _ h => h) dJ6_init_5 (fun x2 hw => ?_)
  refine tk_p (x := .inr x2) C hR hS hw (by decide) rfl in_J6 tyJ6 tyJ6_ok nmJ6 (by decide) q177 (fun _ h => h) rfl (tw_nrA _ _) dJ6_init_8 (fun σ H locs hw hR hS => ?_)
  exact tw_vret C hR hS hr dJ6_init_11 hw
-- TreeDiffer$Node.<init>(C)V
def w_X3_init (l0 : Option Nat) (l1 : Int32) (Q : Tst → Prop) (X : String → Nat → Tst → Prop) (σ : Tst) : Prop := w_rf l0 <| w_nw σ cJ6 3 [.inl 0, .inr none, .inl 0] fun q1 σ => w_rf q1 <| w_J6_init q1 (fun σ => w_p σ l0 cX3 4 (.inr q1) fun σ => w_ok .char l1 ∧ w_p σ l0 cX3 0 (.inl l1) fun σ => Q σ) X σ
set_option maxHeartbeats 4000000 in
theorem wk_X3_init (l : Launch) (hl0 : l.stackTraces = false) (G : Tgl) (fr : Nat)  (hfr : 4 ≤ fr) (l0 : Option Nat) (l1 : Int32) (Q : Tst → Prop) (X : String → Nat → Tst → Prop) (σ : Tst) (hw : w_X3_init l0 l1 Q X σ) : tw_M l yX3_init (ws_ yX3_init cX3_init 2 none) fr (40 * fr) G σ [.inr l0, .inl l1] (tw_Qv G Q) X := by
  unfold w_X3_init at hw
  refine tw_of (ret := none) hl0 (by decide) (Nat.le_of_ble_eq_true rfl) (fun p e R s m args below meth c hRf hRl C hr hmn hnx hR hS ls hl => ?_)
  have hfr : 4 ≤ R.frames := by rw [hRf]; exact hfr
  have hRl : R.locals = 40 * R.frames := by rw [hRl, hRf]
  have hl : tw_l ls 2 [(0, .inr l0), (1, .inl l1)] := hl
  refine tk_aload_n C hl 0 dX3_init_0 rfl ?_
  refine tk_obj C hw q162 q119 q120 hl.1 (tw_r8 [] (Nat.le_of_ble_eq_true rfl)) (by omega) (by omega) dX3_init_1 (fun hw => ?_)
  refine tk_aload_n C hl 0 dX3_init_4 rfl ?_
  refine tk_nw C hR hS hw rfl in_J6 tyJ6 tyJ6_ok q163 q164 q73 (fun j hj => by rcases (show j = 0 ∨ j = 1 ∨ j = 2 by omega) with rfl | rfl | rfl <;> rfl) dX3_init_5 (fun q1 σ H hw hR hS => ?_)
  refine tw_dup (x := .inr q1) C.hx C.hb dX3_init_8 ?_
  obtain ⟨hv, hw⟩ := hw
  refine tw_cbv C hS (tk_runI (As := []) hv C hR hS (wk_J6_init l C.hst G (R.frames - 1) (by omega) _ _ _ σ hw) q165 q166 q73 q167 rfl pd_J6_init ⟨by omega, by omega⟩ hl.1 rfl (tw_r8 [.inr q1, .inr l0] (Nat.le_of_ble_eq_true rfl)) dX3_init_9) (fun E q σ H locs hX hR hS hi => tw_out C hR hS (fun x hx => (hnx x hx).elim) hi hX) (fun σ H locs hw hR hS => ?_)
  refine tk_pF (x := .inr q1) C hR hS hw (Or.inl (by decide)) rfl in_X3 tyX3 tyX3_ok nmX3 (by decide) q209 (fun _ h => h) rfl hmn rfl (tw_nr _ _) dX3_init_12 (fun σ H locs hw hR hS => ?_)
  refine tk_aload_n C hl 0 dX3_init_15 rfl ?_
  refine tk_iload_n C hl 1 dX3_init_16 rfl ?_
  obtain ⟨hok, hw⟩ := hw
  refine tk_p (x := .inl l1) C hR hS hw (by decide) rfl in_X3 tyX3 tyX3_ok nmX3 (by decide) q192 (fun _ h => h) rfl hok dX3_init_17 (fun σ H locs hw hR hS => ?_)
  exact tw_vret C hR hS hr dX3_init_20 hw
-- java/util/ArrayList$Itr.<init>(Ljava/util/ArrayList;)V
def w_J18_init (l0 : Option Nat) (l1 : Option Nat) (Q : Tst → Prop) (X : String → Nat → Tst → Prop) (σ : Tst) : Prop := w_p σ l0 cJ18 3 (.inr l1) fun σ => w_rf l0 <| w_p σ l0 cJ18 1 (.inl (-1)) fun σ => w_gr σ l0 cJ18 3 fun x1 => w_gi σ x1 cJ6 0 fun x2 => w_p σ l0 cJ18 2 (.inl x2) fun σ => Q σ
set_option maxHeartbeats 4000000 in
theorem wk_J18_init (l : Launch) (hl0 : l.stackTraces = false) (G : Tgl) (fr : Nat)  (hfr : 1 ≤ fr) (l0 : Option Nat) (l1 : Option Nat) (Q : Tst → Prop) (X : String → Nat → Tst → Prop) (σ : Tst) (hw : w_J18_init l0 l1 Q X σ) : tw_M l yJ18_init (ws_ yJ18_init cJ18_init 2 none) fr (40 * fr) G σ [.inr l0, .inr l1] (tw_Qv G Q) X := by
  unfold w_J18_init at hw
  refine tw_of (ret := none) hl0 (by decide) (Nat.le_of_ble_eq_true rfl) (fun p e R s m args below meth c hRf hRl C hr hmn hnx hR hS ls hl => ?_)
  have hfr : 1 ≤ R.frames := by rw [hRf]; exact hfr
  have hRl : R.locals = 40 * R.frames := by rw [hRl, hRf]
  have hl : tw_l ls 2 [(0, .inr l0), (1, .inr l1)] := hl
  refine tk_aload_n C hl 0 dJ18_init_0 rfl ?_
  refine tk_aload_n C hl 1 dJ18_init_1 rfl ?_
  refine tk_pF (x := .inr l1) C hR hS hw (Or.inl (by decide)) rfl in_J18 tyJ18 tyJ18_ok nmJ18 (by decide) q308 (fun _ h => h) rfl hmn rfl (tw_nr _ _) dJ18_init_2 (fun σ H locs hw hR hS => ?_)
  refine tk_aload_n C hl 0 dJ18_init_5 rfl ?_
  refine tk_obj C hw q304 q119 q120 hl.1 (tw_r8 [] (Nat.le_of_ble_eq_true rfl)) (by omega) (by omega) dJ18_init_6 (fun hw => ?_)
  refine tk_aload_n C hl 0 dJ18_init_9 rfl ?_
  refine lv_iconst (v := (-1)) C.hx C.hb dJ18_init_10 (by decide) ?_
  refine tk_p (x := .inl (-1)) C hR hS hw (by decide) rfl in_J18 tyJ18 tyJ18_ok nmJ18 (by decide) q306 (fun _ h => h) rfl (tw_ni _) dJ18_init_11 (fun σ H locs hw hR hS => ?_)
  refine tk_aload_n C hl 0 dJ18_init_14 rfl ?_
  refine tk_aload_n C hl 0 dJ18_init_15 rfl ?_
  refine tk_gr C hR hw rfl in_J18 (by decide) q308 (fun _ h => h) dJ18_init_16 (fun x1 hw => ?_)
  refine tk_gi C hR hw rfl in_J6 (by decide) q182 (u_same (C.hts _ q183)) dJ18_init_19 (fun x2 hw => ?_)
  refine tk_p (x := .inl x2) C hR hS hw (by decide) rfl in_J18 tyJ18 tyJ18_ok nmJ18 (by decide) q307 (fun _ h => h) rfl (tw_ni _) dJ18_init_22 (fun σ H locs hw hR hS => ?_)
  exact tw_vret C hR hS hr dJ18_init_25 hw
-- java/util/ArrayList.iterator()Ljava/util/Iterator;
def w_J6_iterator (l0 : Option Nat) (Q : Option Nat → Tst → Prop) (X : String → Nat → Tst → Prop) (σ : Tst) : Prop := w_nw σ cJ18 4 [.inl 0, .inl 0, .inl 0, .inr none] fun q1 σ => w_rf q1 <| w_J18_init q1 l0 (fun σ => Q q1 σ) X σ
set_option maxHeartbeats 4000000 in
theorem wk_J6_iterator (l : Launch) (hl0 : l.stackTraces = false) (G : Tgl) (fr : Nat)  (hfr : 2 ≤ fr) (l0 : Option Nat) (Q : Option Nat → Tst → Prop) (X : String → Nat → Tst → Prop) (σ : Tst) (hw : w_J6_iterator l0 Q X σ) : tw_M l yJ6_iterator (ws_ yJ6_iterator cJ6_iterator 1 (some (.object "java/util/Iterator"))) fr (40 * fr) G σ [.inr l0] (tw_Qq G Q) X := by
  unfold w_J6_iterator at hw
  refine tw_of (ret := (some (.object "java/util/Iterator"))) hl0 (by decide) (Nat.le_of_ble_eq_true rfl) (fun p e R s m args below meth c hRf hRl C hr hmn hnx hR hS ls hl => ?_)
  have hfr : 2 ≤ R.frames := by rw [hRf]; exact hfr
  have hRl : R.locals = 40 * R.frames := by rw [hRl, hRf]
  have hl : tw_l ls 1 [(0, .inr l0)] := hl
  refine tk_nw C hR hS hw rfl in_J18 tyJ18 tyJ18_ok q299 q300 q90 (fun j hj => by rcases (show j = 0 ∨ j = 1 ∨ j = 2 ∨ j = 3 by omega) with rfl | rfl | rfl | rfl <;> rfl) dJ6_iterator_0 (fun q1 σ H hw hR hS => ?_)
  refine tw_dup (x := .inr q1) C.hx C.hb dJ6_iterator_3 ?_
  refine tk_aload_n C hl 0 dJ6_iterator_4 rfl ?_
  obtain ⟨hv, hw⟩ := hw
  refine tw_cbv C hS (tk_runI (As := [.inr l0]) hv C hR hS (wk_J18_init l C.hst G (R.frames - 1) (by omega) _ _ _ _ σ hw) q301 q302 q90 q303 rfl pd_J18_init ⟨by omega, by omega⟩ hl.1 rfl (tw_r8 [.inr q1] (Nat.le_of_ble_eq_true rfl)) dJ6_iterator_5) (fun E q σ H locs hX hR hS hi => tw_out C hR hS (fun x hx => (hnx x hx).elim) hi hX) (fun σ H locs hw hR hS => ?_)
  exact tw_aret C hR hS hr (Or.inl ⟨_, rfl⟩) dJ6_iterator_8 hw
-- java/util/ArrayList$Itr.hasNext()Z
def w_J18_hasNext_b19 (Q : Int32 → Tst → Prop) (X : String → Nat → Tst → Prop) (s0 : Int32) (σ : Tst) : Prop := narrow .boolean (.int s0) = .int s0 ∧ Q s0 σ
def w_J18_hasNext (l0 : Option Nat) (Q : Int32 → Tst → Prop) (X : String → Nat → Tst → Prop) (σ : Tst) : Prop := w_gi σ l0 cJ18 0 fun x1 => w_gr σ l0 cJ18 3 fun x2 => w_gi σ x2 cJ6 2 fun x3 => w_if (x1 = x3) (w_J18_hasNext_b19 Q X 0 σ) (w_J18_hasNext_b19 Q X 1 σ)
set_option maxHeartbeats 4000000 in
theorem wk_J18_hasNext_b19  (C : tw_C p l R s m args meth c G cJ18_hasNext 1 yJ18_hasNext.cls) (hr : meth.sig.returnType = (some .boolean)) (hmn : meth.name = yJ18_hasNext.name) (hnx : (∀ x ∈ c.exceptionTable.toList, False)) (hfr : 1 ≤ R.frames) (hRl : R.locals = 40 * R.frames) {Q : Int32 → Tst → Prop} {X : String → Nat → Tst → Prop}  (s0 : Int32) (σ : Tst) (H : Heap) (locs : List Loc) (ls : Array Slot) (hw : w_J18_hasNext_b19 Q X s0 σ) (hR : tw_R G σ H) (hS : va_S (tw_A G) s.heap H locs) (hl : tw_l ls 1 []) : tw_W p l e R s m args below meth c σ H locs (tw_E below G (tw_Qi G Q) X args s R) (F0 m 19 ls [.int s0]) := by
  unfold w_J18_hasNext_b19 at hw
  obtain ⟨hok, hw⟩ := hw
  exact tw_iret C hR hS hr hok dJ18_hasNext_19 hw
set_option maxHeartbeats 4000000 in
theorem wk_J18_hasNext (l : Launch) (hl0 : l.stackTraces = false) (G : Tgl) (fr : Nat)  (hfr : 1 ≤ fr) (l0 : Option Nat) (Q : Int32 → Tst → Prop) (X : String → Nat → Tst → Prop) (σ : Tst) (hw : w_J18_hasNext l0 Q X σ) : tw_M l yJ18_hasNext (ws_ yJ18_hasNext cJ18_hasNext 1 (some .boolean)) fr (40 * fr) G σ [.inr l0] (tw_Qi G Q) X := by
  unfold w_J18_hasNext at hw
  refine tw_of (ret := (some .boolean)) hl0 (by decide) (Nat.le_of_ble_eq_true rfl) (fun p e R s m args below meth c hRf hRl C hr hmn hnx hR hS ls hl => ?_)
  have hfr : 1 ≤ R.frames := by rw [hRf]; exact hfr
  have hRl : R.locals = 40 * R.frames := by rw [hRl, hRf]
  have hl : tw_l ls 1 [(0, .inr l0)] := hl
  refine tk_aload_n C hl 0 dJ18_hasNext_0 rfl ?_
  refine tk_gi C hR hw rfl in_J18 (by decide) q305 (fun _ h => h) dJ18_hasNext_1 (fun x1 hw => ?_)
  refine tk_aload_n C hl 0 dJ18_hasNext_4 rfl ?_
  refine tk_gr C hR hw rfl in_J18 (by decide) q308 (fun _ h => h) dJ18_hasNext_5 (fun x2 hw => ?_)
  refine tk_giN C hR hw rfl in_J6 (by decide) q179 (fun _ h => h) dJ18_hasNext_8 (fun x3 hw => ?_)
  refine lv_icmp_eq (tgt := 18) C.hx C.hb dJ18_hasNext_11 (by decide) (fun c11 => ?_) (fun c11 => ?_)
  · replace hw := hw.1 c11
    refine lv_iconst (v := 0) C.hx C.hb dJ18_hasNext_18 (by decide) ?_
    exact wk_J18_hasNext_b19 C hr hmn hnx hfr hRl _ σ _ _ _ hw hR hS (tk_sub hl [] rfl)
  · replace hw := hw.2 c11
    refine lv_iconst (v := 1) C.hx C.hb dJ18_hasNext_14 (by decide) ?_
    refine lv_goto (tgt := 19) C.hx C.hb dJ18_hasNext_15 (by decide) ?_
    exact wk_J18_hasNext_b19 C hr hmn hnx hfr hRl _ σ _ _ _ hw hR hS (tk_sub hl [] rfl)
-- java/util/ArrayList$Itr.checkForComodification()V
def w_J18_checkForComodification (l0 : Option Nat) (Q : Tst → Prop) (X : String → Nat → Tst → Prop) (σ : Tst) : Prop := w_gr σ l0 cJ18 3 fun x1 => w_gi σ x1 cJ6 0 fun x2 => w_gi σ l0 cJ18 2 fun x3 => w_if (x2 = x3) (Q σ) (False)
set_option maxHeartbeats 4000000 in
theorem wk_J18_checkForComodification (l : Launch) (hl0 : l.stackTraces = false) (G : Tgl) (fr : Nat)  (hfr : 1 ≤ fr) (l0 : Option Nat) (Q : Tst → Prop) (X : String → Nat → Tst → Prop) (σ : Tst) (hw : w_J18_checkForComodification l0 Q X σ) : tw_M l yJ18_checkForComodification (ws_ yJ18_checkForComodification cJ18_checkForComodification 1 none) fr (40 * fr) G σ [.inr l0] (tw_Qv G Q) X := by
  unfold w_J18_checkForComodification at hw
  refine tw_of (ret := none) hl0 (by decide) (Nat.le_of_ble_eq_true rfl) (fun p e R s m args below meth c hRf hRl C hr hmn hnx hR hS ls hl => ?_)
  have hfr : 1 ≤ R.frames := by rw [hRf]; exact hfr
  have hRl : R.locals = 40 * R.frames := by rw [hRl, hRf]
  have hl : tw_l ls 1 [(0, .inr l0)] := hl
  refine tk_aload_n C hl 0 dJ18_checkForComodification_0 rfl ?_
  refine tk_gr C hR hw rfl in_J18 (by decide) q308 (fun _ h => h) dJ18_checkForComodification_1 (fun x1 hw => ?_)
  refine tk_gi C hR hw rfl in_J6 (by decide) q182 (u_same (C.hts _ q183)) dJ18_checkForComodification_4 (fun x2 hw => ?_)
  refine tk_aload_n C hl 0 dJ18_checkForComodification_7 rfl ?_
  refine tk_gi C hR hw rfl in_J18 (by decide) q307 (fun _ h => h) dJ18_checkForComodification_8 (fun x3 hw => ?_)
  refine lv_icmp_eq (tgt := 22) C.hx C.hb dJ18_checkForComodification_11 (by decide) (fun c11 => ?_) (fun c11 => ?_)
  · replace hw := hw.1 c11
    exact tw_vret C hR hS hr dJ18_checkForComodification_22 hw
  · replace hw := hw.2 c11
    exact hw.elim
-- java/util/ArrayList$Itr.next()Ljava/lang/Object;
def w_J18_next (l0 : Option Nat) (Q : Option Nat → Tst → Prop) (X : String → Nat → Tst → Prop) (σ : Tst) : Prop := w_rc σ l0 cJ18 <| w_J18_checkForComodification l0 (fun σ => w_gi σ l0 cJ18 0 fun x2 => w_gr σ l0 cJ18 3 fun x3 => w_gi σ x3 cJ6 2 fun x4 => w_if (x2 < x4) (w_gr σ l0 cJ18 3 fun x5 => w_gr σ x5 cJ6 1 fun x6 => w_al σ x6 fun x7 => w_if (x2 < x7) (w_p σ l0 cJ18 0 (.inl (x2 + 1)) fun σ => w_p σ l0 cJ18 1 (.inl x2) fun σ => w_lr σ x6 x2 fun x8 => Q x8 σ) (False)) (False)) X σ
set_option maxHeartbeats 4000000 in
theorem wk_J18_next (l : Launch) (hl0 : l.stackTraces = false) (G : Tgl) (fr : Nat)  (hfr : 2 ≤ fr) (l0 : Option Nat) (Q : Option Nat → Tst → Prop) (X : String → Nat → Tst → Prop) (σ : Tst) (hw : w_J18_next l0 Q X σ) : tw_M l yJ18_next (ws_ yJ18_next cJ18_next 3 (some (.object "java/lang/Object"))) fr (40 * fr) G σ [.inr l0] (tw_Qq G Q) X := by
  unfold w_J18_next at hw
  refine tw_of (ret := (some (.object "java/lang/Object"))) hl0 (by decide) (Nat.le_of_ble_eq_true rfl) (fun p e R s m args below meth c hRf hRl C hr hmn hnx hR hS ls hl => ?_)
  have hfr : 2 ≤ R.frames := by rw [hRf]; exact hfr
  have hRl : R.locals = 40 * R.frames := by rw [hRl, hRf]
  have hl : tw_l ls 3 [(0, .inr l0)] := hl
  refine tk_aload_n C hl 0 dJ18_next_0 rfl ?_
  obtain ⟨hv, hw⟩ := hw
  refine tw_cbv C hS (tk_runV (As := []) C hR hS (wk_J18_checkForComodification l C.hst G (R.frames - 1) (by omega) _ _ _ σ hw) hv rfl q571 q572 q573 q90 q574 pd_J18_checkForComodification ⟨by omega, by omega⟩ hl.1 rfl (tw_r8 [] (Nat.le_of_ble_eq_true rfl)) dJ18_next_1) (fun E q σ H locs hX hR hS hi => tw_out C hR hS (fun x hx => (hnx x hx).elim) hi hX) (fun σ H locs hw hR hS => ?_)
  refine tk_aload_n C hl 0 dJ18_next_4 rfl ?_
  refine tk_gi C hR hw rfl in_J18 (by decide) q305 (fun _ h => h) dJ18_next_5 (fun x2 hw => ?_)
  refine tk_istore_n (L' := [(1, .inl x2), (0, .inr l0)]) C hl dJ18_next_8 (by decide) rfl (fun ls hl => ?_)
  refine tk_iload_n C hl 0 dJ18_next_9 rfl ?_
  refine tk_aload_n C hl 1 dJ18_next_10 rfl ?_
  refine tk_gr C hR hw rfl in_J18 (by decide) q308 (fun _ h => h) dJ18_next_11 (fun x3 hw => ?_)
  refine tk_giN C hR hw rfl in_J6 (by decide) q179 (fun _ h => h) dJ18_next_14 (fun x4 hw => ?_)
  refine lv_icmp_lt (tgt := 28) C.hx C.hb dJ18_next_17 (by decide) (fun c17 => ?_) (fun c17 => ?_)
  · replace hw := hw.1 c17
    refine tk_aload_n C hl 1 dJ18_next_28 rfl ?_
    refine tk_gr C hR hw rfl in_J18 (by decide) q308 (fun _ h => h) dJ18_next_29 (fun x5 hw => ?_)
    refine tk_gr C hR hw rfl in_J6 (by decide) q178 (fun _ h => h) dJ18_next_32 (fun x6 hw => ?_)
    refine tk_astore_n (L' := [(2, .inr x6), (1, .inl x2), (0, .inr l0)]) C hl dJ18_next_35 (by decide) rfl (fun ls hl => ?_)
    refine tk_iload_n C hl 1 dJ18_next_36 rfl ?_
    refine tk_aload_n C hl 0 dJ18_next_37 rfl ?_
    refine tk_al C hR hw dJ18_next_38 (fun x7 hw => ?_)
    refine lv_icmp_lt (tgt := 50) C.hx C.hb dJ18_next_39 (by decide) (fun c39 => ?_) (fun c39 => ?_)
    · replace hw := hw.1 c39
      refine tk_aload_n C hl 2 dJ18_next_50 rfl ?_
      refine tk_iload_n C hl 1 dJ18_next_51 rfl ?_
      refine lv_iconst (v := 1) C.hx C.hb dJ18_next_52 (by decide) ?_
      refine lv_iadd C.hx C.hb dJ18_next_53 ?_
      refine tk_p (x := .inl (x2 + 1)) C hR hS hw (by decide) rfl in_J18 tyJ18 tyJ18_ok nmJ18 (by decide) q305 (fun _ h => h) rfl (tw_ni _) dJ18_next_54 (fun σ H locs hw hR hS => ?_)
      refine tk_aload_n C hl 0 dJ18_next_57 rfl ?_
      refine tk_aload_n C hl 2 dJ18_next_58 rfl ?_
      refine tk_iload_n C hl 1 dJ18_next_59 rfl ?_
      refine tw_dup_x1 (x := .inl x2) (y := .inr l0) C.hx C.hb dJ18_next_60 ?_
      refine tk_p (x := .inl x2) C hR hS hw (by decide) rfl in_J18 tyJ18 tyJ18_ok nmJ18 (by decide) q306 (fun _ h => h) rfl (tw_ni _) dJ18_next_61 (fun σ H locs hw hR hS => ?_)
      refine tk_lr C hR hw dJ18_next_64 (fun x8 hw => ?_)
      exact tw_aret C hR hS hr (Or.inl ⟨_, rfl⟩) dJ18_next_65 hw
    · replace hw := hw.2 c39
      exact hw.elim
  · replace hw := hw.2 c17
    exact hw.elim
-- TreeDiffer$Node.size()I
def w_X3_size_b12 (rf_X3_size : (Option Nat) → (Int32 → Tst → Prop) → (String → Nat → Tst → Prop) → Tst → Prop) (Q : Int32 → Tst → Prop) (X : String → Nat → Tst → Prop) : Nat → Int32 → Option Nat → Tst → Prop
  | 0, _, _, _ => False
  | n + 1, l1, l2, σ => w_rc σ l2 cJ18 <| w_J18_hasNext l2 (fun x1 σ => w_if (x1 = 0) (Q l1 σ) (w_rc σ l2 cJ18 <| w_J18_next l2 (fun x2 σ => w_cc σ x2 cX3 <| w_rc σ x2 cX3 <| rf_X3_size x2 (fun x3 σ => (w_X3_size_b12 rf_X3_size Q X n) (l1 + x3) l2 σ) X σ) X σ)) X σ
def w_X3_size : Nat → Option Nat → (Int32 → Tst → Prop) → (String → Nat → Tst → Prop) → Tst → Prop
  | 0, _, _, _, _ => False
  | d + 1, l0, Q, X, σ => w_gr σ l0 cX3 4 fun x1 => w_rc σ x1 cJ6 <| w_J6_iterator x1 (fun x2 σ => ∃ z, w_X3_size_b12 (w_X3_size d) Q X z 1 x2 σ) X σ
set_option maxHeartbeats 4000000 in
theorem wk_X3_size_b12 {rf_X3_size : (Option Nat) → (Int32 → Tst → Prop) → (String → Nat → Tst → Prop) → Tst → Prop} {frf_X3_size : Nat}  (C : tw_C p l R s m args meth c G cX3_size 4 yX3_size.cls) (hr : meth.sig.returnType = (some .int)) (hmn : meth.name = yX3_size.name) (hnx : (∀ x ∈ c.exceptionTable.toList, False)) (hfr : 3 ≤ R.frames ∧ frf_X3_size + 1 ≤ R.frames) (hRl : R.locals = 40 * R.frames) {Q : Int32 → Tst → Prop} {X : String → Nat → Tst → Prop} (hrf_X3_size : ∀ fr : Nat, frf_X3_size ≤ fr → ∀ (a0 : Option Nat) (Q : Int32 → Tst → Prop) (X : String → Nat → Tst → Prop) (σ : Tst), rf_X3_size a0 Q X σ → tw_M l yX3_size (ws_ yX3_size cX3_size 4 (some .int)) fr (40 * fr) G σ [.inr a0] (tw_Qi G Q) X) : ∀ (n : Nat) (l1 : Int32) (l2 : Option Nat) (σ : Tst) (H : Heap) (locs : List Loc) (ls : Array Slot), w_X3_size_b12 rf_X3_size Q X n l1 l2 σ → tw_R G σ H → va_S (tw_A G) s.heap H locs → tw_l ls 4 [(1, .inl l1), (2, .inr l2)] → tw_W p l e R s m args below meth c σ H locs (tw_E below G (tw_Qi G Q) X args s R) (F0 m 12 ls []) := by
  intro n
  induction n with
  | zero => intro l1 l2 σ H locs ls hw; exact False.elim hw
  | succ n hk12 =>
    intro l1 l2 σ H locs ls hw hR hS hl
    rw [w_X3_size_b12] at hw
    refine tk_aload_n C hl 1 dX3_size_12 rfl ?_
    obtain ⟨hv, hw⟩ := hw
    refine tw_cbi5 C hS (tk_runF (As := []) (x := ⟨"java/util/Iterator", "hasNext", "()Z"⟩) C hR hS (wk_J18_hasNext l C.hst G (R.frames - 1) (by omega) _ _ _ σ hw) hv rfl q319 q333 q335 q90 q337 (by decide +kernel) (show tw_pd ⟨"java/util/Iterator", "hasNext", "()Z"⟩ 0 by decide +kernel) ⟨by omega, by omega⟩ hl.1 rfl (tw_r8 [] (Nat.le_of_ble_eq_true rfl)) dX3_size_13) (fun E q σ H locs hX hR hS hi => tw_out C hR hS (fun x hx => (hnx x hx).elim) hi hX) (fun x1 σ H locs hw hR hS => ?_)
    refine lv_if_eq (tgt := 41) C.hx C.hb dX3_size_18 (by decide) (fun c18 => ?_) (fun c18 => ?_)
    · replace hw := hw.1 c18
      refine tk_iload_n C hl 0 dX3_size_41 rfl ?_
      exact tw_iret C hR hS hr rfl dX3_size_42 hw
    · replace hw := hw.2 c18
      refine tk_aload_n C hl 1 dX3_size_21 rfl ?_
      obtain ⟨hv, hw⟩ := hw
      refine tw_cbq5 C hS (tk_runF (As := []) (x := ⟨"java/util/Iterator", "next", "()Ljava/lang/Object;"⟩) C hR hS (wk_J18_next l C.hst G (R.frames - 1) (by omega) _ _ _ σ hw) hv rfl q339 q566 q568 q90 q570 (by decide +kernel) (show tw_pd ⟨"java/util/Iterator", "next", "()Ljava/lang/Object;"⟩ 0 by decide +kernel) ⟨by omega, by omega⟩ hl.1 rfl (tw_r8 [] (Nat.le_of_ble_eq_true rfl)) dX3_size_22) (fun E q σ H locs hX hR hS hi => tw_out C hR hS (fun x hx => (hnx x hx).elim) hi hX) (fun x2 σ H locs hw hR hS => ?_)
      refine tk_cc C hR hw rfl q577 (Or.inl rfl) dX3_size_27 (fun hw => ?_)
      refine tk_astore_n (L' := [(3, .inr x2), (1, .inl l1), (2, .inr l2)]) C hl dX3_size_30 (by decide) rfl (fun ls hl => ?_)
      refine tk_iload_n C hl 1 dX3_size_31 rfl ?_
      refine tk_aload_n C hl 0 dX3_size_32 rfl ?_
      obtain ⟨hv, hw⟩ := hw
      refine tw_cbi C hS (tk_runV (As := []) C hR hS (hrf_X3_size (R.frames - 1) (by omega) _ _ _ σ hw) hv rfl q578 q287 q288 q70 q289 pd_X3_size ⟨by omega, by omega⟩ hl.1 rfl (tw_r8 [.inl l1] (Nat.le_of_ble_eq_true rfl)) dX3_size_33) (fun E q σ H locs hX hR hS hi => tw_out C hR hS (fun x hx => (hnx x hx).elim) hi hX) (fun x3 σ H locs hw hR hS => ?_)
      refine lv_iadd C.hx C.hb dX3_size_36 ?_
      refine tk_istore_n (L' := [(1, .inl (l1 + x3)), (3, .inr x2), (2, .inr l2)]) C hl dX3_size_37 (by decide) rfl (fun ls hl => ?_)
      refine lv_goto (tgt := 12) C.hx C.hb dX3_size_38 (by decide) ?_
      exact hk12 _ _ σ _ _ _ hw hR hS (tk_sub hl [0, 2] rfl)
set_option maxHeartbeats 4000000 in
theorem wk_X3_size (l : Launch) (hl0 : l.stackTraces = false) (G : Tgl)  : ∀ (d fr : Nat), 3 + 1 * d ≤ fr → ∀ (l0 : Option Nat) (Q : Int32 → Tst → Prop) (X : String → Nat → Tst → Prop) (σ : Tst), w_X3_size d l0 Q X σ → tw_M l yX3_size (ws_ yX3_size cX3_size 4 (some .int)) fr (40 * fr) G σ [.inr l0] (tw_Qi G Q) X := by
  intro d
  induction d with
  | zero => intro fr hfr l0 Q X σ hw; exact False.elim hw
  | succ d ih =>
    intro fr hfr l0 Q X σ hw
    have hrf_X3_size := fun (fr : Nat) (h : 3 + 1 * d ≤ fr) => ih fr (by omega)
    rw [w_X3_size] at hw
    generalize hg : w_X3_size d = rf_X3_size at hw hrf_X3_size
    clear hg ih
    obtain ⟨frf_X3_size, hfrf_X3_size⟩ : ∃ f, f = 3 + 1 * d := ⟨_, rfl⟩
    rw [← hfrf_X3_size] at hrf_X3_size
    have hfr : 3 ≤ fr ∧ frf_X3_size + 1 ≤ fr := by refine ⟨?_, ?_⟩ <;> omega
    refine tw_of (ret := (some .int)) hl0 (by decide) (Nat.le_of_ble_eq_true rfl) (fun p e R s m args below meth c hRf hRl C hr hmn hnx hR hS ls hl => ?_)
    have hfr : 3 ≤ R.frames ∧ frf_X3_size + 1 ≤ R.frames := by rw [hRf]; exact hfr
    have hRl : R.locals = 40 * R.frames := by rw [hRl, hRf]
    have hl : tw_l ls 4 [(0, .inr l0)] := hl
    refine lv_iconst (v := 1) C.hx C.hb dX3_size_0 (by decide) ?_
    refine tk_istore_n (L' := [(1, .inl 1), (0, .inr l0)]) C hl dX3_size_1 (by decide) rfl (fun ls hl => ?_)
    refine tk_aload_n C hl 1 dX3_size_2 rfl ?_
    refine tk_gr C hR hw rfl in_X3 (by decide) q209 (fun _ h => h) dX3_size_3 (fun x1 hw => ?_)
    obtain ⟨hv, hw⟩ := hw
    refine tw_cbq5 C hS (tk_runF (As := []) (x := ⟨"java/util/List", "iterator", "()Ljava/util/Iterator;"⟩) C hR hS (wk_J6_iterator l C.hst G (R.frames - 1) (by omega) _ _ _ σ hw) hv rfl q291 q294 q296 q73 q298 (by decide +kernel) (show tw_pd ⟨"java/util/List", "iterator", "()Ljava/util/Iterator;"⟩ 0 by decide +kernel) ⟨by omega, by omega⟩ hl.1 rfl (tw_r8 [] (Nat.le_of_ble_eq_true rfl)) dX3_size_6) (fun E q σ H locs hX hR hS hi => tw_out C hR hS (fun x hx => (hnx x hx).elim) hi hX) (fun x2 σ H locs hw hR hS => ?_)
    refine tk_astore_n (L' := [(2, .inr x2), (1, .inl 1), (0, .inr l0)]) C hl dX3_size_11 (by decide) rfl (fun ls hl => ?_)
    obtain ⟨z, hw⟩ := hw
    exact wk_X3_size_b12 C hr hmn hnx hfr hRl hrf_X3_size z _ _ σ _ _ _ hw hR hS (tk_sub hl [1, 0] rfl)
-- java/util/ArrayList.size()I
def w_J6_size (l0 : Option Nat) (Q : Int32 → Tst → Prop) (X : String → Nat → Tst → Prop) (σ : Tst) : Prop := w_gi σ l0 cJ6 2 fun x1 => Q x1 σ
set_option maxHeartbeats 4000000 in
theorem wk_J6_size (l : Launch) (hl0 : l.stackTraces = false) (G : Tgl) (fr : Nat)  (hfr : 1 ≤ fr) (l0 : Option Nat) (Q : Int32 → Tst → Prop) (X : String → Nat → Tst → Prop) (σ : Tst) (hw : w_J6_size l0 Q X σ) : tw_M l yJ6_size (ws_ yJ6_size cJ6_size 1 (some .int)) fr (40 * fr) G σ [.inr l0] (tw_Qi G Q) X := by
  unfold w_J6_size at hw
  refine tw_of (ret := (some .int)) hl0 (by decide) (Nat.le_of_ble_eq_true rfl) (fun p e R s m args below meth c hRf hRl C hr hmn hnx hR hS ls hl => ?_)
  have hfr : 1 ≤ R.frames := by rw [hRf]; exact hfr
  have hRl : R.locals = 40 * R.frames := by rw [hRl, hRf]
  have hl : tw_l ls 1 [(0, .inr l0)] := hl
  refine tk_aload_n C hl 0 dJ6_size_0 rfl ?_
  refine tk_gi C hR hw rfl in_J6 (by decide) q180 (fun _ h => h) dJ6_size_1 (fun x1 hw => ?_)
  exact tw_iret C hR hS hr rfl dJ6_size_4 hw
-- jdk/internal/util/Preconditions.checkIndex(IILjava/util/function/BiFunction;)I
def w_J15_checkIndex_b9 (Q : Int32 → Tst → Prop) (X : String → Nat → Tst → Prop) (σ : Tst) : Prop := False
def w_J15_checkIndex (l0 : Int32) (l1 : Int32) (l2 : Option Nat) (Q : Int32 → Tst → Prop) (X : String → Nat → Tst → Prop) (σ : Tst) : Prop := w_if (l0 < 0) (w_J15_checkIndex_b9 Q X σ) (w_if (l0 < l1) (Q l0 σ) (w_J15_checkIndex_b9 Q X σ))
set_option maxHeartbeats 4000000 in
theorem wk_J15_checkIndex_b9  (C : tw_C p l R s m args meth c G cJ15_checkIndex 3 yJ15_checkIndex.cls) (hr : meth.sig.returnType = (some .int)) (hmn : meth.name = yJ15_checkIndex.name) (hnx : (∀ x ∈ c.exceptionTable.toList, False)) (hfr : 1 ≤ R.frames) (hRl : R.locals = 40 * R.frames) {Q : Int32 → Tst → Prop} {X : String → Nat → Tst → Prop}   (σ : Tst) (H : Heap) (locs : List Loc) (ls : Array Slot) (hw : w_J15_checkIndex_b9 Q X  σ) (hR : tw_R G σ H) (hS : va_S (tw_A G) s.heap H locs) (hl : tw_l ls 3 []) : tw_W p l e R s m args below meth c σ H locs (tw_E below G (tw_Qi G Q) X args s R) (F0 m 9 ls []) := by
  unfold w_J15_checkIndex_b9 at hw
  exact hw.elim
set_option maxHeartbeats 4000000 in
theorem wk_J15_checkIndex (l : Launch) (hl0 : l.stackTraces = false) (G : Tgl) (fr : Nat)  (hfr : 1 ≤ fr) (l0 : Int32) (l1 : Int32) (l2 : Option Nat) (Q : Int32 → Tst → Prop) (X : String → Nat → Tst → Prop) (σ : Tst) (hw : w_J15_checkIndex l0 l1 l2 Q X σ) : tw_M l yJ15_checkIndex (ws_ yJ15_checkIndex cJ15_checkIndex 3 (some .int)) fr (40 * fr) G σ [.inl l0, .inl l1, .inr l2] (tw_Qi G Q) X := by
  unfold w_J15_checkIndex at hw
  refine tw_of (ret := (some .int)) hl0 (by decide) (Nat.le_of_ble_eq_true rfl) (fun p e R s m args below meth c hRf hRl C hr hmn hnx hR hS ls hl => ?_)
  have hfr : 1 ≤ R.frames := by rw [hRf]; exact hfr
  have hRl : R.locals = 40 * R.frames := by rw [hRl, hRf]
  have hl : tw_l ls 3 [(0, .inl l0), (1, .inl l1), (2, .inr l2)] := hl
  refine tk_iload_n C hl 0 dJ15_checkIndex_0 rfl ?_
  refine lv_if_lt (tgt := 9) C.hx C.hb dJ15_checkIndex_1 (by decide) (fun c1 => ?_) (fun c1 => ?_)
  · replace hw := hw.1 c1
    exact wk_J15_checkIndex_b9 C hr hmn hnx hfr hRl σ _ _ _ hw hR hS (tk_sub hl [] rfl)
  · replace hw := hw.2 c1
    refine tk_iload_n C hl 0 dJ15_checkIndex_4 rfl ?_
    refine tk_iload_n C hl 1 dJ15_checkIndex_5 rfl ?_
    refine lv_icmp_lt (tgt := 16) C.hx C.hb dJ15_checkIndex_6 (by decide) (fun c6 => ?_) (fun c6 => ?_)
    · replace hw := hw.1 c6
      refine tk_iload_n C hl 0 dJ15_checkIndex_16 rfl ?_
      exact tw_iret C hR hS hr rfl dJ15_checkIndex_17 hw
    · replace hw := hw.2 c6
      exact wk_J15_checkIndex_b9 C hr hmn hnx hfr hRl σ _ _ _ hw hR hS (tk_sub hl [] rfl)
-- java/util/Objects.checkIndex(II)I
def w_J21_checkIndex (l0 : Int32) (l1 : Int32) (Q : Int32 → Tst → Prop) (X : String → Nat → Tst → Prop) (σ : Tst) : Prop := w_J15_checkIndex l0 l1 none (fun x1 σ => Q x1 σ) X σ
set_option maxHeartbeats 4000000 in
theorem wk_J21_checkIndex (l : Launch) (hl0 : l.stackTraces = false) (G : Tgl) (fr : Nat)  (hfr : 2 ≤ fr) (l0 : Int32) (l1 : Int32) (Q : Int32 → Tst → Prop) (X : String → Nat → Tst → Prop) (σ : Tst) (hw : w_J21_checkIndex l0 l1 Q X σ) : tw_M l yJ21_checkIndex (ws_ yJ21_checkIndex cJ21_checkIndex 2 (some .int)) fr (40 * fr) G σ [.inl l0, .inl l1] (tw_Qi G Q) X := by
  unfold w_J21_checkIndex at hw
  refine tw_of (ret := (some .int)) hl0 (by decide) (Nat.le_of_ble_eq_true rfl) (fun p e R s m args below meth c hRf hRl C hr hmn hnx hR hS ls hl => ?_)
  have hfr : 2 ≤ R.frames := by rw [hRf]; exact hfr
  have hRl : R.locals = 40 * R.frames := by rw [hRl, hRf]
  have hl : tw_l ls 2 [(0, .inl l0), (1, .inl l1)] := hl
  refine tk_iload_n C hl 0 dJ21_checkIndex_0 rfl ?_
  refine tk_iload_n C hl 1 dJ21_checkIndex_1 rfl ?_
  refine lv_null C.hx C.hb dJ21_checkIndex_2 ?_
  refine W.eq (g2 := F0 m 3 ls (va_rf none :: [.int l1, .int l0])) rfl ?_
  refine tw_cbi C hS (tw_runS (As := [.inl l0, .inl l1, .inr none]) C hR hS (wk_J15_checkIndex l C.hst G (R.frames - 1) (by omega) _ _ _ _ _ σ hw) q464 q465 q85 q466 pd_J15_checkIndex ⟨by omega, by omega⟩ hl.1 rfl (tw_r8 [] (Nat.le_of_ble_eq_true rfl)) dJ21_checkIndex_3) (fun E q σ H locs hX hR hS hi => tw_out C hR hS (fun x hx => (hnx x hx).elim) hi hX) (fun x1 σ H locs hw hR hS => ?_)
  exact tw_iret C hR hS hr rfl dJ21_checkIndex_6 hw
-- java/util/ArrayList.elementData(I)Ljava/lang/Object;
def w_J6_elementData (l0 : Option Nat) (l1 : Int32) (Q : Option Nat → Tst → Prop) (X : String → Nat → Tst → Prop) (σ : Tst) : Prop := w_gr σ l0 cJ6 1 fun x1 => w_lr σ x1 l1 fun x2 => Q x2 σ
set_option maxHeartbeats 4000000 in
theorem wk_J6_elementData (l : Launch) (hl0 : l.stackTraces = false) (G : Tgl) (fr : Nat)  (hfr : 1 ≤ fr) (l0 : Option Nat) (l1 : Int32) (Q : Option Nat → Tst → Prop) (X : String → Nat → Tst → Prop) (σ : Tst) (hw : w_J6_elementData l0 l1 Q X σ) : tw_M l yJ6_elementData (ws_ yJ6_elementData cJ6_elementData 2 (some (.object "java/lang/Object"))) fr (40 * fr) G σ [.inr l0, .inl l1] (tw_Qq G Q) X := by
  unfold w_J6_elementData at hw
  refine tw_of (ret := (some (.object "java/lang/Object"))) hl0 (by decide) (Nat.le_of_ble_eq_true rfl) (fun p e R s m args below meth c hRf hRl C hr hmn hnx hR hS ls hl => ?_)
  have hfr : 1 ≤ R.frames := by rw [hRf]; exact hfr
  have hRl : R.locals = 40 * R.frames := by rw [hRl, hRf]
  have hl : tw_l ls 2 [(0, .inr l0), (1, .inl l1)] := hl
  refine tk_aload_n C hl 0 dJ6_elementData_0 rfl ?_
  refine tk_gr C hR hw rfl in_J6 (by decide) q177 (fun _ h => h) dJ6_elementData_1 (fun x1 hw => ?_)
  refine tk_iload_n C hl 1 dJ6_elementData_4 rfl ?_
  refine tk_lr C hR hw dJ6_elementData_5 (fun x2 hw => ?_)
  exact tw_aret C hR hS hr (Or.inl ⟨_, rfl⟩) dJ6_elementData_6 hw
-- java/util/ArrayList.get(I)Ljava/lang/Object;
def w_J6_get (l0 : Option Nat) (l1 : Int32) (Q : Option Nat → Tst → Prop) (X : String → Nat → Tst → Prop) (σ : Tst) : Prop := w_gi σ l0 cJ6 2 fun x1 => w_J21_checkIndex l1 x1 (fun x2 σ => w_rc σ l0 cJ6 <| w_J6_elementData l0 l1 (fun x3 σ => Q x3 σ) X σ) X σ
set_option maxHeartbeats 4000000 in
theorem wk_J6_get (l : Launch) (hl0 : l.stackTraces = false) (G : Tgl) (fr : Nat)  (hfr : 3 ≤ fr) (l0 : Option Nat) (l1 : Int32) (Q : Option Nat → Tst → Prop) (X : String → Nat → Tst → Prop) (σ : Tst) (hw : w_J6_get l0 l1 Q X σ) : tw_M l yJ6_get (ws_ yJ6_get cJ6_get 2 (some (.object "java/lang/Object"))) fr (40 * fr) G σ [.inr l0, .inl l1] (tw_Qq G Q) X := by
  unfold w_J6_get at hw
  refine tw_of (ret := (some (.object "java/lang/Object"))) hl0 (by decide) (Nat.le_of_ble_eq_true rfl) (fun p e R s m args below meth c hRf hRl C hr hmn hnx hR hS ls hl => ?_)
  have hfr : 3 ≤ R.frames := by rw [hRf]; exact hfr
  have hRl : R.locals = 40 * R.frames := by rw [hRl, hRf]
  have hl : tw_l ls 2 [(0, .inr l0), (1, .inl l1)] := hl
  refine tk_iload_n C hl 1 dJ6_get_0 rfl ?_
  refine tk_aload_n C hl 0 dJ6_get_1 rfl ?_
  refine tk_gi C hR hw rfl in_J6 (by decide) q180 (fun _ h => h) dJ6_get_2 (fun x1 hw => ?_)
  refine tw_cbi C hS (tw_runS (As := [.inl l1, .inl x1]) C hR hS (wk_J21_checkIndex l C.hst G (R.frames - 1) (by omega) _ _ _ _ σ hw) q461 q462 q93 q463 pd_J21_checkIndex ⟨by omega, by omega⟩ hl.1 rfl (tw_r8 [] (Nat.le_of_ble_eq_true rfl)) dJ6_get_5) (fun E q σ H locs hX hR hS hi => tw_out C hR hS (fun x hx => (hnx x hx).elim) hi hX) (fun x2 σ H locs hw hR hS => ?_)
  refine tw_pop (x := .inl x2) C.hx C.hb dJ6_get_8 ?_
  refine tk_aload_n C hl 0 dJ6_get_9 rfl ?_
  refine tk_iload_n C hl 1 dJ6_get_10 rfl ?_
  obtain ⟨hv, hw⟩ := hw
  refine tw_cbq C hS (tk_runV (As := [.inl l1]) C hR hS (wk_J6_elementData l C.hst G (R.frames - 1) (by omega) _ _ _ _ σ hw) hv rfl q467 q468 q469 q73 q470 pd_J6_elementData ⟨by omega, by omega⟩ hl.1 rfl (tw_r8 [] (Nat.le_of_ble_eq_true rfl)) dJ6_get_11) (fun E q σ H locs hX hR hS hi => tw_out C hR hS (fun x hx => (hnx x hx).elim) hi hX) (fun x3 σ H locs hw hR hS => ?_)
  exact tw_aret C hR hS hr (Or.inl ⟨_, rfl⟩) dJ6_get_14 hw
-- TreeDiffer$Node.isLike(LTreeDiffer$Node;Z)Z
def w_X3_isLike_b58 (rf_X3_isLike : (Option Nat) → (Option Nat) → Int32 → (Int32 → Tst → Prop) → (String → Nat → Tst → Prop) → Tst → Prop) (Q : Int32 → Tst → Prop) (X : String → Nat → Tst → Prop) (σ : Tst) : Prop := narrow .boolean (.int 0) = .int 0 ∧ Q 0 σ
def w_X3_isLike_b62 (rf_X3_isLike : (Option Nat) → (Option Nat) → Int32 → (Int32 → Tst → Prop) → (String → Nat → Tst → Prop) → Tst → Prop) (Q : Int32 → Tst → Prop) (X : String → Nat → Tst → Prop) : Nat → Option Nat → Option Nat → Int32 → Int32 → Tst → Prop
  | 0, _, _, _, _, _ => False
  | n + 1, l0, l1, l2, l3, σ => w_gr σ l0 cX3 4 fun x1 => w_rc σ x1 cJ6 <| w_J6_size x1 (fun x2 σ => w_if (x2 ≤ l3) (narrow .boolean (.int 1) = .int 1 ∧ Q 1 σ) (w_gr σ l0 cX3 4 fun x3 => w_rc σ x3 cJ6 <| w_J6_get x3 l3 (fun x4 σ => w_cc σ x4 cX3 <| w_gr σ l1 cX3 4 fun x5 => w_rc σ x5 cJ6 <| w_J6_get x5 l3 (fun x6 σ => w_cc σ x6 cX3 <| w_rc σ x4 cX3 <| rf_X3_isLike x4 x6 l2 (fun x7 σ => w_if (x7 = 0) (narrow .boolean (.int 0) = .int 0 ∧ Q 0 σ) ((w_X3_isLike_b62 rf_X3_isLike Q X n) l0 l1 l2 (l3 + 1) σ)) X σ) X σ) X σ)) X σ
def w_X3_isLike_b60 (rf_X3_isLike : (Option Nat) → (Option Nat) → Int32 → (Int32 → Tst → Prop) → (String → Nat → Tst → Prop) → Tst → Prop) (Q : Int32 → Tst → Prop) (X : String → Nat → Tst → Prop) (l0 : Option Nat) (l1 : Option Nat) (l2 : Int32) (σ : Tst) : Prop := ∃ z, w_X3_isLike_b62 rf_X3_isLike Q X z l0 l1 l2 0 σ
def w_X3_isLike : Nat → Option Nat → Option Nat → Int32 → (Int32 → Tst → Prop) → (String → Nat → Tst → Prop) → Tst → Prop
  | 0, _, _, _, _, _, _ => False
  | d + 1, l0, l1, l2, Q, X, σ => w_gr σ l0 cX3 4 fun x1 => w_rc σ x1 cJ6 <| w_J6_size x1 (fun x2 σ => w_gr σ l1 cX3 4 fun x3 => w_rc σ x3 cJ6 <| w_J6_size x3 (fun x4 σ => w_if (x2 = x4) (w_if (l2 = 0) (w_gi σ l0 cX3 0 fun x5 => w_gi σ l1 cX3 0 fun x6 => w_if (x5 = x6) (w_gi σ l0 cX3 1 fun x7 => w_gi σ l1 cX3 1 fun x8 => w_if (x7 = x8) (w_gi σ l0 cX3 2 fun x9 => w_gi σ l1 cX3 2 fun x10 => w_if (x9 = x10) (w_X3_isLike_b60 (w_X3_isLike d) Q X l0 l1 l2 σ) (w_X3_isLike_b58 (w_X3_isLike d) Q X σ)) (w_X3_isLike_b58 (w_X3_isLike d) Q X σ)) (w_X3_isLike_b58 (w_X3_isLike d) Q X σ)) (w_X3_isLike_b60 (w_X3_isLike d) Q X l0 l1 l2 σ)) (w_X3_isLike_b58 (w_X3_isLike d) Q X σ)) X σ) X σ
set_option maxHeartbeats 4000000 in
theorem wk_X3_isLike_b58 {rf_X3_isLike : (Option Nat) → (Option Nat) → Int32 → (Int32 → Tst → Prop) → (String → Nat → Tst → Prop) → Tst → Prop} {frf_X3_isLike : Nat}  (C : tw_C p l R s m args meth c G cX3_isLike 4 yX3_isLike.cls) (hr : meth.sig.returnType = (some .boolean)) (hmn : meth.name = yX3_isLike.name) (hnx : (∀ x ∈ c.exceptionTable.toList, False)) (hfr : 4 ≤ R.frames ∧ frf_X3_isLike + 1 ≤ R.frames) (hRl : R.locals = 40 * R.frames) {Q : Int32 → Tst → Prop} {X : String → Nat → Tst → Prop} (hrf_X3_isLike : ∀ fr : Nat, frf_X3_isLike ≤ fr → ∀ (a0 : Option Nat) (a1 : Option Nat) (a2 : Int32) (Q : Int32 → Tst → Prop) (X : String → Nat → Tst → Prop) (σ : Tst), rf_X3_isLike a0 a1 a2 Q X σ → tw_M l yX3_isLike (ws_ yX3_isLike cX3_isLike 4 (some .boolean)) fr (40 * fr) G σ [.inr a0, .inr a1, .inl a2] (tw_Qi G Q) X)  (σ : Tst) (H : Heap) (locs : List Loc) (ls : Array Slot) (hw : w_X3_isLike_b58 rf_X3_isLike Q X  σ) (hR : tw_R G σ H) (hS : va_S (tw_A G) s.heap H locs) (hl : tw_l ls 4 []) : tw_W p l e R s m args below meth c σ H locs (tw_E below G (tw_Qi G Q) X args s R) (F0 m 58 ls []) := by
  unfold w_X3_isLike_b58 at hw
  refine lv_iconst (v := 0) C.hx C.hb dX3_isLike_58 (by decide) ?_
  obtain ⟨hok, hw⟩ := hw
  exact tw_iret C hR hS hr hok dX3_isLike_59 hw
set_option maxHeartbeats 4000000 in
theorem wk_X3_isLike_b62 {rf_X3_isLike : (Option Nat) → (Option Nat) → Int32 → (Int32 → Tst → Prop) → (String → Nat → Tst → Prop) → Tst → Prop} {frf_X3_isLike : Nat}  (C : tw_C p l R s m args meth c G cX3_isLike 4 yX3_isLike.cls) (hr : meth.sig.returnType = (some .boolean)) (hmn : meth.name = yX3_isLike.name) (hnx : (∀ x ∈ c.exceptionTable.toList, False)) (hfr : 4 ≤ R.frames ∧ frf_X3_isLike + 1 ≤ R.frames) (hRl : R.locals = 40 * R.frames) {Q : Int32 → Tst → Prop} {X : String → Nat → Tst → Prop} (hrf_X3_isLike : ∀ fr : Nat, frf_X3_isLike ≤ fr → ∀ (a0 : Option Nat) (a1 : Option Nat) (a2 : Int32) (Q : Int32 → Tst → Prop) (X : String → Nat → Tst → Prop) (σ : Tst), rf_X3_isLike a0 a1 a2 Q X σ → tw_M l yX3_isLike (ws_ yX3_isLike cX3_isLike 4 (some .boolean)) fr (40 * fr) G σ [.inr a0, .inr a1, .inl a2] (tw_Qi G Q) X) : ∀ (n : Nat) (l0 : Option Nat) (l1 : Option Nat) (l2 : Int32) (l3 : Int32) (σ : Tst) (H : Heap) (locs : List Loc) (ls : Array Slot), w_X3_isLike_b62 rf_X3_isLike Q X n l0 l1 l2 l3 σ → tw_R G σ H → va_S (tw_A G) s.heap H locs → tw_l ls 4 [(0, .inr l0), (1, .inr l1), (2, .inl l2), (3, .inl l3)] → tw_W p l e R s m args below meth c σ H locs (tw_E below G (tw_Qi G Q) X args s R) (F0 m 62 ls []) := by
  intro n
  induction n with
  | zero => intro l0 l1 l2 l3 σ H locs ls hw; exact False.elim hw
  | succ n hk62 =>
    intro l0 l1 l2 l3 σ H locs ls hw hR hS hl
    rw [w_X3_isLike_b62] at hw
    refine tk_iload_n C hl 3 dX3_isLike_62 rfl ?_
    refine tk_aload_n C hl 0 dX3_isLike_63 rfl ?_
    refine tk_gr C hR hw rfl in_X3 (by decide) q209 (fun _ h => h) dX3_isLike_64 (fun x1 hw => ?_)
    obtain ⟨hv, hw⟩ := hw
    refine tw_cbi5 C hS (tk_runF (As := []) (x := ⟨"java/util/List", "size", "()I"⟩) C hR hS (wk_J6_size l C.hst G (R.frames - 1) (by omega) _ _ _ σ hw) hv rfl q637 q447 q449 q73 q451 (by decide +kernel) (show tw_pd ⟨"java/util/List", "size", "()I"⟩ 0 by decide +kernel) ⟨by omega, by omega⟩ hl.1 rfl (tw_r8 [.inl l3] (Nat.le_of_ble_eq_true rfl)) dX3_isLike_67) (fun E q σ H locs hX hR hS hi => tw_out C hR hS (fun x hx => (hnx x hx).elim) hi hX) (fun x2 σ H locs hw hR hS => ?_)
    refine lv_icmp_ge (tgt := 116) C.hx C.hb dX3_isLike_72 (by decide) (fun c72 => ?_) (fun c72 => ?_)
    · replace hw := hw.1 c72
      refine lv_iconst (v := 1) C.hx C.hb dX3_isLike_116 (by decide) ?_
      obtain ⟨hok, hw⟩ := hw
      exact tw_iret C hR hS hr hok dX3_isLike_117 hw
    · replace hw := hw.2 c72
      refine tk_aload_n C hl 0 dX3_isLike_75 rfl ?_
      refine tk_gr C hR hw rfl in_X3 (by decide) q209 (fun _ h => h) dX3_isLike_76 (fun x3 hw => ?_)
      refine tk_iload_n C hl 3 dX3_isLike_79 rfl ?_
      obtain ⟨hv, hw⟩ := hw
      refine tw_cbq5 C hS (tk_runF (As := [.inl l3]) (x := ⟨"java/util/List", "get", "(I)Ljava/lang/Object;"⟩) C hR hS (wk_J6_get l C.hst G (R.frames - 1) (by omega) _ _ _ _ σ hw) hv rfl q639 q456 q458 q73 q460 (by decide +kernel) (show tw_pd ⟨"java/util/List", "get", "(I)Ljava/lang/Object;"⟩ 1 by decide +kernel) ⟨by omega, by omega⟩ hl.1 rfl (tw_r8 [] (Nat.le_of_ble_eq_true rfl)) dX3_isLike_80) (fun E q σ H locs hX hR hS hi => tw_out C hR hS (fun x hx => (hnx x hx).elim) hi hX) (fun x4 σ H locs hw hR hS => ?_)
      refine tk_cc C hR hw rfl q577 (Or.inl rfl) dX3_isLike_85 (fun hw => ?_)
      refine tk_aload_n C hl 1 dX3_isLike_88 rfl ?_
      refine tk_gr C hR hw rfl in_X3 (by decide) q209 (fun _ h => h) dX3_isLike_89 (fun x5 hw => ?_)
      refine tk_iload_n C hl 3 dX3_isLike_92 rfl ?_
      obtain ⟨hv, hw⟩ := hw
      refine tw_cbq5 C hS (tk_runF (As := [.inl l3]) (x := ⟨"java/util/List", "get", "(I)Ljava/lang/Object;"⟩) C hR hS (wk_J6_get l C.hst G (R.frames - 1) (by omega) _ _ _ _ σ hw) hv rfl q639 q456 q458 q73 q460 (by decide +kernel) (show tw_pd ⟨"java/util/List", "get", "(I)Ljava/lang/Object;"⟩ 1 by decide +kernel) ⟨by omega, by omega⟩ hl.1 rfl (tw_r8 [.inr x4] (Nat.le_of_ble_eq_true rfl)) dX3_isLike_93) (fun E q σ H locs hX hR hS hi => tw_out C hR hS (fun x hx => (hnx x hx).elim) hi hX) (fun x6 σ H locs hw hR hS => ?_)
      refine tk_cc C hR hw rfl q577 (Or.inl rfl) dX3_isLike_98 (fun hw => ?_)
      refine tk_iload_n C hl 2 dX3_isLike_101 rfl ?_
      obtain ⟨hv, hw⟩ := hw
      refine tw_cbi C hS (tk_runV (As := [.inr x6, .inl l2]) C hR hS (hrf_X3_isLike (R.frames - 1) (by omega) _ _ _ _ _ σ hw) hv rfl q640 q633 q634 q70 q635 pd_X3_isLike ⟨by omega, by omega⟩ hl.1 rfl (tw_r8 [] (Nat.le_of_ble_eq_true rfl)) dX3_isLike_102) (fun E q σ H locs hX hR hS hi => tw_out C hR hS (fun x hx => (hnx x hx).elim) hi hX) (fun x7 σ H locs hw hR hS => ?_)
      refine lv_if_ne (tgt := 110) C.hx C.hb dX3_isLike_105 (by decide) (fun c105 => ?_) (fun c105 => ?_)
      · replace hw := hw.2 c105
        refine tk_iinc (L' := [(3, .inl (l3 + 1)), (0, .inr l0), (1, .inr l1), (2, .inl l2)]) (y := (l3 + 1)) C hl 3 dX3_isLike_110 rfl rfl (by decide) rfl (fun ls hl => ?_)
        refine lv_goto (tgt := 62) C.hx C.hb dX3_isLike_113 (by decide) ?_
        exact hk62 _ _ _ _ σ _ _ _ hw hR hS (tk_sub hl [1, 2, 3, 0] rfl)
      · replace hw := hw.1 c105
        refine lv_iconst (v := 0) C.hx C.hb dX3_isLike_108 (by decide) ?_
        obtain ⟨hok, hw⟩ := hw
        exact tw_iret C hR hS hr hok dX3_isLike_109 hw
set_option maxHeartbeats 4000000 in
theorem wk_X3_isLike_b60 {rf_X3_isLike : (Option Nat) → (Option Nat) → Int32 → (Int32 → Tst → Prop) → (String → Nat → Tst → Prop) → Tst → Prop} {frf_X3_isLike : Nat}  (C : tw_C p l R s m args meth c G cX3_isLike 4 yX3_isLike.cls) (hr : meth.sig.returnType = (some .boolean)) (hmn : meth.name = yX3_isLike.name) (hnx : (∀ x ∈ c.exceptionTable.toList, False)) (hfr : 4 ≤ R.frames ∧ frf_X3_isLike + 1 ≤ R.frames) (hRl : R.locals = 40 * R.frames) {Q : Int32 → Tst → Prop} {X : String → Nat → Tst → Prop} (hrf_X3_isLike : ∀ fr : Nat, frf_X3_isLike ≤ fr → ∀ (a0 : Option Nat) (a1 : Option Nat) (a2 : Int32) (Q : Int32 → Tst → Prop) (X : String → Nat → Tst → Prop) (σ : Tst), rf_X3_isLike a0 a1 a2 Q X σ → tw_M l yX3_isLike (ws_ yX3_isLike cX3_isLike 4 (some .boolean)) fr (40 * fr) G σ [.inr a0, .inr a1, .inl a2] (tw_Qi G Q) X) (l0 : Option Nat) (l1 : Option Nat) (l2 : Int32) (σ : Tst) (H : Heap) (locs : List Loc) (ls : Array Slot) (hw : w_X3_isLike_b60 rf_X3_isLike Q X l0 l1 l2 σ) (hR : tw_R G σ H) (hS : va_S (tw_A G) s.heap H locs) (hl : tw_l ls 4 [(0, .inr l0), (1, .inr l1), (2, .inl l2)]) : tw_W p l e R s m args below meth c σ H locs (tw_E below G (tw_Qi G Q) X args s R) (F0 m 60 ls []) := by
  unfold w_X3_isLike_b60 at hw
  refine lv_iconst (v := 0) C.hx C.hb dX3_isLike_60 (by decide) ?_
  refine tk_istore_n (L' := [(3, .inl 0), (0, .inr l0), (1, .inr l1), (2, .inl l2)]) C hl dX3_isLike_61 (by decide) rfl (fun ls hl => ?_)
  obtain ⟨z, hw⟩ := hw
  exact wk_X3_isLike_b62 C hr hmn hnx hfr hRl hrf_X3_isLike z _ _ _ _ σ _ _ _ hw hR hS (tk_sub hl [1, 2, 3, 0] rfl)
set_option maxHeartbeats 4000000 in
theorem wk_X3_isLike (l : Launch) (hl0 : l.stackTraces = false) (G : Tgl)  : ∀ (d fr : Nat), 4 + 1 * d ≤ fr → ∀ (l0 : Option Nat) (l1 : Option Nat) (l2 : Int32) (Q : Int32 → Tst → Prop) (X : String → Nat → Tst → Prop) (σ : Tst), w_X3_isLike d l0 l1 l2 Q X σ → tw_M l yX3_isLike (ws_ yX3_isLike cX3_isLike 4 (some .boolean)) fr (40 * fr) G σ [.inr l0, .inr l1, .inl l2] (tw_Qi G Q) X := by
  intro d
  induction d with
  | zero => intro fr hfr l0 l1 l2 Q X σ hw; exact False.elim hw
  | succ d ih =>
    intro fr hfr l0 l1 l2 Q X σ hw
    have hrf_X3_isLike := fun (fr : Nat) (h : 4 + 1 * d ≤ fr) => ih fr (by omega)
    rw [w_X3_isLike] at hw
    generalize hg : w_X3_isLike d = rf_X3_isLike at hw hrf_X3_isLike
    clear hg ih
    obtain ⟨frf_X3_isLike, hfrf_X3_isLike⟩ : ∃ f, f = 4 + 1 * d := ⟨_, rfl⟩
    rw [← hfrf_X3_isLike] at hrf_X3_isLike
    have hfr : 4 ≤ fr ∧ frf_X3_isLike + 1 ≤ fr := by refine ⟨?_, ?_⟩ <;> omega
    refine tw_of (ret := (some .boolean)) hl0 (by decide) (Nat.le_of_ble_eq_true rfl) (fun p e R s m args below meth c hRf hRl C hr hmn hnx hR hS ls hl => ?_)
    have hfr : 4 ≤ R.frames ∧ frf_X3_isLike + 1 ≤ R.frames := by rw [hRf]; exact hfr
    have hRl : R.locals = 40 * R.frames := by rw [hRl, hRf]
    have hl : tw_l ls 4 [(0, .inr l0), (1, .inr l1), (2, .inl l2)] := hl
    refine tk_aload_n C hl 0 dX3_isLike_0 rfl ?_
    refine tk_gr C hR hw rfl in_X3 (by decide) q209 (fun _ h => h) dX3_isLike_1 (fun x1 hw => ?_)
    obtain ⟨hv, hw⟩ := hw
    refine tw_cbi5 C hS (tk_runF (As := []) (x := ⟨"java/util/List", "size", "()I"⟩) C hR hS (wk_J6_size l C.hst G (R.frames - 1) (by omega) _ _ _ σ hw) hv rfl q637 q447 q449 q73 q451 (by decide +kernel) (show tw_pd ⟨"java/util/List", "size", "()I"⟩ 0 by decide +kernel) ⟨by omega, by omega⟩ hl.1 rfl (tw_r8 [] (Nat.le_of_ble_eq_true rfl)) dX3_isLike_4) (fun E q σ H locs hX hR hS hi => tw_out C hR hS (fun x hx => (hnx x hx).elim) hi hX) (fun x2 σ H locs hw hR hS => ?_)
    refine tk_aload_n C hl 1 dX3_isLike_9 rfl ?_
    refine tk_gr C hR hw rfl in_X3 (by decide) q209 (fun _ h => h) dX3_isLike_10 (fun x3 hw => ?_)
    obtain ⟨hv, hw⟩ := hw
    refine tw_cbi5 C hS (tk_runF (As := []) (x := ⟨"java/util/List", "size", "()I"⟩) C hR hS (wk_J6_size l C.hst G (R.frames - 1) (by omega) _ _ _ σ hw) hv rfl q637 q447 q449 q73 q451 (by decide +kernel) (show tw_pd ⟨"java/util/List", "size", "()I"⟩ 0 by decide +kernel) ⟨by omega, by omega⟩ hl.1 rfl (tw_r8 [.inl x2] (Nat.le_of_ble_eq_true rfl)) dX3_isLike_13) (fun E q σ H locs hX hR hS hi => tw_out C hR hS (fun x hx => (hnx x hx).elim) hi hX) (fun x4 σ H locs hw hR hS => ?_)
    refine lv_icmp_ne (tgt := 58) C.hx C.hb dX3_isLike_18 (by decide) (fun c18 => ?_) (fun c18 => ?_)
    · replace hw := hw.2 c18
      exact wk_X3_isLike_b58 C hr hmn hnx hfr hRl hrf_X3_isLike σ _ _ _ hw hR hS (tk_sub hl [] rfl)
    · replace hw := hw.1 c18
      refine tk_iload_n C hl 2 dX3_isLike_21 rfl ?_
      refine lv_if_ne (tgt := 60) C.hx C.hb dX3_isLike_22 (by decide) (fun c22 => ?_) (fun c22 => ?_)
      · replace hw := hw.2 c22
        exact wk_X3_isLike_b60 C hr hmn hnx hfr hRl hrf_X3_isLike _ _ _ σ _ _ _ hw hR hS (tk_sub hl [0, 1, 2] rfl)
      · replace hw := hw.1 c22
        refine tk_aload_n C hl 0 dX3_isLike_25 rfl ?_
        refine tk_gi C hR hw rfl in_X3 (by decide) q192 (fun _ h => h) dX3_isLike_26 (fun x5 hw => ?_)
        refine tk_aload_n C hl 1 dX3_isLike_29 rfl ?_
        refine tk_gi C hR hw rfl in_X3 (by decide) q192 (fun _ h => h) dX3_isLike_30 (fun x6 hw => ?_)
        refine lv_icmp_ne (tgt := 58) C.hx C.hb dX3_isLike_33 (by decide) (fun c33 => ?_) (fun c33 => ?_)
        · replace hw := hw.2 c33
          exact wk_X3_isLike_b58 C hr hmn hnx hfr hRl hrf_X3_isLike σ _ _ _ hw hR hS (tk_sub hl [] rfl)
        · replace hw := hw.1 c33
          refine tk_aload_n C hl 0 dX3_isLike_36 rfl ?_
          refine tk_gi C hR hw rfl in_X3 (by decide) q196 (fun _ h => h) dX3_isLike_37 (fun x7 hw => ?_)
          refine tk_aload_n C hl 1 dX3_isLike_40 rfl ?_
          refine tk_gi C hR hw rfl in_X3 (by decide) q196 (fun _ h => h) dX3_isLike_41 (fun x8 hw => ?_)
          refine lv_icmp_ne (tgt := 58) C.hx C.hb dX3_isLike_44 (by decide) (fun c44 => ?_) (fun c44 => ?_)
          · replace hw := hw.2 c44
            exact wk_X3_isLike_b58 C hr hmn hnx hfr hRl hrf_X3_isLike σ _ _ _ hw hR hS (tk_sub hl [] rfl)
          · replace hw := hw.1 c44
            refine tk_aload_n C hl 0 dX3_isLike_47 rfl ?_
            refine tk_gi C hR hw rfl in_X3 (by decide) q201 (fun _ h => h) dX3_isLike_48 (fun x9 hw => ?_)
            refine tk_aload_n C hl 1 dX3_isLike_51 rfl ?_
            refine tk_gi C hR hw rfl in_X3 (by decide) q201 (fun _ h => h) dX3_isLike_52 (fun x10 hw => ?_)
            refine lv_icmp_eq (tgt := 60) C.hx C.hb dX3_isLike_55 (by decide) (fun c55 => ?_) (fun c55 => ?_)
            · replace hw := hw.1 c55
              exact wk_X3_isLike_b60 C hr hmn hnx hfr hRl hrf_X3_isLike _ _ _ σ _ _ _ hw hR hS (tk_sub hl [0, 1, 2] rfl)
            · replace hw := hw.2 c55
              exact wk_X3_isLike_b58 C hr hmn hnx hfr hRl hrf_X3_isLike σ _ _ _ hw hR hS (tk_sub hl [] rfl)
-- java/util/ArrayList.rangeCheckForAdd(I)V
def w_J6_rangeCheckForAdd_b12 (Q : Tst → Prop) (X : String → Nat → Tst → Prop) (σ : Tst) : Prop := False
def w_J6_rangeCheckForAdd (l0 : Option Nat) (l1 : Int32) (Q : Tst → Prop) (X : String → Nat → Tst → Prop) (σ : Tst) : Prop := w_gi σ l0 cJ6 2 fun x1 => w_if (x1 < l1) (w_J6_rangeCheckForAdd_b12 Q X σ) (w_if (0 ≤ l1) (Q σ) (w_J6_rangeCheckForAdd_b12 Q X σ))
set_option maxHeartbeats 4000000 in
theorem wk_J6_rangeCheckForAdd_b12  (C : tw_C p l R s m args meth c G cJ6_rangeCheckForAdd 2 yJ6_rangeCheckForAdd.cls) (hr : meth.sig.returnType = none) (hmn : meth.name = yJ6_rangeCheckForAdd.name) (hnx : (∀ x ∈ c.exceptionTable.toList, False)) (hfr : 1 ≤ R.frames) (hRl : R.locals = 40 * R.frames) {Q : Tst → Prop} {X : String → Nat → Tst → Prop}   (σ : Tst) (H : Heap) (locs : List Loc) (ls : Array Slot) (hw : w_J6_rangeCheckForAdd_b12 Q X  σ) (hR : tw_R G σ H) (hS : va_S (tw_A G) s.heap H locs) (hl : tw_l ls 2 []) : tw_W p l e R s m args below meth c σ H locs (tw_E below G (tw_Qv G Q) X args s R) (F0 m 12 ls []) := by
  unfold w_J6_rangeCheckForAdd_b12 at hw
  exact hw.elim
set_option maxHeartbeats 4000000 in
theorem wk_J6_rangeCheckForAdd (l : Launch) (hl0 : l.stackTraces = false) (G : Tgl) (fr : Nat)  (hfr : 1 ≤ fr) (l0 : Option Nat) (l1 : Int32) (Q : Tst → Prop) (X : String → Nat → Tst → Prop) (σ : Tst) (hw : w_J6_rangeCheckForAdd l0 l1 Q X σ) : tw_M l yJ6_rangeCheckForAdd (ws_ yJ6_rangeCheckForAdd cJ6_rangeCheckForAdd 2 none) fr (40 * fr) G σ [.inr l0, .inl l1] (tw_Qv G Q) X := by
  unfold w_J6_rangeCheckForAdd at hw
  refine tw_of (ret := none) hl0 (by decide) (Nat.le_of_ble_eq_true rfl) (fun p e R s m args below meth c hRf hRl C hr hmn hnx hR hS ls hl => ?_)
  have hfr : 1 ≤ R.frames := by rw [hRf]; exact hfr
  have hRl : R.locals = 40 * R.frames := by rw [hRl, hRf]
  have hl : tw_l ls 2 [(0, .inr l0), (1, .inl l1)] := hl
  refine tk_iload_n C hl 1 dJ6_rangeCheckForAdd_0 rfl ?_
  refine tk_aload_n C hl 0 dJ6_rangeCheckForAdd_1 rfl ?_
  refine tk_gi C hR hw rfl in_J6 (by decide) q180 (fun _ h => h) dJ6_rangeCheckForAdd_2 (fun x1 hw => ?_)
  refine lv_icmp_gt (tgt := 12) C.hx C.hb dJ6_rangeCheckForAdd_5 (by decide) (fun c5 => ?_) (fun c5 => ?_)
  · replace hw := hw.1 c5
    exact wk_J6_rangeCheckForAdd_b12 C hr hmn hnx hfr hRl σ _ _ _ hw hR hS (tk_sub hl [] rfl)
  · replace hw := hw.2 c5
    refine tk_iload_n C hl 1 dJ6_rangeCheckForAdd_8 rfl ?_
    refine lv_if_ge (tgt := 25) C.hx C.hb dJ6_rangeCheckForAdd_9 (by decide) (fun c9 => ?_) (fun c9 => ?_)
    · replace hw := hw.1 c9
      exact tw_vret C hR hS hr dJ6_rangeCheckForAdd_25 hw
    · replace hw := hw.2 c9
      exact wk_J6_rangeCheckForAdd_b12 C hr hmn hnx hfr hRl σ _ _ _ hw hR hS (tk_sub hl [] rfl)
-- jdk/internal/util/ArraysSupport.hugeLength(II)I
def w_J11_hugeLength (l0 : Int32) (l1 : Int32) (Q : Int32 → Tst → Prop) (X : String → Nat → Tst → Prop) (σ : Tst) : Prop := w_if (0 ≤ (l0 + l1)) (w_if (2147483639 < (l0 + l1)) (Q (l0 + l1) σ) (Q 2147483639 σ)) (False)
set_option maxHeartbeats 4000000 in
theorem wk_J11_hugeLength (l : Launch) (hl0 : l.stackTraces = false) (G : Tgl) (fr : Nat)  (hfr : 1 ≤ fr) (l0 : Int32) (l1 : Int32) (Q : Int32 → Tst → Prop) (X : String → Nat → Tst → Prop) (σ : Tst) (hw : w_J11_hugeLength l0 l1 Q X σ) : tw_M l yJ11_hugeLength (ws_ yJ11_hugeLength cJ11_hugeLength 3 (some .int)) fr (40 * fr) G σ [.inl l0, .inl l1] (tw_Qi G Q) X := by
  unfold w_J11_hugeLength at hw
  refine tw_of (ret := (some .int)) hl0 (by decide) (Nat.le_of_ble_eq_true rfl) (fun p e R s m args below meth c hRf hRl C hr hmn hnx hR hS ls hl => ?_)
  have hfr : 1 ≤ R.frames := by rw [hRf]; exact hfr
  have hRl : R.locals = 40 * R.frames := by rw [hRl, hRf]
  have hl : tw_l ls 3 [(0, .inl l0), (1, .inl l1)] := hl
  refine tk_iload_n C hl 0 dJ11_hugeLength_0 rfl ?_
  refine tk_iload_n C hl 1 dJ11_hugeLength_1 rfl ?_
  refine lv_iadd C.hx C.hb dJ11_hugeLength_2 ?_
  refine tk_istore_n (L' := [(2, .inl (l0 + l1)), (0, .inl l0), (1, .inl l1)]) C hl dJ11_hugeLength_3 (by decide) rfl (fun ls hl => ?_)
  refine tk_iload_n C hl 0 dJ11_hugeLength_4 rfl ?_
  refine lv_if_ge (tgt := 49) C.hx C.hb dJ11_hugeLength_5 (by decide) (fun c5 => ?_) (fun c5 => ?_)
  · replace hw := hw.1 c5
    refine tk_iload_n C hl 0 dJ11_hugeLength_49 rfl ?_
    refine lv_ldc (v := 2147483639) C.hx C.hb C.ho (C.hts _ q726) dJ11_hugeLength_50 ?_
    refine lv_icmp_gt (tgt := 58) C.hx C.hb dJ11_hugeLength_52 (by decide) (fun c52 => ?_) (fun c52 => ?_)
    · replace hw := hw.1 c52
      refine tk_iload_n C hl 0 dJ11_hugeLength_58 rfl ?_
      exact tw_iret C hR hS hr rfl dJ11_hugeLength_59 hw
    · replace hw := hw.2 c52
      refine lv_ldc (v := 2147483639) C.hx C.hb C.ho (C.hts _ q726) dJ11_hugeLength_55 ?_
      exact tw_iret C hR hS hr rfl dJ11_hugeLength_57 hw
  · replace hw := hw.2 c5
    exact hw.elim
-- jdk/internal/util/ArraysSupport.newLength(III)I
def w_J11_newLength_b21 (Q : Int32 → Tst → Prop) (X : String → Nat → Tst → Prop) (l0 : Int32) (l1 : Int32) (σ : Tst) : Prop := w_J11_hugeLength l0 l1 (fun x1 σ => Q x1 σ) X σ
def w_J11_newLength (l0 : Int32) (l1 : Int32) (l2 : Int32) (Q : Int32 → Tst → Prop) (X : String → Nat → Tst → Prop) (σ : Tst) : Prop := w_if ((l0 + (if l1 < l2 then l2 else l1)) ≤ 0) (w_J11_newLength_b21 Q X l0 l1 σ) (w_if (2147483639 < (l0 + (if l1 < l2 then l2 else l1))) (w_J11_newLength_b21 Q X l0 l1 σ) (Q (l0 + (if l1 < l2 then l2 else l1)) σ))
set_option maxHeartbeats 4000000 in
theorem wk_J11_newLength_b21  (C : tw_C p l R s m args meth c G cJ11_newLength 4 yJ11_newLength.cls) (hr : meth.sig.returnType = (some .int)) (hmn : meth.name = yJ11_newLength.name) (hnx : (∀ x ∈ c.exceptionTable.toList, False)) (hfr : 2 ≤ R.frames) (hRl : R.locals = 40 * R.frames) {Q : Int32 → Tst → Prop} {X : String → Nat → Tst → Prop}  (l0 : Int32) (l1 : Int32) (σ : Tst) (H : Heap) (locs : List Loc) (ls : Array Slot) (hw : w_J11_newLength_b21 Q X l0 l1 σ) (hR : tw_R G σ H) (hS : va_S (tw_A G) s.heap H locs) (hl : tw_l ls 4 [(0, .inl l0), (1, .inl l1)]) : tw_W p l e R s m args below meth c σ H locs (tw_E below G (tw_Qi G Q) X args s R) (F0 m 21 ls []) := by
  unfold w_J11_newLength_b21 at hw
  refine tk_iload_n C hl 0 dJ11_newLength_21 rfl ?_
  refine tk_iload_n C hl 1 dJ11_newLength_22 rfl ?_
  refine tw_cbi C hS (tw_runS (As := [.inl l0, .inl l1]) C hR hS (wk_J11_hugeLength l C.hst G (R.frames - 1) (by omega) _ _ _ _ σ hw) q727 q728 q80 q729 pd_J11_hugeLength ⟨by omega, by omega⟩ hl.1 rfl (tw_r8 [] (Nat.le_of_ble_eq_true rfl)) dJ11_newLength_23) (fun E q σ H locs hX hR hS hi => tw_out C hR hS (fun x hx => (hnx x hx).elim) hi hX) (fun x1 σ H locs hw hR hS => ?_)
  exact tw_iret C hR hS hr rfl dJ11_newLength_26 hw
set_option maxHeartbeats 4000000 in
theorem wk_J11_newLength (l : Launch) (hl0 : l.stackTraces = false) (G : Tgl) (fr : Nat)  (hfr : 2 ≤ fr) (l0 : Int32) (l1 : Int32) (l2 : Int32) (Q : Int32 → Tst → Prop) (X : String → Nat → Tst → Prop) (σ : Tst) (hw : w_J11_newLength l0 l1 l2 Q X σ) : tw_M l yJ11_newLength (ws_ yJ11_newLength cJ11_newLength 4 (some .int)) fr (40 * fr) G σ [.inl l0, .inl l1, .inl l2] (tw_Qi G Q) X := by
  unfold w_J11_newLength at hw
  refine tw_of (ret := (some .int)) hl0 (by decide) (Nat.le_of_ble_eq_true rfl) (fun p e R s m args below meth c hRf hRl C hr hmn hnx hR hS ls hl => ?_)
  have hfr : 2 ≤ R.frames := by rw [hRf]; exact hfr
  have hRl : R.locals = 40 * R.frames := by rw [hRl, hRf]
  have hl : tw_l ls 4 [(0, .inl l0), (1, .inl l1), (2, .inl l2)] := hl
  refine tk_iload_n C hl 0 dJ11_newLength_0 rfl ?_
  refine tk_iload_n C hl 1 dJ11_newLength_1 rfl ?_
  refine tk_iload_n C hl 2 dJ11_newLength_2 rfl ?_
  refine tk_max C q723 hl.1 (by omega) hRl (tw_r8 [.inl l0] (Nat.le_of_ble_eq_true rfl)) dJ11_newLength_3 ?_
  refine lv_iadd C.hx C.hb dJ11_newLength_6 ?_
  refine tk_istore_n (L' := [(3, .inl (l0 + (if l1 < l2 then l2 else l1))), (0, .inl l0), (1, .inl l1), (2, .inl l2)]) C hl dJ11_newLength_7 (by decide) rfl (fun ls hl => ?_)
  refine lv_iconst (v := 0) C.hx C.hb dJ11_newLength_8 (by decide) ?_
  refine tk_iload_n C hl 0 dJ11_newLength_9 rfl ?_
  refine lv_icmp_ge (tgt := 21) C.hx C.hb dJ11_newLength_10 (by decide) (fun c10 => ?_) (fun c10 => ?_)
  · replace hw := hw.1 c10
    exact wk_J11_newLength_b21 C hr hmn hnx hfr hRl _ _ σ _ _ _ hw hR hS (tk_sub hl [1, 2] rfl)
  · replace hw := hw.2 c10
    refine tk_iload_n C hl 0 dJ11_newLength_13 rfl ?_
    refine lv_ldc (v := 2147483639) C.hx C.hb C.ho (C.hts _ q726) dJ11_newLength_14 ?_
    refine lv_icmp_gt (tgt := 21) C.hx C.hb dJ11_newLength_16 (by decide) (fun c16 => ?_) (fun c16 => ?_)
    · replace hw := hw.1 c16
      exact wk_J11_newLength_b21 C hr hmn hnx hfr hRl _ _ σ _ _ _ hw hR hS (tk_sub hl [1, 2] rfl)
    · replace hw := hw.2 c16
      refine tk_iload_n C hl 0 dJ11_newLength_19 rfl ?_
      exact tw_iret C hR hS hr rfl dJ11_newLength_20 hw
-- java/util/Arrays.copyOf([Ljava/lang/Object;ILjava/lang/Class;)[Ljava/lang/Object;
def w_J13_copyOf_2 (l0 : Option Nat) (l1 : Int32) (l2 : Option Nat) (Q : Option Nat → Tst → Prop) (X : String → Nat → Tst → Prop) (σ : Tst) : Prop := w_k σ 7 fun x1 => w_if (l2 = x1) (w_na σ 5 l1 (.inr (.inr (.inr (.inr fun _ => none)))) fun q2 σ => w_al σ l0 fun x3 => w_cpr σ l0 0 q2 0 (if l1 < x3 then l1 else x3) fun σ => Q q2 σ) (False)
set_option maxHeartbeats 4000000 in
theorem wk_J13_copyOf_2 (l : Launch) (hl0 : l.stackTraces = false) (G : Tgl) (fr : Nat)  (hfr : 1 ≤ fr) (l0 : Option Nat) (l1 : Int32) (l2 : Option Nat) (Q : Option Nat → Tst → Prop) (X : String → Nat → Tst → Prop) (σ : Tst) (hw : w_J13_copyOf_2 l0 l1 l2 Q X σ) : tw_M l yJ13_copyOf_2 (ws_ yJ13_copyOf_2 cJ13_copyOf_2 4 (some (.array (.object "java/lang/Object")))) fr (40 * fr) G σ [.inr l0, .inl l1, .inr l2] (tw_Qq G Q) X := by
  unfold w_J13_copyOf_2 at hw
  refine tw_of (ret := (some (.array (.object "java/lang/Object")))) hl0 (by decide) (Nat.le_of_ble_eq_true rfl) (fun p e R s m args below meth c hRf hRl C hr hmn hnx hR hS ls hl => ?_)
  have hfr : 1 ≤ R.frames := by rw [hRf]; exact hfr
  have hRl : R.locals = 40 * R.frames := by rw [hRl, hRf]
  have hl : tw_l ls 4 [(0, .inr l0), (1, .inl l1), (2, .inr l2)] := hl
  refine tk_aload_n C hl 2 dJ13_copyOf_2_0 rfl ?_
  refine tk_ldm C hR hw q556 dJ13_copyOf_2_1 (fun x1 hw => ?_)
  refine lv_acmp_ne (tgt := 13) C.hx C.hb dJ13_copyOf_2_3 (by decide) (fun c3 => ?_) (fun c3 => ?_)
  · replace hw := hw.2 c3
    exact hw.elim
  · replace hw := hw.1 c3
    refine tk_iload_n C hl 1 dJ13_copyOf_2_6 rfl ?_
    refine tk_nr (t := 5) C hR hS hw q558 (by decide) rfl dJ13_copyOf_2_7 (fun q2 σ H hw hR hS => ?_)
    refine lv_goto (tgt := 24) C.hx C.hb dJ13_copyOf_2_10 (by decide) ?_
    refine tk_astore_n (L' := [(3, .inr q2), (0, .inr l0), (1, .inl l1), (2, .inr l2)]) C hl dJ13_copyOf_2_24 (by decide) rfl (fun ls hl => ?_)
    refine tk_aload_n C hl 1 dJ13_copyOf_2_25 rfl ?_
    refine lv_iconst (v := 0) C.hx C.hb dJ13_copyOf_2_26 (by decide) ?_
    refine tk_aload_n C hl 0 dJ13_copyOf_2_27 rfl ?_
    refine lv_iconst (v := 0) C.hx C.hb dJ13_copyOf_2_28 (by decide) ?_
    refine tk_aload_n C hl 1 dJ13_copyOf_2_29 rfl ?_
    refine tk_al C hR hw dJ13_copyOf_2_30 (fun x3 hw => ?_)
    refine tk_iload_n C hl 2 dJ13_copyOf_2_31 rfl ?_
    refine tk_min C q559 hl.1 (by omega) hRl (tw_r8 [.inl 0, .inr q2, .inl 0, .inr l0] (Nat.le_of_ble_eq_true rfl)) dJ13_copyOf_2_32 ?_
    refine tk_cpr C hR hS hw q562 q564 q563 q83 hl.1 (by omega) hRl (tw_r8 [] (Nat.le_of_ble_eq_true rfl)) dJ13_copyOf_2_35 (fun σ H locs hw hR hS => ?_)
    refine tk_aload_n C hl 0 dJ13_copyOf_2_38 rfl ?_
    exact tw_aret C hR hS hr (Or.inr ⟨_, rfl⟩) dJ13_copyOf_2_39 hw
-- java/util/Arrays.copyOf([Ljava/lang/Object;I)[Ljava/lang/Object;
def w_J13_copyOf (l0 : Option Nat) (l1 : Int32) (Q : Option Nat → Tst → Prop) (X : String → Nat → Tst → Prop) (σ : Tst) : Prop := w_gc σ l0 fun x1 => w_J13_copyOf_2 l0 l1 x1 (fun x2 σ => Q x2 σ) X σ
set_option maxHeartbeats 4000000 in
theorem wk_J13_copyOf (l : Launch) (hl0 : l.stackTraces = false) (G : Tgl) (fr : Nat)  (hfr : 2 ≤ fr) (l0 : Option Nat) (l1 : Int32) (Q : Option Nat → Tst → Prop) (X : String → Nat → Tst → Prop) (σ : Tst) (hw : w_J13_copyOf l0 l1 Q X σ) : tw_M l yJ13_copyOf (ws_ yJ13_copyOf cJ13_copyOf 2 (some (.array (.object "java/lang/Object")))) fr (40 * fr) G σ [.inr l0, .inl l1] (tw_Qq G Q) X := by
  unfold w_J13_copyOf at hw
  refine tw_of (ret := (some (.array (.object "java/lang/Object")))) hl0 (by decide) (Nat.le_of_ble_eq_true rfl) (fun p e R s m args below meth c hRf hRl C hr hmn hnx hR hS ls hl => ?_)
  have hfr : 2 ≤ R.frames := by rw [hRf]; exact hfr
  have hRl : R.locals = 40 * R.frames := by rw [hRl, hRf]
  have hl : tw_l ls 2 [(0, .inr l0), (1, .inl l1)] := hl
  refine tk_aload_n C hl 0 dJ13_copyOf_0 rfl ?_
  refine tk_iload_n C hl 1 dJ13_copyOf_1 rfl ?_
  refine tk_aload_n C hl 0 dJ13_copyOf_2 rfl ?_
  refine tk_gc C hR hw q516 q2590 q2589 q517 q552 hl.1 (by omega) hRl (tw_r8 [.inl l1, .inr l0] (Nat.le_of_ble_eq_true rfl)) dJ13_copyOf_3 (fun x1 hw => ?_)
  refine tw_cbq C hS (tw_runS (As := [.inr l0, .inl l1, .inr x1]) C hR hS (wk_J13_copyOf_2 l C.hst G (R.frames - 1) (by omega) _ _ _ _ _ σ hw) q553 q554 q82 q555 pd_J13_copyOf_2 ⟨by omega, by omega⟩ hl.1 rfl (tw_r8 [] (Nat.le_of_ble_eq_true rfl)) dJ13_copyOf_6) (fun E q σ H locs hX hR hS hi => tw_out C hR hS (fun x hx => (hnx x hx).elim) hi hX) (fun x2 σ H locs hw hR hS => ?_)
  exact tw_aret C hR hS hr (Or.inr ⟨_, rfl⟩) dJ13_copyOf_9 hw
-- java/util/ArrayList.grow(I)[Ljava/lang/Object;
def w_J6_grow_2_b20 (Q : Option Nat → Tst → Prop) (X : String → Nat → Tst → Prop) (l0 : Option Nat) (l1 : Int32) (l2 : Int32) (σ : Tst) : Prop := w_J11_newLength l2 (l1 - l2) (l2 >>> (1 &&& 31)) (fun x1 σ => w_gr σ l0 cJ6 1 fun x2 => w_J13_copyOf x2 x1 (fun x3 σ => w_p σ l0 cJ6 1 (.inr x3) fun σ => Q x3 σ) X σ) X σ
def w_J6_grow_2 (l0 : Option Nat) (l1 : Int32) (Q : Option Nat → Tst → Prop) (X : String → Nat → Tst → Prop) (σ : Tst) : Prop := w_gr σ l0 cJ6 1 fun x1 => w_al σ x1 fun x2 => w_if (0 < x2) (w_J6_grow_2_b20 Q X l0 l1 x2 σ) (w_gr σ l0 cJ6 1 fun x3 => w_k σ 0 fun x4 => w_if (x3 = x4) (w_na σ 5 (if 10 < l1 then l1 else 10) (.inr (.inr (.inr (.inr fun _ => none)))) fun q5 σ => w_p σ l0 cJ6 1 (.inr q5) fun σ => Q q5 σ) (w_J6_grow_2_b20 Q X l0 l1 x2 σ))
set_option maxHeartbeats 4000000 in
theorem wk_J6_grow_2_b20  (C : tw_C p l R s m args meth c G cJ6_grow_2 4 yJ6_grow_2.cls) (hr : meth.sig.returnType = (some (.array (.object "java/lang/Object")))) (hmn : meth.name = yJ6_grow_2.name) (hnx : (∀ x ∈ c.exceptionTable.toList, False)) (hfr : 3 ≤ R.frames) (hRl : R.locals = 40 * R.frames) {Q : Option Nat → Tst → Prop} {X : String → Nat → Tst → Prop}  (l0 : Option Nat) (l1 : Int32) (l2 : Int32) (σ : Tst) (H : Heap) (locs : List Loc) (ls : Array Slot) (hw : w_J6_grow_2_b20 Q X l0 l1 l2 σ) (hR : tw_R G σ H) (hS : va_S (tw_A G) s.heap H locs) (hl : tw_l ls 4 [(0, .inr l0), (1, .inl l1), (2, .inl l2)]) : tw_W p l e R s m args below meth c σ H locs (tw_E below G (tw_Qq G Q) X args s R) (F0 m 20 ls []) := by
  unfold w_J6_grow_2_b20 at hw
  refine tk_iload_n C hl 2 dJ6_grow_2_20 rfl ?_
  refine tk_iload_n C hl 1 dJ6_grow_2_21 rfl ?_
  refine tk_iload_n C hl 2 dJ6_grow_2_22 rfl ?_
  refine lv_isub C.hx C.hb dJ6_grow_2_23 ?_
  refine tk_iload_n C hl 2 dJ6_grow_2_24 rfl ?_
  refine lv_iconst (v := 1) C.hx C.hb dJ6_grow_2_25 (by decide) ?_
  refine lv_ishr C.hx C.hb dJ6_grow_2_26 ?_
  refine tw_cbi C hS (tw_runS (As := [.inl l2, .inl (l1 - l2), .inl (l2 >>> (1 &&& 31))]) C hR hS (wk_J11_newLength l C.hst G (R.frames - 1) (by omega) _ _ _ _ _ σ hw) q938 q721 q80 q722 pd_J11_newLength ⟨by omega, by omega⟩ hl.1 rfl (tw_r8 [] (Nat.le_of_ble_eq_true rfl)) dJ6_grow_2_27) (fun E q σ H locs hX hR hS hi => tw_out C hR hS (fun x hx => (hnx x hx).elim) hi hX) (fun x1 σ H locs hw hR hS => ?_)
  refine tk_istore_n (L' := [(3, .inl x1), (0, .inr l0), (1, .inl l1), (2, .inl l2)]) C hl dJ6_grow_2_30 (by decide) rfl (fun ls hl => ?_)
  refine tk_aload_n C hl 1 dJ6_grow_2_31 rfl ?_
  refine tk_aload_n C hl 1 dJ6_grow_2_32 rfl ?_
  refine tk_gr C hR hw rfl in_J6 (by decide) q177 (fun _ h => h) dJ6_grow_2_33 (fun x2 hw => ?_)
  refine tk_iload_n C hl 0 dJ6_grow_2_36 rfl ?_
  refine tw_cbq C hS (tw_runS (As := [.inr x2, .inl x1]) C hR hS (wk_J13_copyOf l C.hst G (R.frames - 1) (by omega) _ _ _ _ σ hw) q939 q514 q82 q515 pd_J13_copyOf ⟨by omega, by omega⟩ hl.1 rfl (tw_r8 [.inr l0] (Nat.le_of_ble_eq_true rfl)) dJ6_grow_2_37) (fun E q σ H locs hX hR hS hi => tw_out C hR hS (fun x hx => (hnx x hx).elim) hi hX) (fun x3 σ H locs hw hR hS => ?_)
  refine tw_dup_x1 (x := .inr x3) (y := .inr l0) C.hx C.hb dJ6_grow_2_40 ?_
  refine tk_p (x := .inr x3) C hR hS hw (by decide) rfl in_J6 tyJ6 tyJ6_ok nmJ6 (by decide) q177 (fun _ h => h) rfl (tw_nrA _ _) dJ6_grow_2_41 (fun σ H locs hw hR hS => ?_)
  exact tw_aret C hR hS hr (Or.inr ⟨_, rfl⟩) dJ6_grow_2_44 hw
set_option maxHeartbeats 4000000 in
theorem wk_J6_grow_2 (l : Launch) (hl0 : l.stackTraces = false) (G : Tgl) (fr : Nat)  (hfr : 3 ≤ fr) (l0 : Option Nat) (l1 : Int32) (Q : Option Nat → Tst → Prop) (X : String → Nat → Tst → Prop) (σ : Tst) (hw : w_J6_grow_2 l0 l1 Q X σ) : tw_M l yJ6_grow_2 (ws_ yJ6_grow_2 cJ6_grow_2 4 (some (.array (.object "java/lang/Object")))) fr (40 * fr) G σ [.inr l0, .inl l1] (tw_Qq G Q) X := by
  unfold w_J6_grow_2 at hw
  refine tw_of (ret := (some (.array (.object "java/lang/Object")))) hl0 (by decide) (Nat.le_of_ble_eq_true rfl) (fun p e R s m args below meth c hRf hRl C hr hmn hnx hR hS ls hl => ?_)
  have hfr : 3 ≤ R.frames := by rw [hRf]; exact hfr
  have hRl : R.locals = 40 * R.frames := by rw [hRl, hRf]
  have hl : tw_l ls 4 [(0, .inr l0), (1, .inl l1)] := hl
  refine tk_aload_n C hl 0 dJ6_grow_2_0 rfl ?_
  refine tk_gr C hR hw rfl in_J6 (by decide) q177 (fun _ h => h) dJ6_grow_2_1 (fun x1 hw => ?_)
  refine tk_al C hR hw dJ6_grow_2_4 (fun x2 hw => ?_)
  refine tk_istore_n (L' := [(2, .inl x2), (0, .inr l0), (1, .inl l1)]) C hl dJ6_grow_2_5 (by decide) rfl (fun ls hl => ?_)
  refine tk_iload_n C hl 0 dJ6_grow_2_6 rfl ?_
  refine lv_if_gt (tgt := 20) C.hx C.hb dJ6_grow_2_7 (by decide) (fun c7 => ?_) (fun c7 => ?_)
  · replace hw := hw.1 c7
    exact wk_J6_grow_2_b20 C hr hmn hnx hfr hRl _ _ _ σ _ _ _ hw hR hS (tk_sub hl [1, 2, 0] rfl)
  · replace hw := hw.2 c7
    refine tk_aload_n C hl 1 dJ6_grow_2_10 rfl ?_
    refine tk_gr C hR hw rfl in_J6 (by decide) q177 (fun _ h => h) dJ6_grow_2_11 (fun x3 hw => ?_)
    refine tk_gk (n := 0) C hR hS hw 0 rfl q175 (fun _ h => h) dJ6_grow_2_14 (fun x4 hw => ?_)
    refine lv_acmp_eq (tgt := 45) C.hx C.hb dJ6_grow_2_17 (by decide) (fun c17 => ?_) (fun c17 => ?_)
    · replace hw := hw.1 c17
      refine tk_aload_n C hl 1 dJ6_grow_2_45 rfl ?_
      refine lv_bipush (v := 10) C.hx C.hb dJ6_grow_2_46 (by decide) ?_
      refine tk_iload_n C hl 2 dJ6_grow_2_48 rfl ?_
      refine tk_max C q940 hl.1 (by omega) hRl (tw_r8 [.inr l0] (Nat.le_of_ble_eq_true rfl)) dJ6_grow_2_49 ?_
      refine tk_nr (t := 5) C hR hS hw q941 (by decide) rfl dJ6_grow_2_52 (fun q5 σ H hw hR hS => ?_)
      refine tw_dup_x1 (x := .inr q5) (y := .inr l0) C.hx C.hb dJ6_grow_2_55 ?_
      refine tk_p (x := .inr q5) C hR hS hw (by decide) rfl in_J6 tyJ6 tyJ6_ok nmJ6 (by decide) q177 (fun _ h => h) rfl (tw_nrA _ _) dJ6_grow_2_56 (fun σ H locs hw hR hS => ?_)
      exact tw_aret C hR hS hr (Or.inr ⟨_, rfl⟩) dJ6_grow_2_59 hw
    · replace hw := hw.2 c17
      exact wk_J6_grow_2_b20 C hr hmn hnx hfr hRl _ _ _ σ _ _ _ hw hR hS (tk_sub hl [1, 2, 0] rfl)
-- java/util/ArrayList.grow()[Ljava/lang/Object;
def w_J6_grow (l0 : Option Nat) (Q : Option Nat → Tst → Prop) (X : String → Nat → Tst → Prop) (σ : Tst) : Prop := w_gi σ l0 cJ6 2 fun x1 => w_rc σ l0 cJ6 <| w_J6_grow_2 l0 (x1 + 1) (fun x2 σ => Q x2 σ) X σ
set_option maxHeartbeats 4000000 in
theorem wk_J6_grow (l : Launch) (hl0 : l.stackTraces = false) (G : Tgl) (fr : Nat)  (hfr : 4 ≤ fr) (l0 : Option Nat) (Q : Option Nat → Tst → Prop) (X : String → Nat → Tst → Prop) (σ : Tst) (hw : w_J6_grow l0 Q X σ) : tw_M l yJ6_grow (ws_ yJ6_grow cJ6_grow 1 (some (.array (.object "java/lang/Object")))) fr (40 * fr) G σ [.inr l0] (tw_Qq G Q) X := by
  unfold w_J6_grow at hw
  refine tw_of (ret := (some (.array (.object "java/lang/Object")))) hl0 (by decide) (Nat.le_of_ble_eq_true rfl) (fun p e R s m args below meth c hRf hRl C hr hmn hnx hR hS ls hl => ?_)
  have hfr : 4 ≤ R.frames := by rw [hRf]; exact hfr
  have hRl : R.locals = 40 * R.frames := by rw [hRl, hRf]
  have hl : tw_l ls 1 [(0, .inr l0)] := hl
  refine tk_aload_n C hl 0 dJ6_grow_0 rfl ?_
  refine tk_aload_n C hl 0 dJ6_grow_1 rfl ?_
  refine tk_gi C hR hw rfl in_J6 (by decide) q180 (fun _ h => h) dJ6_grow_2 (fun x1 hw => ?_)
  refine lv_iconst (v := 1) C.hx C.hb dJ6_grow_5 (by decide) ?_
  refine lv_iadd C.hx C.hb dJ6_grow_6 ?_
  obtain ⟨hv, hw⟩ := hw
  refine tw_cbq C hS (tk_runV (As := [.inl (x1 + 1)]) C hR hS (wk_J6_grow_2 l C.hst G (R.frames - 1) (by omega) _ _ _ _ σ hw) hv rfl q934 q936 qs7 q73 q937 pd_J6_grow_2 ⟨by omega, by omega⟩ hl.1 rfl (tw_r8 [] (Nat.le_of_ble_eq_true rfl)) dJ6_grow_7) (fun E q σ H locs hX hR hS hi => tw_out C hR hS (fun x hx => (hnx x hx).elim) hi hX) (fun x2 σ H locs hw hR hS => ?_)
  exact tw_aret C hR hS hr (Or.inr ⟨_, rfl⟩) dJ6_grow_10 hw
-- java/util/ArrayList.add(ILjava/lang/Object;)V
def w_J6_add_b38 (Q : Tst → Prop) (X : String → Nat → Tst → Prop) (l0 : Option Nat) (l1 : Int32) (l2 : Option Nat) (l3 : Int32) (l4 : Option Nat) (σ : Tst) : Prop := w_cpr σ l4 l1 l4 (l1 + 1) (l3 - l1) fun σ => w_sr σ l4 l1 l2 fun σ => w_p σ l0 cJ6 2 (.inl (l3 + 1)) fun σ => Q σ
def w_J6_add (l0 : Option Nat) (l1 : Int32) (l2 : Option Nat) (Q : Tst → Prop) (X : String → Nat → Tst → Prop) (σ : Tst) : Prop := w_rc σ l0 cJ6 <| w_J6_rangeCheckForAdd l0 l1 (fun σ => w_gi σ l0 cJ6 0 fun x2 => w_p σ l0 cJ6 0 (.inl (x2 + 1)) fun σ => w_gi σ l0 cJ6 2 fun x3 => w_gr σ l0 cJ6 1 fun x4 => w_al σ x4 fun x5 => w_if (x3 = x5) (w_rc σ l0 cJ6 <| w_J6_grow l0 (fun x6 σ => w_J6_add_b38 Q X l0 l1 l2 x3 x6 σ) X σ) (w_J6_add_b38 Q X l0 l1 l2 x3 x4 σ)) X σ
set_option maxHeartbeats 4000000 in
theorem wk_J6_add_b38  (C : tw_C p l R s m args meth c G cJ6_add 5 yJ6_add.cls) (hr : meth.sig.returnType = none) (hmn : meth.name = yJ6_add.name) (hnx : (∀ x ∈ c.exceptionTable.toList, False)) (hfr : 5 ≤ R.frames) (hRl : R.locals = 40 * R.frames) {Q : Tst → Prop} {X : String → Nat → Tst → Prop}  (l0 : Option Nat) (l1 : Int32) (l2 : Option Nat) (l3 : Int32) (l4 : Option Nat) (σ : Tst) (H : Heap) (locs : List Loc) (ls : Array Slot) (hw : w_J6_add_b38 Q X l0 l1 l2 l3 l4 σ) (hR : tw_R G σ H) (hS : va_S (tw_A G) s.heap H locs) (hl : tw_l ls 5 [(0, .inr l0), (1, .inl l1), (2, .inr l2), (3, .inl l3), (4, .inr l4)]) : tw_W p l e R s m args below meth c σ H locs (tw_E below G (tw_Qv G Q) X args s R) (F0 m 38 ls []) := by
  unfold w_J6_add_b38 at hw
  refine tk_aload C hl 4 dJ6_add_38 rfl ?_
  refine tk_iload_n C hl 1 dJ6_add_40 rfl ?_
  refine tk_aload C hl 4 dJ6_add_41 rfl ?_
  refine tk_iload_n C hl 1 dJ6_add_43 rfl ?_
  refine lv_iconst (v := 1) C.hx C.hb dJ6_add_44 (by decide) ?_
  refine lv_iadd C.hx C.hb dJ6_add_45 ?_
  refine tk_iload_n C hl 3 dJ6_add_46 rfl ?_
  refine tk_iload_n C hl 1 dJ6_add_47 rfl ?_
  refine lv_isub C.hx C.hb dJ6_add_48 ?_
  refine tk_cpr C hR hS hw q942 q564 q563 q83 hl.1 (by omega) hRl (tw_r8 [] (Nat.le_of_ble_eq_true rfl)) dJ6_add_49 (fun σ H locs hw hR hS => ?_)
  refine tk_aload C hl 4 dJ6_add_52 rfl ?_
  refine tk_iload_n C hl 1 dJ6_add_54 rfl ?_
  refine tk_aload_n C hl 2 dJ6_add_55 rfl ?_
  refine tk_sr C hR hS hw dJ6_add_56 (fun σ H locs hw hR hS => ?_)
  refine tk_aload_n C hl 0 dJ6_add_57 rfl ?_
  refine tk_iload_n C hl 3 dJ6_add_58 rfl ?_
  refine lv_iconst (v := 1) C.hx C.hb dJ6_add_59 (by decide) ?_
  refine lv_iadd C.hx C.hb dJ6_add_60 ?_
  refine tk_p (x := .inl (l3 + 1)) C hR hS hw (by decide) rfl in_J6 tyJ6 tyJ6_ok nmJ6 (by decide) q180 (fun _ h => h) rfl (tw_ni _) dJ6_add_61 (fun σ H locs hw hR hS => ?_)
  exact tw_vret C hR hS hr dJ6_add_64 hw
set_option maxHeartbeats 4000000 in
theorem wk_J6_add (l : Launch) (hl0 : l.stackTraces = false) (G : Tgl) (fr : Nat)  (hfr : 5 ≤ fr) (l0 : Option Nat) (l1 : Int32) (l2 : Option Nat) (Q : Tst → Prop) (X : String → Nat → Tst → Prop) (σ : Tst) (hw : w_J6_add l0 l1 l2 Q X σ) : tw_M l yJ6_add (ws_ yJ6_add cJ6_add 5 none) fr (40 * fr) G σ [.inr l0, .inl l1, .inr l2] (tw_Qv G Q) X := by
  unfold w_J6_add at hw
  refine tw_of (ret := none) hl0 (by decide) (Nat.le_of_ble_eq_true rfl) (fun p e R s m args below meth c hRf hRl C hr hmn hnx hR hS ls hl => ?_)
  have hfr : 5 ≤ R.frames := by rw [hRf]; exact hfr
  have hRl : R.locals = 40 * R.frames := by rw [hRl, hRf]
  have hl : tw_l ls 5 [(0, .inr l0), (1, .inl l1), (2, .inr l2)] := hl
  refine tk_aload_n C hl 0 dJ6_add_0 rfl ?_
  refine tk_iload_n C hl 1 dJ6_add_1 rfl ?_
  obtain ⟨hv, hw⟩ := hw
  refine tw_cbv C hS (tk_runV (As := [.inl l1]) C hR hS (wk_J6_rangeCheckForAdd l C.hst G (R.frames - 1) (by omega) _ _ _ _ σ hw) hv rfl q681 q683 qs4 q73 q684 pd_J6_rangeCheckForAdd ⟨by omega, by omega⟩ hl.1 rfl (tw_r8 [] (Nat.le_of_ble_eq_true rfl)) dJ6_add_2) (fun E q σ H locs hX hR hS hi => tw_out C hR hS (fun x hx => (hnx x hx).elim) hi hX) (fun σ H locs hw hR hS => ?_)
  refine tk_aload_n C hl 0 dJ6_add_5 rfl ?_
  refine tw_dup (x := .inr l0) C.hx C.hb dJ6_add_6 ?_
  refine tk_gi C hR hw rfl in_J6 (by decide) q184 (u_same (C.hts _ q183)) dJ6_add_7 (fun x2 hw => ?_)
  refine lv_iconst (v := 1) C.hx C.hb dJ6_add_10 (by decide) ?_
  refine lv_iadd C.hx C.hb dJ6_add_11 ?_
  refine tk_p (x := .inl (x2 + 1)) C hR hS hw (by decide) rfl in_J6 tyJ6 tyJ6_ok nmJ6 (by decide) q184 (u_same (C.hts _ q183)) rfl (tw_ni _) dJ6_add_12 (fun σ H locs hw hR hS => ?_)
  refine tk_aload_n C hl 0 dJ6_add_15 rfl ?_
  refine tk_gi C hR hw rfl in_J6 (by decide) q180 (fun _ h => h) dJ6_add_16 (fun x3 hw => ?_)
  refine tw_dup (x := .inl x3) C.hx C.hb dJ6_add_19 ?_
  refine tk_istore_n (L' := [(3, .inl x3), (0, .inr l0), (1, .inl l1), (2, .inr l2)]) C hl dJ6_add_20 (by decide) rfl (fun ls hl => ?_)
  refine tk_aload_n C hl 1 dJ6_add_21 rfl ?_
  refine tk_gr C hR hw rfl in_J6 (by decide) q177 (fun _ h => h) dJ6_add_22 (fun x4 hw => ?_)
  refine tw_dup (x := .inr x4) C.hx C.hb dJ6_add_25 ?_
  refine tk_astore (L' := [(4, .inr x4), (3, .inl x3), (0, .inr l0), (1, .inl l1), (2, .inr l2)]) C hl dJ6_add_26 (by decide) rfl (fun ls hl => ?_)
  refine tk_al C hR hw dJ6_add_28 (fun x5 hw => ?_)
  refine lv_icmp_ne (tgt := 38) C.hx C.hb dJ6_add_29 (by decide) (fun c29 => ?_) (fun c29 => ?_)
  · replace hw := hw.2 c29
    exact wk_J6_add_b38 C hr hmn hnx hfr hRl _ _ _ _ _ σ _ _ _ hw hR hS (tk_sub hl [2, 3, 4, 1, 0] rfl)
  · replace hw := hw.1 c29
    refine tk_aload_n C hl 2 dJ6_add_32 rfl ?_
    obtain ⟨hv, hw⟩ := hw
    refine tw_cbq C hS (tk_runV (As := []) C hR hS (wk_J6_grow l C.hst G (R.frames - 1) (by omega) _ _ _ σ hw) hv rfl q930 q932 qs6 q73 q933 pd_J6_grow ⟨by omega, by omega⟩ hl.1 rfl (tw_r8 [] (Nat.le_of_ble_eq_true rfl)) dJ6_add_33) (fun E q σ H locs hX hR hS hi => tw_out C hR hS (fun x hx => (hnx x hx).elim) hi hX) (fun x6 σ H locs hw hR hS => ?_)
    refine tk_astore (L' := [(4, .inr x6), (3, .inl x3), (0, .inr l0), (1, .inl l1), (2, .inr l2)]) C hl dJ6_add_36 (by decide) rfl (fun ls hl => ?_)
    exact wk_J6_add_b38 C hr hmn hnx hfr hRl _ _ _ _ _ σ _ _ _ hw hR hS (tk_sub hl [2, 3, 4, 1, 0] rfl)
-- TreeDiffer$Node.add(ILTreeDiffer$Node;)V
def w_X3_add (l0 : Option Nat) (l1 : Int32) (l2 : Option Nat) (Q : Tst → Prop) (X : String → Nat → Tst → Prop) (σ : Tst) : Prop := w_gr σ l0 cX3 4 fun x1 => w_rc σ x1 cJ6 <| w_J6_add x1 l1 l2 (fun σ => w_p σ l2 cX3 3 (.inr l0) fun σ => Q σ) X σ
set_option maxHeartbeats 4000000 in
theorem wk_X3_add (l : Launch) (hl0 : l.stackTraces = false) (G : Tgl) (fr : Nat)  (hfr : 6 ≤ fr) (l0 : Option Nat) (l1 : Int32) (l2 : Option Nat) (Q : Tst → Prop) (X : String → Nat → Tst → Prop) (σ : Tst) (hw : w_X3_add l0 l1 l2 Q X σ) : tw_M l yX3_add (ws_ yX3_add cX3_add 3 none) fr (40 * fr) G σ [.inr l0, .inl l1, .inr l2] (tw_Qv G Q) X := by
  unfold w_X3_add at hw
  refine tw_of (ret := none) hl0 (by decide) (Nat.le_of_ble_eq_true rfl) (fun p e R s m args below meth c hRf hRl C hr hmn hnx hR hS ls hl => ?_)
  have hfr : 6 ≤ R.frames := by rw [hRf]; exact hfr
  have hRl : R.locals = 40 * R.frames := by rw [hRl, hRf]
  have hl : tw_l ls 3 [(0, .inr l0), (1, .inl l1), (2, .inr l2)] := hl
  refine tk_aload_n C hl 0 dX3_add_0 rfl ?_
  refine tk_gr C hR hw rfl in_X3 (by decide) q209 (fun _ h => h) dX3_add_1 (fun x1 hw => ?_)
  refine tk_iload_n C hl 1 dX3_add_4 rfl ?_
  refine tk_aload_n C hl 2 dX3_add_5 rfl ?_
  obtain ⟨hv, hw⟩ := hw
  refine tw_cbv5 C hS (tk_runF (As := [.inl l1, .inr l2]) (x := ⟨"java/util/List", "add", "(ILjava/lang/Object;)V"⟩) C hR hS (wk_J6_add l C.hst G (R.frames - 1) (by omega) _ _ _ _ _ σ hw) hv rfl q673 q676 q678 q73 q680 (by decide +kernel) (show tw_pd ⟨"java/util/List", "add", "(ILjava/lang/Object;)V"⟩ 2 by decide +kernel) ⟨by omega, by omega⟩ hl.1 rfl (tw_r8 [] (Nat.le_of_ble_eq_true rfl)) dX3_add_6) (fun E q σ H locs hX hR hS hi => tw_out C hR hS (fun x hx => (hnx x hx).elim) hi hX) (fun σ H locs hw hR hS => ?_)
  refine tk_aload_n C hl 2 dX3_add_11 rfl ?_
  refine tk_aload_n C hl 0 dX3_add_12 rfl ?_
  refine tk_p (x := .inr l0) C hR hS hw (by decide) rfl in_X3 tyX3 tyX3_ok nmX3 (by decide) q206 (fun _ h => h) rfl (tw_nr _ _) dX3_add_13 (fun σ H locs hw hR hS => ?_)
  exact tw_vret C hR hS hr dX3_add_16 hw
-- TreeDiffer$Node.copy()LTreeDiffer$Node;
def w_X3_copy_b38 (rf_X3_copy : (Option Nat) → (Option Nat → Tst → Prop) → (String → Nat → Tst → Prop) → Tst → Prop) (Q : Option Nat → Tst → Prop) (X : String → Nat → Tst → Prop) : Nat → Option Nat → Option Nat → Tst → Prop
  | 0, _, _, _ => False
  | n + 1, l1, l2, σ => w_rc σ l2 cJ18 <| w_J18_hasNext l2 (fun x1 σ => w_if (x1 = 0) (Q l1 σ) (w_rc σ l2 cJ18 <| w_J18_next l2 (fun x2 σ => w_cc σ x2 cX3 <| w_gr σ l1 cX3 4 fun x3 => w_rc σ x3 cJ6 <| w_J6_size x3 (fun x4 σ => w_rc σ x2 cX3 <| rf_X3_copy x2 (fun x5 σ => w_rc σ l1 cX3 <| w_X3_add l1 x4 x5 (fun σ => (w_X3_copy_b38 rf_X3_copy Q X n) l1 l2 σ) X σ) X σ) X σ) X σ)) X σ
def w_X3_copy : Nat → Option Nat → (Option Nat → Tst → Prop) → (String → Nat → Tst → Prop) → Tst → Prop
  | 0, _, _, _, _ => False
  | d + 1, l0, Q, X, σ => w_nw σ cX3 7 [.inl 0, .inl 0, .inl 0, .inr none, .inr none, .inr none, .inr none] fun q1 σ => w_gi σ l0 cX3 0 fun x2 => w_rf q1 <| w_X3_init q1 x2 (fun σ => w_gi σ l0 cX3 1 fun x4 => w_p σ q1 cX3 1 (.inl x4) fun σ => w_gi σ l0 cX3 2 fun x5 => w_p σ q1 cX3 2 (.inl x5) fun σ => w_gr σ l0 cX3 4 fun x6 => w_rc σ x6 cJ6 <| w_J6_iterator x6 (fun x7 σ => ∃ z, w_X3_copy_b38 (w_X3_copy d) Q X z q1 x7 σ) X σ) X σ
set_option maxHeartbeats 4000000 in
theorem wk_X3_copy_b38 {rf_X3_copy : (Option Nat) → (Option Nat → Tst → Prop) → (String → Nat → Tst → Prop) → Tst → Prop} {frf_X3_copy : Nat}  (C : tw_C p l R s m args meth c G cX3_copy 4 yX3_copy.cls) (hr : meth.sig.returnType = (some (.object "TreeDiffer$Node"))) (hmn : meth.name = yX3_copy.name) (hnx : (∀ x ∈ c.exceptionTable.toList, False)) (hfr : 7 ≤ R.frames ∧ frf_X3_copy + 1 ≤ R.frames) (hRl : R.locals = 40 * R.frames) {Q : Option Nat → Tst → Prop} {X : String → Nat → Tst → Prop} (hrf_X3_copy : ∀ fr : Nat, frf_X3_copy ≤ fr → ∀ (a0 : Option Nat) (Q : Option Nat → Tst → Prop) (X : String → Nat → Tst → Prop) (σ : Tst), rf_X3_copy a0 Q X σ → tw_M l yX3_copy (ws_ yX3_copy cX3_copy 4 (some (.object "TreeDiffer$Node"))) fr (40 * fr) G σ [.inr a0] (tw_Qq G Q) X) : ∀ (n : Nat) (l1 : Option Nat) (l2 : Option Nat) (σ : Tst) (H : Heap) (locs : List Loc) (ls : Array Slot), w_X3_copy_b38 rf_X3_copy Q X n l1 l2 σ → tw_R G σ H → va_S (tw_A G) s.heap H locs → tw_l ls 4 [(1, .inr l1), (2, .inr l2)] → tw_W p l e R s m args below meth c σ H locs (tw_E below G (tw_Qq G Q) X args s R) (F0 m 38 ls []) := by
  intro n
  induction n with
  | zero => intro l1 l2 σ H locs ls hw; exact False.elim hw
  | succ n hk38 =>
    intro l1 l2 σ H locs ls hw hR hS hl
    rw [w_X3_copy_b38] at hw
    refine tk_aload_n C hl 1 dX3_copy_38 rfl ?_
    obtain ⟨hv, hw⟩ := hw
    refine tw_cbi5 C hS (tk_runF (As := []) (x := ⟨"java/util/Iterator", "hasNext", "()Z"⟩) C hR hS (wk_J18_hasNext l C.hst G (R.frames - 1) (by omega) _ _ _ σ hw) hv rfl q319 q333 q335 q90 q337 (by decide +kernel) (show tw_pd ⟨"java/util/Iterator", "hasNext", "()Z"⟩ 0 by decide +kernel) ⟨by omega, by omega⟩ hl.1 rfl (tw_r8 [] (Nat.le_of_ble_eq_true rfl)) dX3_copy_39) (fun E q σ H locs hX hR hS hi => tw_out C hR hS (fun x hx => (hnx x hx).elim) hi hX) (fun x1 σ H locs hw hR hS => ?_)
    refine lv_if_eq (tgt := 77) C.hx C.hb dX3_copy_44 (by decide) (fun c44 => ?_) (fun c44 => ?_)
    · replace hw := hw.1 c44
      refine tk_aload_n C hl 0 dX3_copy_77 rfl ?_
      exact tw_aret C hR hS hr (Or.inl ⟨_, rfl⟩) dX3_copy_78 hw
    · replace hw := hw.2 c44
      refine tk_aload_n C hl 1 dX3_copy_47 rfl ?_
      obtain ⟨hv, hw⟩ := hw
      refine tw_cbq5 C hS (tk_runF (As := []) (x := ⟨"java/util/Iterator", "next", "()Ljava/lang/Object;"⟩) C hR hS (wk_J18_next l C.hst G (R.frames - 1) (by omega) _ _ _ σ hw) hv rfl q339 q566 q568 q90 q570 (by decide +kernel) (show tw_pd ⟨"java/util/Iterator", "next", "()Ljava/lang/Object;"⟩ 0 by decide +kernel) ⟨by omega, by omega⟩ hl.1 rfl (tw_r8 [] (Nat.le_of_ble_eq_true rfl)) dX3_copy_48) (fun E q σ H locs hX hR hS hi => tw_out C hR hS (fun x hx => (hnx x hx).elim) hi hX) (fun x2 σ H locs hw hR hS => ?_)
      refine tk_cc C hR hw rfl q577 (Or.inl rfl) dX3_copy_53 (fun hw => ?_)
      refine tk_astore_n (L' := [(3, .inr x2), (1, .inr l1), (2, .inr l2)]) C hl dX3_copy_56 (by decide) rfl (fun ls hl => ?_)
      refine tk_aload_n C hl 1 dX3_copy_57 rfl ?_
      refine tk_aload_n C hl 1 dX3_copy_58 rfl ?_
      refine tk_gr C hR hw rfl in_X3 (by decide) q209 (fun _ h => h) dX3_copy_59 (fun x3 hw => ?_)
      obtain ⟨hv, hw⟩ := hw
      refine tw_cbi5 C hS (tk_runF (As := []) (x := ⟨"java/util/List", "size", "()I"⟩) C hR hS (wk_J6_size l C.hst G (R.frames - 1) (by omega) _ _ _ σ hw) hv rfl q637 q447 q449 q73 q451 (by decide +kernel) (show tw_pd ⟨"java/util/List", "size", "()I"⟩ 0 by decide +kernel) ⟨by omega, by omega⟩ hl.1 rfl (tw_r8 [.inr l1] (Nat.le_of_ble_eq_true rfl)) dX3_copy_62) (fun E q σ H locs hX hR hS hi => tw_out C hR hS (fun x hx => (hnx x hx).elim) hi hX) (fun x4 σ H locs hw hR hS => ?_)
      refine tk_aload_n C hl 0 dX3_copy_67 rfl ?_
      obtain ⟨hv, hw⟩ := hw
      refine tw_cbq C hS (tk_runV (As := []) C hR hS (hrf_X3_copy (R.frames - 1) (by omega) _ _ _ σ hw) hv rfl q667 q663 q664 q70 q665 pd_X3_copy ⟨by omega, by omega⟩ hl.1 rfl (tw_r8 [.inl x4, .inr l1] (Nat.le_of_ble_eq_true rfl)) dX3_copy_68) (fun E q σ H locs hX hR hS hi => tw_out C hR hS (fun x hx => (hnx x hx).elim) hi hX) (fun x5 σ H locs hw hR hS => ?_)
      obtain ⟨hv, hw⟩ := hw
      refine tw_cbv C hS (tk_runV (As := [.inl x4, .inr x5]) C hR hS (wk_X3_add l C.hst G (R.frames - 1) (by omega) _ _ _ _ _ σ hw) hv rfl q668 q669 q670 q70 q671 pd_X3_add ⟨by omega, by omega⟩ hl.1 rfl (tw_r8 [] (Nat.le_of_ble_eq_true rfl)) dX3_copy_71) (fun E q σ H locs hX hR hS hi => tw_out C hR hS (fun x hx => (hnx x hx).elim) hi hX) (fun σ H locs hw hR hS => ?_)
      refine lv_goto (tgt := 38) C.hx C.hb dX3_copy_74 (by decide) ?_
      exact hk38 _ _ σ _ _ _ hw hR hS (tk_sub hl [1, 2] rfl)
set_option maxHeartbeats 4000000 in
theorem wk_X3_copy (l : Launch) (hl0 : l.stackTraces = false) (G : Tgl)  : ∀ (d fr : Nat), 7 + 1 * d ≤ fr → ∀ (l0 : Option Nat) (Q : Option Nat → Tst → Prop) (X : String → Nat → Tst → Prop) (σ : Tst), w_X3_copy d l0 Q X σ → tw_M l yX3_copy (ws_ yX3_copy cX3_copy 4 (some (.object "TreeDiffer$Node"))) fr (40 * fr) G σ [.inr l0] (tw_Qq G Q) X := by
  intro d
  induction d with
  | zero => intro fr hfr l0 Q X σ hw; exact False.elim hw
  | succ d ih =>
    intro fr hfr l0 Q X σ hw
    have hrf_X3_copy := fun (fr : Nat) (h : 7 + 1 * d ≤ fr) => ih fr (by omega)
    rw [w_X3_copy] at hw
    generalize hg : w_X3_copy d = rf_X3_copy at hw hrf_X3_copy
    clear hg ih
    obtain ⟨frf_X3_copy, hfrf_X3_copy⟩ : ∃ f, f = 7 + 1 * d := ⟨_, rfl⟩
    rw [← hfrf_X3_copy] at hrf_X3_copy
    have hfr : 7 ≤ fr ∧ frf_X3_copy + 1 ≤ fr := by refine ⟨?_, ?_⟩ <;> omega
    refine tw_of (ret := (some (.object "TreeDiffer$Node"))) hl0 (by decide) (Nat.le_of_ble_eq_true rfl) (fun p e R s m args below meth c hRf hRl C hr hmn hnx hR hS ls hl => ?_)
    have hfr : 7 ≤ R.frames ∧ frf_X3_copy + 1 ≤ R.frames := by rw [hRf]; exact hfr
    have hRl : R.locals = 40 * R.frames := by rw [hRl, hRf]
    have hl : tw_l ls 4 [(0, .inr l0)] := hl
    refine tk_nw C hR hS hw rfl in_X3 tyX3 tyX3_ok q577 q158 q70 (fun j hj => by rcases (show j = 0 ∨ j = 1 ∨ j = 2 ∨ j = 3 ∨ j = 4 ∨ j = 5 ∨ j = 6 by omega) with rfl | rfl | rfl | rfl | rfl | rfl | rfl <;> rfl) dX3_copy_0 (fun q1 σ H hw hR hS => ?_)
    refine tw_dup (x := .inr q1) C.hx C.hb dX3_copy_3 ?_
    refine tk_aload_n C hl 0 dX3_copy_4 rfl ?_
    refine tk_gi C hR hw rfl in_X3 (by decide) q192 (fun _ h => h) dX3_copy_5 (fun x2 hw => ?_)
    obtain ⟨hv, hw⟩ := hw
    refine tw_cbv C hS (tk_runI (As := [.inl x2]) hv C hR hS (wk_X3_init l C.hst G (R.frames - 1) (by omega) _ _ _ _ σ hw) q666 q160 q70 q161 rfl pd_X3_init ⟨by omega, by omega⟩ hl.1 rfl (tw_r8 [.inr q1] (Nat.le_of_ble_eq_true rfl)) dX3_copy_8) (fun E q σ H locs hX hR hS hi => tw_out C hR hS (fun x hx => (hnx x hx).elim) hi hX) (fun σ H locs hw hR hS => ?_)
    refine tk_astore_n (L' := [(1, .inr q1), (0, .inr l0)]) C hl dX3_copy_11 (by decide) rfl (fun ls hl => ?_)
    refine tk_aload_n C hl 0 dX3_copy_12 rfl ?_
    refine tk_aload_n C hl 1 dX3_copy_13 rfl ?_
    refine tk_gi C hR hw rfl in_X3 (by decide) q196 (fun _ h => h) dX3_copy_14 (fun x4 hw => ?_)
    refine tk_p (x := .inl x4) C hR hS hw (by decide) rfl in_X3 tyX3 tyX3_ok nmX3 (by decide) q196 (fun _ h => h) rfl (tw_ni _) dX3_copy_17 (fun σ H locs hw hR hS => ?_)
    refine tk_aload_n C hl 0 dX3_copy_20 rfl ?_
    refine tk_aload_n C hl 1 dX3_copy_21 rfl ?_
    refine tk_gi C hR hw rfl in_X3 (by decide) q201 (fun _ h => h) dX3_copy_22 (fun x5 hw => ?_)
    refine tk_p (x := .inl x5) C hR hS hw (by decide) rfl in_X3 tyX3 tyX3_ok nmX3 (by decide) q201 (fun _ h => h) rfl (tw_ni _) dX3_copy_25 (fun σ H locs hw hR hS => ?_)
    refine tk_aload_n C hl 1 dX3_copy_28 rfl ?_
    refine tk_gr C hR hw rfl in_X3 (by decide) q209 (fun _ h => h) dX3_copy_29 (fun x6 hw => ?_)
    obtain ⟨hv, hw⟩ := hw
    refine tw_cbq5 C hS (tk_runF (As := []) (x := ⟨"java/util/List", "iterator", "()Ljava/util/Iterator;"⟩) C hR hS (wk_J6_iterator l C.hst G (R.frames - 1) (by omega) _ _ _ σ hw) hv rfl q291 q294 q296 q73 q298 (by decide +kernel) (show tw_pd ⟨"java/util/List", "iterator", "()Ljava/util/Iterator;"⟩ 0 by decide +kernel) ⟨by omega, by omega⟩ hl.1 rfl (tw_r8 [] (Nat.le_of_ble_eq_true rfl)) dX3_copy_32) (fun E q σ H locs hX hR hS hi => tw_out C hR hS (fun x hx => (hnx x hx).elim) hi hX) (fun x7 σ H locs hw hR hS => ?_)
    refine tk_astore_n (L' := [(2, .inr x7), (1, .inr q1), (0, .inr l0)]) C hl dX3_copy_37 (by decide) rfl (fun ls hl => ?_)
    obtain ⟨z, hw⟩ := hw
    exact wk_X3_copy_b38 C hr hmn hnx hfr hRl hrf_X3_copy z _ _ σ _ _ _ hw hR hS (tk_sub hl [1, 0] rfl)
-- TreeDiffer$Node.place(LTreeDiffer$Node;)I
def w_X3_place_b2 (Q : Int32 → Tst → Prop) (X : String → Nat → Tst → Prop) : Nat → Option Nat → Option Nat → Int32 → Tst → Prop
  | 0, _, _, _, _ => False
  | n + 1, l0, l1, l2, σ => w_gr σ l0 cX3 4 fun x1 => w_rc σ x1 cJ6 <| w_J6_size x1 (fun x2 σ => w_if (x2 ≤ l2) (Q (-1) σ) (w_gr σ l0 cX3 4 fun x3 => w_rc σ x3 cJ6 <| w_J6_get x3 l2 (fun x4 σ => w_if (x4 = l1) (Q l2 σ) ((w_X3_place_b2 Q X n) l0 l1 (l2 + 1) σ)) X σ)) X σ
def w_X3_place (l0 : Option Nat) (l1 : Option Nat) (Q : Int32 → Tst → Prop) (X : String → Nat → Tst → Prop) (σ : Tst) : Prop := ∃ z, w_X3_place_b2 Q X z l0 l1 0 σ
set_option maxHeartbeats 4000000 in
theorem wk_X3_place_b2  (C : tw_C p l R s m args meth c G cX3_place 3 yX3_place.cls) (hr : meth.sig.returnType = (some .int)) (hmn : meth.name = yX3_place.name) (hnx : (∀ x ∈ c.exceptionTable.toList, False)) (hfr : 4 ≤ R.frames) (hRl : R.locals = 40 * R.frames) {Q : Int32 → Tst → Prop} {X : String → Nat → Tst → Prop}  : ∀ (n : Nat) (l0 : Option Nat) (l1 : Option Nat) (l2 : Int32) (σ : Tst) (H : Heap) (locs : List Loc) (ls : Array Slot), w_X3_place_b2 Q X n l0 l1 l2 σ → tw_R G σ H → va_S (tw_A G) s.heap H locs → tw_l ls 3 [(0, .inr l0), (1, .inr l1), (2, .inl l2)] → tw_W p l e R s m args below meth c σ H locs (tw_E below G (tw_Qi G Q) X args s R) (F0 m 2 ls []) := by
  intro n
  induction n with
  | zero => intro l0 l1 l2 σ H locs ls hw; exact False.elim hw
  | succ n hk2 =>
    intro l0 l1 l2 σ H locs ls hw hR hS hl
    rw [w_X3_place_b2] at hw
    refine tk_iload_n C hl 2 dX3_place_2 rfl ?_
    refine tk_aload_n C hl 0 dX3_place_3 rfl ?_
    refine tk_gr C hR hw rfl in_X3 (by decide) q209 (fun _ h => h) dX3_place_4 (fun x1 hw => ?_)
    obtain ⟨hv, hw⟩ := hw
    refine tw_cbi5 C hS (tk_runF (As := []) (x := ⟨"java/util/List", "size", "()I"⟩) C hR hS (wk_J6_size l C.hst G (R.frames - 1) (by omega) _ _ _ σ hw) hv rfl q637 q447 q449 q73 q451 (by decide +kernel) (show tw_pd ⟨"java/util/List", "size", "()I"⟩ 0 by decide +kernel) ⟨by omega, by omega⟩ hl.1 rfl (tw_r8 [.inl l2] (Nat.le_of_ble_eq_true rfl)) dX3_place_7) (fun E q σ H locs hX hR hS hi => tw_out C hR hS (fun x hx => (hnx x hx).elim) hi hX) (fun x2 σ H locs hw hR hS => ?_)
    refine lv_icmp_ge (tgt := 37) C.hx C.hb dX3_place_12 (by decide) (fun c12 => ?_) (fun c12 => ?_)
    · replace hw := hw.1 c12
      refine lv_iconst (v := (-1)) C.hx C.hb dX3_place_37 (by decide) ?_
      exact tw_iret C hR hS hr rfl dX3_place_38 hw
    · replace hw := hw.2 c12
      refine tk_aload_n C hl 0 dX3_place_15 rfl ?_
      refine tk_gr C hR hw rfl in_X3 (by decide) q209 (fun _ h => h) dX3_place_16 (fun x3 hw => ?_)
      refine tk_iload_n C hl 2 dX3_place_19 rfl ?_
      obtain ⟨hv, hw⟩ := hw
      refine tw_cbq5 C hS (tk_runF (As := [.inl l2]) (x := ⟨"java/util/List", "get", "(I)Ljava/lang/Object;"⟩) C hR hS (wk_J6_get l C.hst G (R.frames - 1) (by omega) _ _ _ _ σ hw) hv rfl q639 q456 q458 q73 q460 (by decide +kernel) (show tw_pd ⟨"java/util/List", "get", "(I)Ljava/lang/Object;"⟩ 1 by decide +kernel) ⟨by omega, by omega⟩ hl.1 rfl (tw_r8 [] (Nat.le_of_ble_eq_true rfl)) dX3_place_20) (fun E q σ H locs hX hR hS hi => tw_out C hR hS (fun x hx => (hnx x hx).elim) hi hX) (fun x4 σ H locs hw hR hS => ?_)
      refine tk_aload_n C hl 1 dX3_place_25 rfl ?_
      refine lv_acmp_ne (tgt := 31) C.hx C.hb dX3_place_26 (by decide) (fun c26 => ?_) (fun c26 => ?_)
      · replace hw := hw.2 c26
        refine tk_iinc (L' := [(2, .inl (l2 + 1)), (0, .inr l0), (1, .inr l1)]) (y := (l2 + 1)) C hl 2 dX3_place_31 rfl rfl (by decide) rfl (fun ls hl => ?_)
        refine lv_goto (tgt := 2) C.hx C.hb dX3_place_34 (by decide) ?_
        exact hk2 _ _ _ σ _ _ _ hw hR hS (tk_sub hl [1, 2, 0] rfl)
      · replace hw := hw.1 c26
        refine tk_iload_n C hl 2 dX3_place_29 rfl ?_
        exact tw_iret C hR hS hr rfl dX3_place_30 hw
set_option maxHeartbeats 4000000 in
theorem wk_X3_place (l : Launch) (hl0 : l.stackTraces = false) (G : Tgl) (fr : Nat)  (hfr : 4 ≤ fr) (l0 : Option Nat) (l1 : Option Nat) (Q : Int32 → Tst → Prop) (X : String → Nat → Tst → Prop) (σ : Tst) (hw : w_X3_place l0 l1 Q X σ) : tw_M l yX3_place (ws_ yX3_place cX3_place 3 (some .int)) fr (40 * fr) G σ [.inr l0, .inr l1] (tw_Qi G Q) X := by
  unfold w_X3_place at hw
  refine tw_of (ret := (some .int)) hl0 (by decide) (Nat.le_of_ble_eq_true rfl) (fun p e R s m args below meth c hRf hRl C hr hmn hnx hR hS ls hl => ?_)
  have hfr : 4 ≤ R.frames := by rw [hRf]; exact hfr
  have hRl : R.locals = 40 * R.frames := by rw [hRl, hRf]
  have hl : tw_l ls 3 [(0, .inr l0), (1, .inr l1)] := hl
  refine lv_iconst (v := 0) C.hx C.hb dX3_place_0 (by decide) ?_
  refine tk_istore_n (L' := [(2, .inl 0), (0, .inr l0), (1, .inr l1)]) C hl dX3_place_1 (by decide) rfl (fun ls hl => ?_)
  obtain ⟨z, hw⟩ := hw
  exact wk_X3_place_b2 C hr hmn hnx hfr hRl z _ _ _ σ _ _ _ hw hR hS (tk_sub hl [1, 2, 0] rfl)
-- java/util/ArrayList.fastRemove([Ljava/lang/Object;I)V
def w_J6_fastRemove_b34 (Q : Tst → Prop) (X : String → Nat → Tst → Prop) (l0 : Option Nat) (l1 : Option Nat) (l3 : Int32) (σ : Tst) : Prop := w_p σ l0 cJ6 2 (.inl l3) fun σ => w_sr σ l1 l3 none fun σ => Q σ
def w_J6_fastRemove (l0 : Option Nat) (l1 : Option Nat) (l2 : Int32) (Q : Tst → Prop) (X : String → Nat → Tst → Prop) (σ : Tst) : Prop := w_gi σ l0 cJ6 0 fun x1 => w_p σ l0 cJ6 0 (.inl (x1 + 1)) fun σ => w_gi σ l0 cJ6 2 fun x2 => w_if ((x2 - 1) ≤ l2) (w_J6_fastRemove_b34 Q X l0 l1 (x2 - 1) σ) (w_cpr σ l1 (l2 + 1) l1 l2 ((x2 - 1) - l2) fun σ => w_J6_fastRemove_b34 Q X l0 l1 (x2 - 1) σ)
set_option maxHeartbeats 4000000 in
theorem wk_J6_fastRemove_b34  (C : tw_C p l R s m args meth c G cJ6_fastRemove 4 yJ6_fastRemove.cls) (hr : meth.sig.returnType = none) (hmn : meth.name = yJ6_fastRemove.name) (hnx : (∀ x ∈ c.exceptionTable.toList, False)) (hfr : 1 ≤ R.frames) (hRl : R.locals = 40 * R.frames) {Q : Tst → Prop} {X : String → Nat → Tst → Prop}  (l0 : Option Nat) (l1 : Option Nat) (l3 : Int32) (σ : Tst) (H : Heap) (locs : List Loc) (ls : Array Slot) (hw : w_J6_fastRemove_b34 Q X l0 l1 l3 σ) (hR : tw_R G σ H) (hS : va_S (tw_A G) s.heap H locs) (hl : tw_l ls 4 [(0, .inr l0), (1, .inr l1), (3, .inl l3)]) : tw_W p l e R s m args below meth c σ H locs (tw_E below G (tw_Qv G Q) X args s R) (F0 m 34 ls []) := by
  unfold w_J6_fastRemove_b34 at hw
  refine tk_aload_n C hl 1 dJ6_fastRemove_34 rfl ?_
  refine tk_aload_n C hl 0 dJ6_fastRemove_35 rfl ?_
  refine tk_iload_n C hl 2 dJ6_fastRemove_36 rfl ?_
  refine tw_dup_x1 (x := .inl l3) (y := .inr l0) C.hx C.hb dJ6_fastRemove_37 ?_
  refine tk_p (x := .inl l3) C hR hS hw (by decide) rfl in_J6 tyJ6 tyJ6_ok nmJ6 (by decide) q180 (fun _ h => h) rfl (tw_ni _) dJ6_fastRemove_38 (fun σ H locs hw hR hS => ?_)
  refine lv_null C.hx C.hb dJ6_fastRemove_41 ?_
  refine W.eq (g2 := F0 m 42 ls (va_rf none :: [.int l3, va_rf l1])) rfl ?_
  refine tk_sr C hR hS hw dJ6_fastRemove_42 (fun σ H locs hw hR hS => ?_)
  exact tw_vret C hR hS hr dJ6_fastRemove_43 hw
set_option maxHeartbeats 4000000 in
theorem wk_J6_fastRemove (l : Launch) (hl0 : l.stackTraces = false) (G : Tgl) (fr : Nat)  (hfr : 1 ≤ fr) (l0 : Option Nat) (l1 : Option Nat) (l2 : Int32) (Q : Tst → Prop) (X : String → Nat → Tst → Prop) (σ : Tst) (hw : w_J6_fastRemove l0 l1 l2 Q X σ) : tw_M l yJ6_fastRemove (ws_ yJ6_fastRemove cJ6_fastRemove 4 none) fr (40 * fr) G σ [.inr l0, .inr l1, .inl l2] (tw_Qv G Q) X := by
  unfold w_J6_fastRemove at hw
  refine tw_of (ret := none) hl0 (by decide) (Nat.le_of_ble_eq_true rfl) (fun p e R s m args below meth c hRf hRl C hr hmn hnx hR hS ls hl => ?_)
  have hfr : 1 ≤ R.frames := by rw [hRf]; exact hfr
  have hRl : R.locals = 40 * R.frames := by rw [hRl, hRf]
  have hl : tw_l ls 4 [(0, .inr l0), (1, .inr l1), (2, .inl l2)] := hl
  refine tk_aload_n C hl 0 dJ6_fastRemove_0 rfl ?_
  refine tw_dup (x := .inr l0) C.hx C.hb dJ6_fastRemove_1 ?_
  refine tk_gi C hR hw rfl in_J6 (by decide) q184 (u_same (C.hts _ q183)) dJ6_fastRemove_2 (fun x1 hw => ?_)
  refine lv_iconst (v := 1) C.hx C.hb dJ6_fastRemove_5 (by decide) ?_
  refine lv_iadd C.hx C.hb dJ6_fastRemove_6 ?_
  refine tk_p (x := .inl (x1 + 1)) C hR hS hw (by decide) rfl in_J6 tyJ6 tyJ6_ok nmJ6 (by decide) q184 (u_same (C.hts _ q183)) rfl (tw_ni _) dJ6_fastRemove_7 (fun σ H locs hw hR hS => ?_)
  refine tk_aload_n C hl 0 dJ6_fastRemove_10 rfl ?_
  refine tk_gi C hR hw rfl in_J6 (by decide) q180 (fun _ h => h) dJ6_fastRemove_11 (fun x2 hw => ?_)
  refine lv_iconst (v := 1) C.hx C.hb dJ6_fastRemove_14 (by decide) ?_
  refine lv_isub C.hx C.hb dJ6_fastRemove_15 ?_
  refine tw_dup (x := .inl (x2 - 1)) C.hx C.hb dJ6_fastRemove_16 ?_
  refine tk_istore_n (L' := [(3, .inl (x2 - 1)), (0, .inr l0), (1, .inr l1), (2, .inl l2)]) C hl dJ6_fastRemove_17 (by decide) rfl (fun ls hl => ?_)
  refine tk_iload_n C hl 3 dJ6_fastRemove_18 rfl ?_
  refine lv_icmp_le (tgt := 34) C.hx C.hb dJ6_fastRemove_19 (by decide) (fun c19 => ?_) (fun c19 => ?_)
  · replace hw := hw.1 c19
    exact wk_J6_fastRemove_b34 C hr hmn hnx hfr hRl _ _ _ σ _ _ _ hw hR hS (tk_sub hl [1, 2, 0] rfl)
  · replace hw := hw.2 c19
    refine tk_aload_n C hl 2 dJ6_fastRemove_22 rfl ?_
    refine tk_iload_n C hl 3 dJ6_fastRemove_23 rfl ?_
    refine lv_iconst (v := 1) C.hx C.hb dJ6_fastRemove_24 (by decide) ?_
    refine lv_iadd C.hx C.hb dJ6_fastRemove_25 ?_
    refine tk_aload_n C hl 2 dJ6_fastRemove_26 rfl ?_
    refine tk_iload_n C hl 3 dJ6_fastRemove_27 rfl ?_
    refine tk_iload_n C hl 0 dJ6_fastRemove_28 rfl ?_
    refine tk_iload_n C hl 3 dJ6_fastRemove_29 rfl ?_
    refine lv_isub C.hx C.hb dJ6_fastRemove_30 ?_
    refine tk_cpr C hR hS hw q942 q564 q563 q83 hl.1 (by omega) hRl (tw_r8 [] (Nat.le_of_ble_eq_true rfl)) dJ6_fastRemove_31 (fun σ H locs hw hR hS => ?_)
    exact wk_J6_fastRemove_b34 C hr hmn hnx hfr hRl _ _ _ σ _ _ _ hw hR hS (tk_sub hl [1, 2, 0] rfl)
-- java/util/ArrayList.remove(I)Ljava/lang/Object;
def w_J6_remove (l0 : Option Nat) (l1 : Int32) (Q : Option Nat → Tst → Prop) (X : String → Nat → Tst → Prop) (σ : Tst) : Prop := w_gi σ l0 cJ6 2 fun x1 => w_J21_checkIndex l1 x1 (fun x2 σ => w_gr σ l0 cJ6 1 fun x3 => w_lr σ x3 l1 fun x4 => w_rc σ l0 cJ6 <| w_J6_fastRemove l0 x3 l1 (fun σ => Q x4 σ) X σ) X σ
set_option maxHeartbeats 4000000 in
theorem wk_J6_remove (l : Launch) (hl0 : l.stackTraces = false) (G : Tgl) (fr : Nat)  (hfr : 3 ≤ fr) (l0 : Option Nat) (l1 : Int32) (Q : Option Nat → Tst → Prop) (X : String → Nat → Tst → Prop) (σ : Tst) (hw : w_J6_remove l0 l1 Q X σ) : tw_M l yJ6_remove (ws_ yJ6_remove cJ6_remove 4 (some (.object "java/lang/Object"))) fr (40 * fr) G σ [.inr l0, .inl l1] (tw_Qq G Q) X := by
  unfold w_J6_remove at hw
  refine tw_of (ret := (some (.object "java/lang/Object"))) hl0 (by decide) (Nat.le_of_ble_eq_true rfl) (fun p e R s m args below meth c hRf hRl C hr hmn hnx hR hS ls hl => ?_)
  have hfr : 3 ≤ R.frames := by rw [hRf]; exact hfr
  have hRl : R.locals = 40 * R.frames := by rw [hRl, hRf]
  have hl : tw_l ls 4 [(0, .inr l0), (1, .inl l1)] := hl
  refine tk_iload_n C hl 1 dJ6_remove_0 rfl ?_
  refine tk_aload_n C hl 0 dJ6_remove_1 rfl ?_
  refine tk_gi C hR hw rfl in_J6 (by decide) q180 (fun _ h => h) dJ6_remove_2 (fun x1 hw => ?_)
  refine tw_cbi C hS (tw_runS (As := [.inl l1, .inl x1]) C hR hS (wk_J21_checkIndex l C.hst G (R.frames - 1) (by omega) _ _ _ _ σ hw) q461 q462 q93 q463 pd_J21_checkIndex ⟨by omega, by omega⟩ hl.1 rfl (tw_r8 [] (Nat.le_of_ble_eq_true rfl)) dJ6_remove_5) (fun E q σ H locs hX hR hS hi => tw_out C hR hS (fun x hx => (hnx x hx).elim) hi hX) (fun x2 σ H locs hw hR hS => ?_)
  refine tw_pop (x := .inl x2) C.hx C.hb dJ6_remove_8 ?_
  refine tk_aload_n C hl 0 dJ6_remove_9 rfl ?_
  refine tk_gr C hR hw rfl in_J6 (by decide) q177 (fun _ h => h) dJ6_remove_10 (fun x3 hw => ?_)
  refine tk_astore_n (L' := [(2, .inr x3), (0, .inr l0), (1, .inl l1)]) C hl dJ6_remove_13 (by decide) rfl (fun ls hl => ?_)
  refine tk_aload_n C hl 0 dJ6_remove_14 rfl ?_
  refine tk_iload_n C hl 2 dJ6_remove_15 rfl ?_
  refine tk_lr C hR hw dJ6_remove_16 (fun x4 hw => ?_)
  refine tk_astore_n (L' := [(3, .inr x4), (2, .inr x3), (0, .inr l0), (1, .inl l1)]) C hl dJ6_remove_17 (by decide) rfl (fun ls hl => ?_)
  refine tk_aload_n C hl 2 dJ6_remove_18 rfl ?_
  refine tk_aload_n C hl 1 dJ6_remove_19 rfl ?_
  refine tk_iload_n C hl 3 dJ6_remove_20 rfl ?_
  obtain ⟨hv, hw⟩ := hw
  refine tw_cbv C hS (tk_runV (As := [.inr x3, .inl l1]) C hR hS (wk_J6_fastRemove l C.hst G (R.frames - 1) (by omega) _ _ _ _ _ σ hw) hv rfl q1146 q1148 qs10 q73 q1149 pd_J6_fastRemove ⟨by omega, by omega⟩ hl.1 rfl (tw_r8 [] (Nat.le_of_ble_eq_true rfl)) dJ6_remove_21) (fun E q σ H locs hX hR hS hi => tw_out C hR hS (fun x hx => (hnx x hx).elim) hi hX) (fun σ H locs hw hR hS => ?_)
  refine tk_aload_n C hl 0 dJ6_remove_24 rfl ?_
  exact tw_aret C hR hS hr (Or.inl ⟨_, rfl⟩) dJ6_remove_25 hw
-- TreeDiffer$Node.detach()V
def w_X3_detach (l0 : Option Nat) (Q : Tst → Prop) (X : String → Nat → Tst → Prop) (σ : Tst) : Prop := w_gr σ l0 cX3 3 fun x1 => w_gr σ x1 cX3 4 fun x2 => w_gr σ l0 cX3 3 fun x3 => w_rc σ x3 cX3 <| w_X3_place x3 l0 (fun x4 σ => w_rc σ x2 cJ6 <| w_J6_remove x2 x4 (fun x5 σ => w_cc σ x5 cX3 <| w_p σ l0 cX3 3 (.inr none) fun σ => Q σ) X σ) X σ
set_option maxHeartbeats 4000000 in
theorem wk_X3_detach (l : Launch) (hl0 : l.stackTraces = false) (G : Tgl) (fr : Nat)  (hfr : 5 ≤ fr) (l0 : Option Nat) (Q : Tst → Prop) (X : String → Nat → Tst → Prop) (σ : Tst) (hw : w_X3_detach l0 Q X σ) : tw_M l yX3_detach (ws_ yX3_detach cX3_detach 2 none) fr (40 * fr) G σ [.inr l0] (tw_Qv G Q) X := by
  unfold w_X3_detach at hw
  refine tw_of (ret := none) hl0 (by decide) (Nat.le_of_ble_eq_true rfl) (fun p e R s m args below meth c hRf hRl C hr hmn hnx hR hS ls hl => ?_)
  have hfr : 5 ≤ R.frames := by rw [hRf]; exact hfr
  have hRl : R.locals = 40 * R.frames := by rw [hRl, hRf]
  have hl : tw_l ls 2 [(0, .inr l0)] := hl
  refine tk_aload_n C hl 0 dX3_detach_0 rfl ?_
  refine tk_gr C hR hw rfl in_X3 (by decide) q206 (fun _ h => h) dX3_detach_1 (fun x1 hw => ?_)
  refine tk_gr C hR hw rfl in_X3 (by decide) q209 (fun _ h => h) dX3_detach_4 (fun x2 hw => ?_)
  refine tk_aload_n C hl 0 dX3_detach_7 rfl ?_
  refine tk_gr C hR hw rfl in_X3 (by decide) q206 (fun _ h => h) dX3_detach_8 (fun x3 hw => ?_)
  refine tk_aload_n C hl 0 dX3_detach_11 rfl ?_
  obtain ⟨hv, hw⟩ := hw
  refine tw_cbi C hS (tk_runV (As := [.inr l0]) C hR hS (wk_X3_place l C.hst G (R.frames - 1) (by omega) _ _ _ _ σ hw) hv rfl q1133 q1134 q1135 q70 q1136 pd_X3_place ⟨by omega, by omega⟩ hl.1 rfl (tw_r8 [.inr x2] (Nat.le_of_ble_eq_true rfl)) dX3_detach_12) (fun E q σ H locs hX hR hS hi => tw_out C hR hS (fun x hx => (hnx x hx).elim) hi hX) (fun x4 σ H locs hw hR hS => ?_)
  obtain ⟨hv, hw⟩ := hw
  refine tw_cbq5 C hS (tk_runF (As := [.inl x4]) (x := ⟨"java/util/List", "remove", "(I)Ljava/lang/Object;"⟩) C hR hS (wk_J6_remove l C.hst G (R.frames - 1) (by omega) _ _ _ _ σ hw) hv rfl q1138 q1141 q1143 q73 q1145 (by decide +kernel) (show tw_pd ⟨"java/util/List", "remove", "(I)Ljava/lang/Object;"⟩ 1 by decide +kernel) ⟨by omega, by omega⟩ hl.1 rfl (tw_r8 [] (Nat.le_of_ble_eq_true rfl)) dX3_detach_15) (fun E q σ H locs hX hR hS hi => tw_out C hR hS (fun x hx => (hnx x hx).elim) hi hX) (fun x5 σ H locs hw hR hS => ?_)
  refine tk_cc C hR hw rfl q577 (Or.inl rfl) dX3_detach_20 (fun hw => ?_)
  refine tk_astore_n (L' := [(1, .inr x5), (0, .inr l0)]) C hl dX3_detach_23 (by decide) rfl (fun ls hl => ?_)
  refine tk_aload_n C hl 1 dX3_detach_24 rfl ?_
  refine lv_null C.hx C.hb dX3_detach_25 ?_
  refine W.eq (g2 := F0 m 26 ls (va_rf none :: [va_rf l0])) rfl ?_
  refine tk_p (x := .inr none) C hR hS hw (by decide) rfl in_X3 tyX3 tyX3_ok nmX3 (by decide) q206 (fun _ h => h) rfl (tw_nr _ _) dX3_detach_26 (fun σ H locs hw hR hS => ?_)
  exact tw_vret C hR hS hr dX3_detach_29 hw
-- TreeDiffer$Node.hasChildWithKey(I)Z
def w_X3_hasChildWithKey_b10 (Q : Int32 → Tst → Prop) (X : String → Nat → Tst → Prop) : Nat → Int32 → Option Nat → Tst → Prop
  | 0, _, _, _ => False
  | n + 1, l1, l2, σ => w_rc σ l2 cJ18 <| w_J18_hasNext l2 (fun x1 σ => w_if (x1 = 0) (narrow .boolean (.int 0) = .int 0 ∧ Q 0 σ) (w_rc σ l2 cJ18 <| w_J18_next l2 (fun x2 σ => w_cc σ x2 cX3 <| w_gi σ x2 cX3 1 fun x3 => w_if (x3 = l1) (narrow .boolean (.int 1) = .int 1 ∧ Q 1 σ) ((w_X3_hasChildWithKey_b10 Q X n) l1 l2 σ)) X σ)) X σ
def w_X3_hasChildWithKey (l0 : Option Nat) (l1 : Int32) (Q : Int32 → Tst → Prop) (X : String → Nat → Tst → Prop) (σ : Tst) : Prop := w_gr σ l0 cX3 4 fun x1 => w_rc σ x1 cJ6 <| w_J6_iterator x1 (fun x2 σ => ∃ z, w_X3_hasChildWithKey_b10 Q X z l1 x2 σ) X σ
set_option maxHeartbeats 4000000 in
theorem wk_X3_hasChildWithKey_b10  (C : tw_C p l R s m args meth c G cX3_hasChildWithKey 4 yX3_hasChildWithKey.cls) (hr : meth.sig.returnType = (some .boolean)) (hmn : meth.name = yX3_hasChildWithKey.name) (hnx : (∀ x ∈ c.exceptionTable.toList, False)) (hfr : 3 ≤ R.frames) (hRl : R.locals = 40 * R.frames) {Q : Int32 → Tst → Prop} {X : String → Nat → Tst → Prop}  : ∀ (n : Nat) (l1 : Int32) (l2 : Option Nat) (σ : Tst) (H : Heap) (locs : List Loc) (ls : Array Slot), w_X3_hasChildWithKey_b10 Q X n l1 l2 σ → tw_R G σ H → va_S (tw_A G) s.heap H locs → tw_l ls 4 [(1, .inl l1), (2, .inr l2)] → tw_W p l e R s m args below meth c σ H locs (tw_E below G (tw_Qi G Q) X args s R) (F0 m 10 ls []) := by
  intro n
  induction n with
  | zero => intro l1 l2 σ H locs ls hw; exact False.elim hw
  | succ n hk10 =>
    intro l1 l2 σ H locs ls hw hR hS hl
    rw [w_X3_hasChildWithKey_b10] at hw
    refine tk_aload_n C hl 1 dX3_hasChildWithKey_10 rfl ?_
    obtain ⟨hv, hw⟩ := hw
    refine tw_cbi5 C hS (tk_runF (As := []) (x := ⟨"java/util/Iterator", "hasNext", "()Z"⟩) C hR hS (wk_J18_hasNext l C.hst G (R.frames - 1) (by omega) _ _ _ σ hw) hv rfl q319 q333 q335 q90 q337 (by decide +kernel) (show tw_pd ⟨"java/util/Iterator", "hasNext", "()Z"⟩ 0 by decide +kernel) ⟨by omega, by omega⟩ hl.1 rfl (tw_r8 [] (Nat.le_of_ble_eq_true rfl)) dX3_hasChildWithKey_11) (fun E q σ H locs hX hR hS hi => tw_out C hR hS (fun x hx => (hnx x hx).elim) hi hX) (fun x1 σ H locs hw hR hS => ?_)
    refine lv_if_eq (tgt := 42) C.hx C.hb dX3_hasChildWithKey_16 (by decide) (fun c16 => ?_) (fun c16 => ?_)
    · replace hw := hw.1 c16
      refine lv_iconst (v := 0) C.hx C.hb dX3_hasChildWithKey_42 (by decide) ?_
      obtain ⟨hok, hw⟩ := hw
      exact tw_iret C hR hS hr hok dX3_hasChildWithKey_43 hw
    · replace hw := hw.2 c16
      refine tk_aload_n C hl 1 dX3_hasChildWithKey_19 rfl ?_
      obtain ⟨hv, hw⟩ := hw
      refine tw_cbq5 C hS (tk_runF (As := []) (x := ⟨"java/util/Iterator", "next", "()Ljava/lang/Object;"⟩) C hR hS (wk_J18_next l C.hst G (R.frames - 1) (by omega) _ _ _ σ hw) hv rfl q339 q566 q568 q90 q570 (by decide +kernel) (show tw_pd ⟨"java/util/Iterator", "next", "()Ljava/lang/Object;"⟩ 0 by decide +kernel) ⟨by omega, by omega⟩ hl.1 rfl (tw_r8 [] (Nat.le_of_ble_eq_true rfl)) dX3_hasChildWithKey_20) (fun E q σ H locs hX hR hS hi => tw_out C hR hS (fun x hx => (hnx x hx).elim) hi hX) (fun x2 σ H locs hw hR hS => ?_)
      refine tk_cc C hR hw rfl q577 (Or.inl rfl) dX3_hasChildWithKey_25 (fun hw => ?_)
      refine tk_astore_n (L' := [(3, .inr x2), (1, .inl l1), (2, .inr l2)]) C hl dX3_hasChildWithKey_28 (by decide) rfl (fun ls hl => ?_)
      refine tk_aload_n C hl 0 dX3_hasChildWithKey_29 rfl ?_
      refine tk_gi C hR hw rfl in_X3 (by decide) q196 (fun _ h => h) dX3_hasChildWithKey_30 (fun x3 hw => ?_)
      refine tk_iload_n C hl 1 dX3_hasChildWithKey_33 rfl ?_
      refine lv_icmp_ne (tgt := 39) C.hx C.hb dX3_hasChildWithKey_34 (by decide) (fun c34 => ?_) (fun c34 => ?_)
      · replace hw := hw.2 c34
        refine lv_goto (tgt := 10) C.hx C.hb dX3_hasChildWithKey_39 (by decide) ?_
        exact hk10 _ _ σ _ _ _ hw hR hS (tk_sub hl [1, 2] rfl)
      · replace hw := hw.1 c34
        refine lv_iconst (v := 1) C.hx C.hb dX3_hasChildWithKey_37 (by decide) ?_
        obtain ⟨hok, hw⟩ := hw
        exact tw_iret C hR hS hr hok dX3_hasChildWithKey_38 hw
set_option maxHeartbeats 4000000 in
theorem wk_X3_hasChildWithKey (l : Launch) (hl0 : l.stackTraces = false) (G : Tgl) (fr : Nat)  (hfr : 3 ≤ fr) (l0 : Option Nat) (l1 : Int32) (Q : Int32 → Tst → Prop) (X : String → Nat → Tst → Prop) (σ : Tst) (hw : w_X3_hasChildWithKey l0 l1 Q X σ) : tw_M l yX3_hasChildWithKey (ws_ yX3_hasChildWithKey cX3_hasChildWithKey 4 (some .boolean)) fr (40 * fr) G σ [.inr l0, .inl l1] (tw_Qi G Q) X := by
  unfold w_X3_hasChildWithKey at hw
  refine tw_of (ret := (some .boolean)) hl0 (by decide) (Nat.le_of_ble_eq_true rfl) (fun p e R s m args below meth c hRf hRl C hr hmn hnx hR hS ls hl => ?_)
  have hfr : 3 ≤ R.frames := by rw [hRf]; exact hfr
  have hRl : R.locals = 40 * R.frames := by rw [hRl, hRf]
  have hl : tw_l ls 4 [(0, .inr l0), (1, .inl l1)] := hl
  refine tk_aload_n C hl 0 dX3_hasChildWithKey_0 rfl ?_
  refine tk_gr C hR hw rfl in_X3 (by decide) q209 (fun _ h => h) dX3_hasChildWithKey_1 (fun x1 hw => ?_)
  obtain ⟨hv, hw⟩ := hw
  refine tw_cbq5 C hS (tk_runF (As := []) (x := ⟨"java/util/List", "iterator", "()Ljava/util/Iterator;"⟩) C hR hS (wk_J6_iterator l C.hst G (R.frames - 1) (by omega) _ _ _ σ hw) hv rfl q291 q294 q296 q73 q298 (by decide +kernel) (show tw_pd ⟨"java/util/List", "iterator", "()Ljava/util/Iterator;"⟩ 0 by decide +kernel) ⟨by omega, by omega⟩ hl.1 rfl (tw_r8 [] (Nat.le_of_ble_eq_true rfl)) dX3_hasChildWithKey_4) (fun E q σ H locs hX hR hS hi => tw_out C hR hS (fun x hx => (hnx x hx).elim) hi hX) (fun x2 σ H locs hw hR hS => ?_)
  refine tk_astore_n (L' := [(2, .inr x2), (0, .inr l0), (1, .inl l1)]) C hl dX3_hasChildWithKey_9 (by decide) rfl (fun ls hl => ?_)
  obtain ⟨z, hw⟩ := hw
  exact wk_X3_hasChildWithKey_b10 C hr hmn hnx hfr hRl z _ _ σ _ _ _ hw hR hS (tk_sub hl [2, 0] rfl)
-- java/lang/AbstractStringBuilder.newCapacity(I)I
def w_J0_newCapacity (l0 : Option Nat) (l1 : Int32) (Q : Int32 → Tst → Prop) (X : String → Nat → Tst → Prop) (σ : Tst) : Prop := w_gr σ l0 cJ1 0 fun x1 => w_al σ x1 fun x2 => w_gi σ l0 cJ1 1 fun x3 => w_gi σ l0 cJ1 1 fun x4 => w_J11_newLength x2 ((l1 <<< (x3 &&& 31)) - x2) (x2 + (2 <<< (x4 &&& 31))) (fun x5 σ => w_if (x5 = 2147483647) (False) (w_gi σ l0 cJ1 1 fun x6 => Q (x5 >>> (x6 &&& 31)) σ)) X σ
set_option maxHeartbeats 4000000 in
theorem wk_J0_newCapacity (l : Launch) (hl0 : l.stackTraces = false) (G : Tgl) (fr : Nat)  (hfr : 3 ≤ fr) (l0 : Option Nat) (l1 : Int32) (Q : Int32 → Tst → Prop) (X : String → Nat → Tst → Prop) (σ : Tst) (hw : w_J0_newCapacity l0 l1 Q X σ) : tw_M l yJ0_newCapacity (ws_ yJ0_newCapacity cJ0_newCapacity 6 (some .int)) fr (40 * fr) G σ [.inr l0, .inl l1] (tw_Qi G Q) X := by
  unfold w_J0_newCapacity at hw
  refine tw_of (ret := (some .int)) hl0 (by decide) (Nat.le_of_ble_eq_true rfl) (fun p e R s m args below meth c hRf hRl C hr hmn hnx hR hS ls hl => ?_)
  have hfr : 3 ≤ R.frames := by rw [hRf]; exact hfr
  have hRl : R.locals = 40 * R.frames := by rw [hRl, hRf]
  have hl : tw_l ls 6 [(0, .inr l0), (1, .inl l1)] := hl
  refine tk_aload_n C hl 0 dJ0_newCapacity_0 rfl ?_
  refine tk_gr C hR hw rfl in_J1 (by decide) q141 (fun _ h => h) dJ0_newCapacity_1 (fun x1 hw => ?_)
  refine tk_al C hR hw dJ0_newCapacity_4 (fun x2 hw => ?_)
  refine tk_istore_n (L' := [(2, .inl x2), (0, .inr l0), (1, .inl l1)]) C hl dJ0_newCapacity_5 (by decide) rfl (fun ls hl => ?_)
  refine tk_iload_n C hl 2 dJ0_newCapacity_6 rfl ?_
  refine tk_aload_n C hl 1 dJ0_newCapacity_7 rfl ?_
  refine tk_gi C hR hw rfl in_J1 (by decide) q142 (fun _ h => h) dJ0_newCapacity_8 (fun x3 hw => ?_)
  refine lv_ishl C.hx C.hb dJ0_newCapacity_11 ?_
  refine tk_istore_n (L' := [(3, .inl (l1 <<< (x3 &&& 31))), (2, .inl x2), (0, .inr l0), (1, .inl l1)]) C hl dJ0_newCapacity_12 (by decide) rfl (fun ls hl => ?_)
  refine tk_iload_n C hl 0 dJ0_newCapacity_13 rfl ?_
  refine tk_iload_n C hl 1 dJ0_newCapacity_14 rfl ?_
  refine lv_isub C.hx C.hb dJ0_newCapacity_15 ?_
  refine tk_istore (L' := [(4, .inl ((l1 <<< (x3 &&& 31)) - x2)), (3, .inl (l1 <<< (x3 &&& 31))), (2, .inl x2), (0, .inr l0), (1, .inl l1)]) C hl dJ0_newCapacity_16 (by decide) rfl (fun ls hl => ?_)
  refine tk_iload_n C hl 2 dJ0_newCapacity_18 rfl ?_
  refine tk_iload C hl 0 dJ0_newCapacity_19 rfl ?_
  refine tk_iload_n C hl 2 dJ0_newCapacity_21 rfl ?_
  refine lv_iconst (v := 2) C.hx C.hb dJ0_newCapacity_22 (by decide) ?_
  refine tk_aload_n C hl 3 dJ0_newCapacity_23 rfl ?_
  refine tk_gi C hR hw rfl in_J1 (by decide) q142 (fun _ h => h) dJ0_newCapacity_24 (fun x4 hw => ?_)
  refine lv_ishl C.hx C.hb dJ0_newCapacity_27 ?_
  refine lv_iadd C.hx C.hb dJ0_newCapacity_28 ?_
  refine tw_cbi C hS (tw_runS (As := [.inl x2, .inl ((l1 <<< (x3 &&& 31)) - x2), .inl (x2 + (2 <<< (x4 &&& 31)))]) C hR hS (wk_J11_newLength l C.hst G (R.frames - 1) (by omega) _ _ _ _ _ σ hw) q720 q721 q80 q722 pd_J11_newLength ⟨by omega, by omega⟩ hl.1 rfl (tw_r8 [] (Nat.le_of_ble_eq_true rfl)) dJ0_newCapacity_29) (fun E q σ H locs hX hR hS hi => tw_out C hR hS (fun x hx => (hnx x hx).elim) hi hX) (fun x5 σ H locs hw hR hS => ?_)
  refine tk_istore (L' := [(5, .inl x5), (4, .inl ((l1 <<< (x3 &&& 31)) - x2)), (3, .inl (l1 <<< (x3 &&& 31))), (2, .inl x2), (0, .inr l0), (1, .inl l1)]) C hl dJ0_newCapacity_32 (by decide) rfl (fun ls hl => ?_)
  refine tk_iload C hl 0 dJ0_newCapacity_34 rfl ?_
  refine lv_ldc (v := 2147483647) C.hx C.hb C.ho (C.hts _ q730) dJ0_newCapacity_36 ?_
  refine lv_icmp_ne (tgt := 51) C.hx C.hb dJ0_newCapacity_38 (by decide) (fun c38 => ?_) (fun c38 => ?_)
  · replace hw := hw.2 c38
    refine tk_iload C hl 0 dJ0_newCapacity_51 rfl ?_
    refine tk_aload_n C hl 4 dJ0_newCapacity_53 rfl ?_
    refine tk_gi C hR hw rfl in_J1 (by decide) q142 (fun _ h => h) dJ0_newCapacity_54 (fun x6 hw => ?_)
    refine lv_ishr C.hx C.hb dJ0_newCapacity_57 ?_
    exact tw_iret C hR hS hr rfl dJ0_newCapacity_58 hw
  · replace hw := hw.1 c38
    exact hw.elim
-- java/util/Arrays.copyOf([BI)[B
def w_J13_copyOf_3 (l0 : Option Nat) (l1 : Int32) (Q : Option Nat → Tst → Prop) (X : String → Nat → Tst → Prop) (σ : Tst) : Prop := w_al σ l0 fun x1 => w_if (l1 = x1) (w_cl σ l0 fun q4 σ => w_ca σ q4 2 <| Q q4 σ) (w_na σ 2 l1 (.inl fun _ => 0) fun q2 σ => w_al σ l0 fun x3 => w_cpb σ l0 0 q2 0 (if l1 < x3 then l1 else x3) fun σ => Q q2 σ)
set_option maxHeartbeats 4000000 in
theorem wk_J13_copyOf_3 (l : Launch) (hl0 : l.stackTraces = false) (G : Tgl) (fr : Nat)  (hfr : 1 ≤ fr) (l0 : Option Nat) (l1 : Int32) (Q : Option Nat → Tst → Prop) (X : String → Nat → Tst → Prop) (σ : Tst) (hw : w_J13_copyOf_3 l0 l1 Q X σ) : tw_M l yJ13_copyOf_3 (ws_ yJ13_copyOf_3 cJ13_copyOf_3 3 (some (.array .byte))) fr (40 * fr) G σ [.inr l0, .inl l1] (tw_Qq G Q) X := by
  unfold w_J13_copyOf_3 at hw
  refine tw_of (ret := (some (.array .byte))) hl0 (by decide) (Nat.le_of_ble_eq_true rfl) (fun p e R s m args below meth c hRf hRl C hr hmn hnx hR hS ls hl => ?_)
  have hfr : 1 ≤ R.frames := by rw [hRf]; exact hfr
  have hRl : R.locals = 40 * R.frames := by rw [hRl, hRf]
  have hl : tw_l ls 3 [(0, .inr l0), (1, .inl l1)] := hl
  refine tk_iload_n C hl 1 dJ13_copyOf_3_0 rfl ?_
  refine tk_aload_n C hl 0 dJ13_copyOf_3_1 rfl ?_
  refine tk_al C hR hw dJ13_copyOf_3_2 (fun x1 hw => ?_)
  refine lv_icmp_ne (tgt := 14) C.hx C.hb dJ13_copyOf_3_3 (by decide) (fun c3 => ?_) (fun c3 => ?_)
  · replace hw := hw.2 c3
    refine tk_iload_n C hl 1 dJ13_copyOf_3_14 rfl ?_
    refine tk_na (t := 2) (atype := .byte) C hR hS hw q155 rfl (fun h => h) (fun _ _ => rfl) (by decide) dJ13_copyOf_3_15 (fun q2 σ H hw hR hS => ?_)
    refine tk_astore_n (L' := [(2, .inr q2), (0, .inr l0), (1, .inl l1)]) C hl dJ13_copyOf_3_17 (by decide) rfl (fun ls hl => ?_)
    refine tk_aload_n C hl 1 dJ13_copyOf_3_18 rfl ?_
    refine lv_iconst (v := 0) C.hx C.hb dJ13_copyOf_3_19 (by decide) ?_
    refine tk_aload_n C hl 0 dJ13_copyOf_3_20 rfl ?_
    refine lv_iconst (v := 0) C.hx C.hb dJ13_copyOf_3_21 (by decide) ?_
    refine tk_aload_n C hl 1 dJ13_copyOf_3_22 rfl ?_
    refine tk_al C hR hw dJ13_copyOf_3_23 (fun x3 hw => ?_)
    refine tk_iload_n C hl 2 dJ13_copyOf_3_24 rfl ?_
    refine tk_min C q559 hl.1 (by omega) hRl (tw_r8 [.inl 0, .inr q2, .inl 0, .inr l0] (Nat.le_of_ble_eq_true rfl)) dJ13_copyOf_3_25 ?_
    refine tk_cpb C hR hS hw q562 q564 q563 q83 hl.1 (by omega) hRl (tw_r8 [] (Nat.le_of_ble_eq_true rfl)) dJ13_copyOf_3_28 (fun σ H locs hw hR hS => ?_)
    refine tk_aload_n C hl 0 dJ13_copyOf_3_31 rfl ?_
    exact tw_aret C hR hS hr (Or.inr ⟨_, rfl⟩) dJ13_copyOf_3_32 hw
  · replace hw := hw.1 c3
    refine tk_aload_n C hl 0 dJ13_copyOf_3_6 rfl ?_
    refine tk_cl C hR hS hw q734 q735 q736 q737 q738 q739 hl.1 (by omega) hRl (tw_r8 [] (Nat.le_of_ble_eq_true rfl)) dJ13_copyOf_3_7 (fun q4 σ H hw hR hS => ?_)
    refine tk_ca C hR hw (tw_nmB C) q740 dJ13_copyOf_3_10 (fun hw => ?_)
    exact tw_aret C hR hS hr (Or.inr ⟨_, rfl⟩) dJ13_copyOf_3_13 hw
-- java/lang/AbstractStringBuilder.ensureCapacityInternal(I)V
def w_J0_ensureCapacityInternal_b38 (Q : Tst → Prop) (X : String → Nat → Tst → Prop) (σ : Tst) : Prop := Q σ
def w_J0_ensureCapacityInternal (l0 : Option Nat) (l1 : Int32) (Q : Tst → Prop) (X : String → Nat → Tst → Prop) (σ : Tst) : Prop := w_gr σ l0 cJ1 0 fun x1 => w_al σ x1 fun x2 => w_gi σ l0 cJ1 1 fun x3 => w_if ((l1 - (x2 >>> (x3 &&& 31))) ≤ 0) (w_J0_ensureCapacityInternal_b38 Q X σ) (w_gr σ l0 cJ1 0 fun x4 => w_rc σ l0 cJ1 <| w_J0_newCapacity l0 l1 (fun x5 σ => w_gi σ l0 cJ1 1 fun x6 => w_J13_copyOf_3 x4 (x5 <<< (x6 &&& 31)) (fun x7 σ => w_p σ l0 cJ1 0 (.inr x7) fun σ => w_J0_ensureCapacityInternal_b38 Q X σ) X σ) X σ)
set_option maxHeartbeats 4000000 in
theorem wk_J0_ensureCapacityInternal_b38  (C : tw_C p l R s m args meth c G cJ0_ensureCapacityInternal 3 yJ0_ensureCapacityInternal.cls) (hr : meth.sig.returnType = none) (hmn : meth.name = yJ0_ensureCapacityInternal.name) (hnx : (∀ x ∈ c.exceptionTable.toList, False)) (hfr : 4 ≤ R.frames) (hRl : R.locals = 40 * R.frames) {Q : Tst → Prop} {X : String → Nat → Tst → Prop}   (σ : Tst) (H : Heap) (locs : List Loc) (ls : Array Slot) (hw : w_J0_ensureCapacityInternal_b38 Q X  σ) (hR : tw_R G σ H) (hS : va_S (tw_A G) s.heap H locs) (hl : tw_l ls 3 []) : tw_W p l e R s m args below meth c σ H locs (tw_E below G (tw_Qv G Q) X args s R) (F0 m 38 ls []) := by
  unfold w_J0_ensureCapacityInternal_b38 at hw
  exact tw_vret C hR hS hr dJ0_ensureCapacityInternal_38 hw
set_option maxHeartbeats 4000000 in
theorem wk_J0_ensureCapacityInternal (l : Launch) (hl0 : l.stackTraces = false) (G : Tgl) (fr : Nat)  (hfr : 4 ≤ fr) (l0 : Option Nat) (l1 : Int32) (Q : Tst → Prop) (X : String → Nat → Tst → Prop) (σ : Tst) (hw : w_J0_ensureCapacityInternal l0 l1 Q X σ) : tw_M l yJ0_ensureCapacityInternal (ws_ yJ0_ensureCapacityInternal cJ0_ensureCapacityInternal 3 none) fr (40 * fr) G σ [.inr l0, .inl l1] (tw_Qv G Q) X := by
  unfold w_J0_ensureCapacityInternal at hw
  refine tw_of (ret := none) hl0 (by decide) (Nat.le_of_ble_eq_true rfl) (fun p e R s m args below meth c hRf hRl C hr hmn hnx hR hS ls hl => ?_)
  have hfr : 4 ≤ R.frames := by rw [hRf]; exact hfr
  have hRl : R.locals = 40 * R.frames := by rw [hRl, hRf]
  have hl : tw_l ls 3 [(0, .inr l0), (1, .inl l1)] := hl
  refine tk_aload_n C hl 0 dJ0_ensureCapacityInternal_0 rfl ?_
  refine tk_gr C hR hw rfl in_J1 (by decide) q141 (fun _ h => h) dJ0_ensureCapacityInternal_1 (fun x1 hw => ?_)
  refine tk_al C hR hw dJ0_ensureCapacityInternal_4 (fun x2 hw => ?_)
  refine tk_aload_n C hl 0 dJ0_ensureCapacityInternal_5 rfl ?_
  refine tk_gi C hR hw rfl in_J1 (by decide) q142 (fun _ h => h) dJ0_ensureCapacityInternal_6 (fun x3 hw => ?_)
  refine lv_ishr C.hx C.hb dJ0_ensureCapacityInternal_9 ?_
  refine tk_istore_n (L' := [(2, .inl (x2 >>> (x3 &&& 31))), (0, .inr l0), (1, .inl l1)]) C hl dJ0_ensureCapacityInternal_10 (by decide) rfl (fun ls hl => ?_)
  refine tk_iload_n C hl 2 dJ0_ensureCapacityInternal_11 rfl ?_
  refine tk_iload_n C hl 0 dJ0_ensureCapacityInternal_12 rfl ?_
  refine lv_isub C.hx C.hb dJ0_ensureCapacityInternal_13 ?_
  refine lv_if_le (tgt := 38) C.hx C.hb dJ0_ensureCapacityInternal_14 (by decide) (fun c14 => ?_) (fun c14 => ?_)
  · replace hw := hw.1 c14
    exact wk_J0_ensureCapacityInternal_b38 C hr hmn hnx hfr hRl σ _ _ _ hw hR hS (tk_sub hl [] rfl)
  · replace hw := hw.2 c14
    refine tk_aload_n C hl 1 dJ0_ensureCapacityInternal_17 rfl ?_
    refine tk_aload_n C hl 1 dJ0_ensureCapacityInternal_18 rfl ?_
    refine tk_gr C hR hw rfl in_J1 (by decide) q141 (fun _ h => h) dJ0_ensureCapacityInternal_19 (fun x4 hw => ?_)
    refine tk_aload_n C hl 1 dJ0_ensureCapacityInternal_22 rfl ?_
    refine tk_iload_n C hl 2 dJ0_ensureCapacityInternal_23 rfl ?_
    obtain ⟨hv, hw⟩ := hw
    refine tw_cbi C hS (tk_runP (As := [.inl l1]) (Cn := "java/lang/StringBuilder") (y := yJ0_newCapacity) C hR hS (wk_J0_newCapacity l C.hst G (R.frames - 1) (by omega) _ _ _ _ σ hw) hv rfl q716 q718 (List.Mem.tail _ (List.Mem.tail _ (List.Mem.head _))) q65 q719 pd_J0_newCapacity ⟨by omega, by omega⟩ hl.1 rfl (tw_r8 [.inr x4, .inr l0] (Nat.le_of_ble_eq_true rfl)) dJ0_ensureCapacityInternal_24) (fun E q σ H locs hX hR hS hi => tw_out C hR hS (fun x hx => (hnx x hx).elim) hi hX) (fun x5 σ H locs hw hR hS => ?_)
    refine tk_aload_n C hl 1 dJ0_ensureCapacityInternal_27 rfl ?_
    refine tk_gi C hR hw rfl in_J1 (by decide) q142 (fun _ h => h) dJ0_ensureCapacityInternal_28 (fun x6 hw => ?_)
    refine lv_ishl C.hx C.hb dJ0_ensureCapacityInternal_31 ?_
    refine tw_cbq C hS (tw_runS (As := [.inr x4, .inl (x5 <<< (x6 &&& 31))]) C hR hS (wk_J13_copyOf_3 l C.hst G (R.frames - 1) (by omega) _ _ _ _ σ hw) q731 q732 q82 q733 pd_J13_copyOf_3 ⟨by omega, by omega⟩ hl.1 rfl (tw_r8 [.inr l0] (Nat.le_of_ble_eq_true rfl)) dJ0_ensureCapacityInternal_32) (fun E q σ H locs hX hR hS hi => tw_out C hR hS (fun x hx => (hnx x hx).elim) hi hX) (fun x7 σ H locs hw hR hS => ?_)
    refine tk_p (x := .inr x7) C hR hS hw (by decide) rfl in_J1 tyJ1 tyJ1_ok nmJ1 (by decide) q141 (fun _ h => h) rfl (tw_nrA _ _) dJ0_ensureCapacityInternal_35 (fun σ H locs hw hR hS => ?_)
    exact wk_J0_ensureCapacityInternal_b38 C hr hmn hnx hfr hRl σ _ _ _ hw hR hS (tk_sub hl [] rfl)
-- java/lang/AbstractStringBuilder.isLatin1()Z
def w_J0_isLatin1_b18 (Q : Int32 → Tst → Prop) (X : String → Nat → Tst → Prop) (s0 : Int32) (σ : Tst) : Prop := narrow .boolean (.int s0) = .int s0 ∧ Q s0 σ
def w_J0_isLatin1_b17 (Q : Int32 → Tst → Prop) (X : String → Nat → Tst → Prop) (σ : Tst) : Prop := w_J0_isLatin1_b18 Q X 0 σ
def w_J0_isLatin1 (l0 : Option Nat) (Q : Int32 → Tst → Prop) (X : String → Nat → Tst → Prop) (σ : Tst) : Prop := w_if ((1 : Int32) = 0) (w_J0_isLatin1_b17 Q X σ) (w_gi σ l0 cJ1 1 fun x2 => w_if (x2 = 0) (w_J0_isLatin1_b18 Q X 1 σ) (w_J0_isLatin1_b17 Q X σ))
set_option maxHeartbeats 4000000 in
theorem wk_J0_isLatin1_b18  (C : tw_C p l R s m args meth c G cJ0_isLatin1 1 yJ0_isLatin1.cls) (hr : meth.sig.returnType = (some .boolean)) (hmn : meth.name = yJ0_isLatin1.name) (hnx : (∀ x ∈ c.exceptionTable.toList, False)) (hfr : 1 ≤ R.frames) (hRl : R.locals = 40 * R.frames) {Q : Int32 → Tst → Prop} {X : String → Nat → Tst → Prop}  (s0 : Int32) (σ : Tst) (H : Heap) (locs : List Loc) (ls : Array Slot) (hw : w_J0_isLatin1_b18 Q X s0 σ) (hR : tw_R G σ H) (hS : va_S (tw_A G) s.heap H locs) (hl : tw_l ls 1 []) : tw_W p l e R s m args below meth c σ H locs (tw_E below G (tw_Qi G Q) X args s R) (F0 m 18 ls [.int s0]) := by
  unfold w_J0_isLatin1_b18 at hw
  obtain ⟨hok, hw⟩ := hw
  exact tw_iret C hR hS hr hok dJ0_isLatin1_18 hw
set_option maxHeartbeats 4000000 in
theorem wk_J0_isLatin1_b17  (C : tw_C p l R s m args meth c G cJ0_isLatin1 1 yJ0_isLatin1.cls) (hr : meth.sig.returnType = (some .boolean)) (hmn : meth.name = yJ0_isLatin1.name) (hnx : (∀ x ∈ c.exceptionTable.toList, False)) (hfr : 1 ≤ R.frames) (hRl : R.locals = 40 * R.frames) {Q : Int32 → Tst → Prop} {X : String → Nat → Tst → Prop}   (σ : Tst) (H : Heap) (locs : List Loc) (ls : Array Slot) (hw : w_J0_isLatin1_b17 Q X  σ) (hR : tw_R G σ H) (hS : va_S (tw_A G) s.heap H locs) (hl : tw_l ls 1 []) : tw_W p l e R s m args below meth c σ H locs (tw_E below G (tw_Qi G Q) X args s R) (F0 m 17 ls []) := by
  unfold w_J0_isLatin1_b17 at hw
  refine lv_iconst (v := 0) C.hx C.hb dJ0_isLatin1_17 (by decide) ?_
  exact wk_J0_isLatin1_b18 C hr hmn hnx hfr hRl _ σ _ _ _ hw hR hS (tk_sub hl [] rfl)
set_option maxHeartbeats 4000000 in
theorem wk_J0_isLatin1 (l : Launch) (hl0 : l.stackTraces = false) (G : Tgl) (fr : Nat)  (hfr : 1 ≤ fr) (l0 : Option Nat) (Q : Int32 → Tst → Prop) (X : String → Nat → Tst → Prop) (σ : Tst) (hw : w_J0_isLatin1 l0 Q X σ) : tw_M l yJ0_isLatin1 (ws_ yJ0_isLatin1 cJ0_isLatin1 1 (some .boolean)) fr (40 * fr) G σ [.inr l0] (tw_Qi G Q) X := by
  unfold w_J0_isLatin1 at hw
  refine tw_of (ret := (some .boolean)) hl0 (by decide) (Nat.le_of_ble_eq_true rfl) (fun p e R s m args below meth c hRf hRl C hr hmn hnx hR hS ls hl => ?_)
  have hfr : 1 ≤ R.frames := by rw [hRf]; exact hfr
  have hRl : R.locals = 40 * R.frames := by rw [hRl, hRf]
  have hl : tw_l ls 1 [(0, .inr l0)] := hl
  refine tk_gs (x := .inl 1) C hR hS 3 rfl q132 (fun _ h => h) dJ0_isLatin1_0 ?_
  refine lv_if_eq (tgt := 17) C.hx C.hb dJ0_isLatin1_3 (by decide) (fun c3 => ?_) (fun c3 => ?_)
  · replace hw := hw.1 c3
    exact wk_J0_isLatin1_b17 C hr hmn hnx hfr hRl σ _ _ _ hw hR hS (tk_sub hl [] rfl)
  · replace hw := hw.2 c3
    refine tk_aload_n C hl 0 dJ0_isLatin1_6 rfl ?_
    refine tk_gi C hR hw rfl in_J1 (by decide) q142 (fun _ h => h) dJ0_isLatin1_7 (fun x2 hw => ?_)
    refine lv_if_ne (tgt := 17) C.hx C.hb dJ0_isLatin1_10 (by decide) (fun c10 => ?_) (fun c10 => ?_)
    · replace hw := hw.2 c10
      exact wk_J0_isLatin1_b17 C hr hmn hnx hfr hRl σ _ _ _ hw hR hS (tk_sub hl [] rfl)
    · replace hw := hw.1 c10
      refine lv_iconst (v := 1) C.hx C.hb dJ0_isLatin1_13 (by decide) ?_
      refine lv_goto (tgt := 18) C.hx C.hb dJ0_isLatin1_14 (by decide) ?_
      exact wk_J0_isLatin1_b18 C hr hmn hnx hfr hRl _ σ _ _ _ hw hR hS (tk_sub hl [] rfl)
-- java/lang/StringLatin1.canEncode(C)Z
def w_J14_canEncode_b12 (Q : Int32 → Tst → Prop) (X : String → Nat → Tst → Prop) (s0 : Int32) (σ : Tst) : Prop := narrow .boolean (.int s0) = .int s0 ∧ Q s0 σ
def w_J14_canEncode (l0 : Int32) (Q : Int32 → Tst → Prop) (X : String → Nat → Tst → Prop) (σ : Tst) : Prop := w_if (255 < l0) (w_J14_canEncode_b12 Q X 0 σ) (w_J14_canEncode_b12 Q X 1 σ)
set_option maxHeartbeats 4000000 in
theorem wk_J14_canEncode_b12  (C : tw_C p l R s m args meth c G cJ14_canEncode 1 yJ14_canEncode.cls) (hr : meth.sig.returnType = (some .boolean)) (hmn : meth.name = yJ14_canEncode.name) (hnx : (∀ x ∈ c.exceptionTable.toList, False)) (hfr : 1 ≤ R.frames) (hRl : R.locals = 40 * R.frames) {Q : Int32 → Tst → Prop} {X : String → Nat → Tst → Prop}  (s0 : Int32) (σ : Tst) (H : Heap) (locs : List Loc) (ls : Array Slot) (hw : w_J14_canEncode_b12 Q X s0 σ) (hR : tw_R G σ H) (hS : va_S (tw_A G) s.heap H locs) (hl : tw_l ls 1 []) : tw_W p l e R s m args below meth c σ H locs (tw_E below G (tw_Qi G Q) X args s R) (F0 m 12 ls [.int s0]) := by
  unfold w_J14_canEncode_b12 at hw
  obtain ⟨hok, hw⟩ := hw
  exact tw_iret C hR hS hr hok dJ14_canEncode_12 hw
set_option maxHeartbeats 4000000 in
theorem wk_J14_canEncode (l : Launch) (hl0 : l.stackTraces = false) (G : Tgl) (fr : Nat)  (hfr : 1 ≤ fr) (l0 : Int32) (Q : Int32 → Tst → Prop) (X : String → Nat → Tst → Prop) (σ : Tst) (hw : w_J14_canEncode l0 Q X σ) : tw_M l yJ14_canEncode (ws_ yJ14_canEncode cJ14_canEncode 1 (some .boolean)) fr (40 * fr) G σ [.inl l0] (tw_Qi G Q) X := by
  unfold w_J14_canEncode at hw
  refine tw_of (ret := (some .boolean)) hl0 (by decide) (Nat.le_of_ble_eq_true rfl) (fun p e R s m args below meth c hRf hRl C hr hmn hnx hR hS ls hl => ?_)
  have hfr : 1 ≤ R.frames := by rw [hRf]; exact hfr
  have hRl : R.locals = 40 * R.frames := by rw [hRl, hRf]
  have hl : tw_l ls 1 [(0, .inl l0)] := hl
  refine tk_iload_n C hl 0 dJ14_canEncode_0 rfl ?_
  refine lv_sipush (v := 255) C.hx C.hb dJ14_canEncode_1 (by decide) ?_
  refine lv_icmp_gt (tgt := 11) C.hx C.hb dJ14_canEncode_4 (by decide) (fun c4 => ?_) (fun c4 => ?_)
  · replace hw := hw.1 c4
    refine lv_iconst (v := 0) C.hx C.hb dJ14_canEncode_11 (by decide) ?_
    exact wk_J14_canEncode_b12 C hr hmn hnx hfr hRl _ σ _ _ _ hw hR hS (tk_sub hl [] rfl)
  · replace hw := hw.2 c4
    refine lv_iconst (v := 1) C.hx C.hb dJ14_canEncode_7 (by decide) ?_
    refine lv_goto (tgt := 12) C.hx C.hb dJ14_canEncode_8 (by decide) ?_
    exact wk_J14_canEncode_b12 C hr hmn hnx hfr hRl _ σ _ _ _ hw hR hS (tk_sub hl [] rfl)
-- java/lang/StringUTF16.newBytesLength(I)I
def w_J3_newBytesLength (l0 : Int32) (Q : Int32 → Tst → Prop) (X : String → Nat → Tst → Prop) (σ : Tst) : Prop := w_if (0 ≤ l0) (w_if (l0 < 1073741823) (Q (l0 <<< (1 &&& 31)) σ) (False)) (False)
set_option maxHeartbeats 4000000 in
theorem wk_J3_newBytesLength (l : Launch) (hl0 : l.stackTraces = false) (G : Tgl) (fr : Nat)  (hfr : 1 ≤ fr) (l0 : Int32) (Q : Int32 → Tst → Prop) (X : String → Nat → Tst → Prop) (σ : Tst) (hw : w_J3_newBytesLength l0 Q X σ) : tw_M l yJ3_newBytesLength (ws_ yJ3_newBytesLength cJ3_newBytesLength 1 (some .int)) fr (40 * fr) G σ [.inl l0] (tw_Qi G Q) X := by
  unfold w_J3_newBytesLength at hw
  refine tw_of (ret := (some .int)) hl0 (by decide) (Nat.le_of_ble_eq_true rfl) (fun p e R s m args below meth c hRf hRl C hr hmn hnx hR hS ls hl => ?_)
  have hfr : 1 ≤ R.frames := by rw [hRf]; exact hfr
  have hRl : R.locals = 40 * R.frames := by rw [hRl, hRf]
  have hl : tw_l ls 1 [(0, .inl l0)] := hl
  refine tk_iload_n C hl 0 dJ3_newBytesLength_0 rfl ?_
  refine lv_if_ge (tgt := 12) C.hx C.hb dJ3_newBytesLength_1 (by decide) (fun c1 => ?_) (fun c1 => ?_)
  · replace hw := hw.1 c1
    refine tk_iload_n C hl 0 dJ3_newBytesLength_12 rfl ?_
    refine lv_ldc (v := 1073741823) C.hx C.hb C.ho (C.hts _ q140) dJ3_newBytesLength_13 ?_
    refine lv_icmp_lt (tgt := 55) C.hx C.hb dJ3_newBytesLength_15 (by decide) (fun c15 => ?_) (fun c15 => ?_)
    · replace hw := hw.1 c15
      refine tk_iload_n C hl 0 dJ3_newBytesLength_55 rfl ?_
      refine lv_iconst (v := 1) C.hx C.hb dJ3_newBytesLength_56 (by decide) ?_
      refine lv_ishl C.hx C.hb dJ3_newBytesLength_57 ?_
      exact tw_iret C hR hS hr rfl dJ3_newBytesLength_58 hw
    · replace hw := hw.2 c15
      exact hw.elim
  · replace hw := hw.2 c1
    exact hw.elim
-- java/lang/StringUTF16.newBytesFor(I)[B
def w_J3_newBytesFor (l0 : Int32) (Q : Option Nat → Tst → Prop) (X : String → Nat → Tst → Prop) (σ : Tst) : Prop := w_J3_newBytesLength l0 (fun x1 σ => w_na σ 2 x1 (.inl fun _ => 0) fun q2 σ => Q q2 σ) X σ
set_option maxHeartbeats 4000000 in
theorem wk_J3_newBytesFor (l : Launch) (hl0 : l.stackTraces = false) (G : Tgl) (fr : Nat)  (hfr : 2 ≤ fr) (l0 : Int32) (Q : Option Nat → Tst → Prop) (X : String → Nat → Tst → Prop) (σ : Tst) (hw : w_J3_newBytesFor l0 Q X σ) : tw_M l yJ3_newBytesFor (ws_ yJ3_newBytesFor cJ3_newBytesFor 1 (some (.array .byte))) fr (40 * fr) G σ [.inl l0] (tw_Qq G Q) X := by
  unfold w_J3_newBytesFor at hw
  refine tw_of (ret := (some (.array .byte))) hl0 (by decide) (Nat.le_of_ble_eq_true rfl) (fun p e R s m args below meth c hRf hRl C hr hmn hnx hR hS ls hl => ?_)
  have hfr : 2 ≤ R.frames := by rw [hRf]; exact hfr
  have hRl : R.locals = 40 * R.frames := by rw [hRl, hRf]
  have hl : tw_l ls 1 [(0, .inl l0)] := hl
  refine tk_iload_n C hl 0 dJ3_newBytesFor_0 rfl ?_
  refine tw_cbi C hS (tw_runS (As := [.inl l0]) C hR hS (wk_J3_newBytesLength l C.hst G (R.frames - 1) (by omega) _ _ _ σ hw) q137 q138 q68 q139 pd_J3_newBytesLength ⟨by omega, by omega⟩ hl.1 rfl (tw_r8 [] (Nat.le_of_ble_eq_true rfl)) dJ3_newBytesFor_1) (fun E q σ H locs hX hR hS hi => tw_out C hR hS (fun x hx => (hnx x hx).elim) hi hX) (fun x1 σ H locs hw hR hS => ?_)
  refine tk_na (t := 2) (atype := .byte) C hR hS hw q155 rfl (fun h => h) (fun _ _ => rfl) (by decide) dJ3_newBytesFor_4 (fun q2 σ H hw hR hS => ?_)
  exact tw_aret C hR hS hr (Or.inr ⟨_, rfl⟩) dJ3_newBytesFor_6 hw
-- java/lang/StringUTF16.length([B)I
def w_J3_length (l0 : Option Nat) (Q : Int32 → Tst → Prop) (X : String → Nat → Tst → Prop) (σ : Tst) : Prop := w_al σ l0 fun x1 => Q (x1 >>> (1 &&& 31)) σ
set_option maxHeartbeats 4000000 in
theorem wk_J3_length (l : Launch) (hl0 : l.stackTraces = false) (G : Tgl) (fr : Nat)  (hfr : 1 ≤ fr) (l0 : Option Nat) (Q : Int32 → Tst → Prop) (X : String → Nat → Tst → Prop) (σ : Tst) (hw : w_J3_length l0 Q X σ) : tw_M l yJ3_length (ws_ yJ3_length cJ3_length 1 (some .int)) fr (40 * fr) G σ [.inr l0] (tw_Qi G Q) X := by
  unfold w_J3_length at hw
  refine tw_of (ret := (some .int)) hl0 (by decide) (Nat.le_of_ble_eq_true rfl) (fun p e R s m args below meth c hRf hRl C hr hmn hnx hR hS ls hl => ?_)
  have hfr : 1 ≤ R.frames := by rw [hRf]; exact hfr
  have hRl : R.locals = 40 * R.frames := by rw [hRl, hRf]
  have hl : tw_l ls 1 [(0, .inr l0)] := hl
  refine tk_aload_n C hl 0 dJ3_length_0 rfl ?_
  refine tk_al C hR hw dJ3_length_1 (fun x1 hw => ?_)
  refine lv_iconst (v := 1) C.hx C.hb dJ3_length_2 (by decide) ?_
  refine lv_ishr C.hx C.hb dJ3_length_3 ?_
  exact tw_iret C hR hS hr rfl dJ3_length_4 hw
-- jdk/internal/util/Preconditions.checkFromIndexSize(IIILjava/util/function/BiFunction;)I
def w_J15_checkFromIndexSize_b15 (Q : Int32 → Tst → Prop) (X : String → Nat → Tst → Prop) (σ : Tst) : Prop := False
def w_J15_checkFromIndexSize (l0 : Int32) (l1 : Int32) (l2 : Int32) (l3 : Option Nat) (Q : Int32 → Tst → Prop) (X : String → Nat → Tst → Prop) (σ : Tst) : Prop := w_if (((l2 ||| l0) ||| l1) < 0) (w_J15_checkFromIndexSize_b15 Q X σ) (w_if (l1 ≤ (l2 - l0)) (Q l0 σ) (w_J15_checkFromIndexSize_b15 Q X σ))
set_option maxHeartbeats 4000000 in
theorem wk_J15_checkFromIndexSize_b15  (C : tw_C p l R s m args meth c G cJ15_checkFromIndexSize 4 yJ15_checkFromIndexSize.cls) (hr : meth.sig.returnType = (some .int)) (hmn : meth.name = yJ15_checkFromIndexSize.name) (hnx : (∀ x ∈ c.exceptionTable.toList, False)) (hfr : 1 ≤ R.frames) (hRl : R.locals = 40 * R.frames) {Q : Int32 → Tst → Prop} {X : String → Nat → Tst → Prop}   (σ : Tst) (H : Heap) (locs : List Loc) (ls : Array Slot) (hw : w_J15_checkFromIndexSize_b15 Q X  σ) (hR : tw_R G σ H) (hS : va_S (tw_A G) s.heap H locs) (hl : tw_l ls 4 []) : tw_W p l e R s m args below meth c σ H locs (tw_E below G (tw_Qi G Q) X args s R) (F0 m 15 ls []) := by
  unfold w_J15_checkFromIndexSize_b15 at hw
  exact hw.elim
set_option maxHeartbeats 4000000 in
theorem wk_J15_checkFromIndexSize (l : Launch) (hl0 : l.stackTraces = false) (G : Tgl) (fr : Nat)  (hfr : 1 ≤ fr) (l0 : Int32) (l1 : Int32) (l2 : Int32) (l3 : Option Nat) (Q : Int32 → Tst → Prop) (X : String → Nat → Tst → Prop) (σ : Tst) (hw : w_J15_checkFromIndexSize l0 l1 l2 l3 Q X σ) : tw_M l yJ15_checkFromIndexSize (ws_ yJ15_checkFromIndexSize cJ15_checkFromIndexSize 4 (some .int)) fr (40 * fr) G σ [.inl l0, .inl l1, .inl l2, .inr l3] (tw_Qi G Q) X := by
  unfold w_J15_checkFromIndexSize at hw
  refine tw_of (ret := (some .int)) hl0 (by decide) (Nat.le_of_ble_eq_true rfl) (fun p e R s m args below meth c hRf hRl C hr hmn hnx hR hS ls hl => ?_)
  have hfr : 1 ≤ R.frames := by rw [hRf]; exact hfr
  have hRl : R.locals = 40 * R.frames := by rw [hRl, hRf]
  have hl : tw_l ls 4 [(0, .inl l0), (1, .inl l1), (2, .inl l2), (3, .inr l3)] := hl
  refine tk_iload_n C hl 2 dJ15_checkFromIndexSize_0 rfl ?_
  refine tk_iload_n C hl 0 dJ15_checkFromIndexSize_1 rfl ?_
  refine lv_ior C.hx C.hb dJ15_checkFromIndexSize_2 ?_
  refine tk_iload_n C hl 1 dJ15_checkFromIndexSize_3 rfl ?_
  refine lv_ior C.hx C.hb dJ15_checkFromIndexSize_4 ?_
  refine lv_if_lt (tgt := 15) C.hx C.hb dJ15_checkFromIndexSize_5 (by decide) (fun c5 => ?_) (fun c5 => ?_)
  · replace hw := hw.1 c5
    exact wk_J15_checkFromIndexSize_b15 C hr hmn hnx hfr hRl σ _ _ _ hw hR hS (tk_sub hl [] rfl)
  · replace hw := hw.2 c5
    refine tk_iload_n C hl 1 dJ15_checkFromIndexSize_8 rfl ?_
    refine tk_iload_n C hl 2 dJ15_checkFromIndexSize_9 rfl ?_
    refine tk_iload_n C hl 0 dJ15_checkFromIndexSize_10 rfl ?_
    refine lv_isub C.hx C.hb dJ15_checkFromIndexSize_11 ?_
    refine lv_icmp_le (tgt := 23) C.hx C.hb dJ15_checkFromIndexSize_12 (by decide) (fun c12 => ?_) (fun c12 => ?_)
    · replace hw := hw.1 c12
      refine tk_iload_n C hl 0 dJ15_checkFromIndexSize_23 rfl ?_
      exact tw_iret C hR hS hr rfl dJ15_checkFromIndexSize_24 hw
    · replace hw := hw.2 c12
      exact wk_J15_checkFromIndexSize_b15 C hr hmn hnx hfr hRl σ _ _ _ hw hR hS (tk_sub hl [] rfl)
-- java/lang/String.checkBoundsOffCount(III)I
def w_J2_checkBoundsOffCount (l0 : Int32) (l1 : Int32) (l2 : Int32) (Q : Int32 → Tst → Prop) (X : String → Nat → Tst → Prop) (σ : Tst) : Prop := w_k σ 4 fun x1 => w_J15_checkFromIndexSize l0 l1 l2 x1 (fun x2 σ => Q x2 σ) X σ
set_option maxHeartbeats 4000000 in
theorem wk_J2_checkBoundsOffCount (l : Launch) (hl0 : l.stackTraces = false) (G : Tgl) (fr : Nat)  (hfr : 2 ≤ fr) (l0 : Int32) (l1 : Int32) (l2 : Int32) (Q : Int32 → Tst → Prop) (X : String → Nat → Tst → Prop) (σ : Tst) (hw : w_J2_checkBoundsOffCount l0 l1 l2 Q X σ) : tw_M l yJ2_checkBoundsOffCount (ws_ yJ2_checkBoundsOffCount cJ2_checkBoundsOffCount 3 (some .int)) fr (40 * fr) G σ [.inl l0, .inl l1, .inl l2] (tw_Qi G Q) X := by
  unfold w_J2_checkBoundsOffCount at hw
  refine tw_of (ret := (some .int)) hl0 (by decide) (Nat.le_of_ble_eq_true rfl) (fun p e R s m args below meth c hRf hRl C hr hmn hnx hR hS ls hl => ?_)
  have hfr : 2 ≤ R.frames := by rw [hRf]; exact hfr
  have hRl : R.locals = 40 * R.frames := by rw [hRl, hRf]
  have hl : tw_l ls 3 [(0, .inl l0), (1, .inl l1), (2, .inl l2)] := hl
  refine tk_iload_n C hl 0 dJ2_checkBoundsOffCount_0 rfl ?_
  refine tk_iload_n C hl 1 dJ2_checkBoundsOffCount_1 rfl ?_
  refine tk_iload_n C hl 2 dJ2_checkBoundsOffCount_2 rfl ?_
  refine tk_gk (n := 4) C hR hS hw 7 rfl q758 (fun _ h => h) dJ2_checkBoundsOffCount_3 (fun x1 hw => ?_)
  refine tw_cbi C hS (tw_runS (As := [.inl l0, .inl l1, .inl l2, .inr x1]) C hR hS (wk_J15_checkFromIndexSize l C.hst G (R.frames - 1) (by omega) _ _ _ _ _ _ σ hw) q806 q807 q85 q808 pd_J15_checkFromIndexSize ⟨by omega, by omega⟩ hl.1 rfl (tw_r8 [] (Nat.le_of_ble_eq_true rfl)) dJ2_checkBoundsOffCount_6) (fun E q σ H locs hX hR hS hi => tw_out C hR hS (fun x hx => (hnx x hx).elim) hi hX) (fun x2 σ H locs hw hR hS => ?_)
  exact tw_iret C hR hS hr rfl dJ2_checkBoundsOffCount_9 hw
-- java/lang/StringUTF16.checkBoundsOffCount(II[B)V
def w_J3_checkBoundsOffCount (l0 : Int32) (l1 : Int32) (l2 : Option Nat) (Q : Tst → Prop) (X : String → Nat → Tst → Prop) (σ : Tst) : Prop := w_J3_length l2 (fun x1 σ => w_J2_checkBoundsOffCount l0 l1 x1 (fun x2 σ => Q σ) X σ) X σ
set_option maxHeartbeats 4000000 in
theorem wk_J3_checkBoundsOffCount (l : Launch) (hl0 : l.stackTraces = false) (G : Tgl) (fr : Nat)  (hfr : 3 ≤ fr) (l0 : Int32) (l1 : Int32) (l2 : Option Nat) (Q : Tst → Prop) (X : String → Nat → Tst → Prop) (σ : Tst) (hw : w_J3_checkBoundsOffCount l0 l1 l2 Q X σ) : tw_M l yJ3_checkBoundsOffCount (ws_ yJ3_checkBoundsOffCount cJ3_checkBoundsOffCount 3 none) fr (40 * fr) G σ [.inl l0, .inl l1, .inr l2] (tw_Qv G Q) X := by
  unfold w_J3_checkBoundsOffCount at hw
  refine tw_of (ret := none) hl0 (by decide) (Nat.le_of_ble_eq_true rfl) (fun p e R s m args below meth c hRf hRl C hr hmn hnx hR hS ls hl => ?_)
  have hfr : 3 ≤ R.frames := by rw [hRf]; exact hfr
  have hRl : R.locals = 40 * R.frames := by rw [hRl, hRf]
  have hl : tw_l ls 3 [(0, .inl l0), (1, .inl l1), (2, .inr l2)] := hl
  refine tk_iload_n C hl 0 dJ3_checkBoundsOffCount_0 rfl ?_
  refine tk_iload_n C hl 1 dJ3_checkBoundsOffCount_1 rfl ?_
  refine tk_aload_n C hl 2 dJ3_checkBoundsOffCount_2 rfl ?_
  refine tw_cbi C hS (tw_runS (As := [.inr l2]) C hR hS (wk_J3_length l C.hst G (R.frames - 1) (by omega) _ _ _ σ hw) q752 q753 q68 q754 pd_J3_length ⟨by omega, by omega⟩ hl.1 rfl (tw_r8 [.inl l1, .inl l0] (Nat.le_of_ble_eq_true rfl)) dJ3_checkBoundsOffCount_3) (fun E q σ H locs hX hR hS hi => tw_out C hR hS (fun x hx => (hnx x hx).elim) hi hX) (fun x1 σ H locs hw hR hS => ?_)
  refine tw_cbi C hS (tw_runS (As := [.inl l0, .inl l1, .inl x1]) C hR hS (wk_J2_checkBoundsOffCount l C.hst G (R.frames - 1) (by omega) _ _ _ _ _ σ hw) q803 q804 q67 q805 pd_J2_checkBoundsOffCount ⟨by omega, by omega⟩ hl.1 rfl (tw_r8 [] (Nat.le_of_ble_eq_true rfl)) dJ3_checkBoundsOffCount_6) (fun E q σ H locs hX hR hS hi => tw_out C hR hS (fun x hx => (hnx x hx).elim) hi hX) (fun x2 σ H locs hw hR hS => ?_)
  refine tw_pop (x := .inl x2) C.hx C.hb dJ3_checkBoundsOffCount_9 ?_
  exact tw_vret C hR hS hr dJ3_checkBoundsOffCount_10 hw
-- java/lang/StringUTF16.putChar([BII)V
def w_J3_putChar_b28 (Q : Tst → Prop) (X : String → Nat → Tst → Prop) (l0 : Option Nat) (l1 : Int32) (l2 : Int32) (σ : Tst) : Prop := w_sb σ l0 (l1 <<< (1 &&& 31)) ((l2 >>> (0 &&& 31)).toInt8.toInt32) fun σ => w_sb σ l0 ((l1 <<< (1 &&& 31)) + 1) ((l2 >>> (8 &&& 31)).toInt8.toInt32) fun σ => Q σ
def w_J3_putChar_b18 (Q : Tst → Prop) (X : String → Nat → Tst → Prop) (σ : Tst) : Prop := False
def w_J3_putChar (l0 : Option Nat) (l1 : Int32) (l2 : Int32) (Q : Tst → Prop) (X : String → Nat → Tst → Prop) (σ : Tst) : Prop := w_if ((1 : Int32) = 0) (w_if (l1 < 0) (w_J3_putChar_b18 Q X σ) (w_J3_length l0 (fun x2 σ => w_if (l1 < x2) (w_J3_putChar_b28 Q X l0 l1 l2 σ) (w_J3_putChar_b18 Q X σ)) X σ)) (w_J3_putChar_b28 Q X l0 l1 l2 σ)
set_option maxHeartbeats 4000000 in
theorem wk_J3_putChar_b28  (C : tw_C p l R s m args meth c G cJ3_putChar 3 yJ3_putChar.cls) (hr : meth.sig.returnType = none) (hmn : meth.name = yJ3_putChar.name) (hnx : (∀ x ∈ c.exceptionTable.toList, False)) (hfr : 2 ≤ R.frames) (hRl : R.locals = 40 * R.frames) {Q : Tst → Prop} {X : String → Nat → Tst → Prop}  (l0 : Option Nat) (l1 : Int32) (l2 : Int32) (σ : Tst) (H : Heap) (locs : List Loc) (ls : Array Slot) (hw : w_J3_putChar_b28 Q X l0 l1 l2 σ) (hR : tw_R G σ H) (hS : va_S (tw_A G) s.heap H locs) (hl : tw_l ls 3 [(0, .inr l0), (1, .inl l1), (2, .inl l2)]) : tw_W p l e R s m args below meth c σ H locs (tw_E below G (tw_Qv G Q) X args s R) (F0 m 28 ls []) := by
  unfold w_J3_putChar_b28 at hw
  refine tk_iload_n C hl 1 dJ3_putChar_28 rfl ?_
  refine lv_iconst (v := 1) C.hx C.hb dJ3_putChar_29 (by decide) ?_
  refine lv_ishl C.hx C.hb dJ3_putChar_30 ?_
  refine tk_istore_n (L' := [(1, .inl (l1 <<< (1 &&& 31))), (0, .inr l0), (2, .inl l2)]) C hl dJ3_putChar_31 (by decide) rfl (fun ls hl => ?_)
  refine tk_aload_n C hl 1 dJ3_putChar_32 rfl ?_
  refine tk_iload_n C hl 0 dJ3_putChar_33 rfl ?_
  refine tk_iinc (L' := [(1, .inl ((l1 <<< (1 &&& 31)) + 1)), (0, .inr l0), (2, .inl l2)]) (y := ((l1 <<< (1 &&& 31)) + 1)) C hl 0 dJ3_putChar_34 rfl rfl (by decide) rfl (fun ls hl => ?_)
  refine tk_iload_n C hl 2 dJ3_putChar_37 rfl ?_
  refine tk_gs (x := .inl 0) C hR hS 5 rfl q768 (fun _ h => h) dJ3_putChar_38 ?_
  refine lv_ishr C.hx C.hb dJ3_putChar_41 ?_
  refine lv_i2b (v := (l2 >>> (0 &&& 31)).toInt8.toInt32) C.hx C.hb dJ3_putChar_42 rfl ?_
  refine tk_sb C hR hS hw dJ3_putChar_43 (fun σ H locs hw hR hS => ?_)
  refine tk_aload_n C hl 1 dJ3_putChar_44 rfl ?_
  refine tk_iload_n C hl 0 dJ3_putChar_45 rfl ?_
  refine tk_iload_n C hl 2 dJ3_putChar_46 rfl ?_
  refine tk_gs (x := .inl 8) C hR hS 6 rfl q770 (fun _ h => h) dJ3_putChar_47 ?_
  refine lv_ishr C.hx C.hb dJ3_putChar_50 ?_
  refine lv_i2b (v := (l2 >>> (8 &&& 31)).toInt8.toInt32) C.hx C.hb dJ3_putChar_51 rfl ?_
  refine tk_sb C hR hS hw dJ3_putChar_52 (fun σ H locs hw hR hS => ?_)
  exact tw_vret C hR hS hr dJ3_putChar_53 hw
set_option maxHeartbeats 4000000 in
theorem wk_J3_putChar_b18  (C : tw_C p l R s m args meth c G cJ3_putChar 3 yJ3_putChar.cls) (hr : meth.sig.returnType = none) (hmn : meth.name = yJ3_putChar.name) (hnx : (∀ x ∈ c.exceptionTable.toList, False)) (hfr : 2 ≤ R.frames) (hRl : R.locals = 40 * R.frames) {Q : Tst → Prop} {X : String → Nat → Tst → Prop}   (σ : Tst) (H : Heap) (locs : List Loc) (ls : Array Slot) (hw : w_J3_putChar_b18 Q X  σ) (hR : tw_R G σ H) (hS : va_S (tw_A G) s.heap H locs) (hl : tw_l ls 3 []) : tw_W p l e R s m args below meth c σ H locs (tw_E below G (tw_Qv G Q) X args s R) (F0 m 18 ls []) := by
  unfold w_J3_putChar_b18 at hw
  exact hw.elim
set_option maxHeartbeats 4000000 in
theorem wk_J3_putChar (l : Launch) (hl0 : l.stackTraces = false) (G : Tgl) (fr : Nat)  (hfr : 2 ≤ fr) (l0 : Option Nat) (l1 : Int32) (l2 : Int32) (Q : Tst → Prop) (X : String → Nat → Tst → Prop) (σ : Tst) (hw : w_J3_putChar l0 l1 l2 Q X σ) : tw_M l yJ3_putChar (ws_ yJ3_putChar cJ3_putChar 3 none) fr (40 * fr) G σ [.inr l0, .inl l1, .inl l2] (tw_Qv G Q) X := by
  unfold w_J3_putChar at hw
  refine tw_of (ret := none) hl0 (by decide) (Nat.le_of_ble_eq_true rfl) (fun p e R s m args below meth c hRf hRl C hr hmn hnx hR hS ls hl => ?_)
  have hfr : 2 ≤ R.frames := by rw [hRf]; exact hfr
  have hRl : R.locals = 40 * R.frames := by rw [hRl, hRf]
  have hl : tw_l ls 3 [(0, .inr l0), (1, .inl l1), (2, .inl l2)] := hl
  refine tk_gs (x := .inl 1) C hR hS 4 rfl q766 (fun _ h => h) dJ3_putChar_0 ?_
  refine lv_if_ne (tgt := 28) C.hx C.hb dJ3_putChar_3 (by decide) (fun c3 => ?_) (fun c3 => ?_)
  · replace hw := hw.2 c3
    exact wk_J3_putChar_b28 C hr hmn hnx hfr hRl _ _ _ σ _ _ _ hw hR hS (tk_sub hl [0, 1, 2] rfl)
  · replace hw := hw.1 c3
    refine tk_iload_n C hl 1 dJ3_putChar_6 rfl ?_
    refine lv_if_lt (tgt := 18) C.hx C.hb dJ3_putChar_7 (by decide) (fun c7 => ?_) (fun c7 => ?_)
    · replace hw := hw.1 c7
      exact wk_J3_putChar_b18 C hr hmn hnx hfr hRl σ _ _ _ hw hR hS (tk_sub hl [] rfl)
    · replace hw := hw.2 c7
      refine tk_iload_n C hl 1 dJ3_putChar_10 rfl ?_
      refine tk_aload_n C hl 0 dJ3_putChar_11 rfl ?_
      refine tw_cbi C hS (tw_runS (As := [.inr l0]) C hR hS (wk_J3_length l C.hst G (R.frames - 1) (by omega) _ _ _ σ hw) q752 q753 q68 q754 pd_J3_length ⟨by omega, by omega⟩ hl.1 rfl (tw_r8 [.inl l1] (Nat.le_of_ble_eq_true rfl)) dJ3_putChar_12) (fun E q σ H locs hX hR hS hi => tw_out C hR hS (fun x hx => (hnx x hx).elim) hi hX) (fun x2 σ H locs hw hR hS => ?_)
      refine lv_icmp_lt (tgt := 28) C.hx C.hb dJ3_putChar_15 (by decide) (fun c15 => ?_) (fun c15 => ?_)
      · replace hw := hw.1 c15
        exact wk_J3_putChar_b28 C hr hmn hnx hfr hRl _ _ _ σ _ _ _ hw hR hS (tk_sub hl [0, 1, 2] rfl)
      · replace hw := hw.2 c15
        exact wk_J3_putChar_b18 C hr hmn hnx hfr hRl σ _ _ _ hw hR hS (tk_sub hl [] rfl)
-- java/lang/StringUTF16.inflate([BI[BII)V
def w_J3_inflate_b10 (Q : Tst → Prop) (X : String → Nat → Tst → Prop) : Nat → Option Nat → Int32 → Option Nat → Int32 → Int32 → Int32 → Tst → Prop
  | 0, _, _, _, _, _, _, _ => False
  | n + 1, l0, l1, l2, l3, l4, l5, σ => w_if (l4 ≤ l5) (Q σ) (w_lb σ l0 l1 fun x1 => w_J3_putChar l2 l3 (x1 &&& 255) (fun σ => (w_J3_inflate_b10 Q X n) l0 (l1 + 1) l2 (l3 + 1) l4 (l5 + 1) σ) X σ)
def w_J3_inflate (l0 : Option Nat) (l1 : Int32) (l2 : Option Nat) (l3 : Int32) (l4 : Int32) (Q : Tst → Prop) (X : String → Nat → Tst → Prop) (σ : Tst) : Prop := w_J3_checkBoundsOffCount l3 l4 l2 (fun σ => ∃ z, w_J3_inflate_b10 Q X z l0 l1 l2 l3 l4 0 σ) X σ
set_option maxHeartbeats 4000000 in
theorem wk_J3_inflate_b10  (C : tw_C p l R s m args meth c G cJ3_inflate 6 yJ3_inflate.cls) (hr : meth.sig.returnType = none) (hmn : meth.name = yJ3_inflate.name) (hnx : (∀ x ∈ c.exceptionTable.toList, False)) (hfr : 4 ≤ R.frames) (hRl : R.locals = 40 * R.frames) {Q : Tst → Prop} {X : String → Nat → Tst → Prop}  : ∀ (n : Nat) (l0 : Option Nat) (l1 : Int32) (l2 : Option Nat) (l3 : Int32) (l4 : Int32) (l5 : Int32) (σ : Tst) (H : Heap) (locs : List Loc) (ls : Array Slot), w_J3_inflate_b10 Q X n l0 l1 l2 l3 l4 l5 σ → tw_R G σ H → va_S (tw_A G) s.heap H locs → tw_l ls 6 [(0, .inr l0), (1, .inl l1), (2, .inr l2), (3, .inl l3), (4, .inl l4), (5, .inl l5)] → tw_W p l e R s m args below meth c σ H locs (tw_E below G (tw_Qv G Q) X args s R) (F0 m 10 ls []) := by
  intro n
  induction n with
  | zero => intro l0 l1 l2 l3 l4 l5 σ H locs ls hw; exact False.elim hw
  | succ n hk10 =>
    intro l0 l1 l2 l3 l4 l5 σ H locs ls hw hR hS hl
    rw [w_J3_inflate_b10] at hw
    refine tk_iload C hl 5 dJ3_inflate_10 rfl ?_
    refine tk_iload C hl 4 dJ3_inflate_12 rfl ?_
    refine lv_icmp_ge (tgt := 41) C.hx C.hb dJ3_inflate_14 (by decide) (fun c14 => ?_) (fun c14 => ?_)
    · replace hw := hw.1 c14
      exact tw_vret C hR hS hr dJ3_inflate_41 hw
    · replace hw := hw.2 c14
      refine tk_aload_n C hl 2 dJ3_inflate_17 rfl ?_
      refine tk_iload_n C hl 3 dJ3_inflate_18 rfl ?_
      refine tk_iinc (L' := [(3, .inl (l3 + 1)), (0, .inr l0), (1, .inl l1), (2, .inr l2), (4, .inl l4), (5, .inl l5)]) (y := (l3 + 1)) C hl 3 dJ3_inflate_19 rfl rfl (by decide) rfl (fun ls hl => ?_)
      refine tk_aload_n C hl 1 dJ3_inflate_22 rfl ?_
      refine tk_iload_n C hl 2 dJ3_inflate_23 rfl ?_
      refine tk_iinc (L' := [(1, .inl (l1 + 1)), (3, .inl (l3 + 1)), (0, .inr l0), (2, .inr l2), (4, .inl l4), (5, .inl l5)]) (y := (l1 + 1)) C hl 2 dJ3_inflate_24 rfl rfl (by decide) rfl (fun ls hl => ?_)
      refine tk_lb C hR hw dJ3_inflate_27 (fun x1 hw => ?_)
      refine lv_sipush (v := 255) C.hx C.hb dJ3_inflate_28 (by decide) ?_
      refine lv_iand C.hx C.hb dJ3_inflate_31 ?_
      refine tw_cbv C hS (tw_runS (As := [.inr l2, .inl l3, .inl (x1 &&& 255)]) C hR hS (wk_J3_putChar l C.hst G (R.frames - 1) (by omega) _ _ _ _ _ σ hw) q763 q764 q68 q765 pd_J3_putChar ⟨by omega, by omega⟩ hl.1 rfl (tw_r8 [] (Nat.le_of_ble_eq_true rfl)) dJ3_inflate_32) (fun E q σ H locs hX hR hS hi => tw_out C hR hS (fun x hx => (hnx x hx).elim) hi hX) (fun σ H locs hw hR hS => ?_)
      refine tk_iinc (L' := [(5, .inl (l5 + 1)), (1, .inl (l1 + 1)), (3, .inl (l3 + 1)), (0, .inr l0), (2, .inr l2), (4, .inl l4)]) (y := (l5 + 1)) C hl 5 dJ3_inflate_35 rfl rfl (by decide) rfl (fun ls hl => ?_)
      refine lv_goto (tgt := 10) C.hx C.hb dJ3_inflate_38 (by decide) ?_
      exact hk10 _ _ _ _ _ _ σ _ _ _ hw hR hS (tk_sub hl [3, 1, 4, 2, 5, 0] rfl)
set_option maxHeartbeats 4000000 in
theorem wk_J3_inflate (l : Launch) (hl0 : l.stackTraces = false) (G : Tgl) (fr : Nat)  (hfr : 4 ≤ fr) (l0 : Option Nat) (l1 : Int32) (l2 : Option Nat) (l3 : Int32) (l4 : Int32) (Q : Tst → Prop) (X : String → Nat → Tst → Prop) (σ : Tst) (hw : w_J3_inflate l0 l1 l2 l3 l4 Q X σ) : tw_M l yJ3_inflate (ws_ yJ3_inflate cJ3_inflate 6 none) fr (40 * fr) G σ [.inr l0, .inl l1, .inr l2, .inl l3, .inl l4] (tw_Qv G Q) X := by
  unfold w_J3_inflate at hw
  refine tw_of (ret := none) hl0 (by decide) (Nat.le_of_ble_eq_true rfl) (fun p e R s m args below meth c hRf hRl C hr hmn hnx hR hS ls hl => ?_)
  have hfr : 4 ≤ R.frames := by rw [hRf]; exact hfr
  have hRl : R.locals = 40 * R.frames := by rw [hRl, hRf]
  have hl : tw_l ls 6 [(0, .inr l0), (1, .inl l1), (2, .inr l2), (3, .inl l3), (4, .inl l4)] := hl
  refine tk_iload_n C hl 3 dJ3_inflate_0 rfl ?_
  refine tk_iload C hl 4 dJ3_inflate_1 rfl ?_
  refine tk_aload_n C hl 2 dJ3_inflate_3 rfl ?_
  refine tw_cbv C hS (tw_runS (As := [.inl l3, .inl l4, .inr l2]) C hR hS (wk_J3_checkBoundsOffCount l C.hst G (R.frames - 1) (by omega) _ _ _ _ _ σ hw) q800 q801 q68 q802 pd_J3_checkBoundsOffCount ⟨by omega, by omega⟩ hl.1 rfl (tw_r8 [] (Nat.le_of_ble_eq_true rfl)) dJ3_inflate_4) (fun E q σ H locs hX hR hS hi => tw_out C hR hS (fun x hx => (hnx x hx).elim) hi hX) (fun σ H locs hw hR hS => ?_)
  refine lv_iconst (v := 0) C.hx C.hb dJ3_inflate_7 (by decide) ?_
  refine tk_istore (L' := [(5, .inl 0), (0, .inr l0), (1, .inl l1), (2, .inr l2), (3, .inl l3), (4, .inl l4)]) C hl dJ3_inflate_8 (by decide) rfl (fun ls hl => ?_)
  obtain ⟨z, hw⟩ := hw
  exact wk_J3_inflate_b10 C hr hmn hnx hfr hRl z _ _ _ _ _ _ σ _ _ _ hw hR hS (tk_sub hl [1, 2, 3, 4, 5, 0] rfl)
-- java/lang/StringLatin1.inflate([BI[BII)V
def w_J14_inflate (l0 : Option Nat) (l1 : Int32) (l2 : Option Nat) (l3 : Int32) (l4 : Int32) (Q : Tst → Prop) (X : String → Nat → Tst → Prop) (σ : Tst) : Prop := w_J3_inflate l0 l1 l2 l3 l4 (fun σ => Q σ) X σ
set_option maxHeartbeats 4000000 in
theorem wk_J14_inflate (l : Launch) (hl0 : l.stackTraces = false) (G : Tgl) (fr : Nat)  (hfr : 5 ≤ fr) (l0 : Option Nat) (l1 : Int32) (l2 : Option Nat) (l3 : Int32) (l4 : Int32) (Q : Tst → Prop) (X : String → Nat → Tst → Prop) (σ : Tst) (hw : w_J14_inflate l0 l1 l2 l3 l4 Q X σ) : tw_M l yJ14_inflate (ws_ yJ14_inflate cJ14_inflate 5 none) fr (40 * fr) G σ [.inr l0, .inl l1, .inr l2, .inl l3, .inl l4] (tw_Qv G Q) X := by
  unfold w_J14_inflate at hw
  refine tw_of (ret := none) hl0 (by decide) (Nat.le_of_ble_eq_true rfl) (fun p e R s m args below meth c hRf hRl C hr hmn hnx hR hS ls hl => ?_)
  have hfr : 5 ≤ R.frames := by rw [hRf]; exact hfr
  have hRl : R.locals = 40 * R.frames := by rw [hRl, hRf]
  have hl : tw_l ls 5 [(0, .inr l0), (1, .inl l1), (2, .inr l2), (3, .inl l3), (4, .inl l4)] := hl
  refine tk_aload_n C hl 0 dJ14_inflate_0 rfl ?_
  refine tk_iload_n C hl 1 dJ14_inflate_1 rfl ?_
  refine tk_aload_n C hl 2 dJ14_inflate_2 rfl ?_
  refine tk_iload_n C hl 3 dJ14_inflate_3 rfl ?_
  refine tk_iload C hl 4 dJ14_inflate_4 rfl ?_
  refine tw_cbv C hS (tw_runS (As := [.inr l0, .inl l1, .inr l2, .inl l3, .inl l4]) C hR hS (wk_J3_inflate l C.hst G (R.frames - 1) (by omega) _ _ _ _ _ _ _ σ hw) q797 q798 q68 q799 pd_J3_inflate ⟨by omega, by omega⟩ hl.1 rfl (tw_r8 [] (Nat.le_of_ble_eq_true rfl)) dJ14_inflate_6) (fun E q σ H locs hX hR hS hi => tw_out C hR hS (fun x hx => (hnx x hx).elim) hi hX) (fun σ H locs hw hR hS => ?_)
  exact tw_vret C hR hS hr dJ14_inflate_9 hw
-- java/lang/AbstractStringBuilder.inflate()V
def w_J0_inflate (l0 : Option Nat) (Q : Tst → Prop) (X : String → Nat → Tst → Prop) (σ : Tst) : Prop := w_rc σ l0 cJ1 <| w_J0_isLatin1 l0 (fun x1 σ => w_if (x1 = 0) (Q σ) (w_gr σ l0 cJ1 0 fun x2 => w_al σ x2 fun x3 => w_J3_newBytesFor x3 (fun x4 σ => w_gr σ l0 cJ1 0 fun x5 => w_gi σ l0 cJ1 3 fun x6 => w_J14_inflate x5 0 x4 0 x6 (fun σ => w_p σ l0 cJ1 0 (.inr x4) fun σ => w_ok .byte 1 ∧ w_p σ l0 cJ1 1 (.inl 1) fun σ => Q σ) X σ) X σ)) X σ
set_option maxHeartbeats 4000000 in
theorem wk_J0_inflate (l : Launch) (hl0 : l.stackTraces = false) (G : Tgl) (fr : Nat)  (hfr : 6 ≤ fr) (l0 : Option Nat) (Q : Tst → Prop) (X : String → Nat → Tst → Prop) (σ : Tst) (hw : w_J0_inflate l0 Q X σ) : tw_M l yJ0_inflate (ws_ yJ0_inflate cJ0_inflate 2 none) fr (40 * fr) G σ [.inr l0] (tw_Qv G Q) X := by
  unfold w_J0_inflate at hw
  refine tw_of (ret := none) hl0 (by decide) (Nat.le_of_ble_eq_true rfl) (fun p e R s m args below meth c hRf hRl C hr hmn hnx hR hS ls hl => ?_)
  have hfr : 6 ≤ R.frames := by rw [hRf]; exact hfr
  have hRl : R.locals = 40 * R.frames := by rw [hRl, hRf]
  have hl : tw_l ls 2 [(0, .inr l0)] := hl
  refine tk_aload_n C hl 0 dJ0_inflate_0 rfl ?_
  obtain ⟨hv, hw⟩ := hw
  refine tw_cbi C hS (tk_runU (As := []) (Cn := "java/lang/StringBuilder") (owner := "java/lang/AbstractStringBuilder") (x := ⟨"java/lang/AbstractStringBuilder", "isLatin1", "()Z"⟩) C hR hS (wk_J0_isLatin1 l C.hst G (R.frames - 1) (by omega) _ _ _ σ hw) hv rfl q741 q743 q744 q742 q65 q745 ⟨by decide, by decide, by exact (by decide +kernel : (parseMethodDescriptor "()Z").map (fun d => d.parameters.length) = some 0)⟩ ⟨by omega, by omega⟩ hl.1 rfl (tw_r8 [] (Nat.le_of_ble_eq_true rfl)) dJ0_inflate_1) (fun E q σ H locs hX hR hS hi => tw_out C hR hS (fun x hx => (hnx x hx).elim) hi hX) (fun x1 σ H locs hw hR hS => ?_)
  refine lv_if_ne (tgt := 8) C.hx C.hb dJ0_inflate_4 (by decide) (fun c4 => ?_) (fun c4 => ?_)
  · replace hw := hw.2 c4
    refine tk_aload_n C hl 0 dJ0_inflate_8 rfl ?_
    refine tk_gr C hR hw rfl in_J1 (by decide) q141 (fun _ h => h) dJ0_inflate_9 (fun x2 hw => ?_)
    refine tk_al C hR hw dJ0_inflate_12 (fun x3 hw => ?_)
    refine tw_cbq C hS (tw_runS (As := [.inl x3]) C hR hS (wk_J3_newBytesFor l C.hst G (R.frames - 1) (by omega) _ _ _ σ hw) q134 q135 q68 q136 pd_J3_newBytesFor ⟨by omega, by omega⟩ hl.1 rfl (tw_r8 [] (Nat.le_of_ble_eq_true rfl)) dJ0_inflate_13) (fun E q σ H locs hX hR hS hi => tw_out C hR hS (fun x hx => (hnx x hx).elim) hi hX) (fun x4 σ H locs hw hR hS => ?_)
    refine tk_astore_n (L' := [(1, .inr x4), (0, .inr l0)]) C hl dJ0_inflate_16 (by decide) rfl (fun ls hl => ?_)
    refine tk_aload_n C hl 1 dJ0_inflate_17 rfl ?_
    refine tk_gr C hR hw rfl in_J1 (by decide) q141 (fun _ h => h) dJ0_inflate_18 (fun x5 hw => ?_)
    refine lv_iconst (v := 0) C.hx C.hb dJ0_inflate_21 (by decide) ?_
    refine tk_aload_n C hl 0 dJ0_inflate_22 rfl ?_
    refine lv_iconst (v := 0) C.hx C.hb dJ0_inflate_23 (by decide) ?_
    refine tk_aload_n C hl 1 dJ0_inflate_24 rfl ?_
    refine tk_gi C hR hw rfl in_J1 (by decide) q145 (fun _ h => h) dJ0_inflate_25 (fun x6 hw => ?_)
    refine tw_cbv C hS (tw_runS (As := [.inr x5, .inl 0, .inr x4, .inl 0, .inl x6]) C hR hS (wk_J14_inflate l C.hst G (R.frames - 1) (by omega) _ _ _ _ _ _ _ σ hw) q794 q795 q84 q796 pd_J14_inflate ⟨by omega, by omega⟩ hl.1 rfl (tw_r8 [] (Nat.le_of_ble_eq_true rfl)) dJ0_inflate_28) (fun E q σ H locs hX hR hS hi => tw_out C hR hS (fun x hx => (hnx x hx).elim) hi hX) (fun σ H locs hw hR hS => ?_)
    refine tk_aload_n C hl 1 dJ0_inflate_31 rfl ?_
    refine tk_aload_n C hl 0 dJ0_inflate_32 rfl ?_
    refine tk_p (x := .inr x4) C hR hS hw (by decide) rfl in_J1 tyJ1 tyJ1_ok nmJ1 (by decide) q141 (fun _ h => h) rfl (tw_nrA _ _) dJ0_inflate_33 (fun σ H locs hw hR hS => ?_)
    refine tk_aload_n C hl 1 dJ0_inflate_36 rfl ?_
    refine lv_iconst (v := 1) C.hx C.hb dJ0_inflate_37 (by decide) ?_
    obtain ⟨hok, hw⟩ := hw
    refine tk_p (x := .inl 1) C hR hS hw (by decide) rfl in_J1 tyJ1 tyJ1_ok nmJ1 (by decide) q142 (fun _ h => h) rfl hok dJ0_inflate_38 (fun σ H locs hw hR hS => ?_)
    exact tw_vret C hR hS hr dJ0_inflate_41 hw
  · replace hw := hw.1 c4
    exact tw_vret C hR hS hr dJ0_inflate_7 hw
-- java/lang/String.checkIndex(II)V
def w_J2_checkIndex (l0 : Int32) (l1 : Int32) (Q : Tst → Prop) (X : String → Nat → Tst → Prop) (σ : Tst) : Prop := w_k σ 4 fun x1 => w_J15_checkIndex l0 l1 x1 (fun x2 σ => Q σ) X σ
set_option maxHeartbeats 4000000 in
theorem wk_J2_checkIndex (l : Launch) (hl0 : l.stackTraces = false) (G : Tgl) (fr : Nat)  (hfr : 2 ≤ fr) (l0 : Int32) (l1 : Int32) (Q : Tst → Prop) (X : String → Nat → Tst → Prop) (σ : Tst) (hw : w_J2_checkIndex l0 l1 Q X σ) : tw_M l yJ2_checkIndex (ws_ yJ2_checkIndex cJ2_checkIndex 2 none) fr (40 * fr) G σ [.inl l0, .inl l1] (tw_Qv G Q) X := by
  unfold w_J2_checkIndex at hw
  refine tw_of (ret := none) hl0 (by decide) (Nat.le_of_ble_eq_true rfl) (fun p e R s m args below meth c hRf hRl C hr hmn hnx hR hS ls hl => ?_)
  have hfr : 2 ≤ R.frames := by rw [hRf]; exact hfr
  have hRl : R.locals = 40 * R.frames := by rw [hRl, hRf]
  have hl : tw_l ls 2 [(0, .inl l0), (1, .inl l1)] := hl
  refine tk_iload_n C hl 0 dJ2_checkIndex_0 rfl ?_
  refine tk_iload_n C hl 1 dJ2_checkIndex_1 rfl ?_
  refine tk_gk (n := 4) C hR hS hw 7 rfl q758 (fun _ h => h) dJ2_checkIndex_2 (fun x1 hw => ?_)
  refine tw_cbi C hS (tw_runS (As := [.inl l0, .inl l1, .inr x1]) C hR hS (wk_J15_checkIndex l C.hst G (R.frames - 1) (by omega) _ _ _ _ _ σ hw) q1390 q465 q85 q466 pd_J15_checkIndex ⟨by omega, by omega⟩ hl.1 rfl (tw_r8 [] (Nat.le_of_ble_eq_true rfl)) dJ2_checkIndex_5) (fun E q σ H locs hX hR hS hi => tw_out C hR hS (fun x hx => (hnx x hx).elim) hi hX) (fun x2 σ H locs hw hR hS => ?_)
  refine tw_pop (x := .inl x2) C.hx C.hb dJ2_checkIndex_8 ?_
  exact tw_vret C hR hS hr dJ2_checkIndex_9 hw
-- java/lang/StringUTF16.checkIndex(I[B)V
def w_J3_checkIndex (l0 : Int32) (l1 : Option Nat) (Q : Tst → Prop) (X : String → Nat → Tst → Prop) (σ : Tst) : Prop := w_J3_length l1 (fun x1 σ => w_J2_checkIndex l0 x1 (fun σ => Q σ) X σ) X σ
set_option maxHeartbeats 4000000 in
theorem wk_J3_checkIndex (l : Launch) (hl0 : l.stackTraces = false) (G : Tgl) (fr : Nat)  (hfr : 3 ≤ fr) (l0 : Int32) (l1 : Option Nat) (Q : Tst → Prop) (X : String → Nat → Tst → Prop) (σ : Tst) (hw : w_J3_checkIndex l0 l1 Q X σ) : tw_M l yJ3_checkIndex (ws_ yJ3_checkIndex cJ3_checkIndex 2 none) fr (40 * fr) G σ [.inl l0, .inr l1] (tw_Qv G Q) X := by
  unfold w_J3_checkIndex at hw
  refine tw_of (ret := none) hl0 (by decide) (Nat.le_of_ble_eq_true rfl) (fun p e R s m args below meth c hRf hRl C hr hmn hnx hR hS ls hl => ?_)
  have hfr : 3 ≤ R.frames := by rw [hRf]; exact hfr
  have hRl : R.locals = 40 * R.frames := by rw [hRl, hRf]
  have hl : tw_l ls 2 [(0, .inl l0), (1, .inr l1)] := hl
  refine tk_iload_n C hl 0 dJ3_checkIndex_0 rfl ?_
  refine tk_aload_n C hl 1 dJ3_checkIndex_1 rfl ?_
  refine tw_cbi C hS (tw_runS (As := [.inr l1]) C hR hS (wk_J3_length l C.hst G (R.frames - 1) (by omega) _ _ _ σ hw) q752 q753 q68 q754 pd_J3_length ⟨by omega, by omega⟩ hl.1 rfl (tw_r8 [.inl l0] (Nat.le_of_ble_eq_true rfl)) dJ3_checkIndex_2) (fun E q σ H locs hX hR hS hi => tw_out C hR hS (fun x hx => (hnx x hx).elim) hi hX) (fun x1 σ H locs hw hR hS => ?_)
  refine tw_cbv C hS (tw_runS (As := [.inl l0, .inl x1]) C hR hS (wk_J2_checkIndex l C.hst G (R.frames - 1) (by omega) _ _ _ _ σ hw) q1387 q1388 q67 q1389 pd_J2_checkIndex ⟨by omega, by omega⟩ hl.1 rfl (tw_r8 [] (Nat.le_of_ble_eq_true rfl)) dJ3_checkIndex_5) (fun E q σ H locs hX hR hS hi => tw_out C hR hS (fun x hx => (hnx x hx).elim) hi hX) (fun σ H locs hw hR hS => ?_)
  exact tw_vret C hR hS hr dJ3_checkIndex_8 hw
-- java/lang/StringUTF16.putCharSB([BII)V
def w_J3_putCharSB (l0 : Option Nat) (l1 : Int32) (l2 : Int32) (Q : Tst → Prop) (X : String → Nat → Tst → Prop) (σ : Tst) : Prop := w_J3_checkIndex l1 l0 (fun σ => w_J3_putChar l0 l1 l2 (fun σ => Q σ) X σ) X σ
set_option maxHeartbeats 4000000 in
theorem wk_J3_putCharSB (l : Launch) (hl0 : l.stackTraces = false) (G : Tgl) (fr : Nat)  (hfr : 4 ≤ fr) (l0 : Option Nat) (l1 : Int32) (l2 : Int32) (Q : Tst → Prop) (X : String → Nat → Tst → Prop) (σ : Tst) (hw : w_J3_putCharSB l0 l1 l2 Q X σ) : tw_M l yJ3_putCharSB (ws_ yJ3_putCharSB cJ3_putCharSB 3 none) fr (40 * fr) G σ [.inr l0, .inl l1, .inl l2] (tw_Qv G Q) X := by
  unfold w_J3_putCharSB at hw
  refine tw_of (ret := none) hl0 (by decide) (Nat.le_of_ble_eq_true rfl) (fun p e R s m args below meth c hRf hRl C hr hmn hnx hR hS ls hl => ?_)
  have hfr : 4 ≤ R.frames := by rw [hRf]; exact hfr
  have hRl : R.locals = 40 * R.frames := by rw [hRl, hRf]
  have hl : tw_l ls 3 [(0, .inr l0), (1, .inl l1), (2, .inl l2)] := hl
  refine tk_iload_n C hl 1 dJ3_putCharSB_0 rfl ?_
  refine tk_aload_n C hl 0 dJ3_putCharSB_1 rfl ?_
  refine tw_cbv C hS (tw_runS (As := [.inl l1, .inr l0]) C hR hS (wk_J3_checkIndex l C.hst G (R.frames - 1) (by omega) _ _ _ _ σ hw) q1384 q1385 q68 q1386 pd_J3_checkIndex ⟨by omega, by omega⟩ hl.1 rfl (tw_r8 [] (Nat.le_of_ble_eq_true rfl)) dJ3_putCharSB_2) (fun E q σ H locs hX hR hS hi => tw_out C hR hS (fun x hx => (hnx x hx).elim) hi hX) (fun σ H locs hw hR hS => ?_)
  refine tk_aload_n C hl 0 dJ3_putCharSB_5 rfl ?_
  refine tk_iload_n C hl 1 dJ3_putCharSB_6 rfl ?_
  refine tk_iload_n C hl 2 dJ3_putCharSB_7 rfl ?_
  refine tw_cbv C hS (tw_runS (As := [.inr l0, .inl l1, .inl l2]) C hR hS (wk_J3_putChar l C.hst G (R.frames - 1) (by omega) _ _ _ _ _ σ hw) q763 q764 q68 q765 pd_J3_putChar ⟨by omega, by omega⟩ hl.1 rfl (tw_r8 [] (Nat.le_of_ble_eq_true rfl)) dJ3_putCharSB_8) (fun E q σ H locs hX hR hS hi => tw_out C hR hS (fun x hx => (hnx x hx).elim) hi hX) (fun σ H locs hw hR hS => ?_)
  exact tw_vret C hR hS hr dJ3_putCharSB_11 hw
-- java/lang/AbstractStringBuilder.append(C)Ljava/lang/AbstractStringBuilder;
def w_J0_append_3_b75 (Q : Option Nat → Tst → Prop) (X : String → Nat → Tst → Prop) (l0 : Option Nat) (σ : Tst) : Prop := Q l0 σ
def w_J0_append_3_b56 (Q : Option Nat → Tst → Prop) (X : String → Nat → Tst → Prop) (l0 : Option Nat) (l1 : Int32) (σ : Tst) : Prop := w_gr σ l0 cJ1 0 fun x1 => w_gi σ l0 cJ1 3 fun x2 => w_p σ l0 cJ1 3 (.inl (x2 + 1)) fun σ => w_J3_putCharSB x1 x2 l1 (fun σ => w_J0_append_3_b75 Q X l0 σ) X σ
def w_J0_append_3_b45 (Q : Option Nat → Tst → Prop) (X : String → Nat → Tst → Prop) (l0 : Option Nat) (l1 : Int32) (σ : Tst) : Prop := w_rc σ l0 cJ1 <| w_J0_isLatin1 l0 (fun x1 σ => w_if (x1 = 0) (w_J0_append_3_b56 Q X l0 l1 σ) (w_rc σ l0 cJ1 <| w_J0_inflate l0 (fun σ => w_J0_append_3_b56 Q X l0 l1 σ) X σ)) X σ
def w_J0_append_3 (l0 : Option Nat) (l1 : Int32) (Q : Option Nat → Tst → Prop) (X : String → Nat → Tst → Prop) (σ : Tst) : Prop := w_gi σ l0 cJ1 3 fun x1 => w_rc σ l0 cJ1 <| w_J0_ensureCapacityInternal l0 (x1 + 1) (fun σ => w_rc σ l0 cJ1 <| w_J0_isLatin1 l0 (fun x3 σ => w_if (x3 = 0) (w_J0_append_3_b45 Q X l0 l1 σ) (w_J14_canEncode l1 (fun x4 σ => w_if (x4 = 0) (w_J0_append_3_b45 Q X l0 l1 σ) (w_gr σ l0 cJ1 0 fun x5 => w_gi σ l0 cJ1 3 fun x6 => w_p σ l0 cJ1 3 (.inl (x6 + 1)) fun σ => w_sb σ x5 x6 (l1.toInt8.toInt32) fun σ => w_J0_append_3_b75 Q X l0 σ)) X σ)) X σ) X σ
set_option maxHeartbeats 4000000 in
theorem wk_J0_append_3_b75  (C : tw_C p l R s m args meth c G cJ0_append_3 2 yJ0_append_3.cls) (hr : meth.sig.returnType = (some (.object "java/lang/AbstractStringBuilder"))) (hmn : meth.name = yJ0_append_3.name) (hnx : (∀ x ∈ c.exceptionTable.toList, False)) (hfr : 7 ≤ R.frames) (hRl : R.locals = 40 * R.frames) {Q : Option Nat → Tst → Prop} {X : String → Nat → Tst → Prop}  (l0 : Option Nat) (σ : Tst) (H : Heap) (locs : List Loc) (ls : Array Slot) (hw : w_J0_append_3_b75 Q X l0 σ) (hR : tw_R G σ H) (hS : va_S (tw_A G) s.heap H locs) (hl : tw_l ls 2 [(0, .inr l0)]) : tw_W p l e R s m args below meth c σ H locs (tw_E below G (tw_Qq G Q) X args s R) (F0 m 75 ls []) := by
  unfold w_J0_append_3_b75 at hw
  refine tk_aload_n C hl 0 dJ0_append_3_75 rfl ?_
  exact tw_aret C hR hS hr (Or.inl ⟨_, rfl⟩) dJ0_append_3_76 hw
set_option maxHeartbeats 4000000 in
theorem wk_J0_append_3_b56  (C : tw_C p l R s m args meth c G cJ0_append_3 2 yJ0_append_3.cls) (hr : meth.sig.returnType = (some (.object "java/lang/AbstractStringBuilder"))) (hmn : meth.name = yJ0_append_3.name) (hnx : (∀ x ∈ c.exceptionTable.toList, False)) (hfr : 7 ≤ R.frames) (hRl : R.locals = 40 * R.frames) {Q : Option Nat → Tst → Prop} {X : String → Nat → Tst → Prop}  (l0 : Option Nat) (l1 : Int32) (σ : Tst) (H : Heap) (locs : List Loc) (ls : Array Slot) (hw : w_J0_append_3_b56 Q X l0 l1 σ) (hR : tw_R G σ H) (hS : va_S (tw_A G) s.heap H locs) (hl : tw_l ls 2 [(0, .inr l0), (1, .inl l1)]) : tw_W p l e R s m args below meth c σ H locs (tw_E below G (tw_Qq G Q) X args s R) (F0 m 56 ls []) := by
  unfold w_J0_append_3_b56 at hw
  refine tk_aload_n C hl 0 dJ0_append_3_56 rfl ?_
  refine tk_gr C hR hw rfl in_J1 (by decide) q141 (fun _ h => h) dJ0_append_3_57 (fun x1 hw => ?_)
  refine tk_aload_n C hl 0 dJ0_append_3_60 rfl ?_
  refine tw_dup (x := .inr l0) C.hx C.hb dJ0_append_3_61 ?_
  refine tk_gi C hR hw rfl in_J1 (by decide) q145 (fun _ h => h) dJ0_append_3_62 (fun x2 hw => ?_)
  refine tw_dup_x1 (x := .inl x2) (y := .inr l0) C.hx C.hb dJ0_append_3_65 ?_
  refine lv_iconst (v := 1) C.hx C.hb dJ0_append_3_66 (by decide) ?_
  refine lv_iadd C.hx C.hb dJ0_append_3_67 ?_
  refine tk_p (x := .inl (x2 + 1)) C hR hS hw (by decide) rfl in_J1 tyJ1 tyJ1_ok nmJ1 (by decide) q145 (fun _ h => h) rfl (tw_ni _) dJ0_append_3_68 (fun σ H locs hw hR hS => ?_)
  refine tk_iload_n C hl 1 dJ0_append_3_71 rfl ?_
  refine tw_cbv C hS (tw_runS (As := [.inr x1, .inl x2, .inl l1]) C hR hS (wk_J3_putCharSB l C.hst G (R.frames - 1) (by omega) _ _ _ _ _ σ hw) q1381 q1382 q68 q1383 pd_J3_putCharSB ⟨by omega, by omega⟩ hl.1 rfl (tw_r8 [] (Nat.le_of_ble_eq_true rfl)) dJ0_append_3_72) (fun E q σ H locs hX hR hS hi => tw_out C hR hS (fun x hx => (hnx x hx).elim) hi hX) (fun σ H locs hw hR hS => ?_)
  exact wk_J0_append_3_b75 C hr hmn hnx hfr hRl _ σ _ _ _ hw hR hS (tk_sub hl [0] rfl)
set_option maxHeartbeats 4000000 in
theorem wk_J0_append_3_b45  (C : tw_C p l R s m args meth c G cJ0_append_3 2 yJ0_append_3.cls) (hr : meth.sig.returnType = (some (.object "java/lang/AbstractStringBuilder"))) (hmn : meth.name = yJ0_append_3.name) (hnx : (∀ x ∈ c.exceptionTable.toList, False)) (hfr : 7 ≤ R.frames) (hRl : R.locals = 40 * R.frames) {Q : Option Nat → Tst → Prop} {X : String → Nat → Tst → Prop}  (l0 : Option Nat) (l1 : Int32) (σ : Tst) (H : Heap) (locs : List Loc) (ls : Array Slot) (hw : w_J0_append_3_b45 Q X l0 l1 σ) (hR : tw_R G σ H) (hS : va_S (tw_A G) s.heap H locs) (hl : tw_l ls 2 [(0, .inr l0), (1, .inl l1)]) : tw_W p l e R s m args below meth c σ H locs (tw_E below G (tw_Qq G Q) X args s R) (F0 m 45 ls []) := by
  unfold w_J0_append_3_b45 at hw
  refine tk_aload_n C hl 0 dJ0_append_3_45 rfl ?_
  obtain ⟨hv, hw⟩ := hw
  refine tw_cbi C hS (tk_runU (As := []) (Cn := "java/lang/StringBuilder") (owner := "java/lang/AbstractStringBuilder") (x := ⟨"java/lang/AbstractStringBuilder", "isLatin1", "()Z"⟩) C hR hS (wk_J0_isLatin1 l C.hst G (R.frames - 1) (by omega) _ _ _ σ hw) hv rfl q741 q743 q744 q742 q65 q745 ⟨by decide, by decide, by exact (by decide +kernel : (parseMethodDescriptor "()Z").map (fun d => d.parameters.length) = some 0)⟩ ⟨by omega, by omega⟩ hl.1 rfl (tw_r8 [] (Nat.le_of_ble_eq_true rfl)) dJ0_append_3_46) (fun E q σ H locs hX hR hS hi => tw_out C hR hS (fun x hx => (hnx x hx).elim) hi hX) (fun x1 σ H locs hw hR hS => ?_)
  refine lv_if_eq (tgt := 56) C.hx C.hb dJ0_append_3_49 (by decide) (fun c49 => ?_) (fun c49 => ?_)
  · replace hw := hw.1 c49
    exact wk_J0_append_3_b56 C hr hmn hnx hfr hRl _ _ σ _ _ _ hw hR hS (tk_sub hl [0, 1] rfl)
  · replace hw := hw.2 c49
    refine tk_aload_n C hl 0 dJ0_append_3_52 rfl ?_
    obtain ⟨hv, hw⟩ := hw
    refine tw_cbv C hS (tk_runP (As := []) (Cn := "java/lang/StringBuilder") (y := yJ0_inflate) C hR hS (wk_J0_inflate l C.hst G (R.frames - 1) (by omega) _ _ _ σ hw) hv rfl q790 q792 (List.Mem.tail _ (List.Mem.head _)) q65 q793 pd_J0_inflate ⟨by omega, by omega⟩ hl.1 rfl (tw_r8 [] (Nat.le_of_ble_eq_true rfl)) dJ0_append_3_53) (fun E q σ H locs hX hR hS hi => tw_out C hR hS (fun x hx => (hnx x hx).elim) hi hX) (fun σ H locs hw hR hS => ?_)
    exact wk_J0_append_3_b56 C hr hmn hnx hfr hRl _ _ σ _ _ _ hw hR hS (tk_sub hl [0, 1] rfl)
set_option maxHeartbeats 4000000 in
theorem wk_J0_append_3 (l : Launch) (hl0 : l.stackTraces = false) (G : Tgl) (fr : Nat)  (hfr : 7 ≤ fr) (l0 : Option Nat) (l1 : Int32) (Q : Option Nat → Tst → Prop) (X : String → Nat → Tst → Prop) (σ : Tst) (hw : w_J0_append_3 l0 l1 Q X σ) : tw_M l yJ0_append_3 (ws_ yJ0_append_3 cJ0_append_3 2 (some (.object "java/lang/AbstractStringBuilder"))) fr (40 * fr) G σ [.inr l0, .inl l1] (tw_Qq G Q) X := by
  unfold w_J0_append_3 at hw
  refine tw_of (ret := (some (.object "java/lang/AbstractStringBuilder"))) hl0 (by decide) (Nat.le_of_ble_eq_true rfl) (fun p e R s m args below meth c hRf hRl C hr hmn hnx hR hS ls hl => ?_)
  have hfr : 7 ≤ R.frames := by rw [hRf]; exact hfr
  have hRl : R.locals = 40 * R.frames := by rw [hRl, hRf]
  have hl : tw_l ls 2 [(0, .inr l0), (1, .inl l1)] := hl
  refine tk_aload_n C hl 0 dJ0_append_3_0 rfl ?_
  refine tk_aload_n C hl 0 dJ0_append_3_1 rfl ?_
  refine tk_gi C hR hw rfl in_J1 (by decide) q145 (fun _ h => h) dJ0_append_3_2 (fun x1 hw => ?_)
  refine lv_iconst (v := 1) C.hx C.hb dJ0_append_3_5 (by decide) ?_
  refine lv_iadd C.hx C.hb dJ0_append_3_6 ?_
  obtain ⟨hv, hw⟩ := hw
  refine tw_cbv C hS (tk_runP (As := [.inl (x1 + 1)]) (Cn := "java/lang/StringBuilder") (y := yJ0_ensureCapacityInternal) C hR hS (wk_J0_ensureCapacityInternal l C.hst G (R.frames - 1) (by omega) _ _ _ _ σ hw) hv rfl q712 q714 (List.Mem.head _) q65 q715 pd_J0_ensureCapacityInternal ⟨by omega, by omega⟩ hl.1 rfl (tw_r8 [] (Nat.le_of_ble_eq_true rfl)) dJ0_append_3_7) (fun E q σ H locs hX hR hS hi => tw_out C hR hS (fun x hx => (hnx x hx).elim) hi hX) (fun σ H locs hw hR hS => ?_)
  refine tk_aload_n C hl 0 dJ0_append_3_10 rfl ?_
  obtain ⟨hv, hw⟩ := hw
  refine tw_cbi C hS (tk_runU (As := []) (Cn := "java/lang/StringBuilder") (owner := "java/lang/AbstractStringBuilder") (x := ⟨"java/lang/AbstractStringBuilder", "isLatin1", "()Z"⟩) C hR hS (wk_J0_isLatin1 l C.hst G (R.frames - 1) (by omega) _ _ _ σ hw) hv rfl q741 q743 q744 q742 q65 q745 ⟨by decide, by decide, by exact (by decide +kernel : (parseMethodDescriptor "()Z").map (fun d => d.parameters.length) = some 0)⟩ ⟨by omega, by omega⟩ hl.1 rfl (tw_r8 [] (Nat.le_of_ble_eq_true rfl)) dJ0_append_3_11) (fun E q σ H locs hX hR hS hi => tw_out C hR hS (fun x hx => (hnx x hx).elim) hi hX) (fun x3 σ H locs hw hR hS => ?_)
  refine lv_if_eq (tgt := 45) C.hx C.hb dJ0_append_3_14 (by decide) (fun c14 => ?_) (fun c14 => ?_)
  · replace hw := hw.1 c14
    exact wk_J0_append_3_b45 C hr hmn hnx hfr hRl _ _ σ _ _ _ hw hR hS (tk_sub hl [0, 1] rfl)
  · replace hw := hw.2 c14
    refine tk_iload_n C hl 1 dJ0_append_3_17 rfl ?_
    refine tw_cbi C hS (tw_runS (As := [.inl l1]) C hR hS (wk_J14_canEncode l C.hst G (R.frames - 1) (by omega) _ _ _ σ hw) q1378 q1379 q84 q1380 pd_J14_canEncode ⟨by omega, by omega⟩ hl.1 rfl (tw_r8 [] (Nat.le_of_ble_eq_true rfl)) dJ0_append_3_18) (fun E q σ H locs hX hR hS hi => tw_out C hR hS (fun x hx => (hnx x hx).elim) hi hX) (fun x4 σ H locs hw hR hS => ?_)
    refine lv_if_eq (tgt := 45) C.hx C.hb dJ0_append_3_21 (by decide) (fun c21 => ?_) (fun c21 => ?_)
    · replace hw := hw.1 c21
      exact wk_J0_append_3_b45 C hr hmn hnx hfr hRl _ _ σ _ _ _ hw hR hS (tk_sub hl [0, 1] rfl)
    · replace hw := hw.2 c21
      refine tk_aload_n C hl 0 dJ0_append_3_24 rfl ?_
      refine tk_gr C hR hw rfl in_J1 (by decide) q141 (fun _ h => h) dJ0_append_3_25 (fun x5 hw => ?_)
      refine tk_aload_n C hl 0 dJ0_append_3_28 rfl ?_
      refine tw_dup (x := .inr l0) C.hx C.hb dJ0_append_3_29 ?_
      refine tk_gi C hR hw rfl in_J1 (by decide) q145 (fun _ h => h) dJ0_append_3_30 (fun x6 hw => ?_)
      refine tw_dup_x1 (x := .inl x6) (y := .inr l0) C.hx C.hb dJ0_append_3_33 ?_
      refine lv_iconst (v := 1) C.hx C.hb dJ0_append_3_34 (by decide) ?_
      refine lv_iadd C.hx C.hb dJ0_append_3_35 ?_
      refine tk_p (x := .inl (x6 + 1)) C hR hS hw (by decide) rfl in_J1 tyJ1 tyJ1_ok nmJ1 (by decide) q145 (fun _ h => h) rfl (tw_ni _) dJ0_append_3_36 (fun σ H locs hw hR hS => ?_)
      refine tk_iload_n C hl 1 dJ0_append_3_39 rfl ?_
      refine lv_i2b (v := l1.toInt8.toInt32) C.hx C.hb dJ0_append_3_40 rfl ?_
      refine tk_sb C hR hS hw dJ0_append_3_41 (fun σ H locs hw hR hS => ?_)
      refine lv_goto (tgt := 75) C.hx C.hb dJ0_append_3_42 (by decide) ?_
      exact wk_J0_append_3_b75 C hr hmn hnx hfr hRl _ σ _ _ _ hw hR hS (tk_sub hl [0] rfl)
end GW21
