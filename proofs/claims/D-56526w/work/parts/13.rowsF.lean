-- arrays, objects, calls over the pure steps
section TL
variable {p : Program} {l : Launch} {e : Env} {R : Room} {s : State} {m : MethodId} {args : Array Value} {below : List Frame} {meth : Method} {c : Code} {H : Heap} {locs : List Loc} {cells slots : Nat} {Q : State → Prop} {G : Tgl} {cc : ByteArray} {nL : Nat} {own : String} {pc : Nat} {ls : Array Slot} {rest : List Value} {σ : Tst} {v : Option Nat} {i : Int32}
theorem tw_tyx {t : Nat} (h : t < 11) : ∃ ty, (tw_tys G)[t]? = some (G.2.1 t, ty) := by
  match t, h with
  | 0, _ => exact ⟨_, rfl⟩
  | 1, _ => exact ⟨_, rfl⟩
  | 2, _ => exact ⟨_, rfl⟩
  | 3, _ => exact ⟨_, rfl⟩
  | 4, _ => exact ⟨_, rfl⟩
  | 5, _ => exact ⟨_, rfl⟩
  | 6, _ => exact ⟨_, rfl⟩
  | 7, _ => exact ⟨_, rfl⟩
  | 8, _ => exact ⟨_, rfl⟩
  | 9, _ => exact ⟨_, rfl⟩
  | 10, _ => exact ⟨_, rfl⟩
theorem tw_tyr {t : Nat} (h1 : 5 ≤ t) (h2 : t < 10) : ∃ ty, (tw_tys G)[t]? = some (G.2.1 t, ty) ∧ ty.isReference = true := by
  match t, h1, h2 with
  | 5, _, _ => exact ⟨_, rfl, rfl⟩
  | 6, _, _ => exact ⟨_, rfl, rfl⟩
  | 7, _, _ => exact ⟨_, rfl, rfl⟩
  | 8, _, _ => exact ⟨_, rfl, rfl⟩
  | 9, _, _ => exact ⟨_, rfl, rfl⟩
theorem tw_tyo {t : Nat} (h1 : 5 ≤ t) (h2 : t < 10) (h3 : t ≠ 8) : ∃ E, (tw_tys G)[t]? = some (G.2.1 t, .object E) ∧ (t = 5 → E = "java/lang/Object") ∧ (t = 6 → E = "TreeDiffer$Tree") ∧ (t = 7 → E = "TreeDifferModel$Tree") ∧ (t = 9 → E = "TreeDifferModel$Item") := by
  match t, h1, h2, h3 with
  | 5, _, _, _ => exact ⟨_, rfl, fun _ => rfl, fun h => absurd h (by decide), fun h => absurd h (by decide), fun h => absurd h (by decide)⟩
  | 6, _, _, _ => exact ⟨_, rfl, fun h => absurd h (by decide), fun _ => rfl, fun h => absurd h (by decide), fun h => absurd h (by decide)⟩
  | 7, _, _, _ => exact ⟨_, rfl, fun h => absurd h (by decide), fun h => absurd h (by decide), fun _ => rfl, fun h => absurd h (by decide)⟩
  | 9, _, _, _ => exact ⟨_, rfl, fun h => absurd h (by decide), fun h => absurd h (by decide), fun h => absurd h (by decide), fun _ => rfl⟩
  | 8, _, _, h => exact absurd rfl h
theorem tk_al (C : tw_C p l R s m args meth c G cc nL own) (hR : tw_R G σ H) {K : Int32 → Prop} (hw : w_al σ v K) (hdg : decode cc pc = .ok (.arraylength, 1)) (kk : ∀ x : Int32, K x → W p l e R s m args below meth c H locs cells slots Q (F0 m (pc + 1) ls (.int x :: rest))) : W p l e R s m args below meth c H locs cells slots Q (F0 m pc ls (va_rf v :: rest)) := by
  obtain ⟨a, t, n, d, rfl, ha, ht, hw⟩ := hw
  obtain ⟨ty, hty⟩ := tw_tyx (G := G) ht
  exact tw_alen C hR hty ha hdg (kk _ hw)
theorem tk_li (C : tw_C p l R s m args meth c G cc nL own) (hR : tw_R G σ H) {K : Int32 → Prop} (hw : w_li σ v i K) (hdg : decode cc pc = .ok (.iaload, 1)) (kk : ∀ x : Int32, K x → W p l e R s m args below meth c H locs cells slots Q (F0 m (pc + 1) ls (.int x :: rest))) : W p l e R s m args below meth c H locs cells slots Q (F0 m pc ls (.int i :: va_rf v :: rest)) := by
  obtain ⟨a, n, f, j, rfl, ha, rfl, hj, h31, hw⟩ := hw
  exact tw_iald C hR ha hj h31 hdg (kk _ hw)
theorem tk_lc (C : tw_C p l R s m args meth c G cc nL own) (hR : tw_R G σ H) {K : Int32 → Prop} (hw : w_lc σ v i K) (hdg : decode cc pc = .ok (.caload, 1)) (kk : ∀ x : Int32, K x → W p l e R s m args below meth c H locs cells slots Q (F0 m (pc + 1) ls (.int x :: rest))) : W p l e R s m args below meth c H locs cells slots Q (F0 m pc ls (.int i :: va_rf v :: rest)) := by
  obtain ⟨a, n, f, j, rfl, ha, rfl, hj, h31, hw⟩ := hw
  exact tw_cald C hR ha hj h31 hdg (kk _ hw)
theorem tk_ll (C : tw_C p l R s m args meth c G cc nL own) (hR : tw_R G σ H) {K : Int64 → Prop} (hw : w_ll σ v i K) (hdg : decode cc pc = .ok (.laload, 1)) (kk : ∀ x : Int64, K x → W p l e R s m args below meth c H locs cells slots Q (F0 m (pc + 1) ls (.long x :: rest))) : W p l e R s m args below meth c H locs cells slots Q (F0 m pc ls (.int i :: va_rf v :: rest)) := by
  obtain ⟨a, n, f, j, rfl, ha, rfl, hj, h31, hw⟩ := hw
  exact tw_lald C hR ha hj h31 hdg (kk _ hw)
theorem tk_ld (C : tw_C p l R s m args meth c G cc nL own) (hR : tw_R G σ H) {K : UInt64 → Prop} (hw : w_ld σ v i K) (hdg : decode cc pc = .ok (.daload, 1)) (kk : ∀ x : UInt64, K x → W p l e R s m args below meth c H locs cells slots Q (F0 m (pc + 1) ls (.double x :: rest))) : W p l e R s m args below meth c H locs cells slots Q (F0 m pc ls (.int i :: va_rf v :: rest)) := by
  obtain ⟨a, n, f, j, rfl, ha, rfl, hj, h31, hw⟩ := hw
  exact tw_dald C hR ha hj h31 hdg (kk _ hw)
theorem tk_lb (C : tw_C p l R s m args meth c G cc nL own) (hR : tw_R G σ H) {K : Int32 → Prop} (hw : w_lb σ v i K) (hdg : decode cc pc = .ok (.baload, 1)) (kk : ∀ x : Int32, K x → W p l e R s m args below meth c H locs cells slots Q (F0 m (pc + 1) ls (.int x :: rest))) : W p l e R s m args below meth c H locs cells slots Q (F0 m pc ls (.int i :: va_rf v :: rest)) := by
  obtain ⟨a, t, n, f, j, rfl, ha, ht, rfl, hj, h31, hw⟩ := hw
  exact tw_bald C hR ht ha hj h31 hdg (kk _ hw)
theorem tk_lr (C : tw_C p l R s m args meth c G cc nL own) (hR : tw_R G σ H) {K : Option Nat → Prop} (hw : w_lr σ v i K) (hdg : decode cc pc = .ok (.aaload, 1)) (kk : ∀ x : Option Nat, K x → W p l e R s m args below meth c H locs cells slots Q (F0 m (pc + 1) ls (va_rf x :: rest))) : W p l e R s m args below meth c H locs cells slots Q (F0 m pc ls (.int i :: va_rf v :: rest)) := by
  obtain ⟨a, t, n, f, j, rfl, ha, ht, rfl, hj, h31, hw⟩ := hw
  obtain ⟨ty, hty, hr⟩ := tw_tyr (G := G) ht.1 ht.2
  exact tw_aald C hR hty hr ha hj h31 hdg (kk _ hw)
theorem tk_si (C : tw_C p l R s m args meth c G cc nL own) (hR : tw_R G σ H) (hS : va_S (tw_A G) s.heap H locs) {x : Int32} {K : Tst → Prop} (hw : w_si σ v i x K) (hdg : decode cc pc = .ok (.iastore, 1)) (kk : ∀ (σ : Tst) (H : Heap) (locs : List Loc), K σ → tw_R G σ H → va_S (tw_A G) s.heap H locs → tw_W p l e R s m args below meth c σ H locs Q (F0 m (pc + 1) ls rest)) : tw_W p l e R s m args below meth c σ H locs Q (F0 m pc ls (.int x :: .int i :: va_rf v :: rest)) := by
  obtain ⟨a, n, f, j, rfl, ha, rfl, hj, h31, hw⟩ := hw
  exact tw_iast C hR hS ha hj h31 hdg (fun H locs hR hS => kk (st_up σ a (.inl (0, n, .inl (upd f j x)))) H locs hw hR hS)
theorem tk_sc (C : tw_C p l R s m args meth c G cc nL own) (hR : tw_R G σ H) (hS : va_S (tw_A G) s.heap H locs) {x : Int32} {K : Tst → Prop} (hw : w_sc σ v i x K) (hdg : decode cc pc = .ok (.castore, 1)) (kk : ∀ (σ : Tst) (H : Heap) (locs : List Loc), K σ → tw_R G σ H → va_S (tw_A G) s.heap H locs → tw_W p l e R s m args below meth c σ H locs Q (F0 m (pc + 1) ls rest)) : tw_W p l e R s m args below meth c σ H locs Q (F0 m pc ls (.int x :: .int i :: va_rf v :: rest)) := by
  obtain ⟨a, n, f, j, rfl, ha, rfl, hj, h31, hw⟩ := hw
  exact tw_cast C hR hS ha hj h31 hdg (fun H locs hR hS => kk (st_up σ a (.inl (1, n, .inl (upd f j (vp_nar .char x))))) H locs hw hR hS)
theorem tk_sb (C : tw_C p l R s m args meth c G cc nL own) (hR : tw_R G σ H) (hS : va_S (tw_A G) s.heap H locs) {x : Int32} {K : Tst → Prop} (hw : w_sb σ v i x K) (hdg : decode cc pc = .ok (.bastore, 1)) (kk : ∀ (σ : Tst) (H : Heap) (locs : List Loc), K σ → tw_R G σ H → va_S (tw_A G) s.heap H locs → tw_W p l e R s m args below meth c σ H locs Q (F0 m (pc + 1) ls rest)) : tw_W p l e R s m args below meth c σ H locs Q (F0 m pc ls (.int x :: .int i :: va_rf v :: rest)) := by
  obtain ⟨a, n, f, j, rfl, ha, rfl, hj, h31, hw⟩ := hw
  exact tw_bast C hR hS ha hj h31 hdg (fun H locs hR hS => kk (st_up σ a (.inl (2, n, .inl (upd f j x.toInt8.toInt32)))) H locs hw hR hS)
theorem tk_sl (C : tw_C p l R s m args meth c G cc nL own) (hR : tw_R G σ H) (hS : va_S (tw_A G) s.heap H locs) {x : Int64} {K : Tst → Prop} (hw : w_sl σ v i x K) (hdg : decode cc pc = .ok (.lastore, 1)) (kk : ∀ (σ : Tst) (H : Heap) (locs : List Loc), K σ → tw_R G σ H → va_S (tw_A G) s.heap H locs → tw_W p l e R s m args below meth c σ H locs Q (F0 m (pc + 1) ls rest)) : tw_W p l e R s m args below meth c σ H locs Q (F0 m pc ls (.long x :: .int i :: va_rf v :: rest)) := by
  obtain ⟨a, n, f, j, rfl, ha, rfl, hj, h31, hw⟩ := hw
  exact tw_last C hR hS ha hj h31 hdg (fun H locs hR hS => kk (st_up σ a (.inl (3, n, .inr (.inl (va_up f j x))))) H locs hw hR hS)
theorem tk_sd (C : tw_C p l R s m args meth c G cc nL own) (hR : tw_R G σ H) (hS : va_S (tw_A G) s.heap H locs) {x : UInt64} {K : Tst → Prop} (hw : w_sd σ v i x K) (hdg : decode cc pc = .ok (.dastore, 1)) (kk : ∀ (σ : Tst) (H : Heap) (locs : List Loc), K σ → tw_R G σ H → va_S (tw_A G) s.heap H locs → tw_W p l e R s m args below meth c σ H locs Q (F0 m (pc + 1) ls rest)) : tw_W p l e R s m args below meth c σ H locs Q (F0 m pc ls (.double x :: .int i :: va_rf v :: rest)) := by
  obtain ⟨a, n, f, j, rfl, ha, rfl, hj, h31, hw⟩ := hw
  exact tw_dast C hR hS ha hj h31 hdg (fun H locs hR hS => kk (st_up σ a (.inl (4, n, .inr (.inr (.inr (.inl (va_up f j x))))))) H locs hw hR hS)
theorem tw_mayx {t cl : Nat} (h : (t, cl) ∈ tw_may) {E : String} (hE : (t = 5 → E = "java/lang/Object") ∧ (t = 6 → E = "TreeDiffer$Tree") ∧ (t = 7 → E = "TreeDifferModel$Tree") ∧ (t = 9 → E = "TreeDifferModel$Item")) : ∃ (Cn : String) (Tn : u_T) (N : Nat), tw_cl[cl]? = some (Cn, Tn, N) ∧ (Cn = E ∨ Cond.castable Cn E ∈ lw_tbl) := by
  simp only [tw_may, List.mem_cons, Prod.mk.injEq, List.not_mem_nil, or_false] at h
  rcases h with ⟨rfl, rfl⟩ | ⟨rfl, rfl⟩ | ⟨rfl, rfl⟩ | ⟨rfl, rfl⟩ | ⟨rfl, rfl⟩ | ⟨rfl, rfl⟩ | ⟨rfl, rfl⟩ | ⟨rfl, rfl⟩ | ⟨rfl, rfl⟩ | ⟨rfl, rfl⟩ | ⟨rfl, rfl⟩ | ⟨rfl, rfl⟩ | ⟨rfl, rfl⟩ | ⟨rfl, rfl⟩ | ⟨rfl, rfl⟩ | ⟨rfl, rfl⟩ | ⟨rfl, rfl⟩ | ⟨rfl, rfl⟩ | ⟨rfl, rfl⟩ | ⟨rfl, rfl⟩ | ⟨rfl, rfl⟩ | ⟨rfl, rfl⟩ | ⟨rfl, rfl⟩ | ⟨rfl, rfl⟩ | ⟨rfl, rfl⟩ | ⟨rfl, rfl⟩ | ⟨rfl, rfl⟩ | ⟨rfl, rfl⟩ | ⟨rfl, rfl⟩ | ⟨rfl, rfl⟩ | ⟨rfl, rfl⟩ | ⟨rfl, rfl⟩ | ⟨rfl, rfl⟩ | ⟨rfl, rfl⟩ | ⟨rfl, rfl⟩ | ⟨rfl, rfl⟩ | ⟨rfl, rfl⟩
  · exact ⟨_, _, _, rfl, Or.inr (by rw [hE.1 rfl]; exact q2558)⟩
  · exact ⟨_, _, _, rfl, Or.inr (by rw [hE.1 rfl]; exact q2562)⟩
  · exact ⟨_, _, _, rfl, Or.inr (by rw [hE.1 rfl]; exact q2564)⟩
  · exact ⟨_, _, _, rfl, Or.inr (by rw [hE.1 rfl]; exact q2563)⟩
  · exact ⟨_, _, _, rfl, Or.inr (by rw [hE.1 rfl]; exact q2567)⟩
  · exact ⟨_, _, _, rfl, Or.inr (by rw [hE.1 rfl]; exact q2568)⟩
  · exact ⟨_, _, _, rfl, Or.inr (by rw [hE.1 rfl]; exact q2569)⟩
  · exact ⟨_, _, _, rfl, Or.inr (by rw [hE.1 rfl]; exact q2572)⟩
  · exact ⟨_, _, _, rfl, Or.inr (by rw [hE.1 rfl]; exact q2570)⟩
  · exact ⟨_, _, _, rfl, Or.inr (by rw [hE.1 rfl]; exact q2571)⟩
  · exact ⟨_, _, _, rfl, Or.inr (by rw [hE.1 rfl]; exact q2574)⟩
  · exact ⟨_, _, _, rfl, Or.inr (by rw [hE.1 rfl]; exact q2579)⟩
  · exact ⟨_, _, _, rfl, Or.inr (by rw [hE.1 rfl]; exact q2560)⟩
  · exact ⟨_, _, _, rfl, Or.inr (by rw [hE.1 rfl]; exact q2587)⟩
  · exact ⟨_, _, _, rfl, Or.inr (by rw [hE.1 rfl]; exact q2557)⟩
  · exact ⟨_, _, _, rfl, Or.inr (by rw [hE.1 rfl]; exact q2576)⟩
  · exact ⟨_, _, _, rfl, Or.inr (by rw [hE.1 rfl]; exact q2577)⟩
  · exact ⟨_, _, _, rfl, Or.inr (by rw [hE.1 rfl]; exact q2578)⟩
  · exact ⟨_, _, _, rfl, Or.inr (by rw [hE.1 rfl]; exact q2580)⟩
  · exact ⟨_, _, _, rfl, Or.inr (by rw [hE.1 rfl]; exact q2581)⟩
  · exact ⟨_, _, _, rfl, Or.inr (by rw [hE.1 rfl]; exact q2582)⟩
  · exact ⟨_, _, _, rfl, Or.inr (by rw [hE.1 rfl]; exact q2583)⟩
  · exact ⟨_, _, _, rfl, Or.inr (by rw [hE.1 rfl]; exact q2584)⟩
  · exact ⟨_, _, _, rfl, Or.inr (by rw [hE.1 rfl]; exact q2585)⟩
  · exact ⟨_, _, _, rfl, Or.inr (by rw [hE.1 rfl]; exact q2586)⟩
  · exact ⟨_, _, _, rfl, Or.inr (by rw [hE.1 rfl]; exact q2554)⟩
  · exact ⟨_, _, _, rfl, Or.inr (by rw [hE.1 rfl]; exact q2556)⟩
  · exact ⟨_, _, _, rfl, Or.inr (by rw [hE.1 rfl]; exact q2559)⟩
  · exact ⟨_, _, _, rfl, Or.inr (by rw [hE.1 rfl]; exact q2561)⟩
  · exact ⟨_, _, _, rfl, Or.inr (by rw [hE.1 rfl]; exact q2555)⟩
  · exact ⟨_, _, _, rfl, Or.inr (by rw [hE.1 rfl]; exact q2565)⟩
  · exact ⟨_, _, _, rfl, Or.inr (by rw [hE.1 rfl]; exact q2566)⟩
  · exact ⟨_, _, _, rfl, Or.inr (by rw [hE.1 rfl]; exact q2573)⟩
  · exact ⟨_, _, _, rfl, Or.inr (by rw [hE.1 rfl]; exact q2575)⟩
  · exact ⟨_, _, _, rfl, Or.inl (hE.2.1 rfl).symm⟩
  · exact ⟨_, _, _, rfl, Or.inl (hE.2.2.1 rfl).symm⟩
  · exact ⟨_, _, _, rfl, Or.inl (hE.2.2.2 rfl).symm⟩
theorem tk_sr (C : tw_C p l R s m args meth c G cc nL own) (hR : tw_R G σ H) (hS : va_S (tw_A G) s.heap H locs) {x : Option Nat} {K : Tst → Prop} (hw : w_sr σ v i x K) (hdg : decode cc pc = .ok (.aastore, 1)) (kk : ∀ (σ : Tst) (H : Heap) (locs : List Loc), K σ → tw_R G σ H → va_S (tw_A G) s.heap H locs → tw_W p l e R s m args below meth c σ H locs Q (F0 m (pc + 1) ls rest)) : tw_W p l e R s m args below meth c σ H locs Q (F0 m pc ls (va_rf x :: .int i :: va_rf v :: rest)) := by
  obtain ⟨a, t, n, f, j, rfl, ha, ⟨ht1, ht2, ht3⟩, rfl, hj, h31, hm, hw⟩ := hw
  obtain ⟨E, hE, hE2⟩ := tw_tyo (G := G) ht1 ht2 ht3
  rcases hm with rfl | ⟨b, cl, vs, rfl, hb, hm⟩
  · exact tw_aastN C hR hS hE (by omega) ha hj h31 hdg (fun H locs hR hS => kk (st_up σ a (.inl (t, n, .inr (.inr (.inr (.inr (va_up f j none))))))) H locs hw hR hS)
  · obtain ⟨Cn, Tn, N, hc, hca⟩ := tw_mayx hm hE2
    exact tw_aast C hR hS hE (by omega) ha hj h31 hb hc hca hdg (fun H locs hR hS => kk (st_up σ a (.inl (t, n, .inr (.inr (.inr (.inr (va_up f j (some b)))))))) H locs hw hR hS)
theorem tk_nw (C : tw_C p l R s m args meth c G cc nL own) (hR : tw_R G σ H) (hS : va_S (tw_A G) s.heap H locs) {ci N : Nat} {fs : List Tfv} {K : Option Nat → Tst → Prop} (hw : w_nw σ ci N fs K) {Cn : String} {Tn : u_T} {index : Nat} (hc : tw_cl[ci]? = some (Cn, Tn, N)) (hin : ∀ w ∈ u_ws Cn Tn N, w ∈ lw_all) (ty0 : Nat → FieldType) (hty : ∀ k, k < N → parseFieldDescriptor (Tn k).2.2.1 = some (ty0 k))
    (hcl : Cond.classLink own index Cn ∈ lw_all) (hinst : Cond.instantiable Cn N ∈ lw_all) (hini : Cond.initialized Cn ∈ lw_all) (hfs : ∀ j, j < N → defaultValue (ty0 j) = vp_V (fs.map tw_v) j) (hdg : decode cc pc = .ok (.new index, 3))
    (kk : ∀ (r : Option Nat) (σ : Tst) (H : Heap), K r σ → tw_R G σ H → va_S (tw_A G) s.heap H locs → tw_W p l e R s m args below meth c σ H locs Q (F0 m (pc + 3) ls (va_rf r :: rest))) : tw_W p l e R s m args below meth c σ H locs Q (F0 m pc ls rest) := by
  obtain ⟨h1, h2, hw⟩ := hw
  exact tw_new C hR hS hc hin ty0 hty hcl hinst hini hfs h1 h2 hdg (fun q H hq hb hR1 hS1 => kk (some q) _ H (hw q hq (tw_nb C hR C.hT.2.2.2.2.2.2.2.1 hb)) hR1 hS1)
theorem tk_na (C : tw_C p l R s m args meth c G cc nL own) (hR : tw_R G σ H) (hS : va_S (tw_A G) s.heap H locs) {t : Nat} {d : Tad} {K : Option Nat → Tst → Prop} (hw : w_na σ t i d K) {atype : ArrayType} (harr : Cond.arrayClass (newarray.typeOf atype) ∈ lw_all) (ht : (tw_tys G)[t]? = some (G.2.1 t, newarray.typeOf atype)) (hra : va_RA s (G.2.1 t) (newarray.typeOf atype) → s.vm.findClass ("[" ++ (newarray.typeOf atype).toString) = some (G.2.1 t)) (hd : ∀ (n : Nat) (cA : ClassId), vp_cell cA (n, d) = arrV cA n (fun _ => defaultValue (newarray.typeOf atype))) (hcb : componentBytes (newarray.typeOf atype) ≤ 16)
    (hdg : decode cc pc = .ok (.newarray atype, 2))
    (kk : ∀ (r : Option Nat) (σ : Tst) (H : Heap), K r σ → tw_R G σ H → va_S (tw_A G) s.heap H locs → tw_W p l e R s m args below meth c σ H locs Q (F0 m (pc + 2) ls (va_rf r :: rest))) : tw_W p l e R s m args below meth c σ H locs Q (F0 m pc ls (.int i :: rest)) := by
  obtain ⟨n, rfl, hn, h1, h2, hw⟩ := hw
  have hby : n * componentBytes (newarray.typeOf atype) ≤ 536870912 := Nat.le_trans (Nat.mul_le_mul (Nat.le_of_lt hn) hcb) (by decide)
  exact tw_newa C hR hS harr ht hra (hd n) hn hby h1 h2 hdg (fun q H hq hb hR1 hS1 => kk (some q) _ H (hw q hq (tw_nb C hR C.hT.2.2.2.2.2.2.2.1 hb)) hR1 hS1)
theorem tk_nr (C : tw_C p l R s m args meth c G cc nL own) (hR : tw_R G σ H) (hS : va_S (tw_A G) s.heap H locs) {t : Nat} {K : Option Nat → Tst → Prop} (hw : w_na σ t i (.inr (.inr (.inr (.inr fun _ => none)))) K) {Cn : String} {index : Nat} (hcl : Cond.classLink own index Cn ∈ lw_all) (hao : Cn ∈ tw_ao) (ht : (tw_tys G)[t]? = some (G.2.1 t, .object Cn))
    (hdg : decode cc pc = .ok (.anewarray index, 3))
    (kk : ∀ (r : Option Nat) (σ : Tst) (H : Heap), K r σ → tw_R G σ H → va_S (tw_A G) s.heap H locs → tw_W p l e R s m args below meth c σ H locs Q (F0 m (pc + 3) ls (va_rf r :: rest))) : tw_W p l e R s m args below meth c σ H locs Q (F0 m pc ls (.int i :: rest)) := by
  obtain ⟨n, rfl, hn, h1, h2, hw⟩ := hw
  exact tw_anew C hR hS hcl (C.hT.2.2.2.2.2.2.1 _ hao).use ht hn h1 h2 hdg (fun q H hq hb hR1 hS1 => kk (some q) _ H (hw q hq (tw_nb C hR C.hT.2.2.2.2.2.2.2.1 hb)) hR1 hS1)
theorem tk_cc (C : tw_C p l R s m args meth c G cc nL own) (hR : tw_R G σ H) {ci : Nat} {P : Prop} (hw : w_cc σ v ci P) {Cn nm : String} {Tn : u_T} {N index : Nat} (hc : tw_cl[ci]? = some (Cn, Tn, N)) (hlink : Cond.classLink own index nm ∈ lw_all) (hca : Cn = nm ∨ Cond.castable Cn nm ∈ lw_tbl) (hdg : decode cc pc = .ok (.checkcast index, 3))
    (kk : P → W p l e R s m args below meth c H locs cells slots Q (F0 m (pc + 3) ls (va_rf v :: rest))) : W p l e R s m args below meth c H locs cells slots Q (F0 m pc ls (va_rf v :: rest)) := by
  obtain ⟨h | ⟨a, fs, h, ha⟩, hw⟩ := hw
  · subst h; exact tw_castN C hdg (kk hw)
  · subst h
    rcases hca with rfl | hca
    · exact tw_castS C hR ha hc hlink hdg (kk hw)
    · exact tw_castY C hR ha hc hlink hca hdg (kk hw)
theorem tk_gs (C : tw_C p l R s m args meth c G cc nL own) (hR : tw_R G σ H) (hS : va_S (tw_A G) s.heap H locs) {Cn n d ref : String} {x : Tfv} {index : Nat} (k : Nat) (hZ : (tw_sl σ.2.2.2)[k]? = some (Cn, n, d, x)) (hlink : Cond.fieldLink own index ref n d ∈ lw_all) (hsame : ∀ x, s.fieldFound? Cn n d = some x → s.fieldFound? ref n d = some x) (hdg : decode cc pc = .ok (.getstatic index, 3))
    (kk : W p l e R s m args below meth c H locs cells slots Q (F0 m (pc + 3) ls (tw_v x :: rest))) : W p l e R s m args below meth c H locs cells slots Q (F0 m pc ls rest) := by
  rw [hR.2.2.2.2] at hZ
  exact tw_gets C hS k hZ hlink hsame hdg kk
theorem tk_gk (C : tw_C p l R s m args meth c G cc nL own) (hR : tw_R G σ H) (hS : va_S (tw_A G) s.heap H locs) {Cn n1 d ref : String} {n index : Nat} {K : Option Nat → Prop} (hw : w_k σ n K) (k : Nat) (hZ : (tw_sl σ.2.2.2)[k]? = some (Cn, n1, d, .inr (σ.2.2.2 n))) (hlink : Cond.fieldLink own index ref n1 d ∈ lw_all) (hsame : ∀ x, s.fieldFound? Cn n1 d = some x → s.fieldFound? ref n1 d = some x) (hdg : decode cc pc = .ok (.getstatic index, 3))
    (kk : ∀ x : Option Nat, K x → W p l e R s m args below meth c H locs cells slots Q (F0 m (pc + 3) ls (va_rf x :: rest))) : W p l e R s m args below meth c H locs cells slots Q (F0 m pc ls rest) :=
  tk_gs (x := .inr (σ.2.2.2 n)) C hR hS k hZ hlink hsame hdg (kk _ hw)
theorem tk_th (C : tw_C p l R s m args meth c G cc nL own) (hR : tw_R G σ H) (hS : va_S (tw_A G) s.heap H locs) {X : String → Nat → Tst → Prop} {Qc : Array Value → State → Outcome → State → Prop} (hw : w_th σ v X) (hout : ∀ x ∈ c.exceptionTable.toList, covers x pc = false) (hdg : decode cc pc = .ok (.athrow, 1)) : tw_W p l e R s m args below meth c σ H locs (tw_E below G Qc X args s R) (F0 m pc ls (va_rf v :: rest)) := by
  obtain ⟨a, ci, fs, Cn, Tn, N, rfl, ha, hc, hns, hX⟩ := hw
  exact tw_athrow C hR ha hc hns hdg (fun hi => tw_out C hR hS hout hi hX)
theorem tk_obj (C : tw_C p l R s m args meth c G cc nL own) {P : Prop} (hw : w_rf v P) {index : Nat} (q1 : Cond.methodLink own index objectInit ∈ lw_all) (q2 : Cond.instanceMethod objectInit ∈ lw_all) (q3 : Cond.code objectInit ⟨#[0xb1]⟩ 1 none ∈ lw_all) (hsz : ls.size = nL) (hW : (rest.map fun v => v.category).sum ≤ 8) (hRf : 1 ≤ R.frames) (hRl : 40 ≤ R.locals) (hdg : decode cc pc = .ok (.invokespecial index, 3))
    (kk : P → W p l e R s m args below meth c H locs cells slots Q (F0 m (pc + 3) ls rest)) : W p l e R s m args below meth c H locs cells slots Q (F0 m pc ls (va_rf v :: rest)) := by
  obtain ⟨⟨a, rfl⟩, hw⟩ := hw
  refine W.objInit C.hx C.hb C.ho (C.hts _ q1) (C.hts _ q2) (C.hts _ q3) rfl (by rw [C.hml]; exact hsz) rfl hdg hRf ?_ (kk hw)
  show 2 * 0 + (rest.map fun v => v.category).sum + _ ≤ R.locals
  omega
theorem tk_runV {Qc : Array Value → State → Outcome → State → Prop} {X1 : String → Nat → Tst → Prop} {st0 : List Value} {y : MethodName} {bytes : ByteArray} {maxL fr lo index : Nat} {ret : Option FieldType} {As : List Tfv} {ci : Nat} {Tn : u_T} {N : Nat} (C : tw_C p l R s m args meth c G cc nL own) (hR : tw_R G σ H) (hS : va_S (tw_A G) s.heap H locs) (hM : tw_M l y (ws_ y bytes maxL ret) fr lo G σ (.inr v :: As) Qc X1) (hv : ∃ (b : Nat) (fs : List Tfv), v = some b ∧ σ.1 b = some (.inr (ci, fs))) (hc : tw_cl[ci]? = some (y.cls, Tn, N)) (q1 : Cond.methodLink own index y ∈ lw_all) (q2 : Cond.instanceMethod y ∈ lw_all) (q3 : Cond.selects y.cls y y ∈ lw_all) (q4 : Cond.initialized y.cls ∈ lw_all) (q5 : Cond.code y bytes maxL ret ∈ lw_all) (hd : tw_pd y As.length) (hr : fr + 1 ≤ R.frames ∧ 8 + (maxL + 11) + lo ≤ R.locals) (hsz : ls.size = nL) (hst : st0 = (As.map tw_v).reverse ++ va_rf v :: rest) (hW : (rest.map fun v => v.category).sum ≤ 8) (hdg : decode cc pc = .ok (.invokevirtual index, 3)) : tw_Rn p l e R s m args below meth c G σ H locs (F0 m pc ls st0) rest (Qc (va_rf v :: As.map tw_v).toArray) X1 := by
  obtain ⟨b, fs, rfl, ha⟩ := hv
  exact tw_runV C hR hS hM ha hc q1 q2 q3 q4 q5 hd hr hsz hst hW hdg
theorem tk_runVW {Qc : Array Value → State → Outcome → State → Prop} {X1 : String → Nat → Tst → Prop} {st0 : List Value} {y : MethodName} {bytes : ByteArray} {maxL fr lo index : Nat} {ret : Option FieldType} {As : List Tfv} {ci : Nat} {Tn : u_T} {N : Nat} {hh : List (Nat × Nat × Nat × Nat)} (C : tw_C p l R s m args meth c G cc nL own) (hR : tw_R G σ H) (hS : va_S (tw_A G) s.heap H locs) (hM : tw_M l y (wsW_ y bytes maxL ret hh) fr lo G σ (.inr v :: As) Qc X1) (hv : ∃ (b : Nat) (fs : List Tfv), v = some b ∧ σ.1 b = some (.inr (ci, fs))) (hc : tw_cl[ci]? = some (y.cls, Tn, N)) (q1 : Cond.methodLink own index y ∈ lw_all) (q2 : Cond.instanceMethod y ∈ lw_all) (q3 : Cond.selects y.cls y y ∈ lw_all) (q4 : Cond.initialized y.cls ∈ lw_all) (q5 : Cond.codeWith y bytes maxL ret hh ∈ lw_all) (hd : tw_pd y As.length) (hr : fr + 1 ≤ R.frames ∧ 8 + (maxL + 11) + lo ≤ R.locals) (hsz : ls.size = nL) (hst : st0 = (As.map tw_v).reverse ++ va_rf v :: rest) (hW : (rest.map fun v => v.category).sum ≤ 8) (hdg : decode cc pc = .ok (.invokevirtual index, 3)) : tw_Rn p l e R s m args below meth c G σ H locs (F0 m pc ls st0) rest (Qc (va_rf v :: As.map tw_v).toArray) X1 := by
  obtain ⟨b, fs, rfl, ha⟩ := hv
  exact tw_runVW C hR hS hM ha hc q1 q2 q3 q4 q5 hd hr hsz hst hW hdg
theorem tk_runVN {Qc : Array Value → State → Outcome → State → Prop} {X1 : String → Nat → Tst → Prop} {st0 : List Value} {y : MethodName} {bytes : ByteArray} {maxL fr lo index : Nat} {ret : Option FieldType} {As : List Tfv} {ci : Nat} {Tn : u_T} {N : Nat} {host : String} (C : tw_C p l R s m args meth c G cc nL own) (hR : tw_R G σ H) (hS : va_S (tw_A G) s.heap H locs) (hM : tw_M l y (ws_ y bytes maxL ret) fr lo G σ (.inr v :: As) Qc X1) (hv : ∃ (b : Nat) (fs : List Tfv), v = some b ∧ σ.1 b = some (.inr (ci, fs))) (hc : tw_cl[ci]? = some (y.cls, Tn, N)) (q1 : Cond.methodLinkNest own index y host ∈ lw_tbl) (q2 : Cond.instanceMethod y ∈ lw_all) (q3 : Cond.selects y.cls y y ∈ lw_all) (q4 : Cond.initialized y.cls ∈ lw_all) (q5 : Cond.code y bytes maxL ret ∈ lw_all) (hd : tw_pd y As.length) (hr : fr + 1 ≤ R.frames ∧ 8 + (maxL + 11) + lo ≤ R.locals) (hsz : ls.size = nL) (hst : st0 = (As.map tw_v).reverse ++ va_rf v :: rest) (hW : (rest.map fun v => v.category).sum ≤ 8) (hdg : decode cc pc = .ok (.invokevirtual index, 3)) : tw_Rn p l e R s m args below meth c G σ H locs (F0 m pc ls st0) rest (Qc (va_rf v :: As.map tw_v).toArray) X1 := by
  obtain ⟨b, fs, rfl, ha⟩ := hv
  exact tw_runVN C hR hS hM ha hc q1 q2 q3 q4 q5 hd hr hsz hst hW hdg
theorem tk_runF {Qc : Array Value → State → Outcome → State → Prop} {X1 : String → Nat → Tst → Prop} {st0 : List Value} {y : MethodName} {bytes : ByteArray} {maxL fr lo index : Nat} {ret : Option FieldType} {As : List Tfv} {ci : Nat} {Tn : u_T} {N : Nat} {x : MethodName} {count : Nat} (C : tw_C p l R s m args meth c G cc nL own) (hR : tw_R G σ H) (hS : va_S (tw_A G) s.heap H locs) (hM : tw_M l y (ws_ y bytes maxL ret) fr lo G σ (.inr v :: As) Qc X1) (hv : ∃ (b : Nat) (fs : List Tfv), v = some b ∧ σ.1 b = some (.inr (ci, fs))) (hc : tw_cl[ci]? = some (y.cls, Tn, N)) (q1 : Cond.methodLink own index x ∈ lw_all) (q3 : Cond.selects y.cls x y ∈ lw_all) (q2 : Cond.instanceMethod y ∈ lw_all) (q4 : Cond.initialized y.cls ∈ lw_all) (q5 : Cond.code y bytes maxL ret ∈ lw_all) (hf : (y.cls, x, y) ∈ tw_fw) (hd : tw_pd x As.length) (hr : fr + 1 ≤ R.frames ∧ 8 + (maxL + 11) + lo ≤ R.locals) (hsz : ls.size = nL) (hst : st0 = (As.map tw_v).reverse ++ va_rf v :: rest) (hW : (rest.map fun v => v.category).sum ≤ 8) (hdg : decode cc pc = .ok (.invokeinterface index count, 5)) : tw_Rn5 p l e R s m args below meth c G σ H locs (F0 m pc ls st0) rest (Qc (va_rf v :: As.map tw_v).toArray) X1 := by
  obtain ⟨b, fs, rfl, ha⟩ := hv
  exact tw_runF C hR hS hM ha hc q1 q3 q2 q4 q5 hf hd hr hsz hst hW hdg
theorem tk_runFW {Qc : Array Value → State → Outcome → State → Prop} {X1 : String → Nat → Tst → Prop} {st0 : List Value} {y : MethodName} {bytes : ByteArray} {maxL fr lo index : Nat} {ret : Option FieldType} {As : List Tfv} {ci : Nat} {Tn : u_T} {N : Nat} {hh : List (Nat × Nat × Nat × Nat)} {x : MethodName} {count : Nat} (C : tw_C p l R s m args meth c G cc nL own) (hR : tw_R G σ H) (hS : va_S (tw_A G) s.heap H locs) (hM : tw_M l y (wsW_ y bytes maxL ret hh) fr lo G σ (.inr v :: As) Qc X1) (hv : ∃ (b : Nat) (fs : List Tfv), v = some b ∧ σ.1 b = some (.inr (ci, fs))) (hc : tw_cl[ci]? = some (y.cls, Tn, N)) (q1 : Cond.methodLink own index x ∈ lw_all) (q3 : Cond.selects y.cls x y ∈ lw_all) (q2 : Cond.instanceMethod y ∈ lw_all) (q4 : Cond.initialized y.cls ∈ lw_all) (q5 : Cond.codeWith y bytes maxL ret hh ∈ lw_all) (hf : (y.cls, x, y) ∈ tw_fw) (hd : tw_pd x As.length) (hr : fr + 1 ≤ R.frames ∧ 8 + (maxL + 11) + lo ≤ R.locals) (hsz : ls.size = nL) (hst : st0 = (As.map tw_v).reverse ++ va_rf v :: rest) (hW : (rest.map fun v => v.category).sum ≤ 8) (hdg : decode cc pc = .ok (.invokeinterface index count, 5)) : tw_Rn5 p l e R s m args below meth c G σ H locs (F0 m pc ls st0) rest (Qc (va_rf v :: As.map tw_v).toArray) X1 := by
  obtain ⟨b, fs, rfl, ha⟩ := hv
  exact tw_runFW C hR hS hM ha hc q1 q3 q2 q4 q5 hf hd hr hsz hst hW hdg
theorem tk_runSU {Qc : Array Value → State → Outcome → State → Prop} {X1 : String → Nat → Tst → Prop} {st0 : List Value} {y : MethodName} {bytes : ByteArray} {maxL fr lo index : Nat} {ret : Option FieldType} {As : List Tfv} {ci : Nat} {Tn : u_T} {N : Nat} {Cn : String} (C : tw_C p l R s m args meth c G cc nL own) (hR : tw_R G σ H) (hS : va_S (tw_A G) s.heap H locs) (hM : tw_M l y (ws_ y bytes maxL ret) fr lo G σ (.inr v :: As) Qc X1) (hv : ∃ (b : Nat) (fs : List Tfv), v = some b ∧ σ.1 b = some (.inr (ci, fs))) (hc : tw_cl[ci]? = some (Cn, Tn, N)) (q1 : Cond.methodLink own index y ∈ lw_all) (q6 : Cond.sameMethod y.cls y.cls y.name y.desc ∈ lw_all) (q7 : Cond.superclass own y.cls ∈ lw_all) (q2 : Cond.instanceMethod y ∈ lw_all) (q4 : Cond.initialized y.cls ∈ lw_all) (q5 : Cond.code y bytes maxL ret ∈ lw_all) (hy : y.name ≠ "<init>") (hd : (parseMethodDescriptor y.desc).map (fun d => d.parameters.length) = some As.length) (hr : fr + 1 ≤ R.frames ∧ 8 + (maxL + 11) + lo ≤ R.locals) (hsz : ls.size = nL) (hst : st0 = (As.map tw_v).reverse ++ va_rf v :: rest) (hW : (rest.map fun v => v.category).sum ≤ 8) (hdg : decode cc pc = .ok (.invokespecial index, 3)) : tw_Rn p l e R s m args below meth c G σ H locs (F0 m pc ls st0) rest (Qc (va_rf v :: As.map tw_v).toArray) X1 := by
  obtain ⟨b, fs, rfl, ha⟩ := hv
  exact tw_runSU C hR hS hM ha hc q1 q6 q7 q2 q4 q5 hy hd hr hsz hst hW hdg
theorem tk_runU {Qc : Array Value → State → Outcome → State → Prop} {X1 : String → Nat → Tst → Prop} {st0 : List Value} {bytes : ByteArray} {maxL fr lo index : Nat} {ret : Option FieldType} {As : List Tfv} {ci : Nat} {Tn : u_T} {N : Nat} {Cn owner : String} {x : MethodName} (C : tw_C p l R s m args meth c G cc nL own) (hR : tw_R G σ H) (hS : va_S (tw_A G) s.heap H locs) (hM : tw_M l (⟨owner, x.name, x.desc⟩ : MethodName) (ws_ (⟨owner, x.name, x.desc⟩ : MethodName) bytes maxL ret) fr lo G σ (.inr v :: As) Qc X1) (hv : ∃ (b : Nat) (fs : List Tfv), v = some b ∧ σ.1 b = some (.inr (ci, fs))) (hc : tw_cl[ci]? = some (Cn, Tn, N)) (q1 : Cond.methodLink own index x ∈ lw_all) (q6 : Cond.sameMethod x.cls owner x.name x.desc ∈ lw_all) (q3 : Cond.selects Cn x (⟨owner, x.name, x.desc⟩ : MethodName) ∈ lw_all) (q2 : Cond.instanceMethod (⟨owner, x.name, x.desc⟩ : MethodName) ∈ lw_all) (q4 : Cond.initialized owner ∈ lw_all) (q5 : Cond.code (⟨owner, x.name, x.desc⟩ : MethodName) bytes maxL ret ∈ lw_all) (hd : owner ≠ "java/lang/invoke/MethodHandle" ∧ owner ≠ "java/lang/invoke/VarHandle" ∧ (parseMethodDescriptor x.desc).map (fun d => d.parameters.length) = some As.length) (hr : fr + 1 ≤ R.frames ∧ 8 + (maxL + 11) + lo ≤ R.locals) (hsz : ls.size = nL) (hst : st0 = (As.map tw_v).reverse ++ va_rf v :: rest) (hW : (rest.map fun v => v.category).sum ≤ 8) (hdg : decode cc pc = .ok (.invokevirtual index, 3)) : tw_Rn p l e R s m args below meth c G σ H locs (F0 m pc ls st0) rest (Qc (va_rf v :: As.map tw_v).toArray) X1 := by
  obtain ⟨b, fs, rfl, ha⟩ := hv
  exact tw_runU C hR hS hM ha hc q1 q6 q3 q2 q4 q5 hd hr hsz hst hW hdg
theorem tk_runI {Qc : Array Value → State → Outcome → State → Prop} {X1 : String → Nat → Tst → Prop} {st0 : List Value} {y : MethodName} {bytes : ByteArray} {maxL fr lo index : Nat} {As : List Tfv} (hv : ∃ b : Nat, v = some b) (C : tw_C p l R s m args meth c G cc nL own) (hR : tw_R G σ H) (hS : va_S (tw_A G) s.heap H locs) (hM : tw_M l y (ws_ y bytes maxL none) fr lo G σ (.inr v :: As) Qc X1) (q1 : Cond.methodLink own index y ∈ lw_all) (q2 : Cond.instanceMethod y ∈ lw_all) (q4 : Cond.initialized y.cls ∈ lw_all) (q5 : Cond.code y bytes maxL none ∈ lw_all) (hy : y.name = "<init>") (hd : tw_pd y As.length) (hr : fr + 1 ≤ R.frames ∧ 8 + (maxL + 11) + lo ≤ R.locals) (hsz : ls.size = nL) (hst : st0 = (As.map tw_v).reverse ++ va_rf v :: rest) (hW : (rest.map fun v => v.category).sum ≤ 8) (hdg : decode cc pc = .ok (.invokespecial index, 3)) : tw_Rn p l e R s m args below meth c G σ H locs (F0 m pc ls st0) rest (Qc (va_rf v :: As.map tw_v).toArray) X1 := by
  obtain ⟨b, rfl⟩ := hv
  exact tw_runI C hR hS hM q1 q2 q4 q5 hy hd hr hsz hst hW hdg
theorem tk_runIN {Qc : Array Value → State → Outcome → State → Prop} {X1 : String → Nat → Tst → Prop} {st0 : List Value} {y : MethodName} {bytes : ByteArray} {maxL fr lo index : Nat} {As : List Tfv} (hv : ∃ b : Nat, v = some b) {host : String} (C : tw_C p l R s m args meth c G cc nL own) (hR : tw_R G σ H) (hS : va_S (tw_A G) s.heap H locs) (hM : tw_M l y (ws_ y bytes maxL none) fr lo G σ (.inr v :: As) Qc X1) (q1 : Cond.methodLinkNest own index y host ∈ lw_tbl) (q2 : Cond.instanceMethod y ∈ lw_all) (q4 : Cond.initialized y.cls ∈ lw_all) (q5 : Cond.code y bytes maxL none ∈ lw_all) (hy : y.name = "<init>") (hd : tw_pd y As.length) (hr : fr + 1 ≤ R.frames ∧ 8 + (maxL + 11) + lo ≤ R.locals) (hsz : ls.size = nL) (hst : st0 = (As.map tw_v).reverse ++ va_rf v :: rest) (hW : (rest.map fun v => v.category).sum ≤ 8) (hdg : decode cc pc = .ok (.invokespecial index, 3)) : tw_Rn p l e R s m args below meth c G σ H locs (F0 m pc ls st0) rest (Qc (va_rf v :: As.map tw_v).toArray) X1 := by
  obtain ⟨b, rfl⟩ := hv
  exact tw_runIN C hR hS hM q1 q2 q4 q5 hy hd hr hsz hst hW hdg
end TL