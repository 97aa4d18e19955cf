-- the law's own rows
section TL
variable {p : Program} {l : Launch} {e : Env} {R : Room} {s : State} {m : MethodId} {args : Array Value} {below : List Frame} {meth : Method} {c : Code} {H : Heap} {locs : List Loc} {cells slots : Nat} {Q : State → Prop} {G : Tgl} {cc : ByteArray} {nL : Nat} {own : String} {pc : Nat} {ls : Array Slot} {rest : List Value} {σ : Tst} {v : Option Nat} {i : Int32} {b L : Nat} {xs : Nat → Int32}
abbrev lw_sc (G : Tgl) (b L : Nat) (xs : Nat → Int32) (s : State) : Prop := va_X b L xs s s.heap ∧ b < s.heap.size ∧ G.2.2.1 = s.heap.size
/-- the script's int at i -/
def w_xl (L : Nat) (xs : Nat → Int32) (i : Int32) (K : Int32 → Prop) : Prop := ∃ j : Nat, i = nI j ∧ j < L ∧ j < 2147483648 ∧ K (xs j)
theorem tk_xl (C : tw_C p l R s m args meth c G cc nL own) (hX : lw_sc G b L xs s) (hS : va_S (tw_A G) s.heap H locs) {K : Int32 → Prop} (hw : w_xl L xs i K) (hdg : decode cc pc = .ok (.iaload, 1))
    (kk : ∀ x : Int32, K x → W p l e R s m args below meth c H locs cells slots Q (F0 m (pc + 1) ls (.int x :: rest))) : W p l e R s m args below meth c H locs cells slots Q (F0 m pc ls (.int i :: va_rf (some b) :: rest)) := by
  obtain ⟨h1, h2, h3⟩ := hX
  obtain ⟨j, rfl, hj, h31, hw⟩ := hw
  refine va_sld C.hx C.hb h1 h2 (fun h => by have h : G.2.2.1 ≤ b := h; omega) hS (tw_ix hj h31) hdg ?_
  rw [nI_clamp h31]
  exact kk _ hw
theorem tk_xn (C : tw_C p l R s m args meth c G cc nL own) (hX : lw_sc G b L xs s) (hS : va_S (tw_A G) s.heap H locs) (hdg : decode cc pc = .ok (.arraylength, 1))
    (kk : W p l e R s m args below meth c H locs cells slots Q (F0 m (pc + 1) ls (.int (nI L) :: rest))) : W p l e R s m args below meth c H locs cells slots Q (F0 m pc ls (va_rf (some b) :: rest)) := by
  obtain ⟨h1, h2, h3⟩ := hX
  exact va_slen C.hx C.hb h1 h2 (fun h => by have h : G.2.2.1 ≤ b := h; omega) hS hdg kk
theorem tk_dstore (C : tw_C p l R s m args meth c G cc nL own) {L L' : List (Nat × Tfv)} (hl : tw_l ls nL L) {i : Nat} {x : UInt64} (hdg : decode cc pc = .ok (.dstore i, 2)) (hn : i + 1 < nL) (hq : L.filter (fun q => !(q.1 == i) && !(q.1 == i + 1)) = L') (kk : ∀ ls : Array Slot, tw_l ls nL L' → ls[i]? = some (.val (.double x)) → W p l e R s m args below meth c H locs cells slots Q (F0 m (pc + 2) ls rest)) : W p l e R s m args below meth c H locs cells slots Q (F0 m pc ls (.double x :: rest)) := by
  refine lv_dstore C.hx C.hb hdg hl hn (lv' := (i, .double x) :: L'.map (fun q => (q.1, tw_v q.2))) ?_ (fun ls' h => kk ls' ⟨h.1, h.2.1, fun q hq => h.2.2 q (List.mem_cons_of_mem _ hq)⟩ (lv_at h 0 rfl))
  subst hq
  congr 1
  rw [List.filter_map]
  congr 1
  apply List.filter_congr
  intro q _
  simp [tw_catv]
theorem tw_lret {p : Program} {l : Launch} {e : Env} {s : State} {m : MethodId} {below : List Frame} {meth : Method} {c : Code} {nL : Nat} (C : tw_C p l room_1 s m #[Value.ref b] meth c G code nL own) (hS : va_S (tw_A G) s.heap H locs) (hr : meth.sig.returnType = some .boolean) (hX : lw_sc G b L xs s) (hdg : decode code pc = .ok (.ireturn, 1)) {x : Int32} (hw : x = 1) : tw_W p l e room_1 s m #[Value.ref b] below meth c σ H locs (lw_Z below #[Value.ref b] s) (F0 m pc ls [.int x]) := by
  subst hw
  refine W.widen (k := 1200144) (n := 5496826) (Nat.sub_le _ _) (Nat.sub_le _ _) ?_
  intro T hT X
  have X' : Stand p l e room_1 s m #[Value.ref b] below meth c T ([] ++ locs) 1200144 5496826 := X
  exact lw_ret C.hx C.hb hr C.hlk hdg T hT (X'.forget (fun y hy => by
    have h := hS.2.2 y hy
    have h : G.2.2.1 ≤ y.base := h
    have h3 := hX.2.2
    omega))
end TL
