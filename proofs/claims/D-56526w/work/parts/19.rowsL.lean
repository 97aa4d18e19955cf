-- instanceof over the exceptions
section TR
variable {p : Program} {l : Launch} {e : Env} {R : Room} {s : State} {m : MethodId} {args : Array Value} {below : List Frame} {meth : Method} {c : Code} {H : Heap} {locs : List Loc} {cells slots : Nat} {Q : State → Prop} {G : Tgl} {cc : ByteArray} {nL : Nat} {own : String} {pc : Nat} {ls : Array Slot} {rest : List Value} {σ : Tst} {v : Option Nat} {i : Int32}
def tw_x4 : List (Nat × String) := [(cX16, "TreeDiffer$Missing"), (cX15, "TreeDiffer$Changed"), (cX17, "TreeDiffer$Clash"), (cX18, "TreeDiffer$Full")]
theorem tw_x4n : ∀ x ∈ tw_x4, ∀ y ∈ tw_x4, x.1 ≠ y.1 → (x.2, y.2) ∈ tw_nc := by decide +kernel
theorem tw_x4c : ∀ x ∈ tw_x4, (tw_cl[x.1]?).map (fun q => q.1) = some x.2 := by decide +kernel
/-- v instanceof a class of the four -/
def w_io (σ : Tst) (v : Option Nat) (ct : Nat) (K : Int32 → Prop) : Prop := ∃ (a ci : Nat) (nm : String) (fs : List Tfv), v = some a ∧ σ.1 a = some (.inr (ci, fs)) ∧ (ci, nm) ∈ tw_x4 ∧ K (if ci = ct then 1 else 0)
theorem tk_io (C : tw_C p l R s m args meth c G cc nL own) (hR : tw_R G σ H) {ct : Nat} {K : Int32 → Prop} (hw : w_io σ v ct K) {nm : String} {index : Nat} (hx : (ct, nm) ∈ tw_x4) (hlink : Cond.classLink own index nm ∈ lw_all) (hdg : decode cc pc = .ok (.instanceof index, 3))
    (kk : ∀ x : Int32, K x → W p l e R s m args below meth c H locs cells slots Q (F0 m (pc + 3) ls (.int x :: rest))) : W p l e R s m args below meth c H locs cells slots Q (F0 m pc ls (va_rf v :: rest)) := by
  obtain ⟨a, ci, n1, fs, rfl, ha, h1, hw⟩ := hw
  have hn := tw_x4c _ h1
  obtain ⟨q, hq, hq2⟩ := Option.map_eq_some_iff.mp hn
  obtain ⟨Cn, Tn, N⟩ := q
  simp only at hq2 hq
  subst hq2
  have hr := tw_recv C hR ha hq
  by_cases h : ci = ct
  · rw [if_pos h] at hw
    subst h
    have hn2 := tw_x4c _ hx
    rw [hn] at hn2
    cases hn2
    obtain ⟨cell, g1, g2, g3⟩ := hr
    exact va_instS C.hx C.hb C.ho (C.hts _ hlink) (C.hK.1 ci _ hq).2 ⟨cell, g1, g2, g3⟩ hdg (kk 1 hw)
  · rw [if_neg h] at hw
    exact va_instNo C.hx C.hb C.ho (C.hts _ hlink) (C.hT.2.2.2.1 _ (tw_x4n _ h1 _ hx h)) hr hdg (kk 0 hw)
end TR
/-- getCause() of a Conflict -/
def w_gca (σ : Tst) (v : Option Nat) (K : Option Nat → Prop) : Prop := ∃ (a : Nat) (c : Option Nat) (fs : List Tfv), v = some a ∧ σ.1 a = some (.inr (cX19, .inr c :: fs)) ∧ K (if c = some a then none else c)
/-- initCause(w) of a Conflict just made -/
def w_ica (σ : Tst) (v w : Option Nat) (K : Option Nat → Tst → Prop) : Prop := ∃ (a : Nat) (fs : List Tfv), v = some a ∧ σ.1 a = some (.inr (cX19, .inr (some a) :: fs)) ∧ w ≠ some a ∧ K (some a) (st_up σ a (.inr (cX19, .inr w :: fs)))
