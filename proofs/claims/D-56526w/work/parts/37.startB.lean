-- the constants; the start
set_option maxRecDepth 100000
abbrev st_str : Term := .string "TreeDifferModel" 41
abbrev st_val : Term := .field st_str "java/lang/String" "value" "[B"
abbrev st_emp : Term := .static "java/util/ArrayList" "DEFAULTCAPACITY_EMPTY_ELEMENTDATA" "[Ljava/lang/Object;"
abbrev st_cs (E O T S V : Nat) (a : Nat) : Option Tce := if a = O then some (.inl (10, 100, .inl st_one)) else if a = T then some (.inl (10, 100, .inl st_ten)) else if a = S then some (.inr (cJ2, [.inr (some V), .inl 0, .inl 0, .inl 1])) else if a = E then some (.inl (5, 0, .inr (.inr (.inr (.inr fun _ => none))))) else if a = V then some (.inl (2, 0, .inl fun _ => 0)) else none
/-- the state at the law's entry -/
def tw_S0 (σ : Tst) : Prop := ∃ (E O T S V B : Nat), σ.2.2.2 0 = some E ∧ σ.2.2.2 1 = some O ∧ σ.2.2.2 2 = some T ∧ σ.2.2.2 3 = some S ∧ σ.2.2.2 99 = some B ∧ σ.1 = st_cs E O T S V ∧ E < B ∧ O < B ∧ T < B ∧ S < B ∧ V < B ∧ T ≠ O ∧ S ≠ O ∧ S ≠ T ∧ E ≠ O ∧ E ≠ T ∧ E ≠ S ∧ V ≠ O ∧ V ≠ T ∧ V ≠ S ∧ V ≠ E ∧ σ.2.1 = 1200144 ∧ σ.2.2.1 = 5496826
section SU
variable {p : Program} {l : Launch} {e : Env} {s : State} {m : MethodId} {below : List Frame} {meth : Method} {c : Code} {args : Array Value}
theorem st_arr {t : Term} {nm : String} {ty : FieldType} {N : Nat} {f : Nat → Int32} (hN : N < 2147483648) (hex : (Cond.exactly t nm).before args s = true) (harr : (Cond.arrayOf t ty).before args s = true) (hlen : (Cond.eq (.length t) (.int (Int32.ofNat N))).before args s = true) (hel : ∀ j, j < N → (Cond.eq (.elem t (.int (Int32.ofNat j))) (.int (f j))).before args s = true) :
    ∃ (a : Nat) (cell : Cell), t.eval args s none [] s = some (.ref a) ∧ s.heap[a]? = some cell ∧ s.vm.findClass nm = some cell.cls ∧ cell.vm ≠ .unknown ∧ cell.vm.isStatics = false ∧ Int32.ofNat cell.slots.size = Int32.ofNat N ∧ ∀ j, j < N → cell.slots[j]? = some (.int (f j)) := by
  obtain ⟨a, c, cell, k, hev, hfc, hcell, hk, hst, hcls, -⟩ := Cond.exactly_spec hex
  obtain ⟨-, hkn⟩ := Cond.arrayOf_spec harr hev hcell
  have hv := va_eqv hlen (show (Term.int (Int32.ofNat N)).eval args s none [] s = some (.int (Int32.ofNat N)) from rfl)
  obtain ⟨a2, cell2, h1, h2, h3⟩ := Term.length_spec hv
  cases h1.symm.trans hev
  cases (State.arrayAt?_spec h2).1.symm.trans hcell
  refine ⟨a, cell, hev, hcell, by rw [hcls]; exact hfc, hkn, hst, ?_, fun j hj => ?_⟩
  · injection h3 with h3
    exact h3.symm
  · have hv := va_eqv (hel j hj) (show (Term.int (f j)).eval args s none [] s = some (.int (f j)) from rfl)
    obtain ⟨a3, i, cell3, g1, g2, g3, g4, g5⟩ := Term.elem_spec hv
    cases g1.symm.trans hev
    cases (State.arrayAt?_spec g3).1.symm.trans hcell
    have g2 : (some (Value.int (Int32.ofNat j)) : Option Value) = some (.int i) := g2
    cases g2
    have hc := nI_clamp (n := j) (by omega)
    have hc : (Int32.ofNat j).toNatClampNeg = j := hc
    rw [hc] at g5
    exact g5
theorem st_fld {t : Term} {a : Nat} {o n d : String} {v : Value} {i : Nat} {cell : Cell} (ht : t.eval args s none [] s = some (.ref a)) (hv : (Term.field t o n d).eval args s none [] s = some v) (hs : SlotIs s o n d i) (hc : s.heap[a]? = some cell) : cell.vm ≠ .unknown ∧ cell.slots[i]? = some v := by
  obtain ⟨cf, k, fi, f, cell2, h1, h2, h3, h4, h5, -⟩ := vk_OFof (A := fun _ => False) ht hv (fun _ _ h => h)
  obtain ⟨_, _, _, f', g1, g2⟩ := hs
  cases h1.symm.trans g1
  cases h3.symm.trans hc
  rw [← g2]
  exact ⟨h4, h5⟩
theorem st_fc {n1 n2 : String} {c : ClassId} (h1 : s.vm.findClass n1 = some c) (h2 : s.vm.findClass n2 = some c) : n1 = n2 := by
  obtain ⟨k1, a1, b1⟩ := Vm.findClass_spec h1
  obtain ⟨k2, a2, b2⟩ := Vm.findClass_spec h2
  cases a1.symm.trans a2
  exact b1.symm.trans b2
theorem st_rf {t : Term} (h : (Cond.isRef t).before args s = true) : ∃ r : Option Nat, t.eval args s none [] s = some (va_rf r) := by
  obtain ⟨v, h1, h2⟩ := Cond.isRef_spec h
  cases v with
  | null => exact ⟨none, h1⟩
  | ref a => exact ⟨some a, h1⟩
  | _ => simp [Value.isRef] at h2
theorem st_nw (hts : ∀ w ∈ lw_tbl, w.before args s = true) : ∀ w ∈ tw_nw, va_Nw w s := by
  intro w hw
  obtain ⟨h1, h2⟩ := List.mem_filter.mp hw
  refine va_Nw.of ?_ (hts w h1)
  cases w <;> first | rfl | (simp [tw_ok] at h2)
end SU
/-- the law's walk out of the pure law -/
theorem st_go {p : Program} {e : Env} {s : State} {m : MethodId} {below : List Frame} {meth : Method} {c : Code} (l : Launch) (hflags : l.flags = flags0) {b L : Nat} {xs : Nat → Int32} (main : ∀ σ : Tst, tw_S0 σ → w_L_law_b0 b L xs (fun _ _ => True) (fun _ _ _ => False) σ) (C0 : lw_At p s m meth c b L xs) : W p l e room_1 s m #[Value.ref b] below meth c s.heap [] 0 0 (lw_Z below #[Value.ref b] s) (entryFrame m ([Value.ref b] : List Value).toArray 9) := by
  obtain ⟨hx, hb, hret, hml, hown, hts, hX, hbl, hlk, hg⟩ := C0
  obtain ⟨D, hD⟩ := st_D hts
  obtain ⟨dA, hA⟩ := st_A hts
  have hAB : ∀ a : Nat, a < s.heap.size → ¬ s.heap.size ≤ a := fun a h => by omega
  obtain ⟨E, cE, e1, e2, e3, e4, e5, e6, e7⟩ := st_arr (t := st_emp) (N := 0) (f := fun _ => 0) (by decide) (st_w0 hg) (st_w1 hg) (st_w2 hg) (fun j hj => absurd hj (Nat.not_lt_zero _))
  obtain ⟨O, cO, o1, o2, o3, o4, o5, o6, o7⟩ := st_arr (t := st_on) (N := 100) (f := st_one) (by decide) (st_w3 hg) (st_w4 hg) (st_w5 hg) (st_do hg)
  obtain ⟨T, cT, t1, t2, t3, t4, t5, t6, t7⟩ := st_arr (t := st_te) (N := 100) (f := st_ten) (by decide) (st_w6 hg) (st_w7 hg) (st_w8 hg) (st_dt hg)
  obtain ⟨V, cV, v1, v2, v3, v4, v5, v6, v7⟩ := st_arr (t := st_val) (N := 0) (f := fun _ => 0) (by decide) (st_w10 hg) (st_w11 hg) (st_w12 hg) (fun j hj => absurd hj (Nat.not_lt_zero _))
  obtain ⟨S, cS0, cS, kS, s1, s2, s3, s4, s5, s6, -⟩ := Cond.exactly_spec (st_w9 hg)
  subst s6
  obtain ⟨hSl, hSc⟩ := hD cJ2 _ rfl
  have hSl : ∀ k, k < 4 → SlotIs s (TJ2 k).1 (TJ2 k).2.1 (TJ2 k).2.2.1 (D.2 cJ2 k) := hSl
  have f0 := st_fld s1 v1 (hSl 0 (by decide)) s3
  have f1 := st_fld s1 (va_eqv (st_w13 hg) (show (Term.int 0).eval #[Value.ref b] s none [] s = some (.int 0) from rfl)) (hSl 1 (by decide)) s3
  have f2 := st_fld s1 (va_eqv (st_w14 hg) (show (Term.int 0).eval #[Value.ref b] s none [] s = some (.int 0) from rfl)) (hSl 2 (by decide)) s3
  have f3 := st_fld s1 (va_eqv (st_w15 hg) (show (Term.int 1).eval #[Value.ref b] s none [] s = some (.int 1) from rfl)) (hSl 3 (by decide)) s3
  obtain ⟨r4, hr4⟩ := st_rf (st_w20 hg)
  obtain ⟨r5, hr5⟩ := st_rf (st_w21 hg)
  obtain ⟨r6, hr6⟩ := st_rf (st_w22 hg)
  obtain ⟨mi, hmi⟩ := va_Mi.of (st_w23 hg)
  obtain ⟨cst, hcst⟩ : ∃ cst : Nat → Option Nat, cst = fun k => if k = 0 then some E else if k = 1 then some O else if k = 2 then some T else if k = 3 then some S else if k = 4 then r4 else if k = 5 then r5 else if k = 6 then r6 else if k = 7 then some mi else if k = 99 then some s.heap.size else none := ⟨_, rfl⟩
  obtain ⟨G, hG⟩ : ∃ G : Tgl, G = (D, dA, s.heap.size, s.heap.size + 1200144, tw_tot s.heap + 5496826, cst) := ⟨_, rfl⟩
  obtain ⟨σ, hσ⟩ : ∃ σ : Tst, σ = (st_cs E O T S V, 1200144, 5496826, cst) := ⟨_, rfl⟩
  have hbB := (hA 2 .byte rfl).2
  have hbB' : s.vm.findClass "[B" = some (dA 2) := hbB
  have hb10 : s.vm.findClass "[B" = some (dA 10) := (hA 10 .byte rfl).2
  have hO5 : s.vm.findClass "[Ljava/lang/Object;" = some (dA 5) := va_nmO (hA 5 _ rfl).2 (by decide +kernel)
  have ne1 : ∀ {x y : Nat} {cx cy : Cell} {n1 n2 : String}, s.heap[x]? = some cx → s.heap[y]? = some cy → s.vm.findClass n1 = some cx.cls → s.vm.findClass n2 = some cy.cls → n1 ≠ n2 → x ≠ y := by
    intro x y cx cy n1 n2 h1 h2 h3 h4 h5 h6
    subst h6
    cases h1.symm.trans h2
    exact h5 (st_fc h3 h4)
  have nTO : T ≠ O := by
    intro h
    subst h
    cases t2.symm.trans o2
    have h := (t7 1 (by decide)).symm.trans (o7 1 (by decide))
    have h2 : st_ten 1 = st_one 1 := by injection h with h; injection h
    exact absurd h2 (by decide)
  have nVO : V ≠ O := by
    intro h
    subst h
    cases v2.symm.trans o2
    exact absurd (v6.symm.trans o6) (by decide)
  have nVT : V ≠ T := by
    intro h
    subst h
    cases v2.symm.trans t2
    exact absurd (v6.symm.trans t6) (by decide)
  have hlt : ∀ {x : Nat} {cx : Cell}, s.heap[x]? = some cx → x < s.heap.size := fun h => (Array.getElem?_eq_some_iff.mp h).1
  have nSO : S ≠ O := ne1 s3 o2 s2 o3 (by decide)
  have nST : S ≠ T := ne1 s3 t2 s2 t3 (by decide)
  have nEO : E ≠ O := ne1 e2 o2 e3 o3 (by decide)
  have nET : E ≠ T := ne1 e2 t2 e3 t3 (by decide)
  have nES : E ≠ S := ne1 e2 s3 e3 s2 (by decide)
  have nVS : V ≠ S := ne1 v2 s3 v3 s2 (by decide)
  have nVE : V ≠ E := ne1 v2 e2 v3 e3 (by decide)
  have hS0 : tw_S0 σ := ⟨E, O, T, S, V, s.heap.size, by rw [hσ, hcst]; rfl, by rw [hσ, hcst]; rfl, by rw [hσ, hcst]; rfl, by rw [hσ, hcst]; rfl, by rw [hσ, hcst]; rfl, by rw [hσ], hlt e2, hlt o2, hlt t2, hlt s3, hlt v2, nTO, nSO, nST, nEO, nET, nES, nVO, nVT, nVS, nVE, by rw [hσ], by rw [hσ]⟩
  have wO : tw_wk G O (.inl (10, 100, .inl st_one)) s.heap := ⟨cO, o2, by rw [hG]; exact Option.some.inj (o3.symm.trans hb10), o4, o5, o6, fun j v hv => by
    have hv : (arrV (G.2.1 10) 100 (fun j => .int (st_one j))).slots[j]? = some v := hv
    have hj : j < 100 := by have h := (Array.getElem?_eq_some_iff.mp hv).1; rw [arrV_size] at h; exact h
    rw [arrV_read _ _ hj] at hv
    rw [o7 j hj]
    exact hv⟩
  have wT : tw_wk G T (.inl (10, 100, .inl st_ten)) s.heap := ⟨cT, t2, by rw [hG]; exact Option.some.inj (t3.symm.trans hb10), t4, t5, t6, fun j v hv => by
    have hv : (arrV (G.2.1 10) 100 (fun j => .int (st_ten j))).slots[j]? = some v := hv
    have hj : j < 100 := by have h := (Array.getElem?_eq_some_iff.mp hv).1; rw [arrV_size] at h; exact h
    rw [arrV_read _ _ hj] at hv
    rw [t7 j hj]
    exact hv⟩
  have wE : tw_wk G E (.inl (5, 0, .inr (.inr (.inr (.inr fun _ => none))))) s.heap := ⟨cE, e2, by rw [hG]; exact Option.some.inj (e3.symm.trans hO5), e4, e5, e6, fun j v hv => by
    have hj := (Array.getElem?_eq_some_iff.mp hv).1
    rw [tw_vsize] at hj
    exact absurd hj (Nat.not_lt_zero _)⟩
  have wV : tw_wk G V (.inl (2, 0, .inl fun _ => 0)) s.heap := ⟨cV, v2, by rw [hG]; exact Option.some.inj (v3.symm.trans hbB'), v4, v5, v6, fun j v hv => by
    have hj := (Array.getElem?_eq_some_iff.mp hv).1
    rw [tw_vsize] at hj
    exact absurd hj (Nat.not_lt_zero _)⟩
  have wS : tw_wk G S (.inr (cJ2, [.inr (some V), .inl 0, .inl 0, .inl 1])) s.heap := ⟨_, cS, rfl, s3, by rw [hG]; exact Option.some.inj (s2.symm.trans hSc.1), f0.1, s5, fun k hk => by
    rw [hG]
    have hk : k < 4 := hk
    obtain rfl | rfl | rfl | rfl : k = 0 ∨ k = 1 ∨ k = 2 ∨ k = 3 := by omega
    · exact f0.2
    · exact f1.2
    · exact f2.2
    · exact f3.2⟩
  have hbase : G.2.2.1 = s.heap.size := by rw [hG]
  have hR : tw_R G σ s.heap := by
    have key : ∀ (a : Nat) (e : Tce), σ.1 a = some e → tw_wk G a e s.heap ∧ tw_ro e := by
      intro a e h
      rw [hσ] at h
      simp only [st_cs] at h
      split at h
      · rename_i h1; cases h; rw [h1]; exact ⟨wO, Or.inr rfl⟩
      · split at h
        · rename_i h1; cases h; rw [h1]; exact ⟨wT, Or.inr rfl⟩
        · split at h
          · rename_i h1; cases h; rw [h1]; exact ⟨wS, rfl⟩
          · split at h
            · rename_i h1; cases h; rw [h1]; exact ⟨wE, Or.inl rfl⟩
            · split at h
              · rename_i h1; cases h; rw [h1]; exact ⟨wV, Or.inl rfl⟩
              · cases h
    refine ⟨fun a e h => ⟨(key a e h).1, fun hb => ?_⟩, fun a e h => Or.inr (key a e h).2, by rw [hσ, hG], by rw [hσ, hG], by rw [hσ, hG]⟩
    have := (key a e h).1.lt
    rw [hbase] at hb
    omega
  have hAG : ∀ a : Nat, a < s.heap.size → ¬ tw_A G a := fun a h h2 => by
    have h2 : G.2.2.1 ≤ a := h2
    rw [hbase] at h2
    omega
  have hT : tw_T G s := by
    refine ⟨⟨fun c q h => by rw [hG]; exact hD c q h, fun k q hk => ?_⟩, st_nw hts, st_fw hts, st_nc hg, ?_, Nat.le_of_eq hbase, fun C hC => ?_, by rw [hG, hcst]; rfl, ⟨mi, by rw [hG, hcst]; rfl, hmi⟩, ⟨S, by rw [hG, hcst]; rfl, vk_R.of (hts _ q2039) s1⟩, st_sels hts, hts _ q2041, ?_⟩
    · have hk2 := (List.getElem?_eq_some_iff.mp hk).1
      have hk2 : k < 11 := hk2
      obtain rfl | rfl | rfl | rfl | rfl | rfl | rfl | rfl | rfl | rfl | rfl : k = 0 ∨ k = 1 ∨ k = 2 ∨ k = 3 ∨ k = 4 ∨ k = 5 ∨ k = 6 ∨ k = 7 ∨ k = 8 ∨ k = 9 ∨ k = 10 := by omega
      · cases hk; rw [hG]; exact hA 0 _ rfl
      · cases hk; rw [hG]; exact hA 1 _ rfl
      · cases hk; rw [hG]; exact hA 2 _ rfl
      · cases hk; rw [hG]; exact hA 3 _ rfl
      · cases hk; rw [hG]; exact hA 4 _ rfl
      · cases hk; rw [hG]; exact hA 5 _ rfl
      · cases hk; rw [hG]; exact hA 6 _ rfl
      · cases hk; rw [hG]; exact hA 7 _ rfl
      · cases hk; rw [hG]; exact hA 8 _ rfl
      · cases hk; rw [hG]; exact hA 9 _ rfl
      · cases hk; rw [hG]; exact hA 10 _ rfl
    · rw [hG] at hAG ⊢
      intro q hq
      simp only [tw_sl, hcst, List.mem_cons, List.not_mem_nil, or_false] at hq
      rcases hq with rfl | rfl | rfl | rfl | rfl | rfl | rfl | rfl | rfl | rfl
      · exact va_Zof (hts _ q176) (hts _ (lw_all_tbl q73)) (e1) hAG
      · exact va_Zof (hts _ q829) (hts _ (lw_all_tbl q95)) (o1) hAG
      · exact va_Zof (hts _ q831) (hts _ (lw_all_tbl q95)) (t1) hAG
      · exact va_Zof (hts _ q133) (hts _ (lw_all_tbl q67)) (va_eqi (st_w16 hg)) hAG
      · exact va_Zof (hts _ q767) (hts _ (lw_all_tbl q68)) (va_eqi (st_w17 hg)) hAG
      · exact va_Zof (hts _ q769) (hts _ (lw_all_tbl q68)) (va_eqi (st_w18 hg)) hAG
      · exact va_Zof (hts _ q771) (hts _ (lw_all_tbl q68)) (va_eqi (st_w19 hg)) hAG
      · exact va_Zof (hts _ q759) (hts _ (lw_all_tbl q85)) (hr4) hAG
      · exact va_Zof (hts _ q378) (hts _ (lw_all_tbl q76)) (hr5) hAG
      · exact va_Zof (hts _ q380) (hts _ (lw_all_tbl q76)) (hr6) hAG
    · simp only [tw_ao, List.mem_cons, List.not_mem_nil, or_false] at hC
      rcases hC with rfl | rfl | rfl | rfl
      · exact va_AO.of (hts _ q557)
      · exact va_AO.of (hts _ q122)
      · exact va_AO.of (hts _ q2012)
      · exact va_AO.of (hts _ q2043)
    · exact ⟨(vx_Zqof (hts _ q378) (hts _ (lw_all_tbl q76)) (st_w21 hg) hAG).2, (vx_Zqof (hts _ q380) (hts _ (lw_all_tbl q76)) (st_w22 hg) hAG).2⟩
  have hstk : l.stackTraces = false := by
    unfold Launch.stackTraces
    rw [hflags]
    decide +kernel
  have hC : tw_C p l room_1 s m #[Value.ref b] meth c G cL_law 9 x.cls := ⟨hx, hb, hml, hown, fun w h => hts w (lw_all_tbl h), hlk, hT, by rw [hG]; rfl, by rw [hG]; rfl, hstk⟩
  have hlv := lv_entry ([(.inr (some b) : Tfv)].map tw_v) (n := 9) (by rw [tw_sl_len]; exact (by decide : 1 ≤ 9))
  rw [tw_lv_eq] at hlv
  have h2 := wk_L_law_b0 (below := below) (p := p) (l := l) (e := e) hC hret ⟨hX, hbl, hbase⟩ trivial rfl rfl σ s.heap [] _ (main σ hS0) hR va_S.rf hlv
  rw [lg_entry_eq]
  have hc1 : room_1.cells = 1200144 := rfl
  have hs1 : room_1.slots = 5496826 := rfl
  have hc0 : room_1.cells - σ.2.1 = 0 := by rw [hσ, hc1, Nat.sub_self]
  have hs0 : room_1.slots - σ.2.2.1 = 0 := by rw [hσ, hs1, Nat.sub_self]
  simp only [tw_W, hc0, hs0] at h2
  exact h2
