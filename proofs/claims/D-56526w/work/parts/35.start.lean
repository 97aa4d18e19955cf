-- the start
set_option maxRecDepth 100000
section ST
variable {p : Program} {l : Launch} {e : Env} {s : State} {m : MethodId} {below : List Frame} {meth : Method} {c : Code} {args : Array Value}
theorem st_choose {α : Type} {P : Nat → α → Prop} (h : ∀ c, ∃ x, P c x) : ∃ f : Nat → α, ∀ c, P c (f c) := ⟨fun c => (h c).choose, fun c => (h c).choose_spec⟩
theorem st_kn (hts : ∀ w ∈ lw_tbl, w.before args s = true) : ∀ q ∈ tw_cl, ∃ (cC : ClassId) (iS : Nat → Nat), u_Kn s q.1 q.2.1 q.2.2 cC iS := by
  have hta : ∀ w ∈ lw_all, w.before args s = true := fun w h => hts w (lw_all_tbl h)
  intro q h
  simp only [tw_cl, List.mem_cons, List.not_mem_nil, or_false] at h
  rcases h with rfl | rfl | rfl | rfl | rfl | rfl | rfl | rfl | rfl | rfl | rfl | rfl | rfl | rfl | rfl | rfl | rfl | rfl | rfl | rfl | rfl | rfl | rfl | rfl | rfl | rfl | rfl | rfl | rfl | rfl | rfl | rfl | rfl | rfl
  · exact u_known hta in_J1 (hta _ q124)
  · exact u_known hta in_J10 (hta _ q489)
  · exact u_known hta in_J16 (hta _ q686)
  · exact u_known hta in_J17 (hta _ q1395)
  · exact u_known hta in_J18 (hta _ q300)
  · exact u_known hta in_J19 (hta _ q352)
  · exact u_known hta in_J2 (hta _ q846)
  · exact u_known hta in_J20 (hta _ q481)
  · exact u_known hta in_J23 (hta _ q878)
  · exact u_known hta in_J24 (hta _ q1512)
  · exact u_known hta in_J25 (hta _ q1666)
  · exact u_known hta in_J26 (hta _ q1876)
  · exact u_known hta in_J6 (hta _ q164)
  · exact u_known hta in_J7 (hta _ q401)
  · exact u_known hta in_X1 (hta _ q114)
  · exact u_known hta in_X10 (hta _ q1827)
  · exact u_known hta in_X11 (hta _ q1835)
  · exact u_known hta in_X12 (hta _ q1019)
  · exact u_known hta in_X13 (hta _ q945)
  · exact u_known hta in_X14 (hta _ q990)
  · exact u_known hta in_X15 (hta _ q1115)
  · exact u_known hta in_X16 (hta _ q1153)
  · exact u_known hta in_X17 (hta _ q1175)
  · exact u_known hta in_X18 (hta _ q1190)
  · exact u_known hta in_X19 (hta _ q1211)
  · exact u_known hta in_X2 (hta _ q156)
  · exact u_known hta in_X20 (hta _ q2445)
  · exact u_known hta in_X3 (hta _ q158)
  · exact u_known hta in_X4 (hta _ q2006)
  · exact u_known hta in_X5 (hta _ q2013)
  · exact u_known hta in_X6 (hta _ q1428)
  · exact u_known hta in_X7 (hta _ q1470)
  · exact u_known hta in_X8 (hta _ q972)
  · exact u_known hta in_X9 (hta _ q580)
theorem st_D (hts : ∀ w ∈ lw_tbl, w.before args s = true) : ∃ D : va_G, ∀ (c : Nat) (q : vw_C), tw_cl[c]? = some q → u_Kn s q.1 q.2.1 q.2.2 (D.1 c) (D.2 c) := by
  have h : ∀ c : Nat, ∃ x : ClassId × (Nat → Nat), ∀ q : vw_C, tw_cl[c]? = some q → u_Kn s q.1 q.2.1 q.2.2 x.1 x.2 := by
    intro c
    cases hq : tw_cl[c]? with
    | none => exact ⟨(0, fun _ => 0), fun q h => by cases h⟩
    | some r =>
      obtain ⟨cC, iS, h⟩ := st_kn hts r (List.mem_of_getElem? hq)
      exact ⟨(cC, iS), fun q h' => by cases h'; exact h⟩
  obtain ⟨f, hf⟩ := st_choose h
  exact ⟨(fun c => (f c).1, fun c => (f c).2), fun c q hq => hf c q hq⟩
def st_ty : List FieldType := [.int, .char, .byte, .long, .double, .object "java/lang/Object", .object "TreeDiffer$Tree", .object "TreeDifferModel$Tree", .array .int, .object "TreeDifferModel$Item", .byte]
theorem st_pr {ty : FieldType} (h : (Cond.arrayClass ty).before args s = true) (hn : ∀ cA : ClassId, s.vm.findClass ("[" ++ ty.toString) = some cA → va_RA s cA ty) : ∃ cA : ClassId, ArrOfT s cA ty ∧ va_RA s cA ty := by
  obtain ⟨c, k, comp, h1, h2, h3⟩ := Cond.arrayClass_spec h
  exact ⟨c, fun n z => ⟨(fun k h => by cases h), k, h2, comp, h3⟩, hn c h1⟩
theorem st_ob {C : String} (h : (Cond.arrayOver (.object C)).before args s = true) : ∃ cA : ClassId, ArrOfT s cA (.object C) ∧ va_RA s cA (.object C) := by
  obtain ⟨comp, c, k, h1, -, h2, h3, h4⟩ := Cond.arrayOver_spec h
  exact ⟨c, fun n z => ⟨(fun k h => by cases h), k, h2, comp, h3⟩, k, comp, h2, h3, h1, h4⟩
theorem st_ai (h : (Cond.arrayOver (.array .int)).before args s = true) : ∃ cA : ClassId, ArrOfT s cA (.array .int) ∧ va_RA s cA (.array .int) := by
  obtain ⟨comp, c, k, h1, -, h2, h3, h4⟩ := tw_AOi_spec h
  exact ⟨c, fun n z => ⟨(fun k h => by cases h), k, h2, comp, h3⟩, h4⟩
theorem st_A (hts : ∀ w ∈ lw_tbl, w.before args s = true) : ∃ dA : Nat → ClassId, ∀ (k : Nat) (ty : FieldType), st_ty[k]? = some ty → ArrOfT s (dA k) ty ∧ va_RA s (dA k) ty := by
  have h : ∀ k : Nat, ∃ x : ClassId, ∀ ty : FieldType, st_ty[k]? = some ty → ArrOfT s x ty ∧ va_RA s x ty := by
    intro k
    cases hq : st_ty[k]? with
    | none => exact ⟨0, fun ty h => by cases h⟩
    | some t =>
      have hm := List.mem_of_getElem? hq
      have hx : ∃ x : ClassId, ArrOfT s x t ∧ va_RA s x t := by
        simp only [st_ty, List.mem_cons, List.not_mem_nil, or_false] at hm
        rcases hm with rfl | rfl | rfl | rfl | rfl | rfl | rfl | rfl | rfl | rfl | rfl
        · exact st_pr (hts _ (lw_all_tbl q630)) (fun cA h => h)
        · exact st_pr (hts _ (lw_all_tbl q2146)) (fun cA h => h)
        · exact st_pr (hts _ (lw_all_tbl q155)) (fun cA h => h)
        · exact st_pr (hts _ (lw_all_tbl q2535)) (fun cA h => h)
        · exact st_pr (hts _ (lw_all_tbl q2536)) (fun cA h => h)
        · exact st_ob (hts _ q557)
        · exact st_ob (hts _ q122)
        · exact st_ob (hts _ q2012)
        · exact st_ai (hts _ q2041)
        · exact st_ob (hts _ q2043)
        · exact st_pr (hts _ (lw_all_tbl q155)) (fun cA h => h)
      obtain ⟨x, hx⟩ := hx
      exact ⟨x, fun ty h => by cases h; exact hx⟩
  exact st_choose h
theorem st_sel {C : String} {y : MethodName} {n : Nat} {k0 k1 : String} (hy : y.cls ≠ "java/lang/invoke/MethodHandle" ∧ y.cls ≠ "java/lang/invoke/VarHandle") (hins : (Cond.instantiable C n).before args s = true) (hpriv : (Cond.privateMethod y).before args s = true) (hinst : (Cond.instanceMethod y).before args s = true) (hsame : (Cond.sameMethod y.cls y.cls k0 k1).before args s = true) :
    (Cond.selects C y y).before args s = true := by
  obtain ⟨c, k, hc, hk, -, -, -, -⟩ := Cond.instantiable_spec hins
  obtain ⟨mk, methM, hnamed, hmethM, -, -⟩ := Cond.instanceMethod_spec hinst
  have hfound : s.methodFound? y.cls y.name y.desc = some mk := State.methodFound?_of_named hnamed hy
  obtain ⟨cn, ck, r1, hcn, hck, hni, -, -⟩ := Cond.sameMethod_found hsame
  have hcls : mk.cls = cn := Option.some.inj ((findClass_of_methodNamed hnamed).symm.trans hcn)
  have hsel : selectMethod {} s.vm c mk = .method mk := selectMethod_private hmethM (Cond.privateMethod_at hpriv mk methM hnamed hmethM)
  simp only [Cond.before, Cond.holds, Cond.value, hc, hfound, hnamed, hsel, hcls, hck]
  simp; exact hni
theorem st_sels (hts : ∀ w ∈ lw_tbl, w.before args s = true) : ∀ w ∈ tw_sel, w.before #[] s = true := by
  intro w h
  have hs : (Cond.sameMethod "java/lang/AbstractStringBuilder" "java/lang/AbstractStringBuilder" "isLatin1" "()Z").before args s = true := hts _ (lw_all_tbl q743)
  refine va_any (A := args) (tw_selt w h) ?_
  simp only [tw_sel, List.mem_cons, List.not_mem_nil, or_false] at h
  rcases h with rfl | rfl | rfl | rfl | rfl | rfl
  · exact st_sel (n := 4) ⟨by decide, by decide⟩ (hts _ (lw_all_tbl q124)) (hts _ q713) (hts _ (lw_all_tbl q714)) hs
  · exact st_sel (n := 4) ⟨by decide, by decide⟩ (hts _ (lw_all_tbl q124)) (hts _ q791) (hts _ (lw_all_tbl q792)) hs
  · exact st_sel (n := 4) ⟨by decide, by decide⟩ (hts _ (lw_all_tbl q124)) (hts _ q717) (hts _ (lw_all_tbl q718)) hs
  · exact st_sel (n := 4) ⟨by decide, by decide⟩ (hts _ (lw_all_tbl q124)) (hts _ q782) (hts _ (lw_all_tbl q783)) hs
  · exact st_sel (n := 4) ⟨by decide, by decide⟩ (hts _ (lw_all_tbl q124)) (hts _ q709) (hts _ (lw_all_tbl q710)) hs
  · exact st_sel (n := 4) ⟨by decide, by decide⟩ (hts _ (lw_all_tbl q124)) (hts _ q786) (hts _ (lw_all_tbl q787)) hs
theorem st_fw (hts : ∀ w ∈ lw_tbl, w.before args s = true) : ∀ q ∈ tw_fw, va_Fw q.1 q.2.1 q.2.2 s := by
  intro q h
  simp only [tw_fw, List.mem_cons, List.not_mem_nil, or_false] at h
  rcases h with rfl | rfl | rfl | rfl | rfl | rfl | rfl | rfl | rfl | rfl | rfl | rfl | rfl | rfl | rfl | rfl | rfl | rfl
  · exact va_Fw.of (hts _ q321) (hts _ q320) (hts _ q336) (hts _ q334) (hts _ q332)
  · exact va_Fw.of (hts _ q341) (hts _ q340) (hts _ q569) (hts _ q567) (hts _ q332)
  · exact va_Fw.of (hts _ q1856) (hts _ q1855) (hts _ q1870) (hts _ q1868) (hts _ q332)
  · exact va_Fw.of (hts _ q279) (hts _ q278) (hts _ q284) (hts _ q282) (hts _ q280)
  · exact va_Fw.of (hts _ q293) (hts _ q292) (hts _ q297) (hts _ q295) (hts _ q280)
  · exact va_Fw.of (hts _ q446) (hts _ q445) (hts _ q450) (hts _ q448) (hts _ q280)
  · exact va_Fw.of (hts _ q455) (hts _ q454) (hts _ q459) (hts _ q457) (hts _ q280)
  · exact va_Fw.of (hts _ q675) (hts _ q674) (hts _ q679) (hts _ q677) (hts _ q280)
  · exact va_Fw.of (hts _ q1045) (hts _ q1044) (hts _ q1049) (hts _ q1047) (hts _ q280)
  · exact va_Fw.of (hts _ q1140) (hts _ q1139) (hts _ q1144) (hts _ q1142) (hts _ q280)
  · exact va_Fw.of (hts _ q1005) (hts _ q1004) (hts _ q1016) (hts _ q1014) (hts _ q1012)
  · exact va_Fw.of (hts _ q1062) (hts _ q1061) (hts _ q1071) (hts _ q1069) (hts _ q1012)
  · exact va_Fw.of (hts _ q1076) (hts _ q1075) (hts _ q1085) (hts _ q1083) (hts _ q1012)
  · exact va_Fw.of (hts _ q1005) (hts _ q1004) (hts _ q1010) (hts _ q1008) (hts _ q1006)
  · exact va_Fw.of (hts _ q1062) (hts _ q1061) (hts _ q1066) (hts _ q1064) (hts _ q1006)
  · exact va_Fw.of (hts _ q1076) (hts _ q1075) (hts _ q1080) (hts _ q1078) (hts _ q1006)
  · exact va_Fw.of (hts _ q321) (hts _ q320) (hts _ q326) (hts _ q324) (hts _ q322)
  · exact va_Fw.of (hts _ q341) (hts _ q340) (hts _ q345) (hts _ q343) (hts _ q322)
end ST
