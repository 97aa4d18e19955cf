-- two synchronized methods of Throwable
section SY
variable {p : Program} {e : Env} {below : List Frame} {s V : State} {g : JFrame} {c : Code}
abbrev sy_in (V : State) (g : JFrame) (m : MethodId) (as : Array Value) (n a : Nat) (y : Cell) : State := ((V.setCell a y).setTop g).pushFrame (.java (entryFrameSync m as n a))
abbrev sy_J (m : MethodId) (ls : Array Slot) (a pc : Nat) (st : List Value) : JFrame := { method := m, pc := pc, locals := ls, stack := st, locked := some a, monitorRoom := 1 }
theorem sy_d8 : decode prog_45_method_8_code 0 = .ok (.aload_n 0, 1) ∧ decode prog_45_method_8_code 1 = .ok (.getfield 7, 3) ∧ decode prog_45_method_8_code 4 = .ok (.aload_n 0, 1) ∧ decode prog_45_method_8_code 5 = .ok (.if_acmp .ne 7, 3) ∧ decode prog_45_method_8_code 8 = .ok (.aconst_null, 1) ∧ decode prog_45_method_8_code 9 = .ok (.goto 7, 3) ∧ decode prog_45_method_8_code 12 = .ok (.aload_n 0, 1) ∧ decode prog_45_method_8_code 13 = .ok (.getfield 7, 3) ∧ decode prog_45_method_8_code 16 = .ok (.areturn, 1) := by decide +kernel
theorem sy_d9 : decode prog_45_method_9_code 0 = .ok (.aload_n 0, 1) ∧ decode prog_45_method_9_code 1 = .ok (.getfield 7, 3) ∧ decode prog_45_method_9_code 4 = .ok (.aload_n 0, 1) ∧ decode prog_45_method_9_code 5 = .ok (.if_acmp .eq 36, 3) ∧ decode prog_45_method_9_code 41 = .ok (.aload_n 1, 1) ∧ decode prog_45_method_9_code 42 = .ok (.aload_n 0, 1) ∧ decode prog_45_method_9_code 43 = .ok (.if_acmp .ne 14, 3) ∧ decode prog_45_method_9_code 57 = .ok (.aload_n 0, 1) ∧ decode prog_45_method_9_code 58 = .ok (.aload_n 1, 1) ∧ decode prog_45_method_9_code 59 = .ok (.putfield 7, 3) ∧ decode prog_45_method_9_code 62 = .ok (.aload_n 0, 1) ∧ decode prog_45_method_9_code 63 = .ok (.areturn, 1) := by decide +kernel
theorem sy_ret (h : At V g.method c below) (hexec : p.tables.exec = Jvm.exec) (howns : e.platform.frameOwnsMonitors = true) {m : MethodId} {meth : Method} {cd : Code} {as : Array Value} {ls : Array Slot} {n a pc : Nat} {y : Cell} {w : Option Nat} {ig : Instr} {len : Nat} {target : State}
    (hm : V.vm.method? m = some meth) (hl : meth.locks = true) (hret : meth.sig.returnType = some (.object "java/lang/Throwable")) (hA : At (sy_in V g m as n a y) m cd below) (hmine : y.monitor.owner = some V.cur) (hlt : a < V.heap.size) (hd : decode cd.code pc = .ok (.areturn, 1)) (hdg : decode c.code g.pc = .ok (ig, len))
    (hrest : Steps p.tables e below ((V.setCell a y.left).setTop { g with pc := g.pc + len, stack := va_rf w :: g.stack }) target) : Steps p.tables e below ((sy_in V g m as n a y).setTop (sy_J m ls a pc [va_rf w])) target := by
  have hr : (va_rf w).isRef = true := by cases w <;> rfl
  jvm_step hA [hA.top, hexec, hd, areturn.wp_sem, Value.isRef, FieldType.isReference]
  refine ⟨by cases w <;> rfl, meth, hm, ⟨_, hret, by cases w <;> rfl⟩, fun acts' => ?_⟩
  have hfr : (sy_in V g m as n a y).frames = .java (entryFrameSync m as n a) :: .java g :: V.frames.tail := frames_entered (g := g) (show (V.setCell a y).topJava?.isSome from h.top) _
  have hcode : (sy_in V g m as n a y).code? g.method = some c := by
    have := h.code
    rw [State.code?_eq] at this ⊢
    exact this
  have hcl : (sy_in V g m as n a y).heap[a]? = some y := by
    show (V.heap.setIfInBounds a y)[a]? = _
    simp [hlt]
  rw [doReturn_leave_sync (u := sy_in V g m as n a y) (g := g) (meth := meth) (cg := c) (ig := ig) (len := len) (a := a) (cell := y) (f := sy_J m ls a pc []) (f₀ := entryFrameSync m as n a) (r := V.frames.tail) acts' howns hfr hm hl rfl rfl hcl hmine hcode hdg]
  have e1 : ((sy_in V g m as n a y).setCell a y.left).setFrames (.java g :: V.frames.tail) = (V.setCell a y.left).setTop g := by
    show ((sy_in V g m as n a y).setFrames (.java g :: (V.setCell a y).frames.tail)).setCell a y.left = _
    rw [setFrames_entered (s := V.setCell a y) h.top]
    show ((V.setCell a y).setCell a y.left).setTop g = _
    rw [setCell_twice]
  rw [e1, State.setTop_setTop]
  exact hrest
theorem sy_at (h : At V g.method c below) {m : MethodId} {meth : Method} {cd : Code} (as : Array Value) {n a : Nat} (y : Cell) (hm : V.vm.method? m = some meth) (hc : meth.code = some cd) (hn : cd.maxLocals = n) (hp : V.plainMethod m) : At (sy_in V g m as n a y) m cd below := by
  have := At.enter_sync (g := g) h as a y hm hc hp
  rw [hn] at this
  exact this
theorem sy_gc (h : At V g.method c below) (hexec : p.tables.exec = Jvm.exec) (howns : e.platform.frameOwnsMonitors = true) (hW : s.WarmedH V.vm) {mk : MethodId} {meth : Method} {cd : Code} {a ci owner i : Nat} {k : Class} {field : Field} {cell : Cell} {cz : Option Nat} {ig : Instr} {len : Nat} (acts : List Action)
    (hm : s.vm.method? mk = some meth) (hc : meth.code = some cd) (hb : cd.code = prog_45_method_8_code) (hn : cd.maxLocals = 1) (hl : meth.locks = true) (hst : meth.isStatic = false) (hret : meth.sig.returnType = some (.object "java/lang/Throwable")) (hp : ∀ k : Class, s.vm.classes[mk.cls]? = some k → plainName k.name = true)
    (hlk : s.vm.FieldLinks e.platform mk.cls 7 ci owner i) (hright : s.rightAt mk.cls 7 (.field owner i) = true) (hk : s.vm.classes[owner]? = some k) (hf : k.fields[i]? = some field) (hfs : field.isStatic = false)
    (hcell : V.heap[a]? = some cell) (hknown : cell.vm ≠ .unknown) (ho : cell.monitor.owner = none) (hct : cell.monitor.count = 0) (hv : cell.slots[field.slot]? = some (va_rf cz)) (hdg : decode c.code g.pc = .ok (ig, len))
    (hroom : e.platform.stackFull (((V.setTop g).threads[(V.setTop g).cur]?).getD { frames := [] }) (V.setTop g).frames (1 + 2) = false) :
    ∃ vm', s.WarmedH vm' ∧ ∀ target, Steps p.tables e below ((V.setVm vm').setTop { g with pc := g.pc + len, stack := va_rf (if cz = some a then none else cz) :: g.stack }) target → Steps p.tables e below (doInvoke e (V.setTop g) acts mk #[.ref a]).1 target := by
  obtain ⟨d0, d1, d4, d5, d8, d9, d12, d13, d16⟩ := sy_d8
  have hlt : a < V.heap.size := (Array.getElem?_eq_some_iff.mp hcell).1
  have hA : At (sy_in V g mk #[.ref a] 1 a (cell.withEntry V.cur)) mk cd below := sy_at h _ _ (hW.methodAt hm) hc hn (hW.plainAt (m := mk) hp)
  have hcU : (sy_in V g mk #[.ref a] 1 a (cell.withEntry V.cur)).heap[a]? = some (cell.withEntry V.cur) := by
    show (V.heap.setIfInBounds a (cell.withEntry V.cur))[a]? = _
    simp [hlt]
  have hin : (doInvoke e (V.setTop g) acts mk #[.ref a]).1 = (sy_in V g mk #[.ref a] 1 a (cell.withEntry V.cur)).setTop (sy_J mk #[.val (.ref a)] a 0 []) := by
    rw [doInvoke_enter_sync h.top acts (hW.methodAt hm) hc hl hst rfl hcell (Or.inl ho) (by rw [hn]; exact hroom), hn]
    rfl
  have hback : ∀ vm : Vm, ((V.setVm vm).setCell a (cell.withEntry V.cur).left) = V.setVm vm := by
    intro vm
    rw [Cell.left_withEntry V.cur ho hct]
    have : (V.setVm vm).heap.setIfInBounds a cell = V.heap := by
      apply Array.ext_getElem?
      intro j
      show (V.heap.setIfInBounds a cell)[j]? = _
      by_cases hj : a = j
      · subst hj
        rw [Array.getElem?_setIfInBounds, if_pos rfl, if_pos hlt]
        exact hcell.symm
      · simp [Array.getElem?_setIfInBounds, hj]
    show ({ V.setVm vm with heap := (V.setVm vm).heap.setIfInBounds a cell } : State) = _
    rw [this]
    rfl
  obtain ⟨vm1, hW1, st1⟩ := Steps.getfieldCold (tb := p.tables) (s₀ := s) (U := sy_in V g mk #[.ref a] 1 a (cell.withEntry V.cur)) (f := sy_J mk #[.val (.ref a)] a 1 [.ref a]) (a := a) (rest := []) (cell := cell.withEntry V.cur) (v := va_rf cz) hA hexec (by rw [hb]; exact d1) hW hlk hright hk hf hfs rfl hcU hknown hv
  have h1 : At (V.setVm vm1) g.method c below := h.setVm (hW.alike.symm.trans hW1.alike)
  have hA1 : At (sy_in (V.setVm vm1) g mk #[.ref a] 1 a (cell.withEntry V.cur)) mk cd below := sy_at h1 _ _ (hW1.methodAt hm) hc hn (hW1.plainAt (m := mk) hp)
  by_cases hz : cz = some a
  · refine ⟨vm1, hW1, fun target hrest => ?_⟩
    rw [if_pos hz] at hrest
    subst hz
    rw [hin]
    jvm_step hA [hexec, hb, d0, Value.isRef]
    refine st1 target ?_
    show Steps p.tables e below ((sy_in (V.setVm vm1) g mk #[.ref a] 1 a (cell.withEntry V.cur)).setTop (sy_J mk #[.val (.ref a)] a 4 [.ref a])) target
    jvm_step hA1 [hexec, hb, d4, Value.isRef]
    jvm_step hA1 [hexec, hb, d5, Value.asRef?, Op.if_acmp.holds]
    jvm_step hA1 [hexec, hb, d8]
    jvm_step hA1 [hexec, hb, d9]
    refine sy_ret (w := none) (pc := 16) h1 hexec howns (hW1.methodAt hm) hl hret hA1 rfl hlt (by rw [hb]; exact d16) hdg ?_
    rw [hback]
    exact hrest
  · have hcU1 : (sy_in (V.setVm vm1) g mk #[.ref a] 1 a (cell.withEntry V.cur)).heap[a]? = some (cell.withEntry V.cur) := hcU
    obtain ⟨vm2, hW2, st2⟩ := Steps.getfieldCold (tb := p.tables) (s₀ := s) (U := sy_in (V.setVm vm1) g mk #[.ref a] 1 a (cell.withEntry V.cur)) (f := sy_J mk #[.val (.ref a)] a 13 [.ref a]) (a := a) (rest := []) (cell := cell.withEntry V.cur) (v := va_rf cz) hA1 hexec (by rw [hb]; exact d13) hW1 hlk hright hk hf hfs rfl hcU1 hknown hv
    have h2 : At (V.setVm vm2) g.method c below := h.setVm (hW.alike.symm.trans hW2.alike)
    have hA2 : At (sy_in (V.setVm vm2) g mk #[.ref a] 1 a (cell.withEntry V.cur)) mk cd below := sy_at h2 _ _ (hW2.methodAt hm) hc hn (hW2.plainAt (m := mk) hp)
    refine ⟨vm2, hW2, fun target hrest => ?_⟩
    rw [if_neg hz] at hrest
    rw [hin]
    jvm_step hA [hexec, hb, d0, Value.isRef]
    refine st1 target ?_
    show Steps p.tables e below ((sy_in (V.setVm vm1) g mk #[.ref a] 1 a (cell.withEntry V.cur)).setTop (sy_J mk #[.val (.ref a)] a 4 [va_rf cz])) target
    have hjump : Steps p.tables e below ((sy_in (V.setVm vm1) g mk #[.ref a] 1 a (cell.withEntry V.cur)).setTop (sy_J mk #[.val (.ref a)] a 12 [])) target := by
      jvm_step hA1 [hexec, hb, d12, Value.isRef]
      refine st2 target ?_
      show Steps p.tables e below ((sy_in (V.setVm vm2) g mk #[.ref a] 1 a (cell.withEntry V.cur)).setTop (sy_J mk #[.val (.ref a)] a 16 [va_rf cz])) target
      refine sy_ret (w := cz) (pc := 16) h2 hexec howns (hW2.methodAt hm) hl hret hA2 rfl hlt (by rw [hb]; exact d16) hdg ?_
      rw [hback]
      exact hrest
    jvm_step hA1 [hexec, hb, d4, Value.isRef]
    cases cz with
    | none => jvm_step hA1 [hexec, hb, d5, va_rf, Value.asRef?, Op.if_acmp.holds]; exact hjump
    | some b =>
      have hxy : ¬ b = a := fun q => hz (by rw [q])
      jvm_step hA1 [hexec, hb, d5, va_rf, Value.asRef?, Op.if_acmp.holds, hxy]; exact hjump
theorem sy_ic (h : At V g.method c below) (hexec : p.tables.exec = Jvm.exec) (howns : e.platform.frameOwnsMonitors = true) (hW : s.WarmedH V.vm) {mk : MethodId} {meth : Method} {cd : Code} {a ci owner i : Nat} {k : Class} {field : Field} {cell : Cell} {w : Option Nat} {ig : Instr} {len : Nat} (acts : List Action)
    (hm : s.vm.method? mk = some meth) (hc : meth.code = some cd) (hb : cd.code = prog_45_method_9_code) (hn : cd.maxLocals = 2) (hl : meth.locks = true) (hst : meth.isStatic = false) (hret : meth.sig.returnType = some (.object "java/lang/Throwable")) (hp : ∀ k : Class, s.vm.classes[mk.cls]? = some k → plainName k.name = true)
    (hlk : s.vm.FieldLinks e.platform mk.cls 7 ci owner i) (hright : s.rightAt mk.cls 7 (.field owner i) = true) (hk : s.vm.classes[owner]? = some k) (hf : k.fields[i]? = some field) (hfs : field.isStatic = false) (hfin : hasFlag field.accessFlags Acc.final = false)
    (hcell : V.heap[a]? = some cell) (hknown : cell.vm ≠ .unknown) (ho : cell.monitor.owner = none) (hct : cell.monitor.count = 0) (hv : cell.slots[field.slot]? = some (.ref a)) (hw : w ≠ some a) (hnar : narrow field.type (va_rf w) = va_rf w) (hfit : s.fitsSlot cell.cls cell.vm field.slot (va_rf w) = true) (hdg : decode c.code g.pc = .ok (ig, len))
    (hroom : e.platform.stackFull (((V.setTop g).threads[(V.setTop g).cur]?).getD { frames := [] }) (V.setTop g).frames (2 + 2) = false) :
    ∃ vm', s.WarmedH vm' ∧ ∀ target, Steps p.tables e below (((V.setVm vm').setCell a (cell.setSlot field.slot (va_rf w))).setTop { g with pc := g.pc + len, stack := va_rf (some a) :: g.stack }) target → Steps p.tables e below (doInvoke e (V.setTop g) acts mk #[.ref a, va_rf w]).1 target := by
  obtain ⟨d0, d1, d4, d5, d41, d42, d43, d57, d58, d59, d62, d63⟩ := sy_d9
  have hlt : a < V.heap.size := (Array.getElem?_eq_some_iff.mp hcell).1
  have hA : At (sy_in V g mk #[.ref a, va_rf w] 2 a (cell.withEntry V.cur)) mk cd below := sy_at h _ _ (hW.methodAt hm) hc hn (hW.plainAt (m := mk) hp)
  have hcU : (sy_in V g mk #[.ref a, va_rf w] 2 a (cell.withEntry V.cur)).heap[a]? = some (cell.withEntry V.cur) := by
    show (V.heap.setIfInBounds a (cell.withEntry V.cur))[a]? = _
    simp [hlt]
  have hloc : argsToLocals #[.ref a, va_rf w] 2 = #[.val (.ref a), .val (va_rf w)] := by cases w <;> rfl
  have hin : (doInvoke e (V.setTop g) acts mk #[.ref a, va_rf w]).1 = (sy_in V g mk #[.ref a, va_rf w] 2 a (cell.withEntry V.cur)).setTop (sy_J mk #[.val (.ref a), .val (va_rf w)] a 0 []) := by
    rw [doInvoke_enter_sync h.top acts (hW.methodAt hm) hc hl hst rfl hcell (Or.inl ho) (by rw [hn]; exact hroom), hn]
    show State.setTop _ _ = State.setTop _ _
    congr 1
    show ({ method := mk, pc := 0, locals := argsToLocals #[.ref a, va_rf w] 2, stack := [], locked := some a, monitorRoom := 1 } : JFrame) = _
    rw [hloc]
  obtain ⟨vm1, hW1, st1⟩ := Steps.getfieldCold (tb := p.tables) (s₀ := s) (U := sy_in V g mk #[.ref a, va_rf w] 2 a (cell.withEntry V.cur)) (f := sy_J mk #[.val (.ref a), .val (va_rf w)] a 1 [.ref a]) (a := a) (rest := []) (cell := cell.withEntry V.cur) (v := .ref a) hA hexec (by rw [hb]; exact d1) hW hlk hright hk hf hfs rfl hcU hknown hv
  have h1 : At (V.setVm vm1) g.method c below := h.setVm (hW.alike.symm.trans hW1.alike)
  have hA1 : At (sy_in (V.setVm vm1) g mk #[.ref a, va_rf w] 2 a (cell.withEntry V.cur)) mk cd below := sy_at h1 _ _ (hW1.methodAt hm) hc hn (hW1.plainAt (m := mk) hp)
  have hcU1 : (sy_in (V.setVm vm1) g mk #[.ref a, va_rf w] 2 a (cell.withEntry V.cur)).heap[a]? = some (cell.withEntry V.cur) := hcU
  obtain ⟨vm2, hW2, st2⟩ := Steps.putfieldCold (tb := p.tables) (s₀ := s) (U := sy_in (V.setVm vm1) g mk #[.ref a, va_rf w] 2 a (cell.withEntry V.cur)) (f := sy_J mk #[.val (.ref a), .val (va_rf w)] a 59 [va_rf w, .ref a]) (a := a) (x := va_rf w) (rest := []) (cell := cell.withEntry V.cur) hA1 hexec (by rw [hb]; exact d59) hW1 hlk hright hk hf hfs hfin rfl hcU1 hknown (Array.getElem?_eq_some_iff.mp hv).1 (by rw [hnar]; exact hfit)
  have h2 : At (V.setVm vm2) g.method c below := h.setVm (hW.alike.symm.trans hW2.alike)
  have hA2 : At (sy_in (V.setVm vm2) g mk #[.ref a, va_rf w] 2 a ((cell.withEntry V.cur).setSlot field.slot (va_rf w))) mk cd below := sy_at h2 _ _ (hW2.methodAt hm) hc hn (hW2.plainAt (m := mk) hp)
  refine ⟨vm2, hW2, fun target hrest => ?_⟩
  rw [hin]
  jvm_step hA [hexec, hb, d0, Value.isRef]
  refine st1 target ?_
  show Steps p.tables e below ((sy_in (V.setVm vm1) g mk #[.ref a, va_rf w] 2 a (cell.withEntry V.cur)).setTop (sy_J mk #[.val (.ref a), .val (va_rf w)] a 4 [.ref a])) target
  have hend : Steps p.tables e below ((sy_in (V.setVm vm1) g mk #[.ref a, va_rf w] 2 a (cell.withEntry V.cur)).setTop (sy_J mk #[.val (.ref a), .val (va_rf w)] a 59 [va_rf w, .ref a])) target := by
    refine st2 target ?_
    rw [hnar]
    have e2 : ((sy_in (V.setVm vm1) g mk #[.ref a, va_rf w] 2 a (cell.withEntry V.cur)).setVm vm2).setCell a ((cell.withEntry V.cur).setSlot field.slot (va_rf w)) = sy_in (V.setVm vm2) g mk #[.ref a, va_rf w] 2 a ((cell.withEntry V.cur).setSlot field.slot (va_rf w)) := by
      show ((((V.setVm vm2).setCell a (cell.withEntry V.cur)).setCell a ((cell.withEntry V.cur).setSlot field.slot (va_rf w))).setTop g).pushFrame _ = _
      rw [setCell_twice]
    rw [e2]
    show Steps p.tables e below ((sy_in (V.setVm vm2) g mk #[.ref a, va_rf w] 2 a ((cell.withEntry V.cur).setSlot field.slot (va_rf w))).setTop (sy_J mk #[.val (.ref a), .val (va_rf w)] a 62 [])) target
    jvm_step hA2 [hexec, hb, d62, Value.isRef]
    refine sy_ret (w := some a) (pc := 63) h2 hexec howns (hW2.methodAt hm) hl hret hA2 rfl hlt (by rw [hb]; exact d63) hdg ?_
    have e3 : ((cell.withEntry V.cur).setSlot field.slot (va_rf w)).left = cell.setSlot field.slot (va_rf w) := Cell.left_withEntry (c := cell.setSlot field.slot (va_rf w)) V.cur ho hct
    rw [e3]
    exact hrest
  jvm_step hA1 [hexec, hb, d4, Value.isRef]
  jvm_step hA1 [hexec, hb, d5, Value.asRef?, Op.if_acmp.holds]
  have has : (va_rf w).asRef? = some w := by cases w <;> rfl
  jvm_step hA1 [hexec, hb, d41, Value.isRef]
  refine ⟨by cases w <;> rfl, ?_⟩
  jvm_step hA1 [hexec, hb, d42, Value.isRef]
  jvm_step hA1 [hexec, hb, d43, has, show (Value.ref a).asRef? = some (some a) from rfl, Op.if_acmp.holds, hw]
  jvm_step hA1 [hexec, hb, d57, Value.isRef]
  jvm_step hA1 [hexec, hb, d58, Value.isRef]
  refine ⟨by cases w <;> rfl, ?_⟩
  exact hend
end SY
