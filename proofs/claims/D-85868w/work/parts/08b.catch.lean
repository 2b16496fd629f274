set_option maxRecDepth 100000
/-! ===== what is thrown is caught; calls of methods that catch ===== -/
theorem xh_go {e : Env} {f : JFrame} {a : Addr} {s : State} {x : ExceptionTableEntry} {t : List ExceptionTableEntry} {c : ClassId} {cell : Cell} {vm' : Vm} (hx : covers x f.pc = true) (h0 : x.catchType ≠ 0) (hg : (Jvm.resolveClass f.method.cls x.catchType).Gives e.toSetting s.vm (.ok c) vm') (hsz : vm'.classes.size ≤ s.vm.classes.size)
    (hcell : s.heap[a]? = some cell) (hobj : ∀ k, cell.vm ≠ .statics k) (hk : ∃ k, vm'.classes[cell.cls]? = some k) (hc : ∃ k, vm'.classes[c]? = some k) {Q : Handler → Pre} {E : CtlPost} {d : Bool} {acts : List Action} :
    wp (findHandler.go f a (x :: t)) Q E e d acts s ↔ if vm'.assignable cell.cls c = true then Q (.found x.handlerPc) d acts (s.setVm vm') else wp (findHandler.go f a t) Q E e d acts (s.setVm vm') := by
  obtain ⟨ha, ht⟩ := hg.op (op := VmOp.resolveClass f.method.cls x.catchType) rfl
  simp only [covers] at hx
  cases hfit : vm'.assignable cell.cls c <;>
    simp [findHandler.go, hx, h0, ha, ht, hsz, hcell, hobj, hk, hc, hfit, VmOp.dirties, VmOp.acts]
/-- the search ends at a handler, the tables warmer -/
def FindsV (e : Env) (s : State) (f : JFrame) (a : Addr) (pc : Nat) (vm' : Vm) : Prop :=
  ∀ (Q : Handler → Pre) (E : CtlPost) (d : Bool) (acts : List Action), wp (findHandler f a) Q E e d acts s ↔ Q (.found pc) d acts (s.setVm vm')
theorem xh_step {e : Env} {s : State} {a : Addr} {f : JFrame} {r : List Frame} {pc : Nat} {vm' : Vm} (hfind : FindsV e s f a pc vm') :
    (stepThrowing e s a (.java f :: r)).Is ((s.setVm vm').setFrames (.java { f with pc := pc, stack := [.ref a] } :: r)) [] := by
  simp only [stepThrowing, searchFrame, vmDo]
  generalize hr : Sem.go _ e false [] s = res
  obtain ⟨as, rfl, ha⟩ := Sem.eq_ok_of hr (a := Handler.found pc) (s' := s.setVm vm') (acts' := []) (by simp [hfind _ _ _ _])
  exact ⟨rfl, ha⟩
theorem xh_caught {tb : Tables} {e : Env} {s target : State} {g : JFrame} {c : Code} {below : List Frame} {a : Addr} {vm' : Vm} (h : At s g.method c below) {pc : Nat} (hfind : FindsV e ((s.setTop g).pushFrame (.throwing a)) g a pc vm')
    (hrest : Steps tb e below ((s.setVm vm').setTop { g with pc := pc, stack := [.ref a] }) target) : Steps tb e below ((s.setTop g).pushFrame (.throwing a)) target := by
  obtain ⟨hgo, hw⟩ := h.throwing a
  refine Steps.head hgo hw ?_
  rw [stepThread_throwing (frames_entered h.top _), (xh_step (s := (s.setTop g).pushFrame (.throwing a)) hfind).1]
  obtain ⟨g₀, hg⟩ := Option.isSome_iff_exists.mp h.top
  obtain ⟨r, hr⟩ := State.topJava?_eq_some.mp hg
  have e1 : (((s.setTop g).pushFrame (.throwing a)).setVm vm').setFrames (.java { g with pc := pc, stack := [.ref a] } :: s.frames.tail) = (s.setVm vm').setTop { g with pc := pc, stack := [.ref a] } := by
    have hr' : (s.setVm vm').frames = .java g₀ :: r := hr
    rw [State.setTop_of_frames _ hr', State.pushFrame, State.setTop_of_frames _ hr, hr]
    show (((s.setFrames _).setFrames _).setFrames _).setVm vm' = (s.setFrames _).setVm vm'
    rw [State.setFrames_setFrames, State.setFrames_setFrames]
    rfl
  rw [e1]
  exact hrest
section KCT
variable {p : Program} {l : Launch} {e : Env} {R : Room} {s : State} {m : MethodId} {args : Array Value} {below : List Frame} {meth : Method} {c : Code} {H : Heap} {locs : List Loc} {cells slots : Nat} {Q : State → Prop}
variable {cc : ByteArray} {own : String} {nL : Nat} {ret : Option FieldType} {A : Nat → Prop} {dC : Nat → ClassId} {dI : Nat → Nat → Nat} {d : Nat → ClassId} {ws : va_W} {pc : Nat} {ls : Array Slot} {rest : List Value}
/-- one entry of the table: its class is resolved, the tables are warmer -/
theorem xh_entry {T : State} (X : Stand p l e R s m args below meth c T locs cells slots) (hown : s.vm.findClass own = some m.cls) {idx : Nat} {C : String} (hcl : (Cond.classLink own idx C).before args s = true) :
    ∃ (cC : ClassId) (vm' : Vm), s.vm.findClass C = some cC ∧ (Jvm.resolveClass m.cls idx).Gives e.toSetting T.vm (.ok cC) vm' ∧ s.WarmedH vm' ∧ vm'.classes.size ≤ T.vm.classes.size := by
  have hpl : e.platform.magicAccessors = ({} : Platform).magicAccessors := by rw [X.admits.platform]
  obtain ⟨cC, hf, hl⟩ := Cond.classLink_spec hown hcl e.platform hpl
  obtain ⟨hg, hw, -⟩ := State.classEntry (e := e) X.warmed hl
  exact ⟨cC, _, hf, hg, hw, by rw [Vm.size_noted]; exact Nat.le_refl _⟩
theorem x_class {vm' : Vm} (hw : s.WarmedH vm') {cC : ClassId} (h : ∃ k, s.vm.classes[cC]? = some k) : ∃ k, vm'.classes[cC]? = some k := by
  obtain ⟨k, hk⟩ := h
  obtain ⟨k', hk', -⟩ := hw.alike.2.2 _ _ hk
  exact ⟨k', hk'⟩
theorem x_kcl (cx : Cx p s m args meth c cc own nL ret A dC dI d) {k : Nat} {q : vw_C} (hk : kCl[k]? = some q) : s.vm.findClass q.1 = some (dC k) ∧ ∃ kc, s.vm.classes[dC k]? = some kc := by
  obtain ⟨-, h1, kc, h2, -⟩ := cx.2.2.2.2.2.1.1.1 k q hk
  exact ⟨h1, kc, h2⟩
theorem x_refl (vm : Vm) (c : ClassId) : vm.assignable c c = true := by
  show vm.assignableAux (255 + 1) c c = true
  rw [Vm.assignableAux]
  simp
/-- the first entry takes it -/
theorem k_catch0 {hs : List (Nat × Nat × Nat × Nat)} (cx : Cx p s m args meth c cc own nL ret A dC dI d) (xt : c.exceptionTable.toList = tableOf hs) {s0 e0 tgt idx : Nat} {hr : List (Nat × Nat × Nat × Nat)} (hh : hs = (s0, e0, tgt, idx) :: hr) (hcov : (decide (s0 ≤ pc) && decide (pc < e0)) = true ∧ idx ≠ 0) {k a : Nat} {q : vw_C} (hq : Cond.classLink own idx q.1 ∈ lw_all) (hx : xC dC k a H) (hk : kCl[k]? = some q) {st : List Value}
    (kk : W p l e R s m args below meth c H locs cells slots Q (F0 m tgt ls [.ref a])) : WX p l e R s m args below meth c H locs cells slots Q (F0 m pc ls st) a := by
  intro T hT X
  subst hh
  obtain ⟨cell, hc1, hc2, hc3⟩ := hx
  obtain ⟨hf, hkc⟩ := x_kcl cx hk
  obtain ⟨cC, vm', hfC, hg, hw, hsz⟩ := xh_entry X cx.2.2.2.1 (cx.2.2.2.2.1 _ hq)
  cases hf.symm.trans hfC
  obtain ⟨t, a1, b1⟩ := kk (T.setVm vm') hT (X.noted hw)
  refine ⟨t, ?_, b1⟩
  refine xh_caught (vm' := vm') X.here (pc := tgt) (fun Q E d acts => ?_) a1
  rw [W.findHandler_eq (meth := meth) (code := c) (by rw [Stand.throwing_vm]; exact X.method') X.code, xt]
  show wp (findHandler.go (F0 m pc ls st) a (⟨s0, e0, tgt, idx⟩ :: tableOf hr)) Q E e d acts _ ↔ _
  rw [xh_go (c := dC k) (cell := cell) (vm' := vm') hcov.1 hcov.2 (by rw [Stand.throwing_vm]; exact hg) (by rw [Stand.throwing_vm]; exact hsz) (by rw [Stand.throwing_heap, hT]; exact hc1) (VmData.ne_statics_of hc2) (by rw [hc3]; exact x_class hw hkc) (x_class hw hkc), if_pos (by rw [hc3]; exact x_refl _ _)]
/-- the first entry passes it, the second takes it -/
theorem k_catch1 {hs : List (Nat × Nat × Nat × Nat)} (cx : Cx p s m args meth c cc own nL ret A dC dI d) (xt : c.exceptionTable.toList = tableOf hs) {s0 e0 t0 i0 s1 e1 tgt idx : Nat} {hr : List (Nat × Nat × Nat × Nat)} (hh : hs = (s0, e0, t0, i0) :: (s1, e1, tgt, idx) :: hr) (hcov : ((decide (s0 ≤ pc) && decide (pc < e0)) = true ∧ i0 ≠ 0) ∧ (decide (s1 ≤ pc) && decide (pc < e1)) = true ∧ idx ≠ 0) {k a : Nat} {q : vw_C} {C0 : String} (hq0 : Cond.classLink own i0 C0 ∈ lw_all) (hq : Cond.classLink own idx q.1 ∈ lw_all) (hx : xC dC k a H) (hn0 : (q.1, C0) ∈ kNc) (hk : kCl[k]? = some q) {st : List Value}
    (kk : W p l e R s m args below meth c H locs cells slots Q (F0 m tgt ls [.ref a])) : WX p l e R s m args below meth c H locs cells slots Q (F0 m pc ls st) a := by
  intro T hT X
  subst hh
  obtain ⟨cell, hc1, hc2, hc3⟩ := hx
  obtain ⟨hf, hkc⟩ := x_kcl cx hk
  obtain ⟨cC0, vm0, hfC0, hg0, hw0, hsz0⟩ := xh_entry X cx.2.2.2.1 (cx.2.2.2.2.1 _ hq0)
  have X0 := X.noted hw0
  obtain ⟨cC, vm', hfC, hg, hw, hsz⟩ := xh_entry X0 cx.2.2.2.1 (cx.2.2.2.2.1 _ hq)
  cases hf.symm.trans hfC
  have hno : vm0.assignable (dC k) cC0 = false := by
    obtain ⟨c1, c2, h1, h2, h3⟩ := va_Nc.moved (U := T.setVm vm0) hw0.alike (cx.2.2.2.2.2.1.2.2.2.2.1 _ hn0)
    rw [show (T.setVm vm0).vm = vm0 from rfl, hw0.alike.findClass] at h1 h2
    cases h1.symm.trans hf
    cases h2.symm.trans hfC0
    exact h3
  have hk0 : ∃ kc, s.vm.classes[cC0]? = some kc := Vm.classAt_of_findClass hfC0
  obtain ⟨t, a1, b1⟩ := kk (T.setVm vm') hT (X.noted hw)
  refine ⟨t, ?_, b1⟩
  refine xh_caught (vm' := vm') X.here (pc := tgt) (fun Q E d acts => ?_) a1
  rw [W.findHandler_eq (meth := meth) (code := c) (by rw [Stand.throwing_vm]; exact X.method') X.code, xt]
  show wp (findHandler.go (F0 m pc ls st) a (⟨s0, e0, t0, i0⟩ :: ⟨s1, e1, tgt, idx⟩ :: tableOf hr)) Q E e d acts _ ↔ _
  rw [xh_go (c := cC0) (cell := cell) (vm' := vm0) hcov.1.1 hcov.1.2 (by rw [Stand.throwing_vm]; exact hg0) (by rw [Stand.throwing_vm]; exact hsz0) (by rw [Stand.throwing_heap, hT]; exact hc1) (VmData.ne_statics_of hc2) (by rw [hc3]; exact x_class hw0 hkc) (x_class hw0 hk0), if_neg (by rw [hc3, hno]; decide)]
  rw [xh_go (s := ((T.setTop (F0 m pc ls st)).pushFrame (.throwing a)).setVm vm0) (c := dC k) (cell := cell) (vm' := vm') hcov.2.1 hcov.2.2 hg hsz (by show ((T.setTop (F0 m pc ls st)).pushFrame (.throwing a)).heap[a]? = _; rw [Stand.throwing_heap, hT]; exact hc1) (VmData.ne_statics_of hc2) (by rw [hc3]; exact x_class hw hkc) (x_class hw hkc), if_pos (by rw [hc3]; exact x_refl _ _)]
  exact Iff.rfl
/-- two entries pass it, the third takes it -/
theorem k_catch2 {hs : List (Nat × Nat × Nat × Nat)} (cx : Cx p s m args meth c cc own nL ret A dC dI d) (xt : c.exceptionTable.toList = tableOf hs) {s0 e0 t0 i0 s1 e1 t1 i1 s2 e2 tgt idx : Nat} {hr : List (Nat × Nat × Nat × Nat)} (hh : hs = (s0, e0, t0, i0) :: (s1, e1, t1, i1) :: (s2, e2, tgt, idx) :: hr) (hcov : ((decide (s0 ≤ pc) && decide (pc < e0)) = true ∧ i0 ≠ 0) ∧ ((decide (s1 ≤ pc) && decide (pc < e1)) = true ∧ i1 ≠ 0) ∧ (decide (s2 ≤ pc) && decide (pc < e2)) = true ∧ idx ≠ 0) {k a : Nat} {q : vw_C} {C0 C1 : String} (hq0 : Cond.classLink own i0 C0 ∈ lw_all) (hq1 : Cond.classLink own i1 C1 ∈ lw_all) (hq : Cond.classLink own idx q.1 ∈ lw_all) (hx : xC dC k a H) (hn0 : (q.1, C0) ∈ kNc) (hn1 : (q.1, C1) ∈ kNc) (hk : kCl[k]? = some q) {st : List Value}
    (kk : W p l e R s m args below meth c H locs cells slots Q (F0 m tgt ls [.ref a])) : WX p l e R s m args below meth c H locs cells slots Q (F0 m pc ls st) a := by
  intro T hT X
  subst hh
  obtain ⟨cell, hc1, hc2, hc3⟩ := hx
  obtain ⟨hf, hkc⟩ := x_kcl cx hk
  obtain ⟨cC0, vm0, hfC0, hg0, hw0, hsz0⟩ := xh_entry X cx.2.2.2.1 (cx.2.2.2.2.1 _ hq0)
  have X0 := X.noted hw0
  obtain ⟨cC1, vm1, hfC1, hg1, hw1, hsz1⟩ := xh_entry X0 cx.2.2.2.1 (cx.2.2.2.2.1 _ hq1)
  have X1 := X.noted hw1
  obtain ⟨cC, vm', hfC, hg, hw, hsz⟩ := xh_entry X1 cx.2.2.2.1 (cx.2.2.2.2.1 _ hq)
  cases hf.symm.trans hfC
  have hno : vm0.assignable (dC k) cC0 = false := by
    obtain ⟨c1, c2, h1, h2, h3⟩ := va_Nc.moved (U := T.setVm vm0) hw0.alike (cx.2.2.2.2.2.1.2.2.2.2.1 _ hn0)
    rw [show (T.setVm vm0).vm = vm0 from rfl, hw0.alike.findClass] at h1 h2
    cases h1.symm.trans hf
    cases h2.symm.trans hfC0
    exact h3
  have hno1 : vm1.assignable (dC k) cC1 = false := by
    obtain ⟨c1, c2, h1, h2, h3⟩ := va_Nc.moved (U := T.setVm vm1) hw1.alike (cx.2.2.2.2.2.1.2.2.2.2.1 _ hn1)
    rw [show (T.setVm vm1).vm = vm1 from rfl, hw1.alike.findClass] at h1 h2
    cases h1.symm.trans hf
    cases h2.symm.trans hfC1
    exact h3
  have hk0 : ∃ kc, s.vm.classes[cC0]? = some kc := Vm.classAt_of_findClass hfC0
  have hk1 : ∃ kc, s.vm.classes[cC1]? = some kc := Vm.classAt_of_findClass hfC1
  obtain ⟨t, a1, b1⟩ := kk (T.setVm vm') hT (X.noted hw)
  refine ⟨t, ?_, b1⟩
  refine xh_caught (vm' := vm') X.here (pc := tgt) (fun Q E d acts => ?_) a1
  rw [W.findHandler_eq (meth := meth) (code := c) (by rw [Stand.throwing_vm]; exact X.method') X.code, xt]
  show wp (findHandler.go (F0 m pc ls st) a (⟨s0, e0, t0, i0⟩ :: ⟨s1, e1, t1, i1⟩ :: ⟨s2, e2, tgt, idx⟩ :: tableOf hr)) Q E e d acts _ ↔ _
  rw [xh_go (c := cC0) (cell := cell) (vm' := vm0) hcov.1.1 hcov.1.2 (by rw [Stand.throwing_vm]; exact hg0) (by rw [Stand.throwing_vm]; exact hsz0) (by rw [Stand.throwing_heap, hT]; exact hc1) (VmData.ne_statics_of hc2) (by rw [hc3]; exact x_class hw0 hkc) (x_class hw0 hk0), if_neg (by rw [hc3, hno]; decide)]
  rw [xh_go (s := ((T.setTop (F0 m pc ls st)).pushFrame (.throwing a)).setVm vm0) (c := cC1) (cell := cell) (vm' := vm1) hcov.2.1.1 hcov.2.1.2 hg1 hsz1 (by show ((T.setTop (F0 m pc ls st)).pushFrame (.throwing a)).heap[a]? = _; rw [Stand.throwing_heap, hT]; exact hc1) (VmData.ne_statics_of hc2) (by rw [hc3]; exact x_class hw1 hkc) (x_class hw1 hk1), if_neg (by rw [hc3, hno1]; decide)]
  rw [xh_go (s := (((T.setTop (F0 m pc ls st)).pushFrame (.throwing a)).setVm vm0).setVm vm1) (c := dC k) (cell := cell) (vm' := vm') hcov.2.2.1 hcov.2.2.2 hg hsz (by show ((T.setTop (F0 m pc ls st)).pushFrame (.throwing a)).heap[a]? = _; rw [Stand.throwing_heap, hT]; exact hc1) (VmData.ne_statics_of hc2) (by rw [hc3]; exact x_class hw hkc) (x_class hw hkc), if_pos (by rw [hc3]; exact x_refl _ _)]
  exact Iff.rfl
end KCT
/-! calls of methods with a table -/
abbrev xCB (R : Room) (s : State) (args : Array Value) (own : String) (index : Nat) (y : MethodName) (bytes : ByteArray) (maxL : Nat) (ret : Option FieldType) (hh : List (Nat × Nat × Nat × Nat)) (ws : List Cond) (rm : Room) (mc ms n : Nat) : Prop :=
  rm.cells = mc ∧ rm.slots = ms ∧ rm.frames + 1 ≤ R.frames ∧ 8 + (maxL + 11) + rm.locals ≤ R.locals ∧ (∀ w ∈ ws, ∀ (a' : Array Value) (U : State), s.WarmedH U.vm → w.before a' U = true) ∧ Cond.codeWith y bytes maxL ret hh ∈ ws ∧
  (Cond.codeWith y bytes maxL ret hh).before args s = true ∧ (Cond.initialized y.cls).before args s = true ∧ (y.cls ≠ "java/lang/invoke/MethodHandle" ∧ y.cls ≠ "java/lang/invoke/VarHandle") ∧ (∀ sig, parseMethodDescriptor y.desc = some sig → n = sig.parameters.length) ∧ (Cond.methodLink own index y).before args s = true
abbrev xCW (R : Room) (s : State) (args : Array Value) (own C : String) (index : Nat) (y : MethodName) (bytes : ByteArray) (maxL : Nat) (ret : Option FieldType) (hh : List (Nat × Nat × Nat × Nat)) (ws : List Cond) (rm : Room) (mc ms n : Nat) : Prop :=
  xCB R s args own index y bytes maxL ret hh ws rm mc ms n ∧ (Cond.instanceMethod y).before args s = true ∧ (Cond.selects C y y).before args s = true
section XW
variable {p : Program} {l : Launch} {e : Env} {R : Room} {s : State} {m : MethodId} {args : Array Value} {below : List Frame} {meth : Method} {c : Code} {H : Heap} {locs : List Loc} {cells slots : Nat} {Q : State → Prop}
variable {y : MethodName} {bytes cc : ByteArray} {maxL nL mc ms n index : Nat} {ret : Option FieldType} {ws ws' : List Cond} {rm : Room} {Pc : Array Value → State → Prop} {Qc : Array Value → State → Outcome → State → Prop} {free : Addr → Prop} {hh : List (Nat × Nat × Nat × Nat)} {own C : String} {Ts : List Cond} {b : Addr} {As rest : List Value} {g : JFrame}
theorem k_cwVW (n : Nat) (ht : ∀ w ∈ Ts, w.before args s = true) (hT : GoodIn Ts (wsV own index C y ws)) (hw : ws = Cond.codeWith y bytes maxL ret hh :: ws') (hrc : rm.cells = mc) (hrs : rm.slots = ms)
    (hd : y.cls = C ∧ y.cls ≠ "java/lang/invoke/MethodHandle" ∧ y.cls ≠ "java/lang/invoke/VarHandle" ∧ (parseMethodDescriptor y.desc).map (fun d => d.parameters.length) = some n) (hR : rm.frames + 1 ≤ R.frames ∧ 8 + (maxL + 11) + rm.locals ≤ R.locals) :
    xCW R s args own C index y bytes maxL ret hh ws rm mc ms n := by
  obtain ⟨hC, hd⟩ := hd
  subst hC
  have ok : ∀ w ∈ wsV own index y.cls y ws, w.before args s = true := fun w h => ht w (hT w h).1
  have hG : GoodIn Ts ws := fun w h => hT w (by unfold wsV; exact List.mem_append_right _ h)
  have hc : Cond.codeWith y bytes maxL ret hh ∈ ws := by rw [hw]; exact List.mem_cons_self
  refine ⟨⟨hrc, hrs, hR.1, hR.2, pay_in ht hG, hc, ht _ (hG _ hc).1, ok _ (by simp [wsV]), ⟨hd.1, hd.2.1⟩, fun sig h => ?_, ok _ (by simp [wsV])⟩, ok _ (by simp [wsV]), ok _ (by simp [wsV])⟩
  have h2 := hd.2.2
  rw [h] at h2
  exact (Option.some.inj h2).symm
theorem k_cwSW (n : Nat) (ht : ∀ w ∈ Ts, w.before args s = true) (hT : GoodIn Ts (va_wsS own index y ws)) (hw : ws = Cond.codeWith y bytes maxL ret hh :: ws') (hrc : rm.cells = mc) (hrs : rm.slots = ms)
    (hd : y.cls ≠ "java/lang/invoke/MethodHandle" ∧ y.cls ≠ "java/lang/invoke/VarHandle" ∧ (parseMethodDescriptor y.desc).map (fun d => d.parameters.length) = some n) (hR : rm.frames + 1 ≤ R.frames ∧ 8 + (maxL + 11) + rm.locals ≤ R.locals) :
    xCB R s args own index y bytes maxL ret hh ws rm mc ms n ∧ (Cond.static y).before args s = true := by
  have ok : ∀ w ∈ va_wsS own index y ws, w.before args s = true := fun w h => ht w (hT w h).1
  have hG : GoodIn Ts ws := fun w h => hT w (by unfold va_wsS; exact List.mem_append_right _ h)
  have hc : Cond.codeWith y bytes maxL ret hh ∈ ws := by rw [hw]; exact List.mem_cons_self
  refine ⟨⟨hrc, hrs, hR.1, hR.2, pay_in ht hG, hc, ht _ (hG _ hc).1, ok _ (by simp [va_wsS]), ⟨hd.1, hd.2.1⟩, fun sig h => ?_, ok _ (by simp [va_wsS])⟩, ok _ (by simp [va_wsS])⟩
  have h2 := hd.2.2
  rw [h] at h2
  exact (Option.some.inj h2).symm
theorem va_runVW (S : CallFix p m c cc nL s args Ts own) (hM : Met l y ws rm Pc Qc mc ms free) (cw : xCW R s args own C index y bytes maxL ret hh ws rm mc ms n) (hp : PreV s H C b Pc As)
    (hg : g.method = m) (hn : As.length = n) (hsize : g.locals.size = nL) (hstack : g.stack = As.reverse ++ .ref b :: rest) (hW : 2 * g.monitorRoom + (rest.map fun v => v.category).sum ≤ 8) (hdg : decode cc g.pc = .ok (.invokevirtual index, 3)) (hf : cells + mc ≤ R.cells ∧ slots + ms ≤ R.slots) :
    va_Run p l e R s m args below meth c H locs cells slots mc ms g rest (Qc (Value.ref b :: As).toArray) free := by
  obtain ⟨⟨hrc, hrs, hfr, hlo, hws, hcw, hcode, hini, hy, hlen, hl⟩, hin, hse⟩ := cw
  have hK : Back l R p e below s args y 3 8 (PreOf R mc ms Pc) (PostOf Qc mc ms free) := va_backW (hh := hh) (bytes := bytes) (maxL := maxL) (ret := ret) hM hp.1 hrc hrs hfr hlo hws hcw (fun a' U hW => word_at hW (Or.inl (by first | rfl | simp [Cond.onTables, Cond.keeps, Cond.steady])) hini)
  obtain ⟨hx, hb, hml, ho, -⟩ := S
  obtain ⟨-, ⟨cellB, hcB, hoB, hclB⟩, hPc⟩ := hp
  intro T hT X
  obtain ⟨mk, methM, hnamed, hmethM, hstM, habM⟩ := Cond.instanceMethod_spec hin
  obtain ⟨mk9, methM', cM, hnamed9, hmethM', -, -, -, -, -, -, hsigM⟩ := Cond.codeWith_spec hcode
  cases hnamed.symm.trans hnamed9
  cases hmethM.symm.trans hmethM'
  obtain ⟨c2, r2, m2, q1, q2, q3, q4, kP, hkP, hkPi⟩ := Cond.selects_spec hse
  cases hclB.symm.trans q1
  cases (State.methodFound?_of_named hnamed hy).symm.trans q2
  cases hnamed.symm.trans q3
  have hselP : selectMethod e.platform s.vm cellB.cls mk = .method mk := by rw [Launch.admits_selectMethod X.admits]; exact q4
  obtain ⟨vm₁, X₁, hstep₁⟩ := X.invokevirtual hx ho hl hnamed hmethM hstM hkP hkPi hy (a := b) (cell := cellB) (by rw [hT]; exact hcB)
    (fun z h => by rw [h] at hoB; cases hoB) hselP hmethM habM hkP hkPi (g := g) hg (argsL := As) (rest := rest) (hn.trans (hlen _ hsigM)) hstack (by rw [hb]; exact hdg)
  obtain ⟨v, ⟨U', l2, c2, s2⟩, X', ⟨g', mk', t, L, e1, e2, hq, h1, hL, h2, h3⟩, hsteps⟩ := hK m meth c ⟨T.setVm vm₁, locs, cells, slots⟩ { g with stack := rest } (.invokevirtual index) mk (Value.ref b :: As).toArray X₁ hg (hsize.trans hml.symm) (by rw [hb]; exact hdg) hW (X₁.named hnamed) ⟨hf.1, hf.2, hPc (T.setVm vm₁) hT X₁.warmed⟩
  dsimp only [Pt.U, Pt.locs, Pt.cells, Pt.slots] at X' e1 e2 h1 h2 h3 hsteps
  subst h1; subst h2; subst h3
  exact ⟨v, (T.setVm vm₁).calling g' mk' (Value.ref b :: As).toArray, t, U', L, hT, X', hL, e1, e2, hq, fun target h => hstep₁ _ fun acts => by rw [doInvoke_state]; exact hsteps.trans h⟩
theorem va_runSW (S : CallFix p m c cc nL s args Ts own) (hM : Met l y ws rm Pc Qc mc ms free) (cw : xCB R s args own index y bytes maxL ret hh ws rm mc ms n ∧ (Cond.static y).before args s = true) (hp : PreS s H Pc As)
    (hg : g.method = m) (hn : As.length = n) (hsize : g.locals.size = nL) (hstack : g.stack = As.reverse ++ rest) (hW : 2 * g.monitorRoom + (rest.map fun v => v.category).sum ≤ 8) (hdg : decode cc g.pc = .ok (.invokestatic index, 3)) (hf : cells + mc ≤ R.cells ∧ slots + ms ≤ R.slots) :
    va_Run p l e R s m args below meth c H locs cells slots mc ms g rest (Qc As.toArray) free := by
  obtain ⟨⟨hrc, hrs, hfr, hlo, hws, hcw, hcode, hini, hy, hlen, hl⟩, hstt⟩ := cw
  have hK : Back l R p e below s args y 3 8 (PreOf R mc ms Pc) (PostOf Qc mc ms free) := va_backW (hh := hh) (bytes := bytes) (maxL := maxL) (ret := ret) hM hp.1 hrc hrs hfr hlo hws hcw (fun a' U hW => word_at hW (Or.inl (by first | rfl | simp [Cond.onTables, Cond.keeps, Cond.steady])) hini)
  obtain ⟨hx, hb, hml, ho, -⟩ := S
  intro T hT X
  obtain ⟨mk, methM, cM, hnamed, hmethM, -, -, -, -, -, -, hsigM⟩ := Cond.codeWith_spec hcode
  have hstatic : methM.isStatic = true := Cond.static_spec hnamed hmethM hstt
  obtain ⟨kP, hkP, -⟩ := className_of_methodNamed hnamed
  have hinitP : kP.init = .initialized := Cond.initialized_spec (findClass_of_methodNamed hnamed) hkP hini
  obtain ⟨vm₁, X₁, hstep₁⟩ := X.invokestatic hx ho hl hnamed hmethM hstatic hkP hinitP hy (g := g) hg (argsL := As) (rest := rest) (hn.trans (hlen _ hsigM)) hstack (by rw [hb]; exact hdg)
  obtain ⟨v, ⟨U', l2, c2, s2⟩, X', ⟨g', mk', t, L, e1, e2, hq, h1, hL, h2, h3⟩, hsteps⟩ := hK m meth c ⟨T.setVm vm₁, locs, cells, slots⟩ { g with stack := rest } (.invokestatic index) mk As.toArray X₁ hg (hsize.trans hml.symm) (by rw [hb]; exact hdg) hW (X₁.named hnamed) ⟨hf.1, hf.2, hp.2 (T.setVm vm₁) hT X₁.warmed⟩
  dsimp only [Pt.U, Pt.locs, Pt.cells, Pt.slots] at X' e1 e2 h1 h2 h3 hsteps
  subst h1; subst h2; subst h3
  exact ⟨v, (T.setVm vm₁).calling g' mk' As.toArray, t, U', L, hT, X', hL, e1, e2, hq, fun target h => hstep₁ _ fun acts => by rw [doInvoke_state]; exact hsteps.trans h⟩
end XW
section KW
variable {p : Program} {l : Launch} {e : Env} {R : Room} {s : State} {m : MethodId} {args : Array Value} {below : List Frame} {meth : Method} {c : Code} {H : Heap} {locs : List Loc} {cells slots : Nat} {Q : State → Prop}
variable {cc : ByteArray} {own : String} {nL : Nat} {ret : Option FieldType} {A : Nat → Prop} {dC : Nat → ClassId} {dI : Nat → Nat → Nat} {d : Nat → ClassId} {ws : va_W} {pc : Nat} {ls : Array Slot} {rest : List Value} {hh : List (Nat × Nat × Nat × Nat)}
theorem k_runVW (cx : Cx p s m args meth c cc own nL ret A dC dI d) {w : va_W} (hP : va_P (dC, dI) kCl w H) (hD : va_D (fun _ => True) w) (hS : va_S A s.heap H locs) {C : String} {b : Nat} (hrc : ∃ cell : Cell, H[b]? = some cell ∧ cell.vm.isStatics = false ∧ s.vm.findClass C = some cell.cls) {y : MethodName} {b' : ByteArray} {nL' index n mc ms : Nat} {ret' : Option FieldType} {rm : Room} {As : List Value} {Qc : Array Value → State → Outcome → State → Prop} {free : Addr → Prop} {ws' : List Cond}
    (hM : Met l y ws' rm (kP dC dI d (.ref b :: As) w H.size) Qc mc ms free) (cw : xCW R s args own C index y b' nL' ret' hh ws' rm mc ms n) (hn : As.length = n) (hsz : ls.size = nL) {st0 : List Value} (hst : st0 = As.reverse ++ .ref b :: rest) (hrm : (rest.map fun v => v.category).sum ≤ 8) (hdg : decode cc pc = .ok (.invokevirtual index, 3)) (hf : cells + mc ≤ R.cells ∧ slots + ms ≤ R.slots) :
    va_Run p l e R s m args below meth c H locs cells slots mc ms (F0 m pc ls st0) rest (Qc (Value.ref b :: As).toArray) free :=
  va_runVW ⟨cx.1, cx.2.1, cx.2.2.1, cx.2.2.2.1, cx.2.2.2.2.1⟩ hM cw ⟨kP_blind, hrc, fun U hU hW => ⟨rfl, by rw [hU], by rw [hU]; exact hP, kE.warm hW cx.2.2.2.2.2.1, hD, kS_at cx.2.2.2.2.2.2.2.2.2.1 cx.2.2.2.2.2.2.2.2.2.2 hS hU hW⟩⟩ rfl hn hsz hst (lv_room (m := m) (pc := pc) (ls := ls) (rest := st0) hrm) hdg hf
theorem k_runSW (cx : Cx p s m args meth c cc own nL ret A dC dI d) {w : va_W} (hP : va_P (dC, dI) kCl w H) (hD : va_D (fun _ => True) w) (hS : va_S A s.heap H locs) {y : MethodName} {b' : ByteArray} {nL' index n mc ms : Nat} {ret' : Option FieldType} {rm : Room} {As : List Value} {Qc : Array Value → State → Outcome → State → Prop} {free : Addr → Prop} {ws' : List Cond}
    (hM : Met l y ws' rm (kP dC dI d As w H.size) Qc mc ms free) (cw : xCB R s args own index y b' nL' ret' hh ws' rm mc ms n ∧ (Cond.static y).before args s = true) (hn : As.length = n) (hsz : ls.size = nL) {st0 : List Value} (hst : st0 = As.reverse ++ rest) (hrm : (rest.map fun v => v.category).sum ≤ 8) (hdg : decode cc pc = .ok (.invokestatic index, 3)) (hf : cells + mc ≤ R.cells ∧ slots + ms ≤ R.slots) :
    va_Run p l e R s m args below meth c H locs cells slots mc ms (F0 m pc ls st0) rest (Qc As.toArray) free :=
  va_runSW ⟨cx.1, cx.2.1, cx.2.2.1, cx.2.2.2.1, cx.2.2.2.2.1⟩ hM cw ⟨kP_blind, fun U hU hW => ⟨rfl, by rw [hU], by rw [hU]; exact hP, kE.warm hW cx.2.2.2.2.2.1, hD, kS_at cx.2.2.2.2.2.2.2.2.2.1 cx.2.2.2.2.2.2.2.2.2.2 hS hU hW⟩⟩ rfl hn hsz hst (lv_room (m := m) (pc := pc) (ls := ls) (rest := st0) hrm) hdg hf
end KW
