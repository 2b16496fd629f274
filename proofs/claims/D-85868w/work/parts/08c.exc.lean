set_option maxRecDepth 100000
/-! ===== Throwables are made: 'new', and by the machine itself ===== -/
def xAtoms (X : String) : List Cond := [.selects X Bundle.tFill0 Bundle.tFill0, .lays X Bundle.tN "cause" "Ljava/lang/Throwable;", .lays X Bundle.tN "stackTrace" Bundle.steD, .lays X Bundle.tN "suppressedExceptions" Bundle.listD, .lays X Bundle.tN "detailMessage" "Ljava/lang/String;", .isRef (.static Bundle.tN "UNASSIGNED_STACK" Bundle.steD), .isRef (.static Bundle.tN "SUPPRESSED_SENTINEL" Bundle.listD), .fieldLink Bundle.tN 198 Bundle.tN "backtrace" "Ljava/lang/Object;", .lays Bundle.tN Bundle.tN "backtrace" "Ljava/lang/Object;", .lays X Bundle.tN "backtrace" "Ljava/lang/Object;"]
theorem fa_cons {p : Cond → Prop} {a : Cond} {l : List Cond} (h : p a) (t : ∀ x ∈ l, p x) : ∀ x ∈ a :: l, p x := by
  intro x hx
  rcases List.mem_cons.mp hx with rfl | hx
  · exact h
  · exact t x hx
theorem fa_nil {p : Cond → Prop} : ∀ x ∈ ([] : List Cond), p x := fun x hx => by cases hx
section XT
variable {p : Program} {l : Launch} {e : Env} {R : Room} {s : State} {m : MethodId} {args : Array Value} {below : List Frame} {meth : Method} {c : Code} {T' : State} {locs : List Loc} {cells slots : Nat}
/-- what the words say of a Throwable's class, at a point of the walk -/
theorem x_thr (X : Stand p l e R s m args below meth c T' locs cells slots) {cls : String} (hth : ∀ a ∈ Bundle.throwableAtoms, a.before args s = true) (hx : ∀ a ∈ xAtoms cls, a.before args s = true) (hlocs : ∀ x ∈ locs, ∀ cell, s.heap[x.base]? = some cell → cell.vm.isStatics = false)
    {cX : ClassId} {kX : Class} (hfound : s.vm.findClass cls = some cX) (hk : s.vm.classes[cX]? = some kX) (hord : kX.kind = .ordinary) (self msg : Addr) :
    ∃ (T : ThrowableC) (Z : Init0T) (u0 sen : RefV) (cellS : Cell) (B : BackC), T.Links e.platform s ∧ Z.Laid T.toThrowableT ∧ Bundle.Ties T Z s ∧
      (T'.heap[T.aS]? = some cellS ∧ T.aS < s.heap.size ∧ cellS.vm ≠ .unknown ∧ cellS.slots[T.fUnassigned.slot]? = some u0.v ∧ cellS.slots[T.fSentinel.slot]? = some sen.v) ∧ selectMethod e.platform s.vm cX T.fill0 = .method T.fill0 ∧
      (Takes s (freshCell cX kX) T.fCause (.ref self) ∧ Takes s (freshCell cX kX) T.fStack u0.v ∧ Takes s (freshCell cX kX) T.fSupp sen.v ∧ Takes s (freshCell cX kX) T.fMsg (.ref msg)) ∧
      (B.Links T e.platform s ∧ (freshCell cX kX).slots[B.fBack.slot]? = some .null ∧ B.fBack.slot ≠ T.fCause.slot ∧ B.fBack.slot ≠ T.fStack.slot ∧ B.fBack.slot ≠ T.fSupp.slot ∧ (∃ dB, Jmm.declares? s.vm B.fBack.slot (cX + 1) cX = some dB ∧ dB.2.name = B.fBack.name ∧ B.fBack.name = "backtrace")) := by
  have howns : e.platform.frameOwnsMonitors = true := by rw [X.admits.platform]
  have hfin : e.platform.finalization = false := by rw [X.admits.platform]
  have hpl : e.platform.magicAccessors = ({} : Platform).magicAccessors := by rw [X.admits.platform]
  have a : ∀ x, x ∈ xAtoms cls → x.holds args s none s [] = true := fun x hx' => hx x hx'
  obtain ⟨T, Z, L, LZ, Y⟩ := ThrowableC.of_atoms (args := args) howns hfin hpl hth
  have hsel0 : selectMethod e.platform s.vm cX T.fill0 = .method T.fill0 := by
    obtain ⟨c2, r2, m2, q1, q2, q3, q4, -⟩ := Cond.selects_spec (a (.selects cls Bundle.tFill0 Bundle.tFill0) (by simp [xAtoms]))
    cases Option.some.inj (q1.symm.trans hfound)
    cases Option.some.inj (q2.symm.trans (State.methodFound?_of_named Y.fill0 (by decide)))
    cases Option.some.inj (q3.symm.trans Y.fill0)
    rw [Launch.admits_selectMethod X.admits]; exact q4
  obtain ⟨cellS0, hcS0, hiss⟩ := Y.statics
  obtain ⟨u0, hu0⟩ := Cond.staticRefV Y.unassigned L.unassignedStatic L.statics hcS0 hiss (a (.isRef (.static Bundle.tN "UNASSIGNED_STACK" Bundle.steD)) (by simp [xAtoms]))
  obtain ⟨sen, hsen⟩ := Cond.staticRefV Y.sentinel L.sentinelStatic L.statics hcS0 hiss (a (.isRef (.static Bundle.tN "SUPPRESSED_SENTINEL" Bundle.listD)) (by simp [xAtoms]))
  obtain ⟨ci198, i198, fB, hk198, hg198, ha198, hsB, -, hnB, htB, hffB⟩ := Cond.ownField (t := .object "java/lang/Object") Y.found L.cls (by decide +kernel) (a (.fieldLink Bundle.tN 198 Bundle.tN "backtrace" "Ljava/lang/Object;") (by simp [xAtoms])) (a (.lays Bundle.tN Bundle.tN "backtrace" "Ljava/lang/Object;") (by simp [xAtoms])) e.platform hpl
  obtain ⟨cellS, hcS', heS, -, hkeep⟩ := X.same.2.2.2.2.2 T.aS cellS0 hcS0
  have hcellS : T'.heap[T.aS]? = some cellS := hcS'
  have hout' : ∀ i, (⟨T.aS, i⟩ : Loc) ∉ locs := fun i hmem => by
    have := hlocs _ hmem cellS0 hcS0
    rw [hiss] at this; cases this
  have hknownS : cellS.vm ≠ .unknown := by
    rw [heS]; intro hu
    rw [show cellS0.vm = .unknown from hu] at hiss
    cases hiss
  obtain ⟨iM, hffM⟩ := Y.msg
  obtain ⟨tyC, dC, hdC, hdnC⟩ := Cond.laysAt hfound hk Y.cause (a (.lays cls Bundle.tN "cause" "Ljava/lang/Throwable;") (by simp [xAtoms]))
  obtain ⟨tyS, dS, hdS, hdnS⟩ := Cond.laysAt hfound hk Y.stack (a (.lays cls Bundle.tN "stackTrace" Bundle.steD) (by simp [xAtoms]))
  obtain ⟨tyP, dP, hdP, hdnP⟩ := Cond.laysAt hfound hk Y.supp (a (.lays cls Bundle.tN "suppressedExceptions" Bundle.listD) (by simp [xAtoms]))
  obtain ⟨tyM, dM, hdM, hdnM⟩ := Cond.laysAt hfound hk hffM (a (.lays cls Bundle.tN "detailMessage" "Ljava/lang/String;") (by simp [xAtoms]))
  obtain ⟨tyB, dB, hdB, hdnB⟩ := Cond.laysAt hfound hk hffB (a (.lays cls Bundle.tN "backtrace" "Ljava/lang/Object;") (by simp [xAtoms]))
  have bC := Cond.laysApart hdB hdC hdnB hdnC (by rw [hnB, Y.causeName]; decide)
  have bS := Cond.laysApart hdB hdS hdnB hdnS (by rw [hnB, Y.stackName]; decide)
  have bP := Cond.laysApart hdB hdP hdnB hdnP (by rw [hnB, Y.suppName]; decide)
  refine ⟨T, Z, u0, sen, cellS, { ci198 := ci198, i198 := i198, fBack := fB }, L, LZ, Y, ⟨hcellS, (Array.getElem?_eq_some_iff.mp hcS0).1, hknownS, by rw [hkeep _ (hout' _)]; exact hu0, by rw [hkeep _ (hout' _)]; exact hsen⟩, hsel0,
    ⟨Takes.of_laid hk hord tyC (by rw [Y.causeType]; rfl), Takes.of_laid hk hord tyS (by rw [Y.stackType]; exact fits_refV_array _ u0), Takes.of_laid hk hord tyP (by rw [Y.suppType]; exact fits_refV_object _ sen), Takes.of_laid hk hord tyM (by rw [Y.msgType]; rfl)⟩,
    ⟨hk198, hg198, ha198, hsB⟩, ?_, bC, bS, bP, dB, hdB, hdnB, hnB⟩
  have := fresh_default (c := cX) tyB
  rw [htB] at this
  exact this
theorem x_selF (X : Stand p l e R s m args below meth c T' locs cells slots) {cls : String} {cX : ClassId} (hfound : s.vm.findClass cls = some cX) {T : ThrowableC} {Z : Init0T} (Y : Bundle.Ties T Z s) (h : (Cond.selects cls Bundle.tFill Bundle.tFill).before args s = true) : selectMethod e.platform s.vm cX T.fill = .method T.fill := by
  obtain ⟨c2, r2, m2, q1, q2, q3, q4, -⟩ := Cond.selects_spec h
  cases Option.some.inj (q1.symm.trans hfound)
  cases Option.some.inj (q2.symm.trans (State.methodFound?_of_named Y.fill (by decide)))
  cases Option.some.inj (q3.symm.trans Y.fill)
  rw [Launch.admits_selectMethod X.admits]; exact q4
/-- X.<init>() of a new Throwable -/
theorem x_ctor0 (X : Stand p l e R s m args below meth c T' locs cells slots) (hexec : p.tables.exec = Jvm.exec) (htr : e.platform.stackTraces = false) {own cls : String} {names : List String} {ic : Nat} (hown : s.vm.findClass own = some m.cls) (hcls : Bundle.fit cls = true) (hnames : ∀ n ∈ names, Bundle.fit n = true)
    (hth : ∀ a ∈ Bundle.throwableAtoms, a.before args s = true) (hx : ∀ a ∈ xAtoms cls, a.before args s = true) (hch : ∀ a ∈ Bundle.chain0Atoms cls names, a.before args s = true) (hlink : (Cond.methodLink own ic (Bundle.init0 cls)).before args s = true) (hsF : (Cond.selects cls Bundle.tFill Bundle.tFill).before args s = true)
    (hlocs : ∀ x ∈ locs, ∀ cell, s.heap[x.base]? = some cell → cell.vm.isStatics = false) {a : Addr} {cX : ClassId} {kX : Class} (hfound : s.vm.findClass cls = some cX) (hk : s.vm.classes[cX]? = some kX) (hord : kX.kind = .ordinary) (hcell : T'.heap[a]? = some (freshCell cX kX)) (hnew : s.heap.size ≤ a)
    {g : JFrame} (hg : g.method = m) (hsize : g.locals.size = c.maxLocals) {rest : List Value} (hstack : g.stack = .ref a :: rest) (hd : decode c.code g.pc = .ok (.invokespecial ic, 3)) (hRframes : names.length + 3 < R.frames) (hRlocals : 2 * g.monitorRoom + (rest.map fun v => v.category).sum + (13 * (names.length + 1) + 41) ≤ R.locals) :
    ∃ (T1 : State) (L : List Loc) (ce : Cell), Stand p l e R s m args below meth c T1 (locs ++ L) cells slots ∧ (∀ q ∈ L, q.base = a) ∧ T1.heap[a]? = some ce ∧ ce.cls = cX ∧ ce.vm.isStatics = false ∧ T1.heap.size = T'.heap.size ∧ (∀ q : Nat, q ≠ a → T1.heap[q]? = T'.heap[q]?) ∧
      ∀ tg, Steps p.tables e below (T1.setTop { g with pc := g.pc + 3, stack := rest }) tg → Steps p.tables e below (T'.setTop g) tg := by
  have hpl : e.platform.magicAccessors = ({} : Platform).magicAccessors := by rw [X.admits.platform]
  obtain ⟨T, Z, u0, sen, cellS, B, L, LZ, Y, ⟨hcellS, hltS, hknownS, hu0, hsen⟩, hsel0, ⟨htC, htS, htP, -⟩, hB, hb0, bC, bS, bP, -⟩ := x_thr X hth hx hlocs hfound hk hord a 0
  obtain ⟨P1, Ps, hlen, L1, hL, hP1m, hlink1, hlinkP⟩ := Bundle.chain0 (args := args) hpl Y.init0 names cls hcls hnames hch
  have hcl : s.vm.findClass cls = some P1.m.cls := findClass_of_methodNamed hP1m
  cases Option.some.inj (hfound.symm.trans hcl)
  have hskip : SkipFacts T e.platform s (fun u => u) u0 ((preparedCellV T.toThrowableT (freshCell P1.m.cls kX) a u0 sen).withEntry T'.cur) :=
    ⟨B, hB, by simpa [preparedCellV, Cell.setSlot, Cell.withEntry, Array.getElem?_setIfInBounds, bC, bS, bP, bC.symm, bS.symm, bP.symm] using hb0, fun _ _ => rfl⟩
  obtain ⟨tm, methC, cdC, kC, vm₁, hnC, -, -, -, -, -, -, -, hW₁, st1⟩ := Steps.initCold (tb := p.tables) (e := e) (below := below) (s := s) (U := T') X.here hexec X.warmed hpl hown (t := Bundle.init0 cls) rfl rfl (Bundle.fit_spec hcls).2
    hlink (hch (.instanceMethod (Bundle.init0 cls)) (by cases names <;> simp [Bundle.chain0Atoms, Bundle.passAtoms])) (bytes := Bundle.five) (maxL := 1) (hch (.code (Bundle.init0 cls) Bundle.five 1 none) (by cases names <;> simp [Bundle.chain0Atoms, Bundle.passAtoms])) (f := g) hg (a := a) (rest := rest) hstack hd
  cases Option.some.inj (hnC.symm.trans hP1m)
  have X₁ := X.noted hW₁
  obtain ⟨vm₂, X₂, st2⟩ := X₁.ctorPlainOffV hexec (g := { g with stack := rest }) hg hsize T L Z LZ (P1 :: Ps)
    (fun P hP => by rcases List.mem_cons.mp hP with rfl | hP; exact L1; exact hL P hP) ⟨hlink1, hlinkP⟩ (u0 := u0) (sen := sen) (self := a) (cell := freshCell P1.m.cls kX) (cellS := cellS)
    hcell (fun _ => by simp) (by simp) rfl rfl hsel0 (x_selF X hcl Y hsF) hcellS (Nat.ne_of_lt (Nat.lt_of_lt_of_le hltS hnew)) hknownS hu0 hsen htC htS htP Y.objLocals hskip htr [] hd
    (by simp only [List.length_cons, hlen]; omega) (by simp only [List.length_cons, hlen]; exact hRlocals)
  have hlt : a < T'.heap.size := (Array.getElem?_eq_some_iff.mp hcell).1
  refine ⟨_, _, _, X₂, fun q hq => ?_, heapAt_setCell_self (s := (T'.setVm vm₁).setVm vm₂) _ hlt, rfl, rfl, ?_, fun q hq => heapAt_setCell_ne (s := (T'.setVm vm₁).setVm vm₂) _ (fun h => hq h.symm), fun tg h => st1 _ fun acts => by rw [doInvoke_state]; exact st2 tg h⟩
  · simp only [List.mem_cons, List.not_mem_nil, or_false] at hq
    rcases hq with rfl | rfl | rfl | rfl <;> rfl
  · exact Array.size_setIfInBounds ..
/-- the machine throws, with a message: the note over the frame becomes 'is thrown' -/
theorem x_msg (X : Stand p l e R s m args below meth c T' locs cells slots) (hexec : p.tables.exec = Jvm.exec) (htr : e.platform.stackTraces = false) {cls text : String} {names : List String} (hcls : Bundle.fit cls = true) (hnames : ∀ n ∈ names, Bundle.fit n = true) (hsoe : (cls == "java/lang/StackOverflowError") = false) (hoom : (cls == "java/lang/OutOfMemoryError") = false)
    (hth : ∀ a ∈ Bundle.throwableAtoms, a.before args s = true) (hx : ∀ a ∈ xAtoms cls, a.before args s = true) (hthS : ∀ a ∈ Bundle.throwableSAtoms, a.before args s = true) (hch : ∀ a ∈ Bundle.chainSAtoms cls names, a.before args s = true) (hstr : ∀ a ∈ Bundle.stringAtoms, a.before args s = true) (hsF : (Cond.selects cls Bundle.tFill Bundle.tFill).before args s = true)
    (hini : (Cond.initialized cls).before args s = true) (hinst : (Cond.instantiable cls 6).before args s = true) (hlocs : ∀ x ∈ locs, ∀ cell, s.heap[x.base]? = some cell → cell.vm.isStatics = false)
    (htext : (text == notModelled) = false) (hlimit : ¬ (stringBytes (stringToUtf16 text)).size > e.platform.arrayLengthLimit) (hheap : ¬ (stringBytes (stringToUtf16 text)).size * componentBytes .byte > e.platform.maxHeapBytes)
    {g : JFrame} (hg : g.method = m) (hsize : g.locals.size = c.maxLocals) (hRframes : names.length + 4 < R.frames) (hRlocals : 2 * g.monitorRoom + (g.stack.map fun v => v.category).sum + 10240 ≤ R.locals) (hshort : 13 * names.length + 55 ≤ 10240)
    (hRcells : cells + 3 ≤ R.cells) (hRslots : slots + ((stringBytes (stringToUtf16 text)).size + 4 + 6) ≤ R.slots) :
    ∃ (T1 : State) (L : List Loc) (ce : Cell), Stand p l e R s m args below meth c T1 (locs ++ L) (cells + 3) (slots + ((stringBytes (stringToUtf16 text)).size + 4 + 6)) ∧ (∀ q ∈ L, q.base = T'.heap.size + 2) ∧ T1.heap[T'.heap.size + 2]? = some ce ∧ s.vm.findClass cls = some ce.cls ∧ ce.vm.isStatics = false ∧ T'.heap.size ≤ T1.heap.size ∧ (∀ q : Nat, q < T'.heap.size → T1.heap[q]? = T'.heap[q]?) ∧
      ∀ tg, Steps p.tables e below ((T1.setTop g).pushFrame (.throwing (T'.heap.size + 2))) tg → Steps p.tables e below ((T'.setTop g).pushFrame (.throwNew cls (some text) none)) tg := by
  have hpl : e.platform.magicAccessors = ({} : Platform).magicAccessors := by rw [X.admits.platform]
  obtain ⟨c1, kX, hfound, hk, hord, -, -, hn6⟩ := Cond.instantiable_spec hinst
  obtain ⟨T, Z0, u0, sen, cellS, B, L, -, Y, ⟨hcellS, hltS, hknownS, hu0, hsen⟩, hsel0, ⟨htC, htS, htP, htM⟩, hB, hb0, bC, bS, bP, -⟩ := x_thr X hth hx hlocs hfound hk hord (T'.heap.size + 2) (T'.heap.size + 1)
  obtain ⟨Z, M, LZ, LM, hnZ⟩ := Init0T.ofS_atoms (args := args) hpl L Y hthS
  obtain ⟨P1, Ps, hlen, L1, hL, hP1m, hlink1, hlinkP⟩ := Bundle.chainS (args := args) hpl hnZ names cls hcls hnames hch
  obtain ⟨Zs, LZs, hn4, hfitv, hfitc⟩ := StringT.of_atoms (args := args) hstr
  have hcl : s.vm.findClass cls = some P1.m.cls := findClass_of_methodNamed hP1m
  cases Option.some.inj (hfound.symm.trans hcl)
  have hinit := Cond.initialized_spec hfound hk hini
  have hctor : kX.findMethod "<init>" "(Ljava/lang/String;)V" = some P1.m.idx := findMethod_of_methodNamed hP1m hk
  have hskip : SkipFacts T e.platform s (fun u => u) u0 ((preparedCellV T.toThrowableT (freshCell P1.m.cls kX) (T'.heap.size + 2) u0 sen).withEntry T'.cur) :=
    ⟨B, hB, by simpa [preparedCellV, Cell.setSlot, Cell.withEntry, Array.getElem?_setIfInBounds, bC, bS, bP, bC.symm, bS.symm, bP.symm] using hb0, fun _ _ => rfl⟩
  have h : At T' g.method c below := by rw [hg]; exact X.here
  obtain ⟨hbeyond, hfreeW⟩ := X.vmMayThrow hsize (.throwNew cls (some text) none) (fun f hf => by cases hf) rfl hRlocals
  have hfr' : T'.frames.length + Ps.length + 4 < (e.platform.stackLimits T'.me).1 := by have := X.framesAbove (n := Ps.length + 4) (by rw [hlen]; exact hRframes); omega
  have hwd' : (stackUse (.java g :: T'.frames.tail)).2 + 13 * Ps.length + 55 ≤ (e.platform.stackLimits T'.me).2 := by have := X.stackAbove hsize (K := 13 * Ps.length + 55) (by rw [hlen]; omega); omega
  have hslots : T'.slotsUsed + (stringBytes (stringToUtf16 text)).size + Zs.kS.instanceTypes.size + kX.instanceTypes.size ≤ e.platform.maxSlots := by have := X.slotsAbove hRslots; rw [hn4, hn6]; omega
  obtain ⟨vm', hW', st⟩ := Steps.vmThrowsMessageColdByV p (s₀ := s) (S := T') (g := g) h hexec T L Z LZ M LM X.warmed (t := T'.cur) rfl Zs LZs P1 L1 Ps hL hlink1 hlinkP hsoe hoom hfound hk hinit hord hctor
    (Launch.admits_hotImplicitExceptions X.admits) hbeyond hfreeW htext hlimit hheap (X.cellsAbove hRcells) hslots (hfitv _) (hfitc _)
    (Nn := fun u => u) heapOnly_id (fun _ _ => rfl) (fun _ => rfl) (fun u x y => setCell_twice _ _ _ _) (fun _ => Nat.le_refl _) (cN := ((preparedCellV T.toThrowableT (freshCell P1.m.cls kX) (T'.heap.size + 2) u0 sen).withEntry T'.cur))
    hsel0 hcellS hknownS hu0 htS (fun _ hu => hu) (fun _ hu => hu) rfl rfl rfl (by simp [preparedCellV, Cell.setSlot, Cell.withEntry]) hskip (fun _ _ hA hW _ hroom _ hrest => L.nativeOff p htr hA hW hroom hrest) (x_selF X hcl Y hsF) hsen htC htP htM Y.objLocals rfl hfr' hwd'
  rw [plainBareV_eq T.toThrowableT (T'.heap.size + 2) u0 sen (.ref (T'.heap.size + 1)) T'.cur rfl rfl] at st
  obtain ⟨-, -, w3, w4, w5, -, -⟩ := withThrown_facts e.platform T' Zs text P1.m.cls kX
  have X3 := ((X.pushed (bytesOf Zs.cB (stringToUtf16 text))).pushed (stringAt Zs.cS Zs.kS Zs.fv Zs.fc (stringToUtf16 text) T'.heap.size)).pushed (freshCell P1.m.cls kX)
  rw [← withString_eq] at X3
  have b1 : (bytesOf Zs.cB (stringToUtf16 text)).slots.size = (stringBytes (stringToUtf16 text)).size := by
    rw [(Cell.writeAll_facts _ _).2.2]; simp [bytes0]
  have b2 : (stringAt Zs.cS Zs.kS Zs.fv Zs.fc (stringToUtf16 text) T'.heap.size).slots.size = 4 := by simp [string0, Cell.setSlot, hn4]
  have b3 : (freshCell P1.m.cls kX).slots.size = 6 := by simp [hn6]
  rw [b1, b2, b3] at X3
  have X4 := X3.noted hW'
  have ha : (T'.heap.size + 2) < ((withThrown T' Zs text P1.m.cls kX).setVm vm').heap.size := by show _ < (withThrown T' Zs text P1.m.cls kX).heap.size; rw [w3]; omega
  have hcell : ((withThrown T' Zs text P1.m.cls kX).setVm vm').heap[(T'.heap.size + 2)]? = some (freshCell P1.m.cls kX) := w4
  have X5 := ((((X4.stored hcell T.fCause.slot (.ref (T'.heap.size + 2))).storedAgain ha T.fStack.slot u0.v).storedAgain ha T.fSupp.slot sen.v).storedAgain ha T.fStack.slot u0.v).storedAgain ha T.fMsg.slot (.ref (T'.heap.size + 1))
  simp only [List.append_assoc, List.cons_append, List.nil_append] at X5
  refine ⟨_, _, _, stand_widen X5 (Nat.le_refl _) (by omega), fun q hq => ?_, heapAt_setCell_self (s := (withThrown T' Zs text P1.m.cls kX).setVm vm') _ ha, hfound, rfl, ?_, fun q hq => ?_, fun tg h => st _ ?_⟩
  · simp only [List.mem_cons, List.not_mem_nil, or_false] at hq
    rcases hq with rfl | rfl | rfl | rfl | rfl <;> rfl
  · show T'.heap.size ≤ ((withThrown T' Zs text P1.m.cls kX).heap.setIfInBounds _ _).size
    rw [Array.size_setIfInBounds, w3]; omega
  · rw [heapAt_setCell_ne (s := (withThrown T' Zs text P1.m.cls kX).setVm vm') _ (show T'.heap.size + 2 ≠ q by omega)]
    exact w5 q hq
  · obtain ⟨g₁, hfrM⟩ := X5.frames_eq
    rw [X.tail]
    refine Eq.mp (congrArg (fun z => Steps p.tables e below z tg) ?_) h
    rw [State.pushFrame, State.frames_setTop _ hfrM, State.setTop_of_frames _ hfrM, State.setFrames_setFrames]
/-- ... a NullPointerException -/
theorem x_npe (X : Stand p l e R s m args below meth c T' locs cells slots) (hexec : p.tables.exec = Jvm.exec) (htr : e.platform.stackTraces = false) (hth : ∀ a ∈ Bundle.throwableAtoms, a.before args s = true) (hx : ∀ a ∈ xAtoms Bundle.nN, a.before args s = true) (hnp : ∀ a ∈ Bundle.npeAtoms, a.before args s = true)
    (h1 : ∀ a ∈ Bundle.passAtoms Bundle.nN Bundle.rN 1 LibCode.NullPointerException.Init0.code, a.before args s = true) (h2 : ∀ a ∈ Bundle.passAtoms Bundle.rN Bundle.eN 1 LibCode.RuntimeException.Init0.code, a.before args s = true) (h3 : ∀ a ∈ Bundle.passAtoms Bundle.eN Bundle.tN 1 LibCode.Exception.Init0.code, a.before args s = true) (hsF : (Cond.selects Bundle.nN Bundle.tFill Bundle.nFill).before args s = true)
    (hini : (Cond.initialized Bundle.nN).before args s = true) (hinst : (Cond.instantiable Bundle.nN 8).before args s = true) (hlocs : ∀ x ∈ locs, ∀ cell, s.heap[x.base]? = some cell → cell.vm.isStatics = false)
    {g : JFrame} (hg : g.method = m) (hsize : g.locals.size = c.maxLocals) (hRframes : 7 < R.frames) (hRlocals : 2 * g.monitorRoom + (g.stack.map fun v => v.category).sum + 10240 ≤ R.locals) (hRcells : cells + 1 ≤ R.cells) (hRslots : slots + 8 ≤ R.slots) :
    ∃ (T1 : State) (L : List Loc) (ce : Cell), Stand p l e R s m args below meth c T1 (locs ++ L) (cells + 1) (slots + 8) ∧ (∀ q ∈ L, q.base = T'.heap.size) ∧ T1.heap[T'.heap.size]? = some ce ∧ s.vm.findClass Bundle.nN = some ce.cls ∧ ce.vm.isStatics = false ∧ T'.heap.size ≤ T1.heap.size ∧ (∀ q : Nat, q < T'.heap.size → T1.heap[q]? = T'.heap[q]?) ∧
      ∀ tg, Steps p.tables e below ((T1.setTop g).pushFrame (.throwing T'.heap.size)) tg → Steps p.tables e below ((T'.setTop g).pushFrame (.throwNew "java/lang/NullPointerException" none none)) tg := by
  have hpl : e.platform.magicAccessors = ({} : Platform).magicAccessors := by rw [X.admits.platform]
  have hpl2 : e.platform.arrayCloneIsPublic = true := by rw [X.admits.platform]
  obtain ⟨c1, kX, hfound, hk, hord, -, -, hn8⟩ := Cond.instantiable_spec hinst
  obtain ⟨T, Z, u0, sen, cellS, B, L, LZ, Y, ⟨hcellS, hltS, hknownS, hu0, hsen⟩, hsel0, ⟨htC, htS, htP, -⟩, hB, hb0, bC, bS, bP, dB, hdB, hdnB, hnB⟩ := x_thr X hth hx hlocs hfound hk hord T'.heap.size 0
  obtain ⟨N, LN, hcN, hnNF, hordN, hffS⟩ := NpeC.of_atoms (args := args) hpl hpl2 L Y hnp
  obtain ⟨P1, L1, hP1m, hP1s⟩ := PassC.of_atoms (args := args) (s := s) hpl (X := Bundle.nN) (Y := Bundle.rN) (by decide) (by decide) LibCode.NullPointerException.Init0.at_0 LibCode.NullPointerException.Init0.at_1 LibCode.NullPointerException.Init0.at_4 h1
  obtain ⟨PR, LR, hPRm, hPRs⟩ := PassC.of_atoms (args := args) (s := s) hpl (X := Bundle.rN) (Y := Bundle.eN) (by decide) (by decide) LibCode.RuntimeException.Init0.at_0 LibCode.RuntimeException.Init0.at_1 LibCode.RuntimeException.Init0.at_4 h2
  obtain ⟨PE, LEx, hPEm, hPEs⟩ := PassC.of_atoms (args := args) (s := s) hpl (X := Bundle.eN) (Y := Bundle.tN) (by decide) (by decide) LibCode.Exception.Init0.at_0 LibCode.Exception.Init0.at_1 LibCode.Exception.Init0.at_4 h3
  have hcl : s.vm.findClass Bundle.nN = some P1.m.cls := findClass_of_methodNamed hP1m
  cases Option.some.inj (hfound.symm.trans hcl)
  have ecls : N.cN = P1.m.cls := Option.some.inj (hcN.symm.trans hcl)
  have hkN : s.vm.classes[P1.m.cls]? = some N.kN := by rw [← ecls]; exact LN.cls
  cases Option.some.inj (hkN.symm.trans hk)
  have hinit := Cond.initialized_spec hfound hk hini
  have hctor : N.kN.findMethod "<init>" "()V" = some P1.m.idx := findMethod_of_methodNamed hP1m hk
  have hlink1 : P1.sup = PR.m := Option.some.inj (hP1s.symm.trans hPRm)
  have hlinkR : PR.sup = PE.m := Option.some.inj (hPRs.symm.trans hPEm)
  have hlinkE : PE.sup = Z.m T.toThrowableT := Option.some.inj (hPEs.symm.trans Y.init0)
  have hselF : selectMethod e.platform s.vm P1.m.cls T.fill = .method N.fill := by
    obtain ⟨c2, r2, m2, q1, q2, q3, q4, -⟩ := Cond.selects_spec hsF
    cases Option.some.inj (q1.symm.trans hfound)
    cases Option.some.inj (q2.symm.trans (State.methodFound?_of_named Y.fill (by decide)))
    cases Option.some.inj (q3.symm.trans hnNF)
    rw [Launch.admits_selectMethod X.admits]; exact q4
  have a : ∀ x, x ∈ xAtoms Bundle.nN → x.holds args s none s [] = true := fun x hx' => hx x hx'
  obtain ⟨-, dC, hdC, hdnC⟩ := Cond.laysAt hfound hk Y.cause (a (.lays Bundle.nN Bundle.tN "cause" "Ljava/lang/Throwable;") (by simp [xAtoms]))
  obtain ⟨-, dS, hdS, hdnS⟩ := Cond.laysAt hfound hk Y.stack (a (.lays Bundle.nN Bundle.tN "stackTrace" Bundle.steD) (by simp [xAtoms]))
  obtain ⟨-, dP, hdP, hdnP⟩ := Cond.laysAt hfound hk Y.supp (a (.lays Bundle.nN Bundle.tN "suppressedExceptions" Bundle.listD) (by simp [xAtoms]))
  obtain ⟨tyX, dX, hdX, hdnX⟩ := Cond.laysAt hfound hk hffS (hnp (.lays Bundle.nN Bundle.nN "extendedMessageState" "I") (by simp [Bundle.npeAtoms]))
  have hnX : N.fState.name = "extendedMessageState" := (State.fieldFound?_type hffS (t := .int) (by decide +kernel)).1
  have bX := Cond.laysApart hdB hdX hdnB hdnX (by rw [hnB, hnX]; decide)
  have hskip : SkipFacts T e.platform s (fun u => u) u0 ((npeCell N.toNpeT (preparedCellV T.toThrowableT (freshCell P1.m.cls N.kN) T'.heap.size u0 sen) T'.cur).withEntry T'.cur) :=
    ⟨B, hB, by simpa [npeCell, preparedCellV, Cell.setSlot, Cell.withEntry, Array.getElem?_setIfInBounds, bC, bS, bP, bX, bC.symm, bS.symm, bP.symm, bX.symm] using hb0, fun _ _ => rfl⟩
  have h : At T' g.method c below := by rw [hg]; exact X.here
  obtain ⟨hbeyond, hfreeW⟩ := X.vmMayThrow hsize (.throwNew "java/lang/NullPointerException" none none) (fun f hf => by cases hf) rfl hRlocals
  have hfr' : T'.frames.length + [PR, PE].length + 5 < (e.platform.stackLimits T'.me).1 := by have := X.framesAbove (n := 7) hRframes; simp only [List.length_cons, List.length_nil]; omega
  have hwd' : (stackUse (.java g :: T'.frames.tail)).2 + 13 * [PR, PE].length + 68 ≤ (e.platform.stackLimits T'.me).2 := by have := X.stackAbove hsize (K := 13 * 2 + 68) (by omega); simp only [List.length_cons, List.length_nil]; omega
  have hslots : T'.slotsUsed + N.kN.instanceTypes.size ≤ e.platform.maxSlots := by have := X.slotsAbove hRslots; rw [hn8]; omega
  obtain ⟨vm', hW', st⟩ := Steps.vmThrowsNpeColdByV p (s₀ := s) (S := T') (g := g) h hexec T L Z LZ N LN X.warmed (t := T'.cur) rfl P1 L1 [PR, PE] (fun P hP => by
      simp only [List.mem_cons, List.not_mem_nil, or_false] at hP
      rcases hP with rfl | rfl
      · exact LR
      · exact LEx) hlink1 ⟨hlinkR, hlinkE, trivial⟩ hfound hk hinit hord hctor
    (Launch.admits_hotImplicitExceptions X.admits) hbeyond hfreeW (X.cellsAbove hRcells) hslots
    (Nn := fun u => u) heapOnly_id (fun _ _ => rfl) (fun _ => rfl) (fun u x y => setCell_twice _ _ _ _) (fun _ => Nat.le_refl _) (cN := ((npeCell N.toNpeT (preparedCellV T.toThrowableT (freshCell P1.m.cls N.kN) T'.heap.size u0 sen) T'.cur).withEntry T'.cur))
    hsel0 hcellS hknownS hu0 (by rw [fresh_default tyX, LN.stateInt]; rfl)
    (Cond.laysApart hdC hdX hdnC hdnX (by rw [Y.causeName, hnX]; decide)) (Cond.laysApart hdS hdX hdnS hdnX (by rw [Y.stackName, hnX]; decide)) (Cond.laysApart hdP hdX hdnP hdnX (by rw [Y.suppName, hnX]; decide))
    htS (Takes.of_laid hk hord tyX (by rw [LN.stateInt]; rfl)) (fun _ hu => hu) (fun _ hu => hu) rfl rfl rfl (by simp [npeCell, preparedCellV, Cell.setSlot, Cell.withEntry]) hskip (fun _ _ hA hW _ hroom _ hrest => L.nativeOff p htr hA hW hroom hrest) hselF hsen htC htP Y.objLocals rfl hfr' hwd'
  rw [npeBareV_eq T.toThrowableT N.toNpeT T'.heap.size u0 sen T'.cur rfl rfl] at st
  have X2 := (X.pushed (freshCell P1.m.cls N.kN)).noted hW'
  have b3 : (freshCell P1.m.cls N.kN).slots.size = 8 := by simp [hn8]
  rw [b3] at X2
  have hsz : ((T'.pushCell (freshCell P1.m.cls N.kN)).setVm vm').heap.size = T'.heap.size + 1 := State.heap_size_pushCell _ _
  have ha : T'.heap.size < ((T'.pushCell (freshCell P1.m.cls N.kN)).setVm vm').heap.size := by rw [hsz]; omega
  have hcell : ((T'.pushCell (freshCell P1.m.cls N.kN)).setVm vm').heap[T'.heap.size]? = some (freshCell P1.m.cls N.kN) := State.heap_pushCell_size T' (freshCell P1.m.cls N.kN)
  have X3 := ((((X2.stored hcell T.fCause.slot (.ref T'.heap.size)).storedAgain ha T.fStack.slot u0.v).storedAgain ha T.fSupp.slot sen.v).storedAgain ha N.fState.slot (.int 1)).storedAgain ha T.fStack.slot u0.v
  simp only [List.append_assoc, List.cons_append, List.nil_append] at X3
  refine ⟨_, _, _, X3, fun q hq => ?_, heapAt_setCell_self (s := (T'.pushCell (freshCell P1.m.cls N.kN)).setVm vm') _ ha, hfound, rfl, ?_, fun q hq => ?_, fun tg h => st _ ?_⟩
  · simp only [List.mem_cons, List.not_mem_nil, or_false] at hq
    rcases hq with rfl | rfl | rfl | rfl | rfl <;> rfl
  · show T'.heap.size ≤ ((T'.heap.push _).setIfInBounds _ _).size
    rw [Array.size_setIfInBounds, Array.size_push]; omega
  · rw [heapAt_setCell_ne (s := (T'.pushCell (freshCell P1.m.cls N.kN)).setVm vm') _ (show T'.heap.size ≠ q by omega)]
    show (T'.heap.push _)[q]? = _
    rw [Array.getElem?_push, if_neg (by omega)]
  · obtain ⟨g₁, hfrM⟩ := X3.frames_eq
    rw [X.tail]
    refine Eq.mp (congrArg (fun z => Steps p.tables e below z tg) ?_) h
    rw [State.pushFrame, State.frames_setTop _ hfrM, State.setTop_of_frames _ hfrM, State.setFrames_setFrames]
end XT
