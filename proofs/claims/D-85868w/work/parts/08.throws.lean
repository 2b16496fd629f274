set_option maxRecDepth 100000
/-! ===== methods that may throw ===== -/
def xEnd (first t : State) (L : List Loc) (k n : Nat) : Prop := first.WarmedH t.vm ∧ first.sameButNew ({ t with vm := first.vm } : State) L k n
/-- a contract that says what is thrown as well -/
def MetT (l : Launch) (y : MethodName) (ws : List Cond) (rm : Room) (Pc : Array Value → State → Prop) (Qc : Array Value → State → Outcome → State → Prop) (mc ms : Nat) (free : Addr → Prop) : Prop :=
  MetFree l y (headSpec ws rm) Pc (fun _ _ _ _ _ => True) (fun a st o t => Qc a st o t ∧ ∃ L, xEnd st t L mc ms ∧ ∀ q ∈ L, free q.base)
def MQT (below : List Frame) (Qc : Array Value → State → Outcome → State → Prop) (a : Array Value) (s : State) (mc ms : Nat) (free : Addr → Prop) : State → Prop := fun t =>
  ∃ o, t.status = .running ∧ Ended t below o ∧ Qc a s o t ∧ ∃ L, xEnd s t L mc ms ∧ ∀ q ∈ L, free q.base
theorem MQ.toT {below : List Frame} {Qc : Array Value → State → Outcome → State → Prop} {a : Array Value} {s t : State} {mc ms : Nat} {free : Addr → Prop} (h : MQ below Qc a s mc ms free t) : MQT below Qc a s mc ms free t := by
  obtain ⟨o, h1, h2, h3, L, ⟨-, h4, h5⟩, h6⟩ := h
  exact ⟨o, h1, h2, h3, L, ⟨h4, h5⟩, h6⟩
/-- the cell of what is thrown: of the class with that number -/
def xC (dC : Nat → ClassId) (k a : Nat) (H : Heap) : Prop := ∃ cell : Cell, H[a]? = some cell ∧ cell.vm.isStatics = false ∧ cell.cls = dC k
def kX {S : Type} (dC : Nat → ClassId) (dI : Nat → Nat → Nat) (wf : S → va_W) (RK : Outcome → S → Prop) (E : Nat → S → Prop) (A : Nat → Prop) : Array Value → State → Outcome → State → Prop := fun _ st oc t =>
  ((∃ u, RK oc u ∧ kB dC dI wf A u t) ∨ (∃ (k : Nat) (u : S) (a : Nat), oc = .threw a ∧ E k u ∧ kB dC dI wf A u t ∧ xC dC k a t.heap)) ∧ va_F A st t
def rkv {S : Type} (K : S → Prop) : Outcome → S → Prop := fun o u => o = .returned none ∧ K u
def rki {S : Type} (K : Int32 → S → Prop) : Outcome → S → Prop := fun o u => ∃ r, o = .returned (some (.int r)) ∧ K r u
def rkl {S : Type} (K : Int64 → S → Prop) : Outcome → S → Prop := fun o u => ∃ r, o = .returned (some (.long r)) ∧ K r u
abbrev kXv {S : Type} (dC : Nat → ClassId) (dI : Nat → Nat → Nat) (wf : S → va_W) (K : S → Prop) (E : Nat → S → Prop) (A : Nat → Prop) : Array Value → State → Outcome → State → Prop := kX dC dI wf (rkv K) E A
abbrev kXi {S : Type} (dC : Nat → ClassId) (dI : Nat → Nat → Nat) (wf : S → va_W) (K : Int32 → S → Prop) (E : Nat → S → Prop) (A : Nat → Prop) : Array Value → State → Outcome → State → Prop := kX dC dI wf (rki K) E A
abbrev kXl {S : Type} (dC : Nat → ClassId) (dI : Nat → Nat → Nat) (wf : S → va_W) (K : Int64 → S → Prop) (E : Nat → S → Prop) (A : Nat → Prop) : Array Value → State → Outcome → State → Prop := kX dC dI wf (rkl K) E A
theorem MetT.ofW {l : Launch} {y : MethodName} {ws ws' : List Cond} {rm : Room} {Pc : Array Value → State → Prop} {Qc : Array Value → State → Outcome → State → Prop} {mc ms : Nat} {free : Addr → Prop} {cc : ByteArray} {maxL : Nat} {ret : Option FieldType}
    (hy : plainName y.cls = true) (hw : ws = Cond.code y cc maxL ret :: ws')
    (body : ∀ p e s m args below meth c s₁, BodyLoose p l y (headSpec ws rm) cc maxL ret e s m args below meth c s₁ → c.maxLocals = maxL → c.exceptionTable.toList = tableOf [] → Pc args s →
      W p l e (headSpec ws rm).room s m args below meth c s.heap [] 0 0 (MQT below Qc args s mc ms free) (entryFrame m args maxL)) : MetT l y ws rm Pc Qc mc ms free := by
  refine MetFree.of_bodyS (code := cc) (maxLocals := maxL) (ret := ret) hy ?_ ?_
  · intro args s m h hn
    obtain ⟨meth, c, h1, h2, h3, h4, h5, h6, -, -⟩ := Cond.code_spec hn (atoms_spec (ws := ws) h _ (by rw [hw]; exact List.mem_cons_self))
    exact ⟨meth, c, h1, h2, h3, h4, h5, h6⟩
  · intro p e s m args below meth c s₁ B hml hP _
    have hh0 : s₁.heap = s.heap := by rw [B.state]; rfl
    have hem := B.noHandlers (atoms_spec (ws := ws) B.pre _ (by rw [hw]; exact List.mem_cons_self))
    have hem2 : c.exceptionTable.toList = tableOf [] := by
      have h0 : c.exceptionTable.size = 0 := by simpa [Array.isEmpty] using hem
      exact List.eq_nil_of_length_eq_zero (by simpa using h0)
    obtain ⟨t, a1, o, b1, b2, b3⟩ := body p e s m args below meth c s₁ B hml hem2 hP s₁ hh0 (Stand.of_body B)
    exact ⟨t, o, a1, b1, b2, ⟨b3.1, b3.2⟩⟩
/-- a catching method's contract: the table comes with it -/
theorem MetW.ofW {l : Launch} {y : MethodName} {ws ws' : List Cond} {rm : Room} {Pc : Array Value → State → Prop} {Qc : Array Value → State → Outcome → State → Prop} {mc ms : Nat} {free : Addr → Prop} {cc : ByteArray} {maxL : Nat} {ret : Option FieldType} {hs : List (Nat × Nat × Nat × Nat)}
    (hy : plainName y.cls = true) (hw : ws = Cond.codeWith y cc maxL ret hs :: ws')
    (body : ∀ p e s m args below meth c s₁, BodyLoose p l y (headSpec ws rm) cc maxL ret e s m args below meth c s₁ → c.maxLocals = maxL → c.exceptionTable.toList = tableOf hs → Pc args s →
      W p l e (headSpec ws rm).room s m args below meth c s.heap [] 0 0 (MQ below Qc args s mc ms free) (entryFrame m args maxL)) : Met l y ws rm Pc Qc mc ms free := by
  refine va_MetW hy hw fun p e s m args below meth c s₁ B hml hP => body p e s m args below meth c s₁ B hml ?_ hP
  obtain ⟨m9, meth9, c9, hn9, h1, h2, -, -, ht, -⟩ := Cond.codeWith_spec (atoms_spec (ws := ws) B.pre _ (by rw [hw]; exact List.mem_cons_self))
  cases B.named.symm.trans hn9
  cases B.method.symm.trans h1
  cases (Stand.of_body B).code.symm.trans h2
  rw [← ht, table_eq]
def kMT {S : Type} (l : Launch) (y : MethodName) (b : ByteArray) (nL : Nat) (ret : Option FieldType) (rm : Room) (dC : Nat → ClassId) (dI : Nat → Nat → Nat) (d : Nat → ClassId) (av : List Value) (wf : S → va_W) (u : S) (Q : (Nat → Prop) → Array Value → State → Outcome → State → Prop) (mc ms : Nat) : Prop :=
  ∀ sz : Nat, MetT l y (ws_ y b nL ret) rm (kP dC dI d av (wf u) sz) (Q (va_A (wf u) sz)) mc ms (va_A (wf u) sz)
def kMW {S : Type} (l : Launch) (y : MethodName) (b : ByteArray) (nL : Nat) (ret : Option FieldType) (hs : List (Nat × Nat × Nat × Nat)) (rm : Room) (dC : Nat → ClassId) (dI : Nat → Nat → Nat) (d : Nat → ClassId) (av : List Value) (wf : S → va_W) (u : S) (Q : (Nat → Prop) → Array Value → State → Outcome → State → Prop) (mc ms : Nat) : Prop :=
  ∀ sz : Nat, Met l y (wsW_ y b nL ret hs) rm (kP dC dI d av (wf u) sz) (Q (va_A (wf u) sz)) mc ms (va_A (wf u) sz)
theorem kMT_start {S : Type} {l : Launch} {y : MethodName} {b : ByteArray} {nL : Nat} {ret : Option FieldType} {rm : Room} {dC : Nat → ClassId} {dI : Nat → Nat → Nat} {d : Nat → ClassId} {av : List Value} {wf : S → va_W} {u : S} {Q : (Nat → Prop) → Array Value → State → Outcome → State → Prop} {mc ms : Nat} (hy : plainName y.cls = true) (hlen : (lg_sl av).length ≤ nL)
    (body : ∀ (p : Program) (e : Env) (s : State) (m : MethodId) (below : List Frame) (meth : Method) (c : Code) (A : Nat → Prop) (ls : Array Slot), Cx p s m av.toArray meth c b y.cls nL ret A dC dI d → meth.name = y.name → c.exceptionTable.toList = tableOf [] → Wd dC dI A (wf u) s s.heap [] → lv_has ls nL (lv_args 0 av) →
      W p l e rm s m av.toArray below meth c s.heap [] 0 0 (MQT below (Q A) av.toArray s mc ms A) (F0 m 0 ls [])) : kMT l y b nL ret rm dC dI d av wf u Q mc ms := by
  intro sz
  refine MetT.ofW (cc := b) (maxL := nL) (ret := ret) hy rfl ?_
  intro p e s m args below meth c s₁ B hml hxt hv
  obtain ⟨rfl, hsz, hP, hE, hD0, hkS⟩ := hv
  have hts := atoms_spec (ws := ws_ y b nL ret) B.pre
  subst hsz
  have hD := hD0.self (sz := s.heap.size)
  have hl := lv_entry av (n := nL) hlen
  rw [lg_entry_eq]
  generalize (lg_sl av ++ List.replicate (nL - (lg_sl av).length) Slot.unset).toArray = ls at hl ⊢
  exact body p e s m below meth c _ ls ⟨B.exec, B.bytes, hml, findClass_of_methodNamed B.named, fun w h => hts w (List.mem_cons_of_mem _ h), hE, fun q h => Or.inr h, B.notSynchronized, B.returns, hkS, va_ns hP⟩ (name_of_methodNamed B.named B.method).1 hxt ⟨hP, hD, va_S.rf⟩ hl
theorem kMW_start {S : Type} {l : Launch} {y : MethodName} {b : ByteArray} {nL : Nat} {ret : Option FieldType} {hs : List (Nat × Nat × Nat × Nat)} {rm : Room} {dC : Nat → ClassId} {dI : Nat → Nat → Nat} {d : Nat → ClassId} {av : List Value} {wf : S → va_W} {u : S} {Q : (Nat → Prop) → Array Value → State → Outcome → State → Prop} {mc ms : Nat} (hy : plainName y.cls = true) (hlen : (lg_sl av).length ≤ nL)
    (body : ∀ (p : Program) (e : Env) (s : State) (m : MethodId) (below : List Frame) (meth : Method) (c : Code) (A : Nat → Prop) (ls : Array Slot), Cx p s m av.toArray meth c b y.cls nL ret A dC dI d → meth.name = y.name → c.exceptionTable.toList = tableOf hs → Wd dC dI A (wf u) s s.heap [] → lv_has ls nL (lv_args 0 av) →
      W p l e rm s m av.toArray below meth c s.heap [] 0 0 (MQ below (Q A) av.toArray s mc ms A) (F0 m 0 ls [])) : kMW l y b nL ret hs rm dC dI d av wf u Q mc ms := by
  intro sz
  refine MetW.ofW (cc := b) (maxL := nL) (ret := ret) (hs := hs) hy rfl ?_
  intro p e s m args below meth c s₁ B hml hxt hv
  obtain ⟨rfl, hsz, hP, hE, hD0, hkS⟩ := hv
  have hts := atoms_spec (ws := wsW_ y b nL ret hs) B.pre
  subst hsz
  have hD := hD0.self (sz := s.heap.size)
  have hl := lv_entry av (n := nL) hlen
  rw [lg_entry_eq]
  generalize (lg_sl av ++ List.replicate (nL - (lg_sl av).length) Slot.unset).toArray = ls at hl ⊢
  exact body p e s m below meth c _ ls ⟨B.exec, B.bytes, hml, findClass_of_methodNamed B.named, fun w h => hts w (List.mem_cons_of_mem _ h), hE, fun q h => Or.inr h, B.notSynchronized, B.returns, hkS, va_ns hP⟩ (name_of_methodNamed B.named B.method).1 hxt ⟨hP, hD, va_S.rf⟩ hl
/-- the machine with 'a is thrown' laid over the frame g comes to a state with Q -/
def WX (p : Program) (l : Launch) (e : Env) (R : Room) (s : State) (m : MethodId) (args : Array Value) (below : List Frame) (meth : Method) (c : Code) (H : Heap) (locs : List Loc) (cells slots : Nat) (Q : State → Prop) (g : JFrame) (a : Nat) : Prop :=
  ∀ T : State, T.heap = H → Stand p l e R s m args below meth c T locs cells slots → ∃ t, Steps p.tables e below ((T.setTop g).pushFrame (.throwing a)) t ∧ Q t
section KX
variable {p : Program} {l : Launch} {e : Env} {R : Room} {s : State} {m : MethodId} {args : Array Value} {below : List Frame} {meth : Method} {c : Code} {H : Heap} {locs : List Loc} {cells slots : Nat} {Q : State → Prop}
variable {cc : ByteArray} {own : String} {nL : Nat} {ret : Option FieldType} {A : Nat → Prop} {dC : Nat → ClassId} {dI : Nat → Nat → Nat} {d : Nat → ClassId} {ws : va_W} {pc : Nat} {ls : Array Slot} {rest : List Value}
theorem W.monoQ {Q' : State → Prop} {g : JFrame} (h : W p l e R s m args below meth c H locs cells slots Q g) (hq : ∀ t, Q t → Q' t) : W p l e R s m args below meth c H locs cells slots Q' g := fun T hT X => by
  obtain ⟨t, a, b⟩ := h T hT X
  exact ⟨t, a, hq t b⟩
theorem MQT.mono {Qc Qc' : Array Value → State → Outcome → State → Prop} {a : Array Value} {mc ms : Nat} {free : Addr → Prop} {t : State} (h : MQT below Qc a s mc ms free t) (hq : ∀ o, Qc a s o t → Qc' a s o t) : MQT below Qc' a s mc ms free t := by
  obtain ⟨o, h1, h2, h3, h4⟩ := h
  exact ⟨o, h1, h2, hq o h3, h4⟩
theorem k_iretT {S : Type} (cx : Cx p s m args meth c cc own nL (some .int) A dC dI d) {wf : S → va_W} {u : S} {K : Int32 → S → Prop} {E : Nat → S → Prop} (hw : Wd dC dI A (wf u) s H locs) {v : Int32} (hK : K v u) {mc ms : Nat} (h1 : cells ≤ mc) (h2 : slots ≤ ms) (hdg : decode cc pc = .ok (.ireturn, 1)) : W p l e R s m args below meth c H locs cells slots (MQT below (kXi dC dI wf K E A) args s mc ms A) (F0 m pc ls [.int v]) :=
  W.monoQ (k_iret cx hw hK h1 h2 hdg) fun _ h => MQT.mono h.toT fun _ q => ⟨Or.inl (by obtain ⟨⟨r, u, e1, e2, e3⟩, -⟩ := q; exact ⟨u, ⟨r, e1, e2⟩, e3⟩), q.2⟩
theorem k_lretT {S : Type} (cx : Cx p s m args meth c cc own nL (some .long) A dC dI d) {wf : S → va_W} {u : S} {K : Int64 → S → Prop} {E : Nat → S → Prop} (hw : Wd dC dI A (wf u) s H locs) {v : Int64} (hK : K v u) {mc ms : Nat} (h1 : cells ≤ mc) (h2 : slots ≤ ms) (hdg : decode cc pc = .ok (.lreturn, 1)) : W p l e R s m args below meth c H locs cells slots (MQT below (kXl dC dI wf K E A) args s mc ms A) (F0 m pc ls [.long v]) :=
  W.monoQ (k_lret cx hw hK h1 h2 hdg) fun _ h => MQT.mono h.toT fun _ q => ⟨Or.inl (by obtain ⟨⟨r, u, e1, e2, e3⟩, -⟩ := q; exact ⟨u, ⟨r, e1, e2⟩, e3⟩), q.2⟩
theorem k_vretT {S : Type} (cx : Cx p s m args meth c cc own nL none A dC dI d) {wf : S → va_W} {u : S} {K : S → Prop} {E : Nat → S → Prop} (hw : Wd dC dI A (wf u) s H locs) (hK : K u) {mc ms : Nat} (h1 : cells ≤ mc) (h2 : slots ≤ ms) (hdg : decode cc pc = .ok (.return_, 1)) : W p l e R s m args below meth c H locs cells slots (MQT below (kXv dC dI wf K E A) args s mc ms A) (F0 m pc ls []) :=
  W.monoQ (k_vret cx hw hK h1 h2 hdg) fun _ h => MQT.mono h.toT fun _ q => ⟨Or.inl (by obtain ⟨⟨u, e1, e2, e3⟩, -⟩ := q; exact ⟨u, ⟨e1, e2⟩, e3⟩), q.2⟩
/-- out of the method -/
theorem k_leave {S : Type} {hs : List (Nat × Nat × Nat × Nat)} (cx : Cx p s m args meth c cc own nL ret A dC dI d) (xt : c.exceptionTable.toList = tableOf hs) (hout : (tableOf hs).all (fun x => !covers x pc) = true) {wf : S → va_W} {u : S} {RK : Outcome → S → Prop} {E : Nat → S → Prop} {k a : Nat} {st : List Value} (hw : Wd dC dI A (wf u) s H locs) (hE : E k u) (hx : xC dC k a H) {mc ms : Nat} (h1 : cells ≤ mc) (h2 : slots ≤ ms) :
    WX p l e R s m args below meth c H locs cells slots (MQT below (kX dC dI wf RK E A) args s mc ms A) (F0 m pc ls st) a := by
  intro T hT X
  obtain ⟨hst, hrun, hended, hW, hsame⟩ := (stand_widen X h1 h2).leaveThrown a (g := F0 m pc ls st) rfl rfl rfl (outside_of_table xt hout) cx.2.2.2.2.2.2.2.1
  have hh : (T.setFrames (.throwing a :: below)).heap = H := hT
  exact ⟨_, hst, .threw a, hrun, hended, ⟨Or.inr ⟨k, u, a, rfl, hE, ⟨by rw [hh]; exact hw.1, hw.2.1⟩, by rw [hh]; exact hx⟩, hw.2.2.F hh⟩, locs, ⟨hW, hsame⟩, hw.2.2.2.2⟩
/-- athrow -/
theorem k_athrow (cx : Cx p s m args meth c cc own nL ret A dC dI d) {a : Nat} (hdg : decode cc pc = .ok (.athrow, 1)) (kk : WX p l e R s m args below meth c H locs cells slots Q (F0 m pc ls rest) a) : W p l e R s m args below meth c H locs cells slots Q (F0 m pc ls (.ref a :: rest)) := by
  intro T hT X
  obtain ⟨t, a1, b1⟩ := kk T hT X
  refine ⟨t, ?_, b1⟩
  have hx := cx.1
  have hb := cx.2.1
  jvm_step X.here [hx, hb, hdg, athrow.wp_sem]
  exact a1
theorem k_athrowCut_X2 {h : Nat → Nat} {cf : List Value} {u : St} (cx : Cx p s m args meth c cc own nL ret A dC dI d) (hw : Wd dC dI A (wDk d h cf u) s H locs) (hdg : decode cc pc = .ok (.athrow, 1)) (kk : xC dC 2 (h 2) H → WX p l e R s m args below meth c H locs cells slots Q (F0 m pc ls rest) (h 2)) : W p l e R s m args below meth c H locs cells slots Q (F0 m pc ls (.ref (h 2) :: rest)) :=
  k_athrow cx hdg (kk (by
    obtain ⟨cell, h1, h2, h3⟩ := k_recv cx hw 2 (ci := 2) (q := (RX3, TX3, 6)) rfl rfl
    obtain ⟨-, q, -⟩ := cx.2.2.2.2.2.1.1.1 2 (RX3, TX3, 6) rfl
    exact ⟨cell, h1, h2, Option.some.inj (h3.symm.trans q)⟩))
end KX
section XB
variable {p : Program} {l : Launch} {e : Env} {R : Room} {s : State} {m : MethodId} {args : Array Value} {below : List Frame} {meth : Method} {c : Code} {H : Heap} {locs : List Loc} {cells slots : Nat} {Q : State → Prop}
variable {y : MethodName} {bytes cc : ByteArray} {maxL nL mc ms n index : Nat} {ret : Option FieldType} {ws : List Cond} {rm : Room} {Pc : Array Value → State → Prop} {Qc : Array Value → State → Outcome → State → Prop} {free : Addr → Prop}
theorem x_heap (T : State) (g : JFrame) : (T.setTop g).heap = T.heap := by simp [State.setTop, State.modifyTopJava, State.setFrames]
theorem x_vm (T : State) (g : JFrame) : (T.setTop g).vm = T.vm := by simp [State.setTop, State.modifyTopJava, State.setFrames]
/-- a call comes back, or throws -/
theorem x_back {U : State} (X : Stand p l e R s m args below meth c U locs cells slots) (hM : MetT l y ws rm Pc Qc mc ms free) (hbl : FrameBlind Pc) {Wn : Nat} (hrc : rm.cells = mc) (hrs : rm.slots = ms) (hfr : rm.frames + 1 ≤ R.frames) (hlo : Wn + (maxL + 11) + rm.locals ≤ R.locals)
    (hws : ∀ w ∈ ws, ∀ (a' : Array Value) (U : State), s.WarmedH U.vm → w.before a' U = true) (hcode : Cond.code y bytes maxL ret ∈ ws) (hinit : ∀ (a' : Array Value) (U : State), s.WarmedH U.vm → (Cond.initialized y.cls).before a' U = true)
    {g : JFrame} (hg : g.method = m) (hsize : g.locals.size = c.maxLocals) {ig : Instr} {len : Nat} (hdg : decode c.code g.pc = .ok (ig, len)) (hW : 2 * g.monitorRoom + (g.stack.map fun v => v.category).sum ≤ Wn) {mk : MethodId} (hn : U.methodNamed? y = some mk) {a : Array Value} (hP : Pc a U) (h4 : cells + mc ≤ R.cells) (h5 : slots + ms ≤ R.slots) :
    ∃ (t T' : State) (L : List Loc), Stand p l e R s m args below meth c T' (locs ++ L) (cells + mc) (slots + ms) ∧ (∀ q ∈ L, free q.base) ∧ T'.heap = t.heap ∧ T'.vm = t.vm ∧
      ((∃ v, Qc a (U.calling g mk a) (.returned v) t ∧ Steps p.tables e below (doInvoke e (U.setTop g) [] mk a).1 (T'.setTop { g with pc := g.pc + len, stack := v.toList ++ g.stack })) ∨
       (∃ x, Qc a (U.calling g mk a) (.threw x) t ∧ Steps p.tables e below (doInvoke e (U.setTop g) [] mk a).1 ((T'.setTop g).pushFrame (.throwing x)))) := by
  have h1 : (headSpec ws rm).pre.before a U = true := atoms_intro fun w hw => hws w hw _ _ X.warmed
  obtain ⟨methY, cY, hmY, hcY, -, hlY, -, -, -, -⟩ := Cond.code_spec hn (hws _ hcode a U X.warmed)
  obtain ⟨kY, hkY, -⟩ := className_of_methodNamed hn
  have hinitY : kY.init = .initialized := Cond.initialized_spec (findClass_of_methodNamed hn) hkY (hinit a U X.warmed)
  have h : At U g.method c below := by rw [hg]; exact X.here
  have happ : (headSpec ws rm).appliesLoose y e.platform (U.calling g mk a) = true :=
    Spec.appliesLoose_calling (g := g) h hdg hn hkY hinitY
      (X.room_calling (g := g) (R' := (headSpec ws rm).room) hsize hmY hcY hfr (by rw [hlY]; show _ + rm.locals ≤ _; omega) (by show cells + rm.cells ≤ _; omega) (by show slots + rm.slots ≤ _; omega)) h1
  have hfr : (U.setTop g).frames = [.java g] ++ below := by rw [State.frames_setTop' g h.top, X.tail]; rfl
  obtain ⟨o, t, hsteps, -, hend, hq, L, ⟨hW₂, hsame⟩, hL⟩ := Steps.callFree hM p X.admits X.cas X.clock (acts := []) hfr happ (hbl a U g mk hP) trivial
  rw [State.frames_setTop' g h.top, X.tail] at hend
  cases o with
  | returned v =>
    obtain ⟨T', X', -, -, ht⟩ := X.outOf hg hdg hend hW₂ hsame
    exact ⟨t, T', L, X', hL, by rw [ht, x_heap], by rw [ht, x_vm], Or.inl ⟨v, hq, by rw [← ht]; exact hsteps⟩⟩
  | threw x =>
    obtain ⟨T', X', -, -, ht⟩ := X.outOfThrown hg hend hW₂ hsame
    exact ⟨t, T', L, X', hL, by rw [ht]; exact (Stand.throwing_heap T' g x).symm, by rw [ht]; exact (Stand.throwing_vm T' g x).symm, Or.inr ⟨x, hq, by rw [← ht]; exact hsteps⟩⟩
def va_RunT (p : Program) (l : Launch) (e : Env) (R : Room) (s : State) (m : MethodId) (args : Array Value) (below : List Frame) (meth : Method) (c : Code) (H : Heap) (locs : List Loc) (cells slots mc ms : Nat) (g : JFrame) (rest : List Value) (Qa : State → Outcome → State → Prop) (free : Addr → Prop) : Prop :=
  ∀ T : State, T.heap = H → Stand p l e R s m args below meth c T locs cells slots → ∃ (st₀ t T' : State) (L : List Loc), st₀.heap = H ∧ Stand p l e R s m args below meth c T' (locs ++ L) (cells + mc) (slots + ms) ∧ (∀ q ∈ L, free q.base) ∧ T'.heap = t.heap ∧ T'.vm = t.vm ∧
    ((∃ v, Qa st₀ (.returned v) t ∧ Goes p e below T g T' { g with pc := g.pc + 3, stack := v.toList ++ rest }) ∨
     (∃ x, Qa st₀ (.threw x) t ∧ ∀ tg, Steps p.tables e below ((T'.setTop { g with stack := rest }).pushFrame (.throwing x)) tg → Steps p.tables e below (T.setTop g) tg))
theorem va_runVT {own C : String} {Ts : List Cond} {b : Addr} {As rest : List Value} {g : JFrame} (S : CallFix p m c cc nL s args Ts own) (hM : MetT l y ws rm Pc Qc mc ms free) (cw : CallW R s args own C index y bytes maxL ret ws rm mc ms n) (hp : PreV s H C b Pc As)
    (hg : g.method = m) (hn : As.length = n) (hsize : g.locals.size = nL) (hstack : g.stack = As.reverse ++ .ref b :: rest) (hW : 2 * g.monitorRoom + (rest.map fun v => v.category).sum ≤ 8) (hdg : decode cc g.pc = .ok (.invokevirtual index, 3)) (hf : cells + mc ≤ R.cells ∧ slots + ms ≤ R.slots) :
    va_RunT p l e R s m args below meth c H locs cells slots mc ms g rest (Qc (Value.ref b :: As).toArray) free := by
  obtain ⟨⟨hrc, hrs, hfr, hlo, hws, hcw, hcode, hini, hy, hlen, hl⟩, hin, hse⟩ := cw
  obtain ⟨hx, hb, hml, ho, -⟩ := S
  obtain ⟨hbl, ⟨cellB, hcB, hoB, hclB⟩, hPc⟩ := hp
  intro T hT X
  obtain ⟨mk, methM, hnamed, hmethM, hstM, habM⟩ := Cond.instanceMethod_spec hin
  obtain ⟨methM', cM, hmethM', -, -, -, -, -, -, hsigM⟩ := Cond.code_spec hnamed hcode
  cases hmethM.symm.trans hmethM'
  obtain ⟨c2, r2, m2, q1, q2, q3, q4, kP, hkP, hkPi⟩ := Cond.selects_spec hse
  cases hclB.symm.trans q1
  cases (State.methodFound?_of_named hnamed hy).symm.trans q2
  cases hnamed.symm.trans q3
  have hselP : selectMethod e.platform s.vm cellB.cls mk = .method mk := by rw [Launch.admits_selectMethod X.admits]; exact q4
  obtain ⟨vm₁, X₁, hstep₁⟩ := X.invokevirtual hx ho hl hnamed hmethM hstM hkP hkPi hy (a := b) (cell := cellB) (by rw [hT]; exact hcB)
    (fun z h => by rw [h] at hoB; cases hoB) hselP hmethM habM hkP hkPi (g := g) hg (argsL := As) (rest := rest) (hn.trans (hlen _ hsigM)) hstack (by rw [hb]; exact hdg)
  obtain ⟨t, T', L, X', hL, e1, e2, hq⟩ := x_back (Wn := 8) X₁ hM hbl hrc hrs hfr hlo hws hcw (fun a' U hW => word_at hW (Or.inl (by first | rfl | simp [Cond.onTables, Cond.keeps, Cond.steady])) hini)
    (g := { g with stack := rest }) hg (hsize.trans hml.symm) (by rw [hb]; exact hdg) hW (X₁.named hnamed) (hPc (T.setVm vm₁) hT X₁.warmed) hf.1 hf.2
  refine ⟨(T.setVm vm₁).calling { g with stack := rest } mk (Value.ref b :: As).toArray, t, T', L, hT, X', hL, e1, e2, ?_⟩
  rcases hq with ⟨v, hq, st⟩ | ⟨x, hq, st⟩
  · exact Or.inl ⟨v, hq, fun tg h => hstep₁ _ fun acts => by rw [doInvoke_state]; exact st.trans h⟩
  · exact Or.inr ⟨x, hq, fun tg h => hstep₁ _ fun acts => by rw [doInvoke_state]; exact st.trans h⟩
end XB
section KC
variable {p : Program} {l : Launch} {e : Env} {R : Room} {s : State} {m : MethodId} {args : Array Value} {below : List Frame} {meth : Method} {c : Code} {H : Heap} {locs : List Loc} {cells slots : Nat} {Q : State → Prop}
variable {cc : ByteArray} {own : String} {nL : Nat} {ret : Option FieldType} {A : Nat → Prop} {dC : Nat → ClassId} {dI : Nat → Nat → Nat} {d : Nat → ClassId} {ws : va_W} {pc : Nat} {ls : Array Slot} {rest : List Value}
theorem k_runVT (cx : Cx p s m args meth c cc own nL ret A dC dI d) {w : va_W} (hP : va_P (dC, dI) kCl w H) (hD : va_D (fun _ => True) w) (hS : va_S A s.heap H locs) {C : String} {b : Nat} (hrc : ∃ cell : Cell, H[b]? = some cell ∧ cell.vm.isStatics = false ∧ s.vm.findClass C = some cell.cls) {y : MethodName} {b' : ByteArray} {nL' index n mc ms : Nat} {ret' : Option FieldType} {rm : Room} {As : List Value} {Qc : Array Value → State → Outcome → State → Prop} {free : Addr → Prop} {ws' : List Cond}
    (hM : MetT l y ws' rm (kP dC dI d (.ref b :: As) w H.size) Qc mc ms free) (cw : CallW R s args own C index y b' nL' ret' ws' rm mc ms n) (hn : As.length = n) (hsz : ls.size = nL) {st0 : List Value} (hst : st0 = As.reverse ++ .ref b :: rest) (hrm : (rest.map fun v => v.category).sum ≤ 8) (hdg : decode cc pc = .ok (.invokevirtual index, 3)) (hf : cells + mc ≤ R.cells ∧ slots + ms ≤ R.slots) :
    va_RunT p l e R s m args below meth c H locs cells slots mc ms (F0 m pc ls st0) rest (Qc (Value.ref b :: As).toArray) free :=
  va_runVT ⟨cx.1, cx.2.1, cx.2.2.1, cx.2.2.2.1, cx.2.2.2.2.1⟩ hM cw ⟨kP_blind, hrc, fun U hU hW => ⟨rfl, by rw [hU], by rw [hU]; exact hP, kE.warm hW cx.2.2.2.2.2.1, hD, kS_at cx.2.2.2.2.2.2.2.2.2.1 cx.2.2.2.2.2.2.2.2.2.2 hS hU hW⟩⟩ rfl hn hsz hst (lv_room (m := m) (pc := pc) (ls := ls) (rest := st0) hrm) hdg hf
/-- behind a call that may throw: the two roads -/
theorem va_callT {S : Type} {RK : Outcome → S → Prop} {E : Nat → S → Prop} {wf : S → va_W} {mc ms : Nat} {st0 : List Value} {a' : Array Value} {A1 A0 : Nat → Prop} {free : Addr → Prop} (hr : va_RunT p l e R s m args below meth c H locs cells slots mc ms (F0 m pc ls st0) rest (kX dC dI wf RK E A1 a') free) (hS : va_S A0 s.heap H locs) (hA : ∀ q, q < H.size → A1 q → A0 q) (hf : ∀ q, free q → A0 q)
    (kk : ∀ (v : Option Value) (u : S) (t : State) (H1 : Heap) (locs1 : List Loc), t.heap = H1 → RK (.returned v) u → kB dC dI wf A1 u t → (∀ q : Nat, q < H.size → ¬ A1 q → H1[q]? = H[q]?) → va_S A0 s.heap H1 locs1 → W p l e R s m args below meth c H1 locs1 (cells + mc) (slots + ms) Q (F0 m (pc + 3) ls (v.toList ++ rest)))
    (ke : ∀ (k : Nat) (u : S) (a : Nat) (t : State) (H1 : Heap) (locs1 : List Loc), t.heap = H1 → E k u → kB dC dI wf A1 u t → xC dC k a H1 → (∀ q : Nat, q < H.size → ¬ A1 q → H1[q]? = H[q]?) → va_S A0 s.heap H1 locs1 → WX p l e R s m args below meth c H1 locs1 (cells + mc) (slots + ms) Q (F0 m pc ls rest) a)
    (hthrow : ∀ (x : Addr) (u : S), ¬ RK (.threw x) u) : W p l e R s m args below meth c H locs cells slots Q (F0 m pc ls st0) := by
  intro T hT X
  obtain ⟨st₀, t, T', L, h0, X', hL, e1, e2, hq⟩ := hr T hT X
  have hS' : ∀ (hz : st₀.heap.size ≤ t.heap.size) (hk : ∀ q : Nat, q < st₀.heap.size → ¬ A1 q → t.heap[q]? = st₀.heap[q]?), va_S A0 s.heap T'.heap (locs ++ L) := by
    intro hz hk
    rw [h0] at hz hk
    exact ⟨Nat.le_trans hS.1 (by rw [e1]; exact hz), fun q h1 h2 => by rw [e1, hk q (Nat.lt_of_lt_of_le h1 hS.1) (fun z => h2 (hA q (Nat.lt_of_lt_of_le h1 hS.1) z))]; exact hS.2.1 q h1 h2, fun q hq => by
      rcases List.mem_append.mp hq with h | h
      · exact hS.2.2 q h
      · exact hf _ (hL q h)⟩
  rcases hq with ⟨v, ⟨hv, hz, hk⟩, st⟩ | ⟨x, ⟨hv, hz, hk⟩, st⟩
  · rcases hv with ⟨u, hp, hb⟩ | ⟨k, u, a, he, -⟩
    · obtain ⟨t2, a1, b1⟩ := kk v u t T'.heap (locs ++ L) e1.symm hp hb (fun q h1 h2 => by rw [e1, hk q (by rw [h0]; exact h1) h2, h0]) (hS' hz hk) T' rfl X'
      exact ⟨t2, st t2 a1, b1⟩
    · cases he
  · rcases hv with ⟨u, hp, hb⟩ | ⟨k, u, a, he, hE, hb, hx⟩
    · exact absurd hp (hthrow x u)
    · cases he
      obtain ⟨t2, a1, b1⟩ := ke k u _ t T'.heap (locs ++ L) e1.symm hE hb (by rw [e1]; exact hx) (fun q h1 h2 => by rw [e1, hk q (by rw [h0]; exact h1) h2, h0]) (hS' hz hk) T' rfl X'
      exact ⟨t2, st t2 a1, b1⟩
theorem k_whole_Tv {S : Type} (cx : Cx p s m args meth c cc own nL ret A dC dI d) {wf : S → va_W} {u : S} {K : S → Prop} {E : Nat → S → Prop} (hw : Wd dC dI A (wf u) s H locs) {mc ms : Nat} {st0 : List Value} {a' : Array Value} (hr : va_RunT p l e R s m args below meth c H locs cells slots mc ms (F0 m pc ls st0) rest (kXv dC dI wf K E (va_A (wf u) H.size) a') (va_A (wf u) H.size))
    (kk : ∀ (u : S) (H : Heap) (locs : List Loc), K u → Wd dC dI A (wf u) s H locs → W p l e R s m args below meth c H locs (cells + mc) (slots + ms) Q (F0 m (pc + 3) ls rest))
    (ke : ∀ (k : Nat) (u : S) (a : Nat) (H : Heap) (locs : List Loc), E k u → Wd dC dI A (wf u) s H locs → xC dC k a H → WX p l e R s m args below meth c H locs (cells + mc) (slots + ms) Q (F0 m pc ls rest) a) : W p l e R s m args below meth c H locs cells slots Q (F0 m pc ls st0) :=
  va_callT hr hw.2.2 (fun q _ h => k_free cx hw q h) (k_free cx hw) (fun v u' t H1 locs1 ht hK hB hk hS => by
    obtain ⟨h1, h2⟩ := hK; cases h1
    exact kk u' H1 locs1 h2 ⟨by rw [← ht]; exact hB.1, hB.2.weaken (fun _ q _ h => k_free cx hw q.1 h), hS⟩) (fun k u' a t H1 locs1 ht hE hB hx hk hS => ke k u' a H1 locs1 hE ⟨by rw [← ht]; exact hB.1, hB.2.weaken (fun _ q _ h => k_free cx hw q.1 h), hS⟩ hx) (fun x u h => by obtain ⟨h, -⟩ := h; cases h)
theorem k_part_Tv {S : Type} (cx : Cx p s m args meth c cc own nL ret A dC dI d) {wf : S → va_W} {u : S} {K : S → Prop} {E : Nat → S → Prop} (hw : Wd dC dI A ws s H locs) (is : List Nat) (hC : is.map (fun i => ws[i]?) = (wf u).map some) (hnd : va_nd is = true) (hadr : ∀ u' : S, (wf u').map Prod.fst = (wf u).map Prod.fst) {ws' : S → va_W} (hb : ∀ u' : S, w_put ws is (wf u') = ws' u') {mc ms : Nat} {st0 : List Value} {a' : Array Value} (hr : va_RunT p l e R s m args below meth c H locs cells slots mc ms (F0 m pc ls st0) rest (kXv dC dI wf K E (va_A (wf u) H.size) a') (va_A (wf u) H.size))
    (kk : ∀ (u : S) (H : Heap) (locs : List Loc), K u → Wd dC dI A (ws' u) s H locs → W p l e R s m args below meth c H locs (cells + mc) (slots + ms) Q (F0 m (pc + 3) ls rest))
    (ke : ∀ (k : Nat) (u : S) (a : Nat) (H : Heap) (locs : List Loc), E k u → Wd dC dI A (ws' u) s H locs → xC dC k a H → WX p l e R s m args below meth c H locs (cells + mc) (slots + ms) Q (F0 m pc ls rest) a) : W p l e R s m args below meth c H locs cells slots Q (F0 m pc ls st0) :=
  va_callT hr hw.2.2 (fun q _ h => k_pfree cx hw hC q h) (k_pfree cx hw hC) (fun v u' t H1 locs1 ht hK hB hk hS => by
    obtain ⟨h1, h2⟩ := hK; cases h1
    exact kk u' H1 locs1 h2 (by rw [← hb u']; exact k_back hw hC hnd (hadr u') hk (by rw [← ht]; exact hB.1) hS)) (fun k u' a t H1 locs1 ht hE hB hx hk hS => ke k u' a H1 locs1 hE (by rw [← hb u']; exact k_back hw hC hnd (hadr u') hk (by rw [← ht]; exact hB.1) hS) hx) (fun x u h => by obtain ⟨h, -⟩ := h; cases h)
theorem k_whole_Ti {S : Type} (cx : Cx p s m args meth c cc own nL ret A dC dI d) {wf : S → va_W} {u : S} {K : Int32 → S → Prop} {E : Nat → S → Prop} (hw : Wd dC dI A (wf u) s H locs) {mc ms : Nat} {st0 : List Value} {a' : Array Value} (hr : va_RunT p l e R s m args below meth c H locs cells slots mc ms (F0 m pc ls st0) rest (kXi dC dI wf K E (va_A (wf u) H.size) a') (va_A (wf u) H.size))
    (kk : ∀ (r : Int32) (u : S) (H : Heap) (locs : List Loc), K r u → Wd dC dI A (wf u) s H locs → W p l e R s m args below meth c H locs (cells + mc) (slots + ms) Q (F0 m (pc + 3) ls (.int r :: rest)))
    (ke : ∀ (k : Nat) (u : S) (a : Nat) (H : Heap) (locs : List Loc), E k u → Wd dC dI A (wf u) s H locs → xC dC k a H → WX p l e R s m args below meth c H locs (cells + mc) (slots + ms) Q (F0 m pc ls rest) a) : W p l e R s m args below meth c H locs cells slots Q (F0 m pc ls st0) :=
  va_callT hr hw.2.2 (fun q _ h => k_free cx hw q h) (k_free cx hw) (fun v u' t H1 locs1 ht hK hB hk hS => by
    obtain ⟨r, h1, h2⟩ := hK; cases h1
    exact kk r u' H1 locs1 h2 ⟨by rw [← ht]; exact hB.1, hB.2.weaken (fun _ q _ h => k_free cx hw q.1 h), hS⟩) (fun k u' a t H1 locs1 ht hE hB hx hk hS => ke k u' a H1 locs1 hE ⟨by rw [← ht]; exact hB.1, hB.2.weaken (fun _ q _ h => k_free cx hw q.1 h), hS⟩ hx) (fun x u h => by obtain ⟨r, h, -⟩ := h; cases h)
theorem k_part_Ti {S : Type} (cx : Cx p s m args meth c cc own nL ret A dC dI d) {wf : S → va_W} {u : S} {K : Int32 → S → Prop} {E : Nat → S → Prop} (hw : Wd dC dI A ws s H locs) (is : List Nat) (hC : is.map (fun i => ws[i]?) = (wf u).map some) (hnd : va_nd is = true) (hadr : ∀ u' : S, (wf u').map Prod.fst = (wf u).map Prod.fst) {ws' : S → va_W} (hb : ∀ u' : S, w_put ws is (wf u') = ws' u') {mc ms : Nat} {st0 : List Value} {a' : Array Value} (hr : va_RunT p l e R s m args below meth c H locs cells slots mc ms (F0 m pc ls st0) rest (kXi dC dI wf K E (va_A (wf u) H.size) a') (va_A (wf u) H.size))
    (kk : ∀ (r : Int32) (u : S) (H : Heap) (locs : List Loc), K r u → Wd dC dI A (ws' u) s H locs → W p l e R s m args below meth c H locs (cells + mc) (slots + ms) Q (F0 m (pc + 3) ls (.int r :: rest)))
    (ke : ∀ (k : Nat) (u : S) (a : Nat) (H : Heap) (locs : List Loc), E k u → Wd dC dI A (ws' u) s H locs → xC dC k a H → WX p l e R s m args below meth c H locs (cells + mc) (slots + ms) Q (F0 m pc ls rest) a) : W p l e R s m args below meth c H locs cells slots Q (F0 m pc ls st0) :=
  va_callT hr hw.2.2 (fun q _ h => k_pfree cx hw hC q h) (k_pfree cx hw hC) (fun v u' t H1 locs1 ht hK hB hk hS => by
    obtain ⟨r, h1, h2⟩ := hK; cases h1
    exact kk r u' H1 locs1 h2 (by rw [← hb u']; exact k_back hw hC hnd (hadr u') hk (by rw [← ht]; exact hB.1) hS)) (fun k u' a t H1 locs1 ht hE hB hx hk hS => ke k u' a H1 locs1 hE (by rw [← hb u']; exact k_back hw hC hnd (hadr u') hk (by rw [← ht]; exact hB.1) hS) hx) (fun x u h => by obtain ⟨r, h, -⟩ := h; cases h)
theorem k_whole_Tl {S : Type} (cx : Cx p s m args meth c cc own nL ret A dC dI d) {wf : S → va_W} {u : S} {K : Int64 → S → Prop} {E : Nat → S → Prop} (hw : Wd dC dI A (wf u) s H locs) {mc ms : Nat} {st0 : List Value} {a' : Array Value} (hr : va_RunT p l e R s m args below meth c H locs cells slots mc ms (F0 m pc ls st0) rest (kXl dC dI wf K E (va_A (wf u) H.size) a') (va_A (wf u) H.size))
    (kk : ∀ (r : Int64) (u : S) (H : Heap) (locs : List Loc), K r u → Wd dC dI A (wf u) s H locs → W p l e R s m args below meth c H locs (cells + mc) (slots + ms) Q (F0 m (pc + 3) ls (.long r :: rest)))
    (ke : ∀ (k : Nat) (u : S) (a : Nat) (H : Heap) (locs : List Loc), E k u → Wd dC dI A (wf u) s H locs → xC dC k a H → WX p l e R s m args below meth c H locs (cells + mc) (slots + ms) Q (F0 m pc ls rest) a) : W p l e R s m args below meth c H locs cells slots Q (F0 m pc ls st0) :=
  va_callT hr hw.2.2 (fun q _ h => k_free cx hw q h) (k_free cx hw) (fun v u' t H1 locs1 ht hK hB hk hS => by
    obtain ⟨r, h1, h2⟩ := hK; cases h1
    exact kk r u' H1 locs1 h2 ⟨by rw [← ht]; exact hB.1, hB.2.weaken (fun _ q _ h => k_free cx hw q.1 h), hS⟩) (fun k u' a t H1 locs1 ht hE hB hx hk hS => ke k u' a H1 locs1 hE ⟨by rw [← ht]; exact hB.1, hB.2.weaken (fun _ q _ h => k_free cx hw q.1 h), hS⟩ hx) (fun x u h => by obtain ⟨r, h, -⟩ := h; cases h)
theorem k_part_Tl {S : Type} (cx : Cx p s m args meth c cc own nL ret A dC dI d) {wf : S → va_W} {u : S} {K : Int64 → S → Prop} {E : Nat → S → Prop} (hw : Wd dC dI A ws s H locs) (is : List Nat) (hC : is.map (fun i => ws[i]?) = (wf u).map some) (hnd : va_nd is = true) (hadr : ∀ u' : S, (wf u').map Prod.fst = (wf u).map Prod.fst) {ws' : S → va_W} (hb : ∀ u' : S, w_put ws is (wf u') = ws' u') {mc ms : Nat} {st0 : List Value} {a' : Array Value} (hr : va_RunT p l e R s m args below meth c H locs cells slots mc ms (F0 m pc ls st0) rest (kXl dC dI wf K E (va_A (wf u) H.size) a') (va_A (wf u) H.size))
    (kk : ∀ (r : Int64) (u : S) (H : Heap) (locs : List Loc), K r u → Wd dC dI A (ws' u) s H locs → W p l e R s m args below meth c H locs (cells + mc) (slots + ms) Q (F0 m (pc + 3) ls (.long r :: rest)))
    (ke : ∀ (k : Nat) (u : S) (a : Nat) (H : Heap) (locs : List Loc), E k u → Wd dC dI A (ws' u) s H locs → xC dC k a H → WX p l e R s m args below meth c H locs (cells + mc) (slots + ms) Q (F0 m pc ls rest) a) : W p l e R s m args below meth c H locs cells slots Q (F0 m pc ls st0) :=
  va_callT hr hw.2.2 (fun q _ h => k_pfree cx hw hC q h) (k_pfree cx hw hC) (fun v u' t H1 locs1 ht hK hB hk hS => by
    obtain ⟨r, h1, h2⟩ := hK; cases h1
    exact kk r u' H1 locs1 h2 (by rw [← hb u']; exact k_back hw hC hnd (hadr u') hk (by rw [← ht]; exact hB.1) hS)) (fun k u' a t H1 locs1 ht hE hB hx hk hS => ke k u' a H1 locs1 hE (by rw [← hb u']; exact k_back hw hC hnd (hadr u') hk (by rw [← ht]; exact hB.1) hS) hx) (fun x u h => by obtain ⟨r, h, -⟩ := h; cases h)
end KC
