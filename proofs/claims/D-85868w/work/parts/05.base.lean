set_option maxRecDepth 100000
abbrev kCl : List vw_C := [(RX1, TX1, 21), (RX2, TX2, 5), (RX3, TX3, 6), (RX4, TX4, 7), (RX6, TX6, 7), (RX7, TX7, 7), (RX8, TX8, 6), (RX9, TX9, 11), (RX10, TX10, 5), (RX11, TX11, 3), (RX12, TX12, 40), (RJ4, TJ4, 6), (RJ5, TJ5, 6), (RJ7, TJ7, 8), (RJ8, TJ8, 6), (RJ9, TJ9, 6)]
def kNf : List (String × Nat × String × String × String) := [("PointLedger$Walk", 21, "PointLedger$Disk", "cells", "[I"), ("PointLedger", 25, "PointLedger$Disk", "cells", "[I"), ("PointLedger", 335, "PointLedger$Disk", "fuse", "I"), ("PointLedger", 141, "PointLedger$Disk", "isDown", "Z"), ("PointLedger", 355, "PointLedger$Disk", "written", "I"), ("PointLedger", 208, "PointLedger$Packer", "cells", "[I"), ("PointLedger", 180, "PointLedger$Packer", "from", "I"), ("PointLedger", 219, "PointLedger$Spans", "first", "[I"), ("PointLedger", 135, "PointLedger$Spans", "last", "[I"), ("PointLedger$Total", 36, "PointLedger$Spans", "least", "[I"), ("PointLedger", 225, "PointLedger$Spans", "least", "[I"), ("PointLedger$Total", 41, "PointLedger$Spans", "greatest", "[I"), ("PointLedger", 228, "PointLedger$Spans", "greatest", "[I"), ("PointLedger$Walk", 80, "PointLedger$Spans", "points", "[S"), ("PointLedger$Total", 43, "PointLedger$Spans", "points", "[S"), ("PointLedger", 222, "PointLedger$Spans", "points", "[S"), ("PointLedger$Total", 47, "PointLedger$Spans", "sums", "[J"), ("PointLedger", 231, "PointLedger$Spans", "sums", "[J"), ("PointLedger$Walk", 66, "PointLedger$Index", "spans", "LPointLedger$Spans;"), ("PointLedger", 122, "PointLedger$Index", "spans", "LPointLedger$Spans;"), ("PointLedger", 215, "PointLedger$Index", "series", "[B"), ("PointLedger$Walk", 76, "PointLedger$Index", "place", "[C"), ("PointLedger", 197, "PointLedger$Index", "place", "[C"), ("PointLedger", 189, "PointLedger$Index", "length", "[S"), ("PointLedger", 177, "PointLedger$Index", "waits", "[I"), ("PointLedger", 168, "PointLedger$Index", "many", "I"), ("PointLedger$Walk", 48, "PointLedger$Index", "begins", "[I"), ("PointLedger", 116, "PointLedger$Index", "begins", "[I"), ("PointLedger", 327, "PointLedger$Walk", "isAt", "Z"), ("PointLedger", 304, "PointLedger$Total", "many", "I"), ("PointLedger", 314, "PointLedger$Total", "least", "I"), ("PointLedger", 316, "PointLedger$Total", "greatest", "I"), ("PointLedger", 318, "PointLedger$Total", "sum", "J"), ("PointLedger$Walk", 109, "PointLedger$Head", "times", "[I"), ("PointLedger", 132, "PointLedger$Head", "times", "[I"), ("PointLedger$Walk", 112, "PointLedger$Head", "values", "[I"), ("PointLedger", 250, "PointLedger$Head", "values", "[I"), ("PointLedger$Walk", 104, "PointLedger$Head", "many", "I"), ("PointLedger", 129, "PointLedger$Head", "many", "I"), ("PointLedger$Walk", 15, "PointLedger", "disk", "LPointLedger$Disk;"), ("PointLedger$Walk", 100, "PointLedger", "heads", "[LPointLedger$Head;"), ("PointLedger$Walk", 44, "PointLedger", "now", "LPointLedger$Index;")]
def kNm : List (String × Nat × MethodName) := [("PointLedger", 11, ⟨"PointLedger$Disk", "<init>", "()V"⟩), ("PointLedger", 18, ⟨"PointLedger$Packer", "<init>", "()V"⟩), ("PointLedger$Unpacker", 1, ⟨"PointLedger$Points", "<init>", "()V"⟩), ("PointLedger", 38, ⟨"PointLedger$Index", "<init>", "()V"⟩), ("PointLedger", 64, ⟨"PointLedger$Walk", "<init>", "(LPointLedger;)V"⟩), ("PointLedger$Walk", 7, ⟨"PointLedger$Points", "<init>", "()V"⟩), ("PointLedger", 73, ⟨"PointLedger$Total", "<init>", "(LPointLedger;)V"⟩), ("PointLedger", 103, ⟨"PointLedger$Head", "<init>", "()V"⟩)]
def kCa : List (String × String) := [("PointLedger$Cut", "PointLedger$Cut"), ("java/lang/ArrayIndexOutOfBoundsException", "java/lang/ArrayIndexOutOfBoundsException"), ("java/lang/NullPointerException", "java/lang/NullPointerException"), ("java/lang/RuntimeException", "java/lang/Throwable"), ("java/lang/IllegalStateException", "java/lang/IllegalStateException"), ("java/lang/IndexOutOfBoundsException", "java/lang/IndexOutOfBoundsException"), ("java/util/NoSuchElementException", "java/util/NoSuchElementException"), ("java/lang/ArrayIndexOutOfBoundsException", "java/lang/IndexOutOfBoundsException")]
def kNc : List (String × String) := [("PointLedger", "PointLedger$Cut"), ("PointLedger$Disk", "PointLedger$Cut"), ("PointLedger$Packer", "PointLedger$Cut"), ("PointLedger$Unpacker", "PointLedger$Cut"), ("PointLedger$Index", "PointLedger$Cut"), ("PointLedger$Spans", "PointLedger$Cut"), ("PointLedger$Walk", "PointLedger$Cut"), ("PointLedger$Total", "PointLedger$Cut"), ("PointLedger$Head", "PointLedger$Cut"), ("PointLedgerModel", "PointLedger$Cut"), ("java/lang/ArrayIndexOutOfBoundsException", "PointLedger$Cut"), ("java/lang/NullPointerException", "PointLedger$Cut"), ("java/lang/IllegalStateException", "PointLedger$Cut"), ("java/lang/IndexOutOfBoundsException", "PointLedger$Cut"), ("java/util/NoSuchElementException", "PointLedger$Cut"), ("PointLedger", "java/lang/ArrayIndexOutOfBoundsException"), ("PointLedger$Disk", "java/lang/ArrayIndexOutOfBoundsException"), ("PointLedger$Cut", "java/lang/ArrayIndexOutOfBoundsException"), ("PointLedger$Packer", "java/lang/ArrayIndexOutOfBoundsException"), ("PointLedger$Unpacker", "java/lang/ArrayIndexOutOfBoundsException"), ("PointLedger$Index", "java/lang/ArrayIndexOutOfBoundsException"), ("PointLedger$Spans", "java/lang/ArrayIndexOutOfBoundsException"), ("PointLedger$Walk", "java/lang/ArrayIndexOutOfBoundsException"), ("PointLedger$Total", "java/lang/ArrayIndexOutOfBoundsException"), ("PointLedger$Head", "java/lang/ArrayIndexOutOfBoundsException"), ("PointLedgerModel", "java/lang/ArrayIndexOutOfBoundsException"), ("java/lang/NullPointerException", "java/lang/ArrayIndexOutOfBoundsException"), ("java/lang/IllegalStateException", "java/lang/ArrayIndexOutOfBoundsException"), ("java/lang/IndexOutOfBoundsException", "java/lang/ArrayIndexOutOfBoundsException"), ("java/util/NoSuchElementException", "java/lang/ArrayIndexOutOfBoundsException"), ("PointLedger", "java/lang/NullPointerException"), ("PointLedger$Disk", "java/lang/NullPointerException"), ("PointLedger$Cut", "java/lang/NullPointerException"), ("PointLedger$Packer", "java/lang/NullPointerException"), ("PointLedger$Unpacker", "java/lang/NullPointerException"), ("PointLedger$Index", "java/lang/NullPointerException"), ("PointLedger$Spans", "java/lang/NullPointerException"), ("PointLedger$Walk", "java/lang/NullPointerException"), ("PointLedger$Total", "java/lang/NullPointerException"), ("PointLedger$Head", "java/lang/NullPointerException"), ("PointLedgerModel", "java/lang/NullPointerException"), ("java/lang/ArrayIndexOutOfBoundsException", "java/lang/NullPointerException"), ("java/lang/IllegalStateException", "java/lang/NullPointerException"), ("java/lang/IndexOutOfBoundsException", "java/lang/NullPointerException"), ("java/util/NoSuchElementException", "java/lang/NullPointerException"), ("PointLedger", "java/lang/IllegalStateException"), ("PointLedger$Disk", "java/lang/IllegalStateException"), ("PointLedger$Cut", "java/lang/IllegalStateException"), ("PointLedger$Packer", "java/lang/IllegalStateException"), ("PointLedger$Unpacker", "java/lang/IllegalStateException"), ("PointLedger$Index", "java/lang/IllegalStateException"), ("PointLedger$Spans", "java/lang/IllegalStateException"), ("PointLedger$Walk", "java/lang/IllegalStateException"), ("PointLedger$Total", "java/lang/IllegalStateException"), ("PointLedger$Head", "java/lang/IllegalStateException"), ("PointLedgerModel", "java/lang/IllegalStateException"), ("java/lang/ArrayIndexOutOfBoundsException", "java/lang/IllegalStateException"), ("java/lang/NullPointerException", "java/lang/IllegalStateException"), ("java/lang/IndexOutOfBoundsException", "java/lang/IllegalStateException"), ("java/util/NoSuchElementException", "java/lang/IllegalStateException"), ("PointLedger", "java/lang/IndexOutOfBoundsException"), ("PointLedger$Disk", "java/lang/IndexOutOfBoundsException"), ("PointLedger$Cut", "java/lang/IndexOutOfBoundsException"), ("PointLedger$Packer", "java/lang/IndexOutOfBoundsException"), ("PointLedger$Unpacker", "java/lang/IndexOutOfBoundsException"), ("PointLedger$Index", "java/lang/IndexOutOfBoundsException"), ("PointLedger$Spans", "java/lang/IndexOutOfBoundsException"), ("PointLedger$Walk", "java/lang/IndexOutOfBoundsException"), ("PointLedger$Total", "java/lang/IndexOutOfBoundsException"), ("PointLedger$Head", "java/lang/IndexOutOfBoundsException"), ("PointLedgerModel", "java/lang/IndexOutOfBoundsException"), ("java/lang/NullPointerException", "java/lang/IndexOutOfBoundsException"), ("java/lang/IllegalStateException", "java/lang/IndexOutOfBoundsException"), ("java/util/NoSuchElementException", "java/lang/IndexOutOfBoundsException"), ("PointLedger", "java/util/NoSuchElementException"), ("PointLedger$Disk", "java/util/NoSuchElementException"), ("PointLedger$Cut", "java/util/NoSuchElementException"), ("PointLedger$Packer", "java/util/NoSuchElementException"), ("PointLedger$Unpacker", "java/util/NoSuchElementException"), ("PointLedger$Index", "java/util/NoSuchElementException"), ("PointLedger$Spans", "java/util/NoSuchElementException"), ("PointLedger$Walk", "java/util/NoSuchElementException"), ("PointLedger$Total", "java/util/NoSuchElementException"), ("PointLedger$Head", "java/util/NoSuchElementException"), ("PointLedgerModel", "java/util/NoSuchElementException"), ("java/lang/ArrayIndexOutOfBoundsException", "java/util/NoSuchElementException"), ("java/lang/NullPointerException", "java/util/NoSuchElementException"), ("java/lang/IllegalStateException", "java/util/NoSuchElementException"), ("java/lang/IndexOutOfBoundsException", "java/util/NoSuchElementException")]
def kDe : List MethodName := [⟨"java/lang/Exception", "<init>", "()V"⟩, ⟨"java/lang/Exception", "<init>", "(Ljava/lang/String;)V"⟩, ⟨"java/lang/Throwable", "<init>", "()V"⟩, ⟨"java/lang/Throwable", "<init>", "(Ljava/lang/String;)V"⟩, ⟨"java/lang/Throwable", "fillInStackTrace", "()Ljava/lang/Throwable;"⟩, ⟨"java/lang/IndexOutOfBoundsException", "<init>", "()V"⟩, ⟨"java/lang/IndexOutOfBoundsException", "<init>", "(Ljava/lang/String;)V"⟩, ⟨"java/lang/RuntimeException", "<init>", "()V"⟩, ⟨"java/lang/RuntimeException", "<init>", "(Ljava/lang/String;)V"⟩]
/-! ===== own rows: states, environment, bundles ===== -/
set_option maxRecDepth 100000
/-- an object's state: int fields, int-like arrays, long fields, long arrays, by field number -/
abbrev St : Type := (Nat → Int32) × (Nat → Nat → Int32) × (Nat → Int64) × (Nat → Nat → Int64)
def st_I (a : St) (k : Nat) (v : Int32) : St := (upd a.1 k v, a.2)
def st_A (a : St) (k : Nat) (f : Nat → Int32) : St := (a.1, va_up a.2.1 k f, a.2.2)
def st_L (a : St) (k : Nat) (v : Int64) : St := (a.1, a.2.1, vp_updL a.2.2.1 k v, a.2.2.2)
def st_B (a : St) (k : Nat) (f : Nat → Int64) : St := (a.1, a.2.1, a.2.2.1, va_up a.2.2.2 k f)
/-- the component: objects by number, heads by series -/
abbrev PS : Type := (Nat → St) × (Nat → St)
def ps_O (u : PS) (o : Nat) (a : St) : PS := (va_up u.1 o a, u.2)
def ps_H (u : PS) (s : Nat) (a : St) : PS := (u.1, va_up u.2 s a)
def ps_I (u : PS) (o k : Nat) (v : Int32) : PS := (va_up u.1 o (st_I (u.1 o) k v), u.2)
def ps_A (u : PS) (o k : Nat) (f : Nat → Int32) : PS := (va_up u.1 o (st_A (u.1 o) k f), u.2)
def ps_L (u : PS) (o k : Nat) (v : Int64) : PS := (va_up u.1 o (st_L (u.1 o) k v), u.2)
def ps_B (u : PS) (o k : Nat) (f : Nat → Int64) : PS := (va_up u.1 o (st_B (u.1 o) k f), u.2)
def ps_HI (u : PS) (s k : Nat) (v : Int32) : PS := (u.1, va_up u.2 s (st_I (u.2 s) k v))
def ps_HA (u : PS) (s k : Nat) (f : Nat → Int32) : PS := (u.1, va_up u.2 s (st_A (u.2 s) k f))
def pb_I (u : PS × Bool) (o k : Nat) (v : Int32) : PS × Bool := (ps_I u.1 o k v, u.2)
def pb_A (u : PS × Bool) (o k : Nat) (f : Nat → Int32) : PS × Bool := (ps_A u.1 o k f, u.2)
def pb_L (u : PS × Bool) (o k : Nat) (v : Int64) : PS × Bool := (ps_L u.1 o k v, u.2)
def pb_B (u : PS × Bool) (o k : Nat) (f : Nat → Int64) : PS × Bool := (ps_B u.1 o k f, u.2)
def pb_O (u : PS × Bool) (o : Nat) (a : St) : PS × Bool := (ps_O u.1 o a, u.2)
def pb_H (u : PS × Bool) (s : Nat) (a : St) : PS × Bool := (ps_H u.1 s a, u.2)
def pb_HI (u : PS × Bool) (s k : Nat) (v : Int32) : PS × Bool := (ps_HI u.1 s k v, u.2)
def p1_I (u : St × St) (k : Nat) (v : Int32) : St × St := (st_I u.1 k v, u.2)
def p1_A (u : St × St) (k : Nat) (f : Nat → Int32) : St × St := (st_A u.1 k f, u.2)
def p2_I (u : St × St) (k : Nat) (v : Int32) : St × St := (u.1, st_I u.2 k v)
def p2_A (u : St × St) (k : Nat) (f : Nat → Int32) : St × St := (u.1, st_A u.2 k f)
def p1_O (u : St × St) (a : St) : St × St := (a, u.2)
def p2_O (u : St × St) (a : St) : St × St := (u.1, a)
/-- the addresses, the two indexes changed about or not -/
def sw_A (b : Bool) (z : Nat → Nat → Nat) (o : Nat) : Nat → Nat := match o with
  | 4 => bif b then z 6 else z 4
  | 5 => bif b then z 7 else z 5
  | 6 => bif b then z 4 else z 6
  | 7 => bif b then z 5 else z 7
  | o => z o
def sw_S (u : Nat → St) (o : Nat) : St := match o with
  | 4 => u 6
  | 5 => u 7
  | 6 => u 4
  | 7 => u 5
  | o => u o
def cu_R (f : Int32) (a : Nat) : Value := if f = 0 then .null else .ref a
/-- an int that is a boolean -/
def ok_Z (v : Int32) : Prop := v = 0 ∨ v = 1
theorem ok_Zn {v : Int32} (h : ok_Z v) : narrow .boolean (.int v) = .int v := by rcases h with rfl | rfl <;> rfl
theorem ok_Zf {v : Int32} (h : ok_Z v) : fits .boolean (.int v) = true := by rcases h with rfl | rfl <;> rfl
abbrev kTys (d : Nat → ClassId) : List (ClassId × FieldType) := [(d 0, .int), (d 1, .short), (d 2, .long), (d 3, .byte), (d 4, .char), (d 5, .boolean), (d 6, .object "PointLedger$Head")]
/-- what the tables say all through a run, beyond the words of lw_all -/
def kE (dC : Nat → ClassId) (dI : Nat → Nat → Nat) (d : Nat → ClassId) (U : State) : Prop :=
  va_K (dC, dI) kCl (kTys d) U ∧ (∀ q ∈ kNf, va_Nw (.fieldLinkNest q.1 q.2.1 q.2.2.1 q.2.2.2.1 q.2.2.2.2 "PointLedger") U) ∧ (∀ q ∈ kNm, va_Nw (.methodLinkNest q.1 q.2.1 q.2.2 "PointLedger") U) ∧ (∀ q ∈ kCa, va_Nw (.castable q.1 q.2) U) ∧ (∀ q ∈ kNc, va_Nc q.1 q.2 U) ∧ (∀ x ∈ kDe, va_Nw (.declares x) U) ∧ va_AO "PointLedger$Head" U
theorem kE.warm {dC : Nat → ClassId} {dI : Nat → Nat → Nat} {d : Nat → ClassId} {s U : State} (hW : s.WarmedH U.vm) (h : kE dC dI d s) : kE dC dI d U :=
  ⟨va_K.moved hW.alike h.1, fun q hq => va_Nw.warmF hW (h.2.1 q hq), fun q hq => va_Nw.warmM hW (h.2.2.1 q hq), fun q hq => va_Nw.warmC hW (h.2.2.2.1 q hq), fun q hq => va_Nc.moved hW.alike (h.2.2.2.2.1 q hq), fun x hx => va_Nw.warmD hW (h.2.2.2.2.2.1 x hx), va_AO.moved hW.alike h.2.2.2.2.2.2⟩
/-- what the statics of Throwable hold: a fact of the heap -/
def kSt : List (String × String) := [("UNASSIGNED_STACK", "[Ljava/lang/StackTraceElement;"), ("SUPPRESSED_SENTINEL", "Ljava/util/List;")]
def kS (U : State) : Prop := ∀ q ∈ kSt, ∀ a : Array Value, (Cond.laysStatic "java/lang/Throwable" q.1 q.2).before a U = true ∧ (Cond.isRef (.static "java/lang/Throwable" q.1 q.2)).before a U = true
theorem kS_one {s U : State} {n d : String} {a0 : Array Value} (hvm : s.vm.Alike U.vm) (hk : ∀ (a : Nat) (cell : Cell), s.heap[a]? = some cell → cell.vm.isStatics = true → U.heap[a]? = some cell) (h1 : (Cond.laysStatic "java/lang/Throwable" n d).before a0 s = true) (h2 : (Cond.isRef (.static "java/lang/Throwable" n d)).before a0 s = true) (a1 : Array Value) :
    (Cond.laysStatic "java/lang/Throwable" n d).before a1 U = true ∧ (Cond.isRef (.static "java/lang/Throwable" n d)).before a1 U = true := by
  obtain ⟨c, k, i, f, a, cell, hc, hi, hst, ha, hcell, hs, hcls, hlt, hty⟩ := Cond.laysStatic_spec h1
  obtain ⟨u, hu⟩ := Cond.staticRefV hi hst ha hcell hs h2
  obtain ⟨k', hi', hek⟩ := State.fieldFound?_setVm hvm hi
  have hi' : U.fieldFound? "java/lang/Throwable" n d = some (c, k', i, f) := hi'
  have ha' : k'.statics = some a := by rw [hek]; exact ha
  have hc' := hk a cell hcell hs
  refine ⟨Cond.laysStatic_of (s := U) (by rw [hvm.findClass]; exact hc) hi' hst ha' hc' hs hcls hlt (by rw [hek]; exact hty), ?_⟩
  have he : (Term.static "java/lang/Throwable" n d).eval a1 U none [] U = some u.v := by
    simp [Term.eval, State.fieldNamed?, hi', hst, ha', hc', hs, hu]
  obtain ⟨v, hv⟩ := u
  show (Cond.isRef (.static "java/lang/Throwable" n d)).holds a1 U none U [] = true
  simp only [Cond.holds, Cond.value, he]
  cases v <;> first | rfl | (exact absurd hv (by simp [Value.isRef]))
theorem kS_at {s U : State} {A : Nat → Prop} {H : Heap} {locs : List Loc} (h : kS s) (hns : ∀ (q : Nat) (cell : Cell), A q → s.heap[q]? = some cell → cell.vm.isStatics = false) (hS : va_S A s.heap H locs) (hU : U.heap = H) (hW : s.WarmedH U.vm) : kS U := by
  intro q hq a
  obtain ⟨h1, h2⟩ := h q hq a
  refine kS_one hW.alike (fun b cell hb hs => ?_) h1 h2 a
  rw [hU, hS.2.1 b (Array.getElem?_eq_some_iff.mp hb).1 (fun hA => by rw [hns b cell hA hb] at hs; cases hs)]
  exact hb
theorem va_ns {dC : Nat → ClassId} {dI : Nat → Nat → Nat} {ws : va_W} {s : State} (hP : va_P (dC, dI) kCl ws s.heap) : ∀ (q : Nat) (cell : Cell), va_A ws s.heap.size q → s.heap[q]? = some cell → cell.vm.isStatics = false := by
  intro q cell hA hc
  rcases hA with ⟨k, e, hk⟩ | h
  · have h := hP k (q, e) hk
    unfold va_at at h
    cases e with
    | inl a =>
      simp only at h
      rw [hc] at h
      cases h
      unfold vp_cell
      split <;> rfl
    | inr o =>
      obtain ⟨r, -, h⟩ := h
      obtain ⟨cell', h1, -, h2, -⟩ := h
      cases hc.symm.trans h1
      rw [h2]
      rfl
  · rw [Array.getElem?_eq_none h] at hc
    cases hc
/-- a walk's fixed facts -/
def Cx (p : Program) (s : State) (m : MethodId) (args : Array Value) (meth : Method) (c : Code) (cc : ByteArray) (own : String) (nL : Nat) (ret : Option FieldType) (A : Nat → Prop) (dC : Nat → ClassId) (dI : Nat → Nat → Nat) (d : Nat → ClassId) : Prop :=
  p.tables.exec = Jvm.exec ∧ c.code = cc ∧ c.maxLocals = nL ∧ s.vm.findClass own = some m.cls ∧ (∀ w ∈ lw_all, w.before args s = true) ∧ kE dC dI d s ∧ (∀ q : Nat, s.heap.size ≤ q → A q) ∧ meth.locks = false ∧ meth.sig.returnType = ret ∧ kS s ∧ (∀ (q : Nat) (cell : Cell), A q → s.heap[q]? = some cell → cell.vm.isStatics = false)
/-- the world holds; its cells are apart and of A; since the start nothing outside A has changed -/
def Wd (dC : Nat → ClassId) (dI : Nat → Nat → Nat) (A : Nat → Prop) (ws : va_W) (s : State) (H : Heap) (locs : List Loc) : Prop :=
  va_P (dC, dI) kCl ws H ∧ va_D A ws ∧ va_S A s.heap H locs
def kP (dC : Nat → ClassId) (dI : Nat → Nat → Nat) (d : Nat → ClassId) (av : List Value) (w : va_W) (sz : Nat) : Array Value → State → Prop :=
  va_Pc av (fun U => U.heap.size = sz ∧ va_P (dC, dI) kCl w U.heap ∧ kE dC dI d U ∧ va_D (fun _ => True) w ∧ kS U)
def kB {S : Type} (dC : Nat → ClassId) (dI : Nat → Nat → Nat) (wf : S → va_W) (A : Nat → Prop) (u : S) (t : State) : Prop := va_P (dC, dI) kCl (wf u) t.heap ∧ va_D A (wf u)
abbrev kQi {S : Type} (dC : Nat → ClassId) (dI : Nat → Nat → Nat) (wf : S → va_W) (K : Int32 → S → Prop) (A : Nat → Prop) : Array Value → State → Outcome → State → Prop := va_Qi K (kB dC dI wf A) A
abbrev kQl {S : Type} (dC : Nat → ClassId) (dI : Nat → Nat → Nat) (wf : S → va_W) (K : Int64 → S → Prop) (A : Nat → Prop) : Array Value → State → Outcome → State → Prop := va_Ql K (kB dC dI wf A) A
abbrev kQv {S : Type} (dC : Nat → ClassId) (dI : Nat → Nat → Nat) (wf : S → va_W) (K : S → Prop) (A : Nat → Prop) : Array Value → State → Outcome → State → Prop := va_Qv K (kB dC dI wf A) A
/-- a contract: from the world wf u, the method comes back with K -/
def kM {S : Type} (l : Launch) (y : MethodName) (b : ByteArray) (nL : Nat) (ret : Option FieldType) (rm : Room) (dC : Nat → ClassId) (dI : Nat → Nat → Nat) (d : Nat → ClassId) (av : List Value) (wf : S → va_W) (u : S) (Q : (Nat → Prop) → Array Value → State → Outcome → State → Prop) (mc ms : Nat) : Prop :=
  ∀ sz : Nat, Met l y (ws_ y b nL ret) rm (kP dC dI d av (wf u) sz) (Q (va_A (wf u) sz)) mc ms (va_A (wf u) sz)
theorem kM_start {S : Type} {l : Launch} {y : MethodName} {b : ByteArray} {nL : Nat} {ret : Option FieldType} {rm : Room} {dC : Nat → ClassId} {dI : Nat → Nat → Nat} {d : Nat → ClassId} {av : List Value} {wf : S → va_W} {u : S} {Q : (Nat → Prop) → Array Value → State → Outcome → State → Prop} {mc ms : Nat} (hy : plainName y.cls = true) (hlen : (lg_sl av).length ≤ nL)
    (body : ∀ (p : Program) (e : Env) (s : State) (m : MethodId) (below : List Frame) (meth : Method) (c : Code) (A : Nat → Prop) (ls : Array Slot), Cx p s m av.toArray meth c b y.cls nL ret A dC dI d → meth.name = y.name → Wd dC dI A (wf u) s s.heap [] → lv_has ls nL (lv_args 0 av) →
      W p l e rm s m av.toArray below meth c s.heap [] 0 0 (MQ below (Q A) av.toArray s mc ms A) (F0 m 0 ls [])) : kM l y b nL ret rm dC dI d av wf u Q mc ms := by
  intro sz
  refine Met.ofW (cc := b) (maxL := nL) (ret := ret) hy rfl ?_
  intro p e s m args below meth c s₁ B hml hv
  obtain ⟨rfl, hsz, hP, hE, hD0, hkS⟩ := hv
  have hts := atoms_spec (ws := ws_ y b nL ret) B.pre
  subst hsz
  have hD := hD0.self (sz := s.heap.size)
  have hl := lv_entry av (n := nL) hlen
  rw [lg_entry_eq]
  generalize (lg_sl av ++ List.replicate (nL - (lg_sl av).length) Slot.unset).toArray = ls at hl ⊢
  exact body p e s m below meth c _ ls ⟨B.exec, B.bytes, hml, findClass_of_methodNamed B.named, fun w h => hts w (List.mem_cons_of_mem _ h), hE, fun q h => Or.inr h, B.notSynchronized, B.returns, hkS, va_ns hP⟩ (name_of_methodNamed B.named B.method).1 ⟨hP, hD, va_S.rf⟩ hl
/-- a place of a world that a state lays: how it is read, what a write makes of the state -/
def LnI {S : Type} (wf : S → va_W) (q0 ci k : Nat) (a : S → Nat) (get : S → Int32) (set : S → Int32 → S) : Prop := ∀ u : S, ∃ fs : List Value, (wf u)[q0]? = some (a u, .inr (ci, fs)) ∧ fs[k]? = some (.int (get u)) ∧ k < fs.length ∧ ∀ v : Int32, (wf u).set q0 (a u, .inr (ci, fs.set k (.int v))) = wf (set u v)
def LnJ {S : Type} (wf : S → va_W) (q0 ci k : Nat) (a : S → Nat) (get : S → Int64) (set : S → Int64 → S) : Prop := ∀ u : S, ∃ fs : List Value, (wf u)[q0]? = some (a u, .inr (ci, fs)) ∧ fs[k]? = some (.long (get u)) ∧ k < fs.length ∧ ∀ v : Int64, (wf u).set q0 (a u, .inr (ci, fs.set k (.long v))) = wf (set u v)
def LnR {S : Type} (wf : S → va_W) (q0 ci k : Nat) (a : S → Nat) (val : S → Value) : Prop := ∀ u : S, ∃ fs : List Value, (wf u)[q0]? = some (a u, .inr (ci, fs)) ∧ fs[k]? = some (val u)
def LnA {S : Type} (wf : S → va_W) (q0 : Nat) (a : S → Nat) (cA : ClassId) (n : Nat) (get : S → Nat → Int32) (set : S → (Nat → Int32) → S) : Prop := ∀ u : S, (wf u)[q0]? = some (a u, .inl (cA, n, .inl (get u))) ∧ ∀ f : Nat → Int32, (wf u).set q0 (a u, .inl (cA, n, .inl f)) = wf (set u f)
def LnB {S : Type} (wf : S → va_W) (q0 : Nat) (a : S → Nat) (cA : ClassId) (n : Nat) (get : S → Nat → Int64) (set : S → (Nat → Int64) → S) : Prop := ∀ u : S, (wf u)[q0]? = some (a u, .inl (cA, n, .inr (.inl (get u)))) ∧ ∀ f : Nat → Int64, (wf u).set q0 (a u, .inl (cA, n, .inr (.inl f))) = wf (set u f)
/-- an array that is only read -/
def LnX {S : Type} (wf : S → va_W) (q0 : Nat) (a : S → Nat) (cA : ClassId) (n : Nat) (get : S → Nat → Int32) : Prop := ∀ u : S, (wf u)[q0]? = some (a u, .inl (cA, n, .inl (get u)))
def LnY {S : Type} (wf : S → va_W) (q0 : Nat) (a : S → Nat) (cA : ClassId) (n : Nat) (get : S → Nat → Int64) : Prop := ∀ u : S, (wf u)[q0]? = some (a u, .inl (cA, n, .inr (.inl (get u))))
section KR
variable {p : Program} {l : Launch} {e : Env} {R : Room} {s : State} {m : MethodId} {args : Array Value} {below : List Frame} {meth : Method} {c : Code} {H : Heap} {locs : List Loc} {cells slots : Nat} {Q : State → Prop}
variable {cc : ByteArray} {own : String} {nL : Nat} {ret : Option FieldType} {A : Nat → Prop} {dC : Nat → ClassId} {dI : Nat → Nat → Nat} {d : Nat → ClassId} {ws : va_W} {pc : Nat} {ls : Array Slot} {rest : List Value}
theorem k_getI {S : Type} (cx : Cx p s m args meth c cc own nL ret A dC dI d) {wf : S → va_W} {u : S} (hw : Wd dC dI A (wf u) s H locs) {q0 ci k : Nat} {a : S → Nat} {get : S → Int32} {set : S → Int32 → S} (L : LnI wf q0 ci k a get set) {ref C : String} {T : u_T} {N index : Nat} (hc : kCl[ci]? = some (C, T, N)) (hin : ∀ w ∈ u_ws C T N, w ∈ lw_all) (hk : k < N) (hlink : Cond.fieldLink own index ref (T k).2.1 (T k).2.2.1 ∈ lw_all) (hsame : ∀ x, s.fieldFound? (T k).1 (T k).2.1 (T k).2.2.1 = some x → s.fieldFound? ref (T k).2.1 (T k).2.2.1 = some x) {v : Int32} (hv : get u = v) (hdg : decode cc pc = .ok (.getfield index, 3))
    (kk : W p l e R s m args below meth c H locs cells slots Q (F0 m (pc + 3) ls (.int v :: rest))) : W p l e R s m args below meth c H locs cells slots Q (F0 m pc ls (.ref (a u) :: rest)) := by
  obtain ⟨fs, h1, h2, -, -⟩ := L u
  subst hv
  exact va_get cx.1 cx.2.1 cx.2.2.2.2.1 hin cx.2.2.2.1 cx.2.2.2.2.2.1.1 hw.1 q0 h1 hc k hk (cx.2.2.2.2.1 _ hlink) hsame h2 hdg kk
theorem k_getIN {S : Type} (cx : Cx p s m args meth c cc own nL ret A dC dI d) {wf : S → va_W} {u : S} (hw : Wd dC dI A (wf u) s H locs) {q0 ci k : Nat} {a : S → Nat} {get : S → Int32} {set : S → Int32 → S} (L : LnI wf q0 ci k a get set) {ref C : String} {T : u_T} {N index : Nat} (hc : kCl[ci]? = some (C, T, N)) (hin : ∀ w ∈ u_ws C T N, w ∈ lw_all) (hk : k < N) (hlink : (Cond.fieldLinkNest own index ref (T k).2.1 (T k).2.2.1 "PointLedger").before args s = true) (hsame : ∀ x, s.fieldFound? (T k).1 (T k).2.1 (T k).2.2.1 = some x → s.fieldFound? ref (T k).2.1 (T k).2.2.1 = some x) {v : Int32} (hv : get u = v) (hdg : decode cc pc = .ok (.getfield index, 3))
    (kk : W p l e R s m args below meth c H locs cells slots Q (F0 m (pc + 3) ls (.int v :: rest))) : W p l e R s m args below meth c H locs cells slots Q (F0 m pc ls (.ref (a u) :: rest)) := by
  obtain ⟨fs, h1, h2, -, -⟩ := L u
  subst hv
  exact va_getN cx.1 cx.2.1 cx.2.2.2.2.1 hin cx.2.2.2.1 cx.2.2.2.2.2.1.1 hw.1 q0 h1 hc k hk hlink hsame h2 hdg kk
theorem k_getJ {S : Type} (cx : Cx p s m args meth c cc own nL ret A dC dI d) {wf : S → va_W} {u : S} (hw : Wd dC dI A (wf u) s H locs) {q0 ci k : Nat} {a : S → Nat} {get : S → Int64} {set : S → Int64 → S} (L : LnJ wf q0 ci k a get set) {ref C : String} {T : u_T} {N index : Nat} (hc : kCl[ci]? = some (C, T, N)) (hin : ∀ w ∈ u_ws C T N, w ∈ lw_all) (hk : k < N) (hlink : Cond.fieldLink own index ref (T k).2.1 (T k).2.2.1 ∈ lw_all) (hsame : ∀ x, s.fieldFound? (T k).1 (T k).2.1 (T k).2.2.1 = some x → s.fieldFound? ref (T k).2.1 (T k).2.2.1 = some x) {v : Int64} (hv : get u = v) (hdg : decode cc pc = .ok (.getfield index, 3))
    (kk : W p l e R s m args below meth c H locs cells slots Q (F0 m (pc + 3) ls (.long v :: rest))) : W p l e R s m args below meth c H locs cells slots Q (F0 m pc ls (.ref (a u) :: rest)) := by
  obtain ⟨fs, h1, h2, -, -⟩ := L u
  subst hv
  exact va_get cx.1 cx.2.1 cx.2.2.2.2.1 hin cx.2.2.2.1 cx.2.2.2.2.2.1.1 hw.1 q0 h1 hc k hk (cx.2.2.2.2.1 _ hlink) hsame h2 hdg kk
theorem k_getJN {S : Type} (cx : Cx p s m args meth c cc own nL ret A dC dI d) {wf : S → va_W} {u : S} (hw : Wd dC dI A (wf u) s H locs) {q0 ci k : Nat} {a : S → Nat} {get : S → Int64} {set : S → Int64 → S} (L : LnJ wf q0 ci k a get set) {ref C : String} {T : u_T} {N index : Nat} (hc : kCl[ci]? = some (C, T, N)) (hin : ∀ w ∈ u_ws C T N, w ∈ lw_all) (hk : k < N) (hlink : (Cond.fieldLinkNest own index ref (T k).2.1 (T k).2.2.1 "PointLedger").before args s = true) (hsame : ∀ x, s.fieldFound? (T k).1 (T k).2.1 (T k).2.2.1 = some x → s.fieldFound? ref (T k).2.1 (T k).2.2.1 = some x) {v : Int64} (hv : get u = v) (hdg : decode cc pc = .ok (.getfield index, 3))
    (kk : W p l e R s m args below meth c H locs cells slots Q (F0 m (pc + 3) ls (.long v :: rest))) : W p l e R s m args below meth c H locs cells slots Q (F0 m pc ls (.ref (a u) :: rest)) := by
  obtain ⟨fs, h1, h2, -, -⟩ := L u
  subst hv
  exact va_getN cx.1 cx.2.1 cx.2.2.2.2.1 hin cx.2.2.2.1 cx.2.2.2.2.2.1.1 hw.1 q0 h1 hc k hk hlink hsame h2 hdg kk
theorem k_getR {S : Type} (cx : Cx p s m args meth c cc own nL ret A dC dI d) {wf : S → va_W} {u : S} (hw : Wd dC dI A (wf u) s H locs) {q0 ci k : Nat} {a : S → Nat} {val : S → Value} (L : LnR wf q0 ci k a val) {ref C : String} {T : u_T} {N index : Nat} (hc : kCl[ci]? = some (C, T, N)) (hin : ∀ w ∈ u_ws C T N, w ∈ lw_all) (hk : k < N) (hlink : Cond.fieldLink own index ref (T k).2.1 (T k).2.2.1 ∈ lw_all) (hsame : ∀ x, s.fieldFound? (T k).1 (T k).2.1 (T k).2.2.1 = some x → s.fieldFound? ref (T k).2.1 (T k).2.2.1 = some x) {v : Value} (hv : val u = v) (hdg : decode cc pc = .ok (.getfield index, 3))
    (kk : W p l e R s m args below meth c H locs cells slots Q (F0 m (pc + 3) ls (v :: rest))) : W p l e R s m args below meth c H locs cells slots Q (F0 m pc ls (.ref (a u) :: rest)) := by
  obtain ⟨fs, h1, h2⟩ := L u
  subst hv
  exact va_get cx.1 cx.2.1 cx.2.2.2.2.1 hin cx.2.2.2.1 cx.2.2.2.2.2.1.1 hw.1 q0 h1 hc k hk (cx.2.2.2.2.1 _ hlink) hsame h2 hdg kk
theorem k_getRN {S : Type} (cx : Cx p s m args meth c cc own nL ret A dC dI d) {wf : S → va_W} {u : S} (hw : Wd dC dI A (wf u) s H locs) {q0 ci k : Nat} {a : S → Nat} {val : S → Value} (L : LnR wf q0 ci k a val) {ref C : String} {T : u_T} {N index : Nat} (hc : kCl[ci]? = some (C, T, N)) (hin : ∀ w ∈ u_ws C T N, w ∈ lw_all) (hk : k < N) (hlink : (Cond.fieldLinkNest own index ref (T k).2.1 (T k).2.2.1 "PointLedger").before args s = true) (hsame : ∀ x, s.fieldFound? (T k).1 (T k).2.1 (T k).2.2.1 = some x → s.fieldFound? ref (T k).2.1 (T k).2.2.1 = some x) {v : Value} (hv : val u = v) (hdg : decode cc pc = .ok (.getfield index, 3))
    (kk : W p l e R s m args below meth c H locs cells slots Q (F0 m (pc + 3) ls (v :: rest))) : W p l e R s m args below meth c H locs cells slots Q (F0 m pc ls (.ref (a u) :: rest)) := by
  obtain ⟨fs, h1, h2⟩ := L u
  subst hv
  exact va_getN cx.1 cx.2.1 cx.2.2.2.2.1 hin cx.2.2.2.1 cx.2.2.2.2.2.1.1 hw.1 q0 h1 hc k hk hlink hsame h2 hdg kk
theorem k_putI {S : Type} (cx : Cx p s m args meth c cc own nL ret A dC dI d) {wf : S → va_W} {u : S} (hw : Wd dC dI A (wf u) s H locs) {q0 ci k : Nat} {a : S → Nat} {get : S → Int32} {set : S → Int32 → S} (L : LnI wf q0 ci k a get set) {ref C : String} {T : u_T} {N index : Nat} (hc : kCl[ci]? = some (C, T, N)) (hin : ∀ w ∈ u_ws C T N, w ∈ lw_all) (ty0 : Nat → FieldType) (hty : ∀ k, k < N → parseFieldDescriptor (T k).2.2.1 = some (ty0 k)) (hnm : ∀ a, a < N → ∀ b, b < N → a ≠ b → (T a).2.1 ≠ (T b).2.1) (hk : k < N) (hlink : Cond.fieldLink own index ref (T k).2.1 (T k).2.2.1 ∈ lw_all) (hsame : ∀ x, s.fieldFound? (T k).1 (T k).2.1 (T k).2.2.1 = some x → s.fieldFound? ref (T k).2.1 (T k).2.2.1 = some x) (hfin : (T k).2.2.2 = false) {v : Int32} (hn : narrow (ty0 k) (.int v) = .int v) (hfit : fits (ty0 k) (.int v) = true) (hdg : decode cc pc = .ok (.putfield index, 3))
    (kk : ∀ (H : Heap) (locs : List Loc), Wd dC dI A (wf (set u v)) s H locs → W p l e R s m args below meth c H locs cells slots Q (F0 m (pc + 3) ls rest)) : W p l e R s m args below meth c H locs cells slots Q (F0 m pc ls (.int v :: .ref (a u) :: rest)) := by
  obtain ⟨fs, h1, -, h3, h4⟩ := L u
  exact va_put cx.1 cx.2.1 cx.2.2.2.2.1 hin ty0 hty hnm cx.2.2.2.1 cx.2.2.2.2.2.1.1 hw.1 hw.2.1 hw.2.2 q0 h1 hc k hk (cx.2.2.2.2.1 _ hlink) hsame hfin (hty k hk) hn hfit h3 hdg (fun H1 locs1 g1 g2 g3 => kk H1 locs1 ⟨by rw [← h4 v]; exact g1, by rw [← h4 v]; exact g2, g3⟩)
theorem k_putIN {S : Type} (cx : Cx p s m args meth c cc own nL ret A dC dI d) {wf : S → va_W} {u : S} (hw : Wd dC dI A (wf u) s H locs) {q0 ci k : Nat} {a : S → Nat} {get : S → Int32} {set : S → Int32 → S} (L : LnI wf q0 ci k a get set) {ref C : String} {T : u_T} {N index : Nat} (hc : kCl[ci]? = some (C, T, N)) (hin : ∀ w ∈ u_ws C T N, w ∈ lw_all) (ty0 : Nat → FieldType) (hty : ∀ k, k < N → parseFieldDescriptor (T k).2.2.1 = some (ty0 k)) (hnm : ∀ a, a < N → ∀ b, b < N → a ≠ b → (T a).2.1 ≠ (T b).2.1) (hk : k < N) (hlink : (Cond.fieldLinkNest own index ref (T k).2.1 (T k).2.2.1 "PointLedger").before args s = true) (hsame : ∀ x, s.fieldFound? (T k).1 (T k).2.1 (T k).2.2.1 = some x → s.fieldFound? ref (T k).2.1 (T k).2.2.1 = some x) (hfin : (T k).2.2.2 = false) {v : Int32} (hn : narrow (ty0 k) (.int v) = .int v) (hfit : fits (ty0 k) (.int v) = true) (hdg : decode cc pc = .ok (.putfield index, 3))
    (kk : ∀ (H : Heap) (locs : List Loc), Wd dC dI A (wf (set u v)) s H locs → W p l e R s m args below meth c H locs cells slots Q (F0 m (pc + 3) ls rest)) : W p l e R s m args below meth c H locs cells slots Q (F0 m pc ls (.int v :: .ref (a u) :: rest)) := by
  obtain ⟨fs, h1, -, h3, h4⟩ := L u
  exact va_putN cx.1 cx.2.1 cx.2.2.2.2.1 hin ty0 hty hnm cx.2.2.2.1 cx.2.2.2.2.2.1.1 hw.1 hw.2.1 hw.2.2 q0 h1 hc k hk hlink hsame hfin (hty k hk) hn hfit h3 hdg (fun H1 locs1 g1 g2 g3 => kk H1 locs1 ⟨by rw [← h4 v]; exact g1, by rw [← h4 v]; exact g2, g3⟩)
theorem k_putJ {S : Type} (cx : Cx p s m args meth c cc own nL ret A dC dI d) {wf : S → va_W} {u : S} (hw : Wd dC dI A (wf u) s H locs) {q0 ci k : Nat} {a : S → Nat} {get : S → Int64} {set : S → Int64 → S} (L : LnJ wf q0 ci k a get set) {ref C : String} {T : u_T} {N index : Nat} (hc : kCl[ci]? = some (C, T, N)) (hin : ∀ w ∈ u_ws C T N, w ∈ lw_all) (ty0 : Nat → FieldType) (hty : ∀ k, k < N → parseFieldDescriptor (T k).2.2.1 = some (ty0 k)) (hnm : ∀ a, a < N → ∀ b, b < N → a ≠ b → (T a).2.1 ≠ (T b).2.1) (hk : k < N) (hlink : Cond.fieldLink own index ref (T k).2.1 (T k).2.2.1 ∈ lw_all) (hsame : ∀ x, s.fieldFound? (T k).1 (T k).2.1 (T k).2.2.1 = some x → s.fieldFound? ref (T k).2.1 (T k).2.2.1 = some x) (hfin : (T k).2.2.2 = false) {v : Int64} (hn : narrow (ty0 k) (.long v) = .long v) (hfit : fits (ty0 k) (.long v) = true) (hdg : decode cc pc = .ok (.putfield index, 3))
    (kk : ∀ (H : Heap) (locs : List Loc), Wd dC dI A (wf (set u v)) s H locs → W p l e R s m args below meth c H locs cells slots Q (F0 m (pc + 3) ls rest)) : W p l e R s m args below meth c H locs cells slots Q (F0 m pc ls (.long v :: .ref (a u) :: rest)) := by
  obtain ⟨fs, h1, -, h3, h4⟩ := L u
  exact va_put cx.1 cx.2.1 cx.2.2.2.2.1 hin ty0 hty hnm cx.2.2.2.1 cx.2.2.2.2.2.1.1 hw.1 hw.2.1 hw.2.2 q0 h1 hc k hk (cx.2.2.2.2.1 _ hlink) hsame hfin (hty k hk) hn hfit h3 hdg (fun H1 locs1 g1 g2 g3 => kk H1 locs1 ⟨by rw [← h4 v]; exact g1, by rw [← h4 v]; exact g2, g3⟩)
theorem k_iald {S : Type} (cx : Cx p s m args meth c cc own nL ret A dC dI d) {wf : S → va_W} {u : S} (hw : Wd dC dI A (wf u) s H locs) {q0 n : Nat} {a : S → Nat} {cA : ClassId} {get : S → Nat → Int32} (L : LnX wf q0 a cA n get) (t0 : Nat) (ht : (kTys d)[t0]? = some (cA, .int)) {f : Nat → Int32} (hf : get u = f) {i : Int32} (hin : vp_in i n) (hdg : decode cc pc = .ok (.iaload, 1))
    (kk : W p l e R s m args below meth c H locs cells slots Q (F0 m (pc + 1) ls (.int (f i.toNatClampNeg) :: rest))) : W p l e R s m args below meth c H locs cells slots Q (F0 m pc ls (.int i :: .ref (a u) :: rest)) := by
  subst hf
  exact va_iald cx.1 cx.2.1 cx.2.2.2.2.2.1.1 hw.1 q0 t0 (L u) ht hin hdg kk
theorem k_iast {S : Type} (cx : Cx p s m args meth c cc own nL ret A dC dI d) {wf : S → va_W} {u : S} (hw : Wd dC dI A (wf u) s H locs) {q0 n : Nat} {a : S → Nat} {cA : ClassId} {get : S → Nat → Int32} {set : S → (Nat → Int32) → S} (L : LnA wf q0 a cA n get set) (t0 : Nat) (ht : (kTys d)[t0]? = some (cA, .int)) {f : Nat → Int32} (hf : get u = f) {i : Int32} {x : Int32} (hin : vp_in i n) (hdg : decode cc pc = .ok (.iastore, 1))
    (kk : ∀ (H : Heap) (locs : List Loc), Wd dC dI A (wf (set u (upd f i.toNatClampNeg x))) s H locs → W p l e R s m args below meth c H locs cells slots Q (F0 m (pc + 1) ls rest)) : W p l e R s m args below meth c H locs cells slots Q (F0 m pc ls (.int x :: .int i :: .ref (a u) :: rest)) := by
  subst hf
  exact va_iast cx.1 cx.2.1 cx.2.2.2.2.2.1.1 hw.1 hw.2.1 hw.2.2 q0 t0 (L u).1 ht hin hdg (fun H1 locs1 g1 g2 g3 => kk H1 locs1 ⟨by rw [← (L u).2]; exact g1, by rw [← (L u).2]; exact g2, g3⟩)
theorem k_bald {S : Type} (cx : Cx p s m args meth c cc own nL ret A dC dI d) {wf : S → va_W} {u : S} (hw : Wd dC dI A (wf u) s H locs) {q0 n : Nat} {a : S → Nat} {cA : ClassId} {get : S → Nat → Int32} (L : LnX wf q0 a cA n get) (t0 : Nat) (ht : (kTys d)[t0]? = some (cA, .byte)) {f : Nat → Int32} (hf : get u = f) {i : Int32} (hin : vp_in i n) (hdg : decode cc pc = .ok (.baload, 1))
    (kk : W p l e R s m args below meth c H locs cells slots Q (F0 m (pc + 1) ls (.int (f i.toNatClampNeg) :: rest))) : W p l e R s m args below meth c H locs cells slots Q (F0 m pc ls (.int i :: .ref (a u) :: rest)) := by
  subst hf
  exact va_bald cx.1 cx.2.1 cx.2.2.2.2.2.1.1 hw.1 q0 t0 (L u) ht hin hdg kk
theorem k_bast {S : Type} (cx : Cx p s m args meth c cc own nL ret A dC dI d) {wf : S → va_W} {u : S} (hw : Wd dC dI A (wf u) s H locs) {q0 n : Nat} {a : S → Nat} {cA : ClassId} {get : S → Nat → Int32} {set : S → (Nat → Int32) → S} (L : LnA wf q0 a cA n get set) (t0 : Nat) (ht : (kTys d)[t0]? = some (cA, .byte)) {f : Nat → Int32} (hf : get u = f) {i : Int32} {x : Int32} (hin : vp_in i n) (hdg : decode cc pc = .ok (.bastore, 1))
    (kk : ∀ (H : Heap) (locs : List Loc), Wd dC dI A (wf (set u (upd f i.toNatClampNeg (vp_nar .byte x)))) s H locs → W p l e R s m args below meth c H locs cells slots Q (F0 m (pc + 1) ls rest)) : W p l e R s m args below meth c H locs cells slots Q (F0 m pc ls (.int x :: .int i :: .ref (a u) :: rest)) := by
  subst hf
  exact va_bast cx.1 cx.2.1 cx.2.2.2.2.2.1.1 hw.1 hw.2.1 hw.2.2 q0 t0 (L u).1 ht hin hdg (fun H1 locs1 g1 g2 g3 => kk H1 locs1 ⟨by rw [← (L u).2]; exact g1, by rw [← (L u).2]; exact g2, g3⟩)
theorem k_zald {S : Type} (cx : Cx p s m args meth c cc own nL ret A dC dI d) {wf : S → va_W} {u : S} (hw : Wd dC dI A (wf u) s H locs) {q0 n : Nat} {a : S → Nat} {cA : ClassId} {get : S → Nat → Int32} (L : LnX wf q0 a cA n get) (t0 : Nat) (ht : (kTys d)[t0]? = some (cA, .boolean)) {f : Nat → Int32} (hf : get u = f) {i : Int32} (hin : vp_in i n) (hdg : decode cc pc = .ok (.baload, 1))
    (kk : W p l e R s m args below meth c H locs cells slots Q (F0 m (pc + 1) ls (.int (f i.toNatClampNeg) :: rest))) : W p l e R s m args below meth c H locs cells slots Q (F0 m pc ls (.int i :: .ref (a u) :: rest)) := by
  subst hf
  exact va_zald cx.1 cx.2.1 cx.2.2.2.2.2.1.1 hw.1 q0 t0 (L u) ht hin hdg kk
theorem k_zast {S : Type} (cx : Cx p s m args meth c cc own nL ret A dC dI d) {wf : S → va_W} {u : S} (hw : Wd dC dI A (wf u) s H locs) {q0 n : Nat} {a : S → Nat} {cA : ClassId} {get : S → Nat → Int32} {set : S → (Nat → Int32) → S} (L : LnA wf q0 a cA n get set) (t0 : Nat) (ht : (kTys d)[t0]? = some (cA, .boolean)) {f : Nat → Int32} (hf : get u = f) {i : Int32} {x : Int32} (hin : vp_in i n) (hdg : decode cc pc = .ok (.bastore, 1))
    (kk : ∀ (H : Heap) (locs : List Loc), Wd dC dI A (wf (set u (upd f i.toNatClampNeg (vp_nar .boolean x)))) s H locs → W p l e R s m args below meth c H locs cells slots Q (F0 m (pc + 1) ls rest)) : W p l e R s m args below meth c H locs cells slots Q (F0 m pc ls (.int x :: .int i :: .ref (a u) :: rest)) := by
  subst hf
  exact va_zast cx.1 cx.2.1 cx.2.2.2.2.2.1.1 hw.1 hw.2.1 hw.2.2 q0 t0 (L u).1 ht hin hdg (fun H1 locs1 g1 g2 g3 => kk H1 locs1 ⟨by rw [← (L u).2]; exact g1, by rw [← (L u).2]; exact g2, g3⟩)
theorem k_cald {S : Type} (cx : Cx p s m args meth c cc own nL ret A dC dI d) {wf : S → va_W} {u : S} (hw : Wd dC dI A (wf u) s H locs) {q0 n : Nat} {a : S → Nat} {cA : ClassId} {get : S → Nat → Int32} (L : LnX wf q0 a cA n get) (t0 : Nat) (ht : (kTys d)[t0]? = some (cA, .char)) {f : Nat → Int32} (hf : get u = f) {i : Int32} (hin : vp_in i n) (hdg : decode cc pc = .ok (.caload, 1))
    (kk : W p l e R s m args below meth c H locs cells slots Q (F0 m (pc + 1) ls (.int (f i.toNatClampNeg) :: rest))) : W p l e R s m args below meth c H locs cells slots Q (F0 m pc ls (.int i :: .ref (a u) :: rest)) := by
  subst hf
  exact va_cald cx.1 cx.2.1 cx.2.2.2.2.2.1.1 hw.1 q0 t0 (L u) ht hin hdg kk
theorem k_cast {S : Type} (cx : Cx p s m args meth c cc own nL ret A dC dI d) {wf : S → va_W} {u : S} (hw : Wd dC dI A (wf u) s H locs) {q0 n : Nat} {a : S → Nat} {cA : ClassId} {get : S → Nat → Int32} {set : S → (Nat → Int32) → S} (L : LnA wf q0 a cA n get set) (t0 : Nat) (ht : (kTys d)[t0]? = some (cA, .char)) {f : Nat → Int32} (hf : get u = f) {i : Int32} {x : Int32} (hin : vp_in i n) (hdg : decode cc pc = .ok (.castore, 1))
    (kk : ∀ (H : Heap) (locs : List Loc), Wd dC dI A (wf (set u (upd f i.toNatClampNeg (vp_nar .char x)))) s H locs → W p l e R s m args below meth c H locs cells slots Q (F0 m (pc + 1) ls rest)) : W p l e R s m args below meth c H locs cells slots Q (F0 m pc ls (.int x :: .int i :: .ref (a u) :: rest)) := by
  subst hf
  exact va_cast cx.1 cx.2.1 cx.2.2.2.2.2.1.1 hw.1 hw.2.1 hw.2.2 q0 t0 (L u).1 ht hin hdg (fun H1 locs1 g1 g2 g3 => kk H1 locs1 ⟨by rw [← (L u).2]; exact g1, by rw [← (L u).2]; exact g2, g3⟩)
theorem k_sald {S : Type} (cx : Cx p s m args meth c cc own nL ret A dC dI d) {wf : S → va_W} {u : S} (hw : Wd dC dI A (wf u) s H locs) {q0 n : Nat} {a : S → Nat} {cA : ClassId} {get : S → Nat → Int32} (L : LnX wf q0 a cA n get) (t0 : Nat) (ht : (kTys d)[t0]? = some (cA, .short)) {f : Nat → Int32} (hf : get u = f) {i : Int32} (hin : vp_in i n) (hdg : decode cc pc = .ok (.saload, 1))
    (kk : W p l e R s m args below meth c H locs cells slots Q (F0 m (pc + 1) ls (.int (f i.toNatClampNeg) :: rest))) : W p l e R s m args below meth c H locs cells slots Q (F0 m pc ls (.int i :: .ref (a u) :: rest)) := by
  subst hf
  exact va_sald cx.1 cx.2.1 cx.2.2.2.2.2.1.1 hw.1 q0 t0 (L u) ht hin hdg kk
theorem k_sast {S : Type} (cx : Cx p s m args meth c cc own nL ret A dC dI d) {wf : S → va_W} {u : S} (hw : Wd dC dI A (wf u) s H locs) {q0 n : Nat} {a : S → Nat} {cA : ClassId} {get : S → Nat → Int32} {set : S → (Nat → Int32) → S} (L : LnA wf q0 a cA n get set) (t0 : Nat) (ht : (kTys d)[t0]? = some (cA, .short)) {f : Nat → Int32} (hf : get u = f) {i : Int32} {x : Int32} (hin : vp_in i n) (hdg : decode cc pc = .ok (.sastore, 1))
    (kk : ∀ (H : Heap) (locs : List Loc), Wd dC dI A (wf (set u (upd f i.toNatClampNeg (vp_nar .short x)))) s H locs → W p l e R s m args below meth c H locs cells slots Q (F0 m (pc + 1) ls rest)) : W p l e R s m args below meth c H locs cells slots Q (F0 m pc ls (.int x :: .int i :: .ref (a u) :: rest)) := by
  subst hf
  exact va_sast cx.1 cx.2.1 cx.2.2.2.2.2.1.1 hw.1 hw.2.1 hw.2.2 q0 t0 (L u).1 ht hin hdg (fun H1 locs1 g1 g2 g3 => kk H1 locs1 ⟨by rw [← (L u).2]; exact g1, by rw [← (L u).2]; exact g2, g3⟩)
theorem k_lald {S : Type} (cx : Cx p s m args meth c cc own nL ret A dC dI d) {wf : S → va_W} {u : S} (hw : Wd dC dI A (wf u) s H locs) {q0 n : Nat} {a : S → Nat} {cA : ClassId} {get : S → Nat → Int64} (L : LnY wf q0 a cA n get) (t0 : Nat) (ht : (kTys d)[t0]? = some (cA, .long)) {f : Nat → Int64} (hf : get u = f) {i : Int32} (hin : vp_in i n) (hdg : decode cc pc = .ok (.laload, 1))
    (kk : W p l e R s m args below meth c H locs cells slots Q (F0 m (pc + 1) ls (.long (f i.toNatClampNeg) :: rest))) : W p l e R s m args below meth c H locs cells slots Q (F0 m pc ls (.int i :: .ref (a u) :: rest)) := by
  subst hf
  exact va_lald cx.1 cx.2.1 cx.2.2.2.2.2.1.1 hw.1 q0 t0 (L u) ht hin hdg kk
theorem k_last {S : Type} (cx : Cx p s m args meth c cc own nL ret A dC dI d) {wf : S → va_W} {u : S} (hw : Wd dC dI A (wf u) s H locs) {q0 n : Nat} {a : S → Nat} {cA : ClassId} {get : S → Nat → Int64} {set : S → (Nat → Int64) → S} (L : LnB wf q0 a cA n get set) (t0 : Nat) (ht : (kTys d)[t0]? = some (cA, .long)) {f : Nat → Int64} (hf : get u = f) {i : Int32} {x : Int64} (hin : vp_in i n) (hdg : decode cc pc = .ok (.lastore, 1))
    (kk : ∀ (H : Heap) (locs : List Loc), Wd dC dI A (wf (set u (vp_updL f i.toNatClampNeg x))) s H locs → W p l e R s m args below meth c H locs cells slots Q (F0 m (pc + 1) ls rest)) : W p l e R s m args below meth c H locs cells slots Q (F0 m pc ls (.long x :: .int i :: .ref (a u) :: rest)) := by
  subst hf
  exact va_last cx.1 cx.2.1 cx.2.2.2.2.2.1.1 hw.1 hw.2.1 hw.2.2 q0 t0 (L u).1 ht hin hdg (fun H1 locs1 g1 g2 g3 => kk H1 locs1 ⟨by rw [← (L u).2]; exact g1, by rw [← (L u).2]; exact g2, g3⟩)
theorem k_alen (cx : Cx p s m args meth c cc own nL ret A dC dI d) (hw : Wd dC dI A ws s H locs) {a : Nat} (q0 t0 : Nat) {cA : ClassId} {x : vp_A} (ha : ws[q0]? = some (a, .inl (cA, x))) {ty : FieldType} (ht : (kTys d)[t0]? = some (cA, ty)) {v : Int32} (hv : Int32.ofNat x.1 = v) (hdg : decode cc pc = .ok (.arraylength, 1))
    (kk : W p l e R s m args below meth c H locs cells slots Q (F0 m (pc + 1) ls (.int v :: rest))) : W p l e R s m args below meth c H locs cells slots Q (F0 m pc ls (.ref a :: rest)) :=
  va_alen cx.1 cx.2.1 cx.2.2.2.2.2.1.1 hw.1 q0 t0 ha ht hv hdg kk
theorem k_max (cx : Cx p s m args meth c cc own nL ret A dC dI d) (hsz : ls.size = nL) {index : Nat} (hlink : Cond.methodLink own index Lib.Math.max.name ∈ lw_all) (hstat : Cond.static Lib.Math.max.name ∈ lw_all) (hini : Cond.initialized "java/lang/Math" ∈ lw_all) (hcode : Cond.code Lib.Math.max.name Lib.Math.max.code 2 (some .int) ∈ lw_all)
    (hR : 1 ≤ R.frames ∧ (rest.map fun v => v.category).sum + 13 ≤ R.locals ∧ cells ≤ R.cells ∧ slots ≤ R.slots) {x y : Int32} (hdg : decode cc pc = .ok (.invokestatic index, 3))
    (kk : W p l e R s m args below meth c H locs cells slots Q (F0 m (pc + 3) ls (.int (if x < y then y else x) :: rest))) : W p l e R s m args below meth c H locs cells slots Q (F0 m pc ls (.int y :: .int x :: rest)) :=
  va_mmax cx.1 cx.2.1 (cx.2.2.1.trans hsz.symm) cx.2.2.2.1 (cx.2.2.2.2.1 _ hlink) (cx.2.2.2.2.1 _ hstat) (cx.2.2.2.2.1 _ hini) (cx.2.2.2.2.1 _ hcode) hR.1 hR.2.1 hR.2.2.1 hR.2.2.2 hdg kk
theorem k_min (cx : Cx p s m args meth c cc own nL ret A dC dI d) (hsz : ls.size = nL) {index : Nat} (hlink : Cond.methodLink own index Lib.Math.min.name ∈ lw_all) (hstat : Cond.static Lib.Math.min.name ∈ lw_all) (hini : Cond.initialized "java/lang/Math" ∈ lw_all) (hcode : Cond.code Lib.Math.min.name Lib.Math.min.code 2 (some .int) ∈ lw_all)
    (hR : 1 ≤ R.frames ∧ (rest.map fun v => v.category).sum + 13 ≤ R.locals ∧ cells ≤ R.cells ∧ slots ≤ R.slots) {x y : Int32} (hdg : decode cc pc = .ok (.invokestatic index, 3))
    (kk : W p l e R s m args below meth c H locs cells slots Q (F0 m (pc + 3) ls (.int (if y < x then y else x) :: rest))) : W p l e R s m args below meth c H locs cells slots Q (F0 m pc ls (.int y :: .int x :: rest)) :=
  va_mmin cx.1 cx.2.1 (cx.2.2.1.trans hsz.symm) cx.2.2.2.1 (cx.2.2.2.2.1 _ hlink) (cx.2.2.2.2.1 _ hstat) (cx.2.2.2.2.1 _ hini) (cx.2.2.2.2.1 _ hcode) hR.1 hR.2.1 hR.2.2.1 hR.2.2.2 hdg kk
theorem k_top2 {x : Value} {i : Int32} (kk : ∀ y : Int32, y = i → W p l e R s m args below meth c H locs cells slots Q (F0 m pc ls (x :: .int y :: rest))) : W p l e R s m args below meth c H locs cells slots Q (F0 m pc ls (x :: .int i :: rest)) := kk i rfl
theorem vp_lt {i : Int32} {n : Nat} (h : vp_in i n) : i.toNatClampNeg < n := Nat.not_le.mp fun q => h (Or.inr q)
/-- ends -/
theorem k_iret {S : Type} (cx : Cx p s m args meth c cc own nL (some .int) A dC dI d) {wf : S → va_W} {u : S} {K : Int32 → S → Prop} (hw : Wd dC dI A (wf u) s H locs) {v : Int32} (hK : K v u) {mc ms : Nat} (h1 : cells ≤ mc) (h2 : slots ≤ ms) (hdg : decode cc pc = .ok (.ireturn, 1)) : W p l e R s m args below meth c H locs cells slots (MQ below (kQi dC dI wf K A) args s mc ms A) (F0 m pc ls [.int v]) :=
  W.widen h1 h2 (W.iret cx.1 cx.2.1 cx.2.2.2.2.2.2.2.2.1 (fun t ht _ => ⟨⟨v, u, rfl, hK, by rw [ht]; exact hw.1, hw.2.1⟩, hw.2.2.F ht⟩) hw.2.2.2.2 hdg cx.2.2.2.2.2.2.2.1)
theorem k_zret {S : Type} (cx : Cx p s m args meth c cc own nL (some .boolean) A dC dI d) {wf : S → va_W} {u : S} {K : Int32 → S → Prop} (hw : Wd dC dI A (wf u) s H locs) {v : Int32} (hn : narrow .boolean (.int v) = .int v) (hK : K v u) {mc ms : Nat} (h1 : cells ≤ mc) (h2 : slots ≤ ms) (hdg : decode cc pc = .ok (.ireturn, 1)) : W p l e R s m args below meth c H locs cells slots (MQ below (kQi dC dI wf K A) args s mc ms A) (F0 m pc ls [.int v]) :=
  W.widen h1 h2 (W.zret cx.1 cx.2.1 cx.2.2.2.2.2.2.2.2.1 hn (fun t ht _ => ⟨⟨v, u, rfl, hK, by rw [ht]; exact hw.1, hw.2.1⟩, hw.2.2.F ht⟩) hw.2.2.2.2 hdg cx.2.2.2.2.2.2.2.1)
theorem k_lret {S : Type} (cx : Cx p s m args meth c cc own nL (some .long) A dC dI d) {wf : S → va_W} {u : S} {K : Int64 → S → Prop} (hw : Wd dC dI A (wf u) s H locs) {v : Int64} (hK : K v u) {mc ms : Nat} (h1 : cells ≤ mc) (h2 : slots ≤ ms) (hdg : decode cc pc = .ok (.lreturn, 1)) : W p l e R s m args below meth c H locs cells slots (MQ below (kQl dC dI wf K A) args s mc ms A) (F0 m pc ls [.long v]) :=
  W.widen h1 h2 (W.lret cx.1 cx.2.1 cx.2.2.2.2.2.2.2.2.1 (fun t ht _ => ⟨⟨v, u, rfl, hK, by rw [ht]; exact hw.1, hw.2.1⟩, hw.2.2.F ht⟩) hw.2.2.2.2 hdg cx.2.2.2.2.2.2.2.1)
theorem k_vret {S : Type} (cx : Cx p s m args meth c cc own nL none A dC dI d) {wf : S → va_W} {u : S} {K : S → Prop} (hw : Wd dC dI A (wf u) s H locs) (hK : K u) {mc ms : Nat} (h1 : cells ≤ mc) (h2 : slots ≤ ms) (hdg : decode cc pc = .ok (.return_, 1)) : W p l e R s m args below meth c H locs cells slots (MQ below (kQv dC dI wf K A) args s mc ms A) (F0 m pc ls []) :=
  W.widen h1 h2 (W.vret cx.1 cx.2.1 cx.2.2.2.2.2.2.2.2.1 (fun t ht _ => ⟨⟨u, rfl, hK, by rw [ht]; exact hw.1, hw.2.1⟩, hw.2.2.F ht⟩) hw.2.2.2.2 hdg cx.2.2.2.2.2.2.2.1)
/-- calls -/
theorem kP_blind {av : List Value} {w : va_W} {sz : Nat} : FrameBlind (kP dC dI d av w sz) := fun v U g mk q => by
  obtain ⟨q0, q1, qP, qE, qD, qS⟩ := q
  exact ⟨q0, q1, qP, kE.warm (s := U) (U := U.calling g mk v) (State.WarmedH.refl U) qE, qD, fun q hq a => kS_one (s := U) (U := U.calling g mk v) (Vm.Alike.refl U.vm) (fun _ _ h _ => h) (qS q hq a).1 (qS q hq a).2 a⟩
theorem k_runV (cx : Cx p s m args meth c cc own nL ret A dC dI d) {w : va_W} (hP : va_P (dC, dI) kCl w H) (hD : va_D (fun _ => True) w) (hS : va_S A s.heap H locs) {C : String} {b : Nat} (hrc : ∃ cell : Cell, H[b]? = some cell ∧ cell.vm.isStatics = false ∧ s.vm.findClass C = some cell.cls) {y : MethodName} {b' : ByteArray} {nL' index n mc ms : Nat} {ret' : Option FieldType} {rm : Room} {As : List Value} {Qc : Array Value → State → Outcome → State → Prop} {free : Addr → Prop} {ws' : List Cond}
    (hM : Met l y ws' rm (kP dC dI d (.ref b :: As) w H.size) Qc mc ms free) (cw : CallW R s args own C index y b' nL' ret' ws' rm mc ms n) (hn : As.length = n) (hsz : ls.size = nL) {st0 : List Value} (hst : st0 = As.reverse ++ .ref b :: rest) (hrm : (rest.map fun v => v.category).sum ≤ 8) (hdg : decode cc pc = .ok (.invokevirtual index, 3)) (hf : cells + mc ≤ R.cells ∧ slots + ms ≤ R.slots) :
    va_Run p l e R s m args below meth c H locs cells slots mc ms (F0 m pc ls st0) rest (Qc (Value.ref b :: As).toArray) free :=
  va_runV ⟨cx.1, cx.2.1, cx.2.2.1, cx.2.2.2.1, cx.2.2.2.2.1⟩ hM cw ⟨kP_blind, hrc, fun U hU hW => ⟨rfl, by rw [hU], by rw [hU]; exact hP, kE.warm hW cx.2.2.2.2.2.1, hD, kS_at cx.2.2.2.2.2.2.2.2.2.1 cx.2.2.2.2.2.2.2.2.2.2 hS hU hW⟩⟩ rfl hn hsz hst (lv_room (m := m) (pc := pc) (ls := ls) (rest := st0) hrm) hdg hf
theorem k_runS (cx : Cx p s m args meth c cc own nL ret A dC dI d) {w : va_W} (hP : va_P (dC, dI) kCl w H) (hD : va_D (fun _ => True) w) (hS : va_S A s.heap H locs) {y : MethodName} {b' : ByteArray} {nL' index n mc ms : Nat} {ret' : Option FieldType} {rm : Room} {As : List Value} {Qc : Array Value → State → Outcome → State → Prop} {free : Addr → Prop} {ws' : List Cond}
    (hM : Met l y ws' rm (kP dC dI d As w H.size) Qc mc ms free) (cw : CallB R s args own index y b' nL' ret' ws' rm mc ms n ∧ (Cond.static y).before args s = true) (hn : As.length = n) (hsz : ls.size = nL) {st0 : List Value} (hst : st0 = As.reverse ++ rest) (hrm : (rest.map fun v => v.category).sum ≤ 8) (hdg : decode cc pc = .ok (.invokestatic index, 3)) (hf : cells + mc ≤ R.cells ∧ slots + ms ≤ R.slots) :
    va_Run p l e R s m args below meth c H locs cells slots mc ms (F0 m pc ls st0) rest (Qc As.toArray) free :=
  va_runS ⟨cx.1, cx.2.1, cx.2.2.1, cx.2.2.2.1, cx.2.2.2.2.1⟩ hM cw ⟨kP_blind, fun U hU hW => ⟨rfl, by rw [hU], by rw [hU]; exact hP, kE.warm hW cx.2.2.2.2.2.1, hD, kS_at cx.2.2.2.2.2.2.2.2.2.1 cx.2.2.2.2.2.2.2.2.2.2 hS hU hW⟩⟩ rfl hn hsz hst (lv_room (m := m) (pc := pc) (ls := ls) (rest := st0) hrm) hdg hf
theorem k_recv (cx : Cx p s m args meth c cc own nL ret A dC dI d) (hw : Wd dC dI A ws s H locs) {b : Nat} (q0 : Nat) {ci : Nat} {q : vw_C} {fs : List Value} (he : ws[q0]? = some (b, .inr (ci, fs))) (hc : kCl[ci]? = some q) : ∃ cell : Cell, H[b]? = some cell ∧ cell.vm.isStatics = false ∧ s.vm.findClass q.1 = some cell.cls := va_recv cx.2.2.2.2.2.1.1 hw.1 hc he
/-- a call that takes the whole world along -/
theorem k_free (cx : Cx p s m args meth c cc own nL ret A dC dI d) (hw : Wd dC dI A ws s H locs) : ∀ q : Nat, va_A ws H.size q → A q := by
  intro q h
  rcases h with ⟨k, e, h⟩ | h
  · exact hw.2.1.2 k (q, e) h
  · exact cx.2.2.2.2.2.2.1 q (Nat.le_trans hw.2.2.1 h)
theorem k_whole_i {S : Type} (cx : Cx p s m args meth c cc own nL ret A dC dI d) {wf : S → va_W} {u : S} {K : Int32 → S → Prop} (hw : Wd dC dI A (wf u) s H locs) {mc ms : Nat} {st0 : List Value} {a' : Array Value} (hr : va_Run p l e R s m args below meth c H locs cells slots mc ms (F0 m pc ls st0) rest (kQi dC dI wf K (va_A (wf u) H.size) a') (va_A (wf u) H.size))
    (kk : ∀ (r : Int32) (u : S) (H : Heap) (locs : List Loc), K r u → Wd dC dI A (wf u) s H locs → W p l e R s m args below meth c H locs (cells + mc) (slots + ms) Q (F0 m (pc + 3) ls (.int r :: rest))) : W p l e R s m args below meth c H locs cells slots Q (F0 m pc ls st0) :=
  va_calli hr hw.2.2 (fun q _ h => k_free cx hw q h) (k_free cx hw) (fun r u' t H1 locs1 ht _ hK hB _ _ hS => kk r u' H1 locs1 hK ⟨by rw [← ht]; exact hB.1, hB.2.weaken (fun _ q _ h => k_free cx hw q.1 h), hS⟩)
theorem k_whole_l {S : Type} (cx : Cx p s m args meth c cc own nL ret A dC dI d) {wf : S → va_W} {u : S} {K : Int64 → S → Prop} (hw : Wd dC dI A (wf u) s H locs) {mc ms : Nat} {st0 : List Value} {a' : Array Value} (hr : va_Run p l e R s m args below meth c H locs cells slots mc ms (F0 m pc ls st0) rest (kQl dC dI wf K (va_A (wf u) H.size) a') (va_A (wf u) H.size))
    (kk : ∀ (r : Int64) (u : S) (H : Heap) (locs : List Loc), K r u → Wd dC dI A (wf u) s H locs → W p l e R s m args below meth c H locs (cells + mc) (slots + ms) Q (F0 m (pc + 3) ls (.long r :: rest))) : W p l e R s m args below meth c H locs cells slots Q (F0 m pc ls st0) :=
  va_calll hr hw.2.2 (fun q _ h => k_free cx hw q h) (k_free cx hw) (fun r u' t H1 locs1 ht _ hK hB _ _ hS => kk r u' H1 locs1 hK ⟨by rw [← ht]; exact hB.1, hB.2.weaken (fun _ q _ h => k_free cx hw q.1 h), hS⟩)
theorem k_whole_v {S : Type} (cx : Cx p s m args meth c cc own nL ret A dC dI d) {wf : S → va_W} {u : S} {K : S → Prop} (hw : Wd dC dI A (wf u) s H locs) {mc ms : Nat} {st0 : List Value} {a' : Array Value} (hr : va_Run p l e R s m args below meth c H locs cells slots mc ms (F0 m pc ls st0) rest (kQv dC dI wf K (va_A (wf u) H.size) a') (va_A (wf u) H.size))
    (kk : ∀ (u : S) (H : Heap) (locs : List Loc), K u → Wd dC dI A (wf u) s H locs → W p l e R s m args below meth c H locs (cells + mc) (slots + ms) Q (F0 m (pc + 3) ls rest)) : W p l e R s m args below meth c H locs cells slots Q (F0 m pc ls st0) :=
  va_callv hr hw.2.2 (fun q _ h => k_free cx hw q h) (k_free cx hw) (fun u' t H1 locs1 ht _ hK hB _ _ hS => kk u' H1 locs1 hK ⟨by rw [← ht]; exact hB.1, hB.2.weaken (fun _ q _ h => k_free cx hw q.1 h), hS⟩)
end KR
/-- cells of a world replaced, by their places -/
def w_put (ws : va_W) : List Nat → va_W → va_W
  | i :: is, x :: xs => w_put (ws.set i x) is xs
  | _, _ => ws
theorem w_put_get : ∀ (is : List Nat) (xs ws : va_W), va_nd is = true → is.length = xs.length → (∀ i ∈ is, i < ws.length) → ∀ k : Nat, (w_put ws is xs)[k]? = if k ∈ is then xs[is.idxOf k]? else ws[k]?
  | [], xs, ws, _, hl, _, k => by cases xs <;> simp [w_put]
  | i :: is, [], ws, _, hl, _, k => by simp at hl
  | i :: is, x :: xs, ws, hn, hl, hb, k => by
    simp only [va_nd, Bool.and_eq_true, decide_eq_true_eq] at hn
    have hlen : is.length = xs.length := by simpa using hl
    rw [w_put, w_put_get is xs (ws.set i x) hn.2 hlen (fun j hj => by rw [List.length_set]; exact hb j (List.mem_cons_of_mem _ hj)) k]
    by_cases hk : k = i
    · subst hk
      rw [if_neg hn.1, if_pos List.mem_cons_self, List.idxOf_cons_self, List.getElem?_cons_zero, List.getElem?_set_self (hb k List.mem_cons_self)]
    · by_cases hm : k ∈ is
      · have e0 : (i :: is).idxOf k = is.idxOf k + 1 := by
          have h0 : (i == k) = false := by simpa using fun h => hk h.symm
          rw [List.idxOf_cons, h0]; rfl
        rw [if_pos hm, if_pos (List.mem_cons_of_mem _ hm), e0, List.getElem?_cons_succ]
      · rw [if_neg hm, if_neg (by simp [hk, hm]), List.getElem?_set_ne (fun h => hk h.symm)]
section KR2
variable {p : Program} {l : Launch} {e : Env} {R : Room} {s : State} {m : MethodId} {args : Array Value} {below : List Frame} {meth : Method} {c : Code} {H : Heap} {locs : List Loc} {cells slots : Nat} {Q : State → Prop}
variable {cc : ByteArray} {own : String} {nL : Nat} {ret : Option FieldType} {A : Nat → Prop} {dC : Nat → ClassId} {dI : Nat → Nat → Nat} {d : Nat → ClassId} {ws : va_W} {pc : Nat} {ls : Array Slot} {rest : List Value}
theorem w_part_at {w : va_W} {is : List Nat} (hC : is.map (fun i => ws[i]?) = w.map some) {k : Nat} {q : Nat × va_E} (hq : w[k]? = some q) : ∃ i, is[k]? = some i ∧ ws[i]? = some q := by
  have h1 : (is.map (fun i => ws[i]?))[k]? = some (some q) := by rw [hC, List.getElem?_map, hq]; rfl
  rw [List.getElem?_map] at h1
  cases hi : is[k]? with
  | none => rw [hi] at h1; cases h1
  | some i => rw [hi] at h1; exact ⟨i, rfl, Option.some.inj h1⟩
theorem k_pfree (cx : Cx p s m args meth c cc own nL ret A dC dI d) (hw : Wd dC dI A ws s H locs) {w : va_W} {is : List Nat} (hC : is.map (fun i => ws[i]?) = w.map some) : ∀ q : Nat, va_A w H.size q → A q := by
  intro q h
  rcases h with ⟨k, e, h⟩ | h
  · obtain ⟨i, -, hi⟩ := w_part_at hC h
    exact hw.2.1.2 i (q, e) hi
  · exact cx.2.2.2.2.2.2.1 q (Nat.le_trans hw.2.2.1 h)
/-- the caller's world behind a call that took a part of it -/
theorem k_back (hw : Wd dC dI A ws s H locs) {w w' : va_W} {is : List Nat} (hC : is.map (fun i => ws[i]?) = w.map some) (hnd : va_nd is = true) (hadr : w'.map Prod.fst = w.map Prod.fst) {H1 : Heap} {locs1 : List Loc} (hk : ∀ q : Nat, q < H.size → ¬ va_A w H.size q → H1[q]? = H[q]?) (hP1 : va_P (dC, dI) kCl w' H1) (hS : va_S A s.heap H1 locs1) : Wd dC dI A (w_put ws is w') s H1 locs1 := by
  have hlw : is.length = w.length := by have := congrArg List.length hC; simpa using this
  have hl' : is.length = w'.length := by have := congrArg List.length hadr; simp at this; omega
  have hbd : ∀ i ∈ is, i < ws.length := by
    intro i hi
    obtain ⟨k, hk1⟩ := List.getElem?_of_mem hi
    have hkl : k < w.length := by rw [← hlw]; exact (List.getElem?_eq_some_iff.mp hk1).1
    obtain ⟨j, h1, h2⟩ := w_part_at (q := w[k]) hC (List.getElem?_eq_getElem hkl)
    rw [hk1] at h1
    cases h1
    exact (List.getElem?_eq_some_iff.mp h2).1
  have key : ∀ (k : Nat) (q : Nat × va_E), (w_put ws is w')[k]? = some q → (k ∈ is ∧ (∃ j : Nat, w'[j]? = some q) ∧ ∃ q0 : Nat × va_E, ws[k]? = some q0 ∧ q0.1 = q.1) ∨ (k ∉ is ∧ ws[k]? = some q) := by
    intro k q hq
    rw [w_put_get is w' ws hnd hl' hbd k] at hq
    by_cases hm : k ∈ is
    · rw [if_pos hm] at hq
      refine Or.inl ⟨hm, ⟨_, hq⟩, ?_⟩
      have hji : is.idxOf k < w.length := by rw [← hlw]; exact List.idxOf_lt_length_of_mem hm
      obtain ⟨i, h1, h2⟩ := w_part_at (q := w[is.idxOf k]) hC (List.getElem?_eq_getElem hji)
      have h3 : is[is.idxOf k]? = some k := List.getElem?_eq_some_iff.mpr ⟨List.idxOf_lt_length_of_mem hm, List.getElem_idxOf _⟩
      rw [h3] at h1
      cases h1
      refine ⟨_, h2, ?_⟩
      have h4 := congrArg (fun l => l[is.idxOf k]?) hadr
      simp only [List.getElem?_map, hq, List.getElem?_eq_getElem hji, Option.map_some, Option.some.injEq] at h4
      exact h4.symm
    · rw [if_neg hm] at hq
      exact Or.inr ⟨hm, hq⟩
  refine ⟨fun k q hq => ?_, ⟨fun i j x y hi hj hxy => ?_, fun k q hq => ?_⟩, hS⟩
  · rcases key k q hq with ⟨-, ⟨j, hj⟩, -⟩ | ⟨hm, h⟩
    · exact hP1 j q hj
    · have hlt := (hw.1 k q h).lt
      refine (hw.1 k q h).kept (hk q.1 hlt fun hA => ?_)
      rcases hA with ⟨k2, e2, h2⟩ | h2
      · obtain ⟨i, h3, h4⟩ := w_part_at hC h2
        have := hw.2.1.1 k i q (q.1, e2) h h4 rfl
        subst this
        exact hm (List.mem_of_getElem? h3)
      · omega
  · have h1 : ∃ x0, ws[i]? = some x0 ∧ x0.1 = x.1 := by
      rcases key i x hi with ⟨-, -, h⟩ | ⟨-, h⟩
      · exact h
      · exact ⟨x, h, rfl⟩
    have h2 : ∃ y0, ws[j]? = some y0 ∧ y0.1 = y.1 := by
      rcases key j y hj with ⟨-, -, h⟩ | ⟨-, h⟩
      · exact h
      · exact ⟨y, h, rfl⟩
    obtain ⟨x0, hx0, ex⟩ := h1
    obtain ⟨y0, hy0, ey⟩ := h2
    exact hw.2.1.1 i j x0 y0 hx0 hy0 (ex.trans (hxy.trans ey.symm))
  · rcases key k q hq with ⟨-, -, q0, h, e0⟩ | ⟨-, h⟩
    · rw [← e0]; exact hw.2.1.2 k q0 h
    · exact hw.2.1.2 k q h
theorem k_part (hw : Wd dC dI A ws s H locs) {w : va_W} {is : List Nat} (hC : is.map (fun i => ws[i]?) = w.map some) (hnd : va_nd is = true) : va_P (dC, dI) kCl w H ∧ va_D (fun _ => True) w :=
  ⟨fun k q hq => by obtain ⟨i, -, h⟩ := w_part_at hC hq; exact hw.1 i q h, (hw.2.1.sub is hnd hC).weaken (fun _ _ _ _ => trivial)⟩
theorem k_part_i {S : Type} (cx : Cx p s m args meth c cc own nL ret A dC dI d) {wf : S → va_W} {u : S} {K : Int32 → S → Prop} (hw : Wd dC dI A ws s H locs) (is : List Nat) (hC : is.map (fun i => ws[i]?) = (wf u).map some) (hnd : va_nd is = true) (hadr : ∀ u' : S, (wf u').map Prod.fst = (wf u).map Prod.fst) {ws' : S → va_W} (hb : ∀ u' : S, w_put ws is (wf u') = ws' u') {mc ms : Nat} {st0 : List Value} {a' : Array Value} (hr : va_Run p l e R s m args below meth c H locs cells slots mc ms (F0 m pc ls st0) rest (kQi dC dI wf K (va_A (wf u) H.size) a') (va_A (wf u) H.size))
    (kk : ∀ (r : Int32) (u : S) (H : Heap) (locs : List Loc), K r u → Wd dC dI A (ws' u) s H locs → W p l e R s m args below meth c H locs (cells + mc) (slots + ms) Q (F0 m (pc + 3) ls (.int r :: rest))) : W p l e R s m args below meth c H locs cells slots Q (F0 m pc ls st0) :=
  va_calli hr hw.2.2 (fun q _ h => k_pfree cx hw hC q h) (k_pfree cx hw hC) (fun r u' t H1 locs1 ht _ hK hB _ hk hS => kk r u' H1 locs1 hK (by rw [← hb u']; exact k_back hw hC hnd (hadr u') hk (by rw [← ht]; exact hB.1) hS))
theorem k_part_l {S : Type} (cx : Cx p s m args meth c cc own nL ret A dC dI d) {wf : S → va_W} {u : S} {K : Int64 → S → Prop} (hw : Wd dC dI A ws s H locs) (is : List Nat) (hC : is.map (fun i => ws[i]?) = (wf u).map some) (hnd : va_nd is = true) (hadr : ∀ u' : S, (wf u').map Prod.fst = (wf u).map Prod.fst) {ws' : S → va_W} (hb : ∀ u' : S, w_put ws is (wf u') = ws' u') {mc ms : Nat} {st0 : List Value} {a' : Array Value} (hr : va_Run p l e R s m args below meth c H locs cells slots mc ms (F0 m pc ls st0) rest (kQl dC dI wf K (va_A (wf u) H.size) a') (va_A (wf u) H.size))
    (kk : ∀ (r : Int64) (u : S) (H : Heap) (locs : List Loc), K r u → Wd dC dI A (ws' u) s H locs → W p l e R s m args below meth c H locs (cells + mc) (slots + ms) Q (F0 m (pc + 3) ls (.long r :: rest))) : W p l e R s m args below meth c H locs cells slots Q (F0 m pc ls st0) :=
  va_calll hr hw.2.2 (fun q _ h => k_pfree cx hw hC q h) (k_pfree cx hw hC) (fun r u' t H1 locs1 ht _ hK hB _ hk hS => kk r u' H1 locs1 hK (by rw [← hb u']; exact k_back hw hC hnd (hadr u') hk (by rw [← ht]; exact hB.1) hS))
theorem k_part_v {S : Type} (cx : Cx p s m args meth c cc own nL ret A dC dI d) {wf : S → va_W} {u : S} {K : S → Prop} (hw : Wd dC dI A ws s H locs) (is : List Nat) (hC : is.map (fun i => ws[i]?) = (wf u).map some) (hnd : va_nd is = true) (hadr : ∀ u' : S, (wf u').map Prod.fst = (wf u).map Prod.fst) {ws' : S → va_W} (hb : ∀ u' : S, w_put ws is (wf u') = ws' u') {mc ms : Nat} {st0 : List Value} {a' : Array Value} (hr : va_Run p l e R s m args below meth c H locs cells slots mc ms (F0 m pc ls st0) rest (kQv dC dI wf K (va_A (wf u) H.size) a') (va_A (wf u) H.size))
    (kk : ∀ (u : S) (H : Heap) (locs : List Loc), K u → Wd dC dI A (ws' u) s H locs → W p l e R s m args below meth c H locs (cells + mc) (slots + ms) Q (F0 m (pc + 3) ls rest)) : W p l e R s m args below meth c H locs cells slots Q (F0 m pc ls st0) :=
  va_callv hr hw.2.2 (fun q _ h => k_pfree cx hw hC q h) (k_pfree cx hw hC) (fun u' t H1 locs1 ht _ hK hB _ hk hS => kk u' H1 locs1 hK (by rw [← hb u']; exact k_back hw hC hnd (hadr u') hk (by rw [← ht]; exact hB.1) hS))
end KR2

section NQ
variable {dC : Nat → ClassId} {dI : Nat → Nat → Nat} {d : Nat → ClassId} {s : State} {args : Array Value}
theorem nq190 (h : kE dC dI d s) : (Cond.fieldLinkNest "PointLedger$Walk" 21 "PointLedger$Disk" "cells" "[I" "PointLedger").before args s = true := va_Nw.use rfl (h.2.1 ("PointLedger$Walk", 21, "PointLedger$Disk", "cells", "[I") (List.mem_of_getElem? (i := 0) rfl))
theorem nq191 (h : kE dC dI d s) : (Cond.fieldLinkNest "PointLedger" 25 "PointLedger$Disk" "cells" "[I" "PointLedger").before args s = true := va_Nw.use rfl (h.2.1 ("PointLedger", 25, "PointLedger$Disk", "cells", "[I") (List.mem_of_getElem? (i := 1) rfl))
theorem nq194 (h : kE dC dI d s) : (Cond.fieldLinkNest "PointLedger" 335 "PointLedger$Disk" "fuse" "I" "PointLedger").before args s = true := va_Nw.use rfl (h.2.1 ("PointLedger", 335, "PointLedger$Disk", "fuse", "I") (List.mem_of_getElem? (i := 2) rfl))
theorem nq196 (h : kE dC dI d s) : (Cond.fieldLinkNest "PointLedger" 141 "PointLedger$Disk" "isDown" "Z" "PointLedger").before args s = true := va_Nw.use rfl (h.2.1 ("PointLedger", 141, "PointLedger$Disk", "isDown", "Z") (List.mem_of_getElem? (i := 3) rfl))
theorem nq198 (h : kE dC dI d s) : (Cond.fieldLinkNest "PointLedger" 355 "PointLedger$Disk" "written" "I" "PointLedger").before args s = true := va_Nw.use rfl (h.2.1 ("PointLedger", 355, "PointLedger$Disk", "written", "I") (List.mem_of_getElem? (i := 4) rfl))
theorem nq217 (h : kE dC dI d s) : (Cond.fieldLinkNest "PointLedger" 208 "PointLedger$Packer" "cells" "[I" "PointLedger").before args s = true := va_Nw.use rfl (h.2.1 ("PointLedger", 208, "PointLedger$Packer", "cells", "[I") (List.mem_of_getElem? (i := 5) rfl))
theorem nq220 (h : kE dC dI d s) : (Cond.fieldLinkNest "PointLedger" 180 "PointLedger$Packer" "from" "I" "PointLedger").before args s = true := va_Nw.use rfl (h.2.1 ("PointLedger", 180, "PointLedger$Packer", "from", "I") (List.mem_of_getElem? (i := 6) rfl))
theorem nq296 (h : kE dC dI d s) : (Cond.fieldLinkNest "PointLedger" 219 "PointLedger$Spans" "first" "[I" "PointLedger").before args s = true := va_Nw.use rfl (h.2.1 ("PointLedger", 219, "PointLedger$Spans", "first", "[I") (List.mem_of_getElem? (i := 7) rfl))
theorem nq298 (h : kE dC dI d s) : (Cond.fieldLinkNest "PointLedger" 135 "PointLedger$Spans" "last" "[I" "PointLedger").before args s = true := va_Nw.use rfl (h.2.1 ("PointLedger", 135, "PointLedger$Spans", "last", "[I") (List.mem_of_getElem? (i := 8) rfl))
theorem nq300 (h : kE dC dI d s) : (Cond.fieldLinkNest "PointLedger$Total" 36 "PointLedger$Spans" "least" "[I" "PointLedger").before args s = true := va_Nw.use rfl (h.2.1 ("PointLedger$Total", 36, "PointLedger$Spans", "least", "[I") (List.mem_of_getElem? (i := 9) rfl))
theorem nq301 (h : kE dC dI d s) : (Cond.fieldLinkNest "PointLedger" 225 "PointLedger$Spans" "least" "[I" "PointLedger").before args s = true := va_Nw.use rfl (h.2.1 ("PointLedger", 225, "PointLedger$Spans", "least", "[I") (List.mem_of_getElem? (i := 10) rfl))
theorem nq303 (h : kE dC dI d s) : (Cond.fieldLinkNest "PointLedger$Total" 41 "PointLedger$Spans" "greatest" "[I" "PointLedger").before args s = true := va_Nw.use rfl (h.2.1 ("PointLedger$Total", 41, "PointLedger$Spans", "greatest", "[I") (List.mem_of_getElem? (i := 11) rfl))
theorem nq304 (h : kE dC dI d s) : (Cond.fieldLinkNest "PointLedger" 228 "PointLedger$Spans" "greatest" "[I" "PointLedger").before args s = true := va_Nw.use rfl (h.2.1 ("PointLedger", 228, "PointLedger$Spans", "greatest", "[I") (List.mem_of_getElem? (i := 12) rfl))
theorem nq306 (h : kE dC dI d s) : (Cond.fieldLinkNest "PointLedger$Walk" 80 "PointLedger$Spans" "points" "[S" "PointLedger").before args s = true := va_Nw.use rfl (h.2.1 ("PointLedger$Walk", 80, "PointLedger$Spans", "points", "[S") (List.mem_of_getElem? (i := 13) rfl))
theorem nq307 (h : kE dC dI d s) : (Cond.fieldLinkNest "PointLedger$Total" 43 "PointLedger$Spans" "points" "[S" "PointLedger").before args s = true := va_Nw.use rfl (h.2.1 ("PointLedger$Total", 43, "PointLedger$Spans", "points", "[S") (List.mem_of_getElem? (i := 14) rfl))
theorem nq308 (h : kE dC dI d s) : (Cond.fieldLinkNest "PointLedger" 222 "PointLedger$Spans" "points" "[S" "PointLedger").before args s = true := va_Nw.use rfl (h.2.1 ("PointLedger", 222, "PointLedger$Spans", "points", "[S") (List.mem_of_getElem? (i := 15) rfl))
theorem nq310 (h : kE dC dI d s) : (Cond.fieldLinkNest "PointLedger$Total" 47 "PointLedger$Spans" "sums" "[J" "PointLedger").before args s = true := va_Nw.use rfl (h.2.1 ("PointLedger$Total", 47, "PointLedger$Spans", "sums", "[J") (List.mem_of_getElem? (i := 16) rfl))
theorem nq311 (h : kE dC dI d s) : (Cond.fieldLinkNest "PointLedger" 231 "PointLedger$Spans" "sums" "[J" "PointLedger").before args s = true := va_Nw.use rfl (h.2.1 ("PointLedger", 231, "PointLedger$Spans", "sums", "[J") (List.mem_of_getElem? (i := 17) rfl))
theorem nq328 (h : kE dC dI d s) : (Cond.fieldLinkNest "PointLedger$Walk" 66 "PointLedger$Index" "spans" "LPointLedger$Spans;" "PointLedger").before args s = true := va_Nw.use rfl (h.2.1 ("PointLedger$Walk", 66, "PointLedger$Index", "spans", "LPointLedger$Spans;") (List.mem_of_getElem? (i := 18) rfl))
theorem nq329 (h : kE dC dI d s) : (Cond.fieldLinkNest "PointLedger" 122 "PointLedger$Index" "spans" "LPointLedger$Spans;" "PointLedger").before args s = true := va_Nw.use rfl (h.2.1 ("PointLedger", 122, "PointLedger$Index", "spans", "LPointLedger$Spans;") (List.mem_of_getElem? (i := 19) rfl))
theorem nq331 (h : kE dC dI d s) : (Cond.fieldLinkNest "PointLedger" 215 "PointLedger$Index" "series" "[B" "PointLedger").before args s = true := va_Nw.use rfl (h.2.1 ("PointLedger", 215, "PointLedger$Index", "series", "[B") (List.mem_of_getElem? (i := 20) rfl))
theorem nq333 (h : kE dC dI d s) : (Cond.fieldLinkNest "PointLedger$Walk" 76 "PointLedger$Index" "place" "[C" "PointLedger").before args s = true := va_Nw.use rfl (h.2.1 ("PointLedger$Walk", 76, "PointLedger$Index", "place", "[C") (List.mem_of_getElem? (i := 21) rfl))
theorem nq334 (h : kE dC dI d s) : (Cond.fieldLinkNest "PointLedger" 197 "PointLedger$Index" "place" "[C" "PointLedger").before args s = true := va_Nw.use rfl (h.2.1 ("PointLedger", 197, "PointLedger$Index", "place", "[C") (List.mem_of_getElem? (i := 22) rfl))
theorem nq336 (h : kE dC dI d s) : (Cond.fieldLinkNest "PointLedger" 189 "PointLedger$Index" "length" "[S" "PointLedger").before args s = true := va_Nw.use rfl (h.2.1 ("PointLedger", 189, "PointLedger$Index", "length", "[S") (List.mem_of_getElem? (i := 23) rfl))
theorem nq338 (h : kE dC dI d s) : (Cond.fieldLinkNest "PointLedger" 177 "PointLedger$Index" "waits" "[I" "PointLedger").before args s = true := va_Nw.use rfl (h.2.1 ("PointLedger", 177, "PointLedger$Index", "waits", "[I") (List.mem_of_getElem? (i := 24) rfl))
theorem nq340 (h : kE dC dI d s) : (Cond.fieldLinkNest "PointLedger" 168 "PointLedger$Index" "many" "I" "PointLedger").before args s = true := va_Nw.use rfl (h.2.1 ("PointLedger", 168, "PointLedger$Index", "many", "I") (List.mem_of_getElem? (i := 25) rfl))
theorem nq342 (h : kE dC dI d s) : (Cond.fieldLinkNest "PointLedger$Walk" 48 "PointLedger$Index" "begins" "[I" "PointLedger").before args s = true := va_Nw.use rfl (h.2.1 ("PointLedger$Walk", 48, "PointLedger$Index", "begins", "[I") (List.mem_of_getElem? (i := 26) rfl))
theorem nq343 (h : kE dC dI d s) : (Cond.fieldLinkNest "PointLedger" 116 "PointLedger$Index" "begins" "[I" "PointLedger").before args s = true := va_Nw.use rfl (h.2.1 ("PointLedger", 116, "PointLedger$Index", "begins", "[I") (List.mem_of_getElem? (i := 27) rfl))
theorem nq379 (h : kE dC dI d s) : (Cond.fieldLinkNest "PointLedger" 327 "PointLedger$Walk" "isAt" "Z" "PointLedger").before args s = true := va_Nw.use rfl (h.2.1 ("PointLedger", 327, "PointLedger$Walk", "isAt", "Z") (List.mem_of_getElem? (i := 28) rfl))
theorem nq410 (h : kE dC dI d s) : (Cond.fieldLinkNest "PointLedger" 304 "PointLedger$Total" "many" "I" "PointLedger").before args s = true := va_Nw.use rfl (h.2.1 ("PointLedger", 304, "PointLedger$Total", "many", "I") (List.mem_of_getElem? (i := 29) rfl))
theorem nq412 (h : kE dC dI d s) : (Cond.fieldLinkNest "PointLedger" 314 "PointLedger$Total" "least" "I" "PointLedger").before args s = true := va_Nw.use rfl (h.2.1 ("PointLedger", 314, "PointLedger$Total", "least", "I") (List.mem_of_getElem? (i := 30) rfl))
theorem nq414 (h : kE dC dI d s) : (Cond.fieldLinkNest "PointLedger" 316 "PointLedger$Total" "greatest" "I" "PointLedger").before args s = true := va_Nw.use rfl (h.2.1 ("PointLedger", 316, "PointLedger$Total", "greatest", "I") (List.mem_of_getElem? (i := 31) rfl))
theorem nq416 (h : kE dC dI d s) : (Cond.fieldLinkNest "PointLedger" 318 "PointLedger$Total" "sum" "J" "PointLedger").before args s = true := va_Nw.use rfl (h.2.1 ("PointLedger", 318, "PointLedger$Total", "sum", "J") (List.mem_of_getElem? (i := 32) rfl))
theorem nq443 (h : kE dC dI d s) : (Cond.fieldLinkNest "PointLedger$Walk" 109 "PointLedger$Head" "times" "[I" "PointLedger").before args s = true := va_Nw.use rfl (h.2.1 ("PointLedger$Walk", 109, "PointLedger$Head", "times", "[I") (List.mem_of_getElem? (i := 33) rfl))
theorem nq444 (h : kE dC dI d s) : (Cond.fieldLinkNest "PointLedger" 132 "PointLedger$Head" "times" "[I" "PointLedger").before args s = true := va_Nw.use rfl (h.2.1 ("PointLedger", 132, "PointLedger$Head", "times", "[I") (List.mem_of_getElem? (i := 34) rfl))
theorem nq446 (h : kE dC dI d s) : (Cond.fieldLinkNest "PointLedger$Walk" 112 "PointLedger$Head" "values" "[I" "PointLedger").before args s = true := va_Nw.use rfl (h.2.1 ("PointLedger$Walk", 112, "PointLedger$Head", "values", "[I") (List.mem_of_getElem? (i := 35) rfl))
theorem nq447 (h : kE dC dI d s) : (Cond.fieldLinkNest "PointLedger" 250 "PointLedger$Head" "values" "[I" "PointLedger").before args s = true := va_Nw.use rfl (h.2.1 ("PointLedger", 250, "PointLedger$Head", "values", "[I") (List.mem_of_getElem? (i := 36) rfl))
theorem nq449 (h : kE dC dI d s) : (Cond.fieldLinkNest "PointLedger$Walk" 104 "PointLedger$Head" "many" "I" "PointLedger").before args s = true := va_Nw.use rfl (h.2.1 ("PointLedger$Walk", 104, "PointLedger$Head", "many", "I") (List.mem_of_getElem? (i := 37) rfl))
theorem nq450 (h : kE dC dI d s) : (Cond.fieldLinkNest "PointLedger" 129 "PointLedger$Head" "many" "I" "PointLedger").before args s = true := va_Nw.use rfl (h.2.1 ("PointLedger", 129, "PointLedger$Head", "many", "I") (List.mem_of_getElem? (i := 38) rfl))
theorem nq480 (h : kE dC dI d s) : (Cond.fieldLinkNest "PointLedger$Walk" 15 "PointLedger" "disk" "LPointLedger$Disk;" "PointLedger").before args s = true := va_Nw.use rfl (h.2.1 ("PointLedger$Walk", 15, "PointLedger", "disk", "LPointLedger$Disk;") (List.mem_of_getElem? (i := 39) rfl))
theorem nq482 (h : kE dC dI d s) : (Cond.fieldLinkNest "PointLedger$Walk" 100 "PointLedger" "heads" "[LPointLedger$Head;" "PointLedger").before args s = true := va_Nw.use rfl (h.2.1 ("PointLedger$Walk", 100, "PointLedger", "heads", "[LPointLedger$Head;") (List.mem_of_getElem? (i := 40) rfl))
theorem nq486 (h : kE dC dI d s) : (Cond.fieldLinkNest "PointLedger$Walk" 44 "PointLedger" "now" "LPointLedger$Index;" "PointLedger").before args s = true := va_Nw.use rfl (h.2.1 ("PointLedger$Walk", 44, "PointLedger", "now", "LPointLedger$Index;") (List.mem_of_getElem? (i := 41) rfl))
theorem nq107 (h : kE dC dI d s) : va_Nw (Cond.methodLinkNest "PointLedger" 11 ⟨"PointLedger$Disk", "<init>", "()V"⟩ "PointLedger") s := h.2.2.1 ("PointLedger", 11, ⟨"PointLedger$Disk", "<init>", "()V"⟩) (List.mem_of_getElem? (i := 0) rfl)
theorem nq212 (h : kE dC dI d s) : va_Nw (Cond.methodLinkNest "PointLedger" 18 ⟨"PointLedger$Packer", "<init>", "()V"⟩ "PointLedger") s := h.2.2.1 ("PointLedger", 18, ⟨"PointLedger$Packer", "<init>", "()V"⟩) (List.mem_of_getElem? (i := 1) rfl)
theorem nq245 (h : kE dC dI d s) : va_Nw (Cond.methodLinkNest "PointLedger$Unpacker" 1 ⟨"PointLedger$Points", "<init>", "()V"⟩ "PointLedger") s := h.2.2.1 ("PointLedger$Unpacker", 1, ⟨"PointLedger$Points", "<init>", "()V"⟩) (List.mem_of_getElem? (i := 2) rfl)
theorem nq285 (h : kE dC dI d s) : va_Nw (Cond.methodLinkNest "PointLedger" 38 ⟨"PointLedger$Index", "<init>", "()V"⟩ "PointLedger") s := h.2.2.1 ("PointLedger", 38, ⟨"PointLedger$Index", "<init>", "()V"⟩) (List.mem_of_getElem? (i := 3) rfl)
theorem nq365 (h : kE dC dI d s) : va_Nw (Cond.methodLinkNest "PointLedger" 64 ⟨"PointLedger$Walk", "<init>", "(LPointLedger;)V"⟩ "PointLedger") s := h.2.2.1 ("PointLedger", 64, ⟨"PointLedger$Walk", "<init>", "(LPointLedger;)V"⟩) (List.mem_of_getElem? (i := 4) rfl)
theorem nq368 (h : kE dC dI d s) : va_Nw (Cond.methodLinkNest "PointLedger$Walk" 7 ⟨"PointLedger$Points", "<init>", "()V"⟩ "PointLedger") s := h.2.2.1 ("PointLedger$Walk", 7, ⟨"PointLedger$Points", "<init>", "()V"⟩) (List.mem_of_getElem? (i := 5) rfl)
theorem nq405 (h : kE dC dI d s) : va_Nw (Cond.methodLinkNest "PointLedger" 73 ⟨"PointLedger$Total", "<init>", "(LPointLedger;)V"⟩ "PointLedger") s := h.2.2.1 ("PointLedger", 73, ⟨"PointLedger$Total", "<init>", "(LPointLedger;)V"⟩) (List.mem_of_getElem? (i := 6) rfl)
theorem nq438 (h : kE dC dI d s) : va_Nw (Cond.methodLinkNest "PointLedger" 103 ⟨"PointLedger$Head", "<init>", "()V"⟩ "PointLedger") s := h.2.2.1 ("PointLedger", 103, ⟨"PointLedger$Head", "<init>", "()V"⟩) (List.mem_of_getElem? (i := 7) rfl)
end NQ
theorem tb_out3 {x : Int32} (h0 : ¬ x = 0) (h1 : ¬ x = 1) (h2 : ¬ x = 2) : x.toInt < 0 ∨ 2 < x.toInt := by
  have e0 : ∀ k : Int32, ¬ x = k → ¬ x.toInt = k.toInt := fun k h q => h (Int32.toInt_inj.mp q)
  have a0 : ¬ x.toInt = 0 := e0 0 h0
  have a1 : ¬ x.toInt = 1 := e0 1 h1
  have a2 : ¬ x.toInt = 2 := e0 2 h2
  omega
theorem tb_out5 {x : Int32} (h0 : ¬ x = 0) (h1 : ¬ x = 1) (h2 : ¬ x = 2) (h3 : ¬ x = 3) (h4 : ¬ x = 4) : x.toInt < 0 ∨ 4 < x.toInt := by
  have e0 : ∀ k : Int32, ¬ x = k → ¬ x.toInt = k.toInt := fun k h q => h (Int32.toInt_inj.mp q)
  have a0 : ¬ x.toInt = 0 := e0 0 h0
  have a1 : ¬ x.toInt = 1 := e0 1 h1
  have a2 : ¬ x.toInt = 2 := e0 2 h2
  have a3 : ¬ x.toInt = 3 := e0 3 h3
  have a4 : ¬ x.toInt = 4 := e0 4 h4
  omega
theorem tb_out6 {x : Int32} (h0 : ¬ x = 0) (h1 : ¬ x = 1) (h2 : ¬ x = 2) (h3 : ¬ x = 3) (h4 : ¬ x = 4) (h5 : ¬ x = 5) : x.toInt < 0 ∨ 5 < x.toInt := by
  have e0 : ∀ k : Int32, ¬ x = k → ¬ x.toInt = k.toInt := fun k h q => h (Int32.toInt_inj.mp q)
  have a0 : ¬ x.toInt = 0 := e0 0 h0
  have a1 : ¬ x.toInt = 1 := e0 1 h1
  have a2 : ¬ x.toInt = 2 := e0 2 h2
  have a3 : ¬ x.toInt = 3 := e0 3 h3
  have a4 : ¬ x.toInt = 4 := e0 4 h4
  have a5 : ¬ x.toInt = 5 := e0 5 h5
  omega
theorem tb_out9 {x : Int32} (h0 : ¬ x = 0) (h1 : ¬ x = 1) (h2 : ¬ x = 2) (h3 : ¬ x = 3) (h4 : ¬ x = 4) (h5 : ¬ x = 5) (h6 : ¬ x = 6) (h7 : ¬ x = 7) (h8 : ¬ x = 8) : x.toInt < 0 ∨ 8 < x.toInt := by
  have e0 : ∀ k : Int32, ¬ x = k → ¬ x.toInt = k.toInt := fun k h q => h (Int32.toInt_inj.mp q)
  have a0 : ¬ x.toInt = 0 := e0 0 h0
  have a1 : ¬ x.toInt = 1 := e0 1 h1
  have a2 : ¬ x.toInt = 2 := e0 2 h2
  have a3 : ¬ x.toInt = 3 := e0 3 h3
  have a4 : ¬ x.toInt = 4 := e0 4 h4
  have a5 : ¬ x.toInt = 5 := e0 5 h5
  have a6 : ¬ x.toInt = 6 := e0 6 h6
  have a7 : ¬ x.toInt = 7 := e0 7 h7
  have a8 : ¬ x.toInt = 8 := e0 8 h8
  omega
theorem tb_out19 {x : Int32} (h0 : ¬ x = 0) (h1 : ¬ x = 1) (h2 : ¬ x = 2) (h3 : ¬ x = 3) (h4 : ¬ x = 4) (h5 : ¬ x = 5) (h6 : ¬ x = 6) (h7 : ¬ x = 7) (h8 : ¬ x = 8) (h9 : ¬ x = 9) (h10 : ¬ x = 10) (h11 : ¬ x = 11) (h12 : ¬ x = 12) (h13 : ¬ x = 13) (h14 : ¬ x = 14) (h15 : ¬ x = 15) (h16 : ¬ x = 16) (h17 : ¬ x = 17) (h18 : ¬ x = 18) : x.toInt < 0 ∨ 18 < x.toInt := by
  have e0 : ∀ k : Int32, ¬ x = k → ¬ x.toInt = k.toInt := fun k h q => h (Int32.toInt_inj.mp q)
  have a0 : ¬ x.toInt = 0 := e0 0 h0
  have a1 : ¬ x.toInt = 1 := e0 1 h1
  have a2 : ¬ x.toInt = 2 := e0 2 h2
  have a3 : ¬ x.toInt = 3 := e0 3 h3
  have a4 : ¬ x.toInt = 4 := e0 4 h4
  have a5 : ¬ x.toInt = 5 := e0 5 h5
  have a6 : ¬ x.toInt = 6 := e0 6 h6
  have a7 : ¬ x.toInt = 7 := e0 7 h7
  have a8 : ¬ x.toInt = 8 := e0 8 h8
  have a9 : ¬ x.toInt = 9 := e0 9 h9
  have a10 : ¬ x.toInt = 10 := e0 10 h10
  have a11 : ¬ x.toInt = 11 := e0 11 h11
  have a12 : ¬ x.toInt = 12 := e0 12 h12
  have a13 : ¬ x.toInt = 13 := e0 13 h13
  have a14 : ¬ x.toInt = 14 := e0 14 h14
  have a15 : ¬ x.toInt = 15 := e0 15 h15
  have a16 : ¬ x.toInt = 16 := e0 16 h16
  have a17 : ¬ x.toInt = 17 := e0 17 h17
  have a18 : ¬ x.toInt = 18 := e0 18 h18
  omega
