set_option maxRecDepth 100000
/-! PointLedgerLaw -/
def RX0 : String := "PointLedgerLaw"
abbrev cX0_cell : ByteArray := method_2_code
def yX0_cell : MethodName := ⟨RX0, "cell", "([II)I"⟩
abbrev cX0_aggMin : ByteArray := method_3_code
def yX0_aggMin : MethodName := ⟨RX0, "aggMin", "(LPointLedger;III[J)I"⟩
abbrev cX0_aggMax : ByteArray := method_4_code
def yX0_aggMax : MethodName := ⟨RX0, "aggMax", "(LPointLedger;III[J)I"⟩
abbrev cX0_aggSum : ByteArray := method_5_code
def yX0_aggSum : MethodName := ⟨RX0, "aggSum", "(LPointLedger;III[J)I"⟩
abbrev cX0_sizes : ByteArray := method_6_code
def yX0_sizes : MethodName := ⟨RX0, "sizes", "(LPointLedger;II[J)I"⟩
abbrev cX0_chunk : ByteArray := method_7_code
def yX0_chunk : MethodName := ⟨RX0, "chunk", "(LPointLedger;III[J)I"⟩
abbrev cX0_group : ByteArray := method_8_code
def yX0_group : MethodName := ⟨RX0, "group", "(LPointLedger;III[J)I"⟩
theorem q74 : (Jvm.Cond.initialized "PointLedgerLaw") ∈ lw_all := lw_g (lw_at lw_m1 0 rfl) rfl
theorem q97 : (Jvm.Cond.classLink "PointLedgerLaw" (8 : Nat) "PointLedger") ∈ lw_all := lw_g (lw_at lw_m1 23 rfl) rfl
theorem q99 : (Jvm.Cond.methodLink "PointLedgerLaw" (42 : Nat) ({ cls := "PointLedger", name := "<init>", desc := "(III)V" } : Jvm.MethodName)) ∈ lw_all := lw_g (lw_at lw_m1 25 rfl) rfl
theorem q543 : (Jvm.Cond.methodLink "PointLedgerLaw" (48 : Nat) ({ cls := "PointLedger", name := "append", desc := "(III)I" } : Jvm.MethodName)) ∈ lw_all := lw_g (lw_at lw_m2 229 rfl) rfl
theorem q602 : (Jvm.Cond.methodLink "PointLedgerLaw" (52 : Nat) ({ cls := "PointLedger", name := "flush", desc := "()I" } : Jvm.MethodName)) ∈ lw_all := lw_g (lw_at lw_m3 48 rfl) rfl
theorem q697 : (Jvm.Cond.methodLink "PointLedgerLaw" (57 : Nat) ({ cls := "PointLedger", name := "compact", desc := "(I)I" } : Jvm.MethodName)) ∈ lw_all := lw_g (lw_at lw_m3 143 rfl) rfl
theorem q737 : (Jvm.Cond.methodLink "PointLedgerLaw" (62 : Nat) ({ cls := "PointLedger", name := "expire", desc := "(I)I" } : Jvm.MethodName)) ∈ lw_all := lw_g (lw_at lw_m3 183 rfl) rfl
theorem q741 : (Jvm.Cond.methodLink "PointLedgerLaw" (83 : Nat) ({ cls := "PointLedger", name := "aggCount", desc := "(III)I" } : Jvm.MethodName)) ∈ lw_all := lw_g (lw_at lw_m3 187 rfl) rfl
theorem q775 : (Jvm.Cond.methodLink "PointLedgerLaw" (66 : Nat) ({ cls := "PointLedger", name := "seek", desc := "(III)I" } : Jvm.MethodName)) ∈ lw_all := lw_g (lw_at lw_m3 221 rfl) rfl
theorem q783 : (Jvm.Cond.methodLink "PointLedgerLaw" (70 : Nat) ({ cls := "PointLedger", name := "next", desc := "()Z" } : Jvm.MethodName)) ∈ lw_all := lw_g (lw_at lw_m3 229 rfl) rfl
theorem q823 : (Jvm.Cond.methodLink "PointLedgerLaw" (75 : Nat) ({ cls := "PointLedger", name := "curTime", desc := "()I" } : Jvm.MethodName)) ∈ lw_all := lw_g (lw_at lw_m4 29 rfl) rfl
theorem q831 : (Jvm.Cond.methodLink "PointLedgerLaw" (79 : Nat) ({ cls := "PointLedger", name := "curVal", desc := "()I" } : Jvm.MethodName)) ∈ lw_all := lw_g (lw_at lw_m4 37 rfl) rfl
theorem q835 : (Jvm.Cond.methodLink "PointLedgerLaw" (100 : Nat) ({ cls := "PointLedger", name := "crashAfter", desc := "(I)Z" } : Jvm.MethodName)) ∈ lw_all := lw_g (lw_at lw_m4 41 rfl) rfl
theorem q840 : (Jvm.Cond.methodLink "PointLedgerLaw" (105 : Nat) ({ cls := "PointLedger", name := "recover", desc := "()I" } : Jvm.MethodName)) ∈ lw_all := lw_g (lw_at lw_m4 46 rfl) rfl
theorem q849 : (Jvm.Cond.methodLink "PointLedgerLaw" (109 : Nat) ({ cls := "PointLedger", name := "cell", desc := "(I)I" } : Jvm.MethodName)) ∈ lw_all := lw_g (lw_at lw_m4 55 rfl) rfl
theorem q853 : (Jvm.Cond.methodLink "PointLedgerLaw" (122 : Nat) ({ cls := "PointLedger", name := "look", desc := "(I)I" } : Jvm.MethodName)) ∈ lw_all := lw_g (lw_at lw_m4 59 rfl) rfl
theorem q861 : (Jvm.Cond.methodLink "PointLedgerLaw" (36 : Nat) ({ cls := "PointLedgerLaw", name := "cell", desc := "([II)I" } : Jvm.MethodName)) ∈ lw_all := lw_g (lw_at lw_m4 67 rfl) rfl
theorem q862 : (Jvm.Cond.static ({ cls := "PointLedgerLaw", name := "cell", desc := "([II)I" } : Jvm.MethodName)) ∈ lw_all := lw_g (lw_at lw_m4 68 rfl) rfl
theorem q863 : (Jvm.Cond.code ({ cls := "PointLedgerLaw", name := "cell", desc := "([II)I" } : Jvm.MethodName) method_2_code (2 : Nat) (Option.some Jvm.ClassFile.FieldType.int)) ∈ lw_all := lw_g (lw_at lw_m4 69 rfl) rfl
theorem q864 : (Jvm.Cond.methodLink "PointLedgerLaw" (87 : Nat) ({ cls := "PointLedgerLaw", name := "aggMin", desc := "(LPointLedger;III[J)I" } : Jvm.MethodName)) ∈ lw_all := lw_g (lw_at lw_m4 70 rfl) rfl
theorem q865 : (Jvm.Cond.static ({ cls := "PointLedgerLaw", name := "aggMin", desc := "(LPointLedger;III[J)I" } : Jvm.MethodName)) ∈ lw_all := lw_g (lw_at lw_m4 71 rfl) rfl
theorem q866 : (Jvm.Cond.codeWith ({ cls := "PointLedgerLaw", name := "aggMin", desc := "(LPointLedger;III[J)I" } : Jvm.MethodName) method_3_code (6 : Nat) (Option.some Jvm.ClassFile.FieldType.int) [((0 : Nat), (12 : Nat), (15 : Nat), (13 : Nat)), ((0 : Nat), (12 : Nat), (19 : Nat), (15 : Nat))]) ∈ lw_all := lw_g (lw_at lw_m4 72 rfl) rfl
theorem q867 : (Jvm.Cond.classLink "PointLedgerLaw" (13 : Nat) "java/lang/IllegalStateException") ∈ lw_all := lw_g (lw_at lw_m4 73 rfl) rfl
theorem q868 : (Jvm.Cond.classLink "PointLedgerLaw" (15 : Nat) "java/lang/IndexOutOfBoundsException") ∈ lw_all := lw_g (lw_at lw_m4 74 rfl) rfl
theorem q869 : (Jvm.Cond.methodLink "PointLedgerLaw" (7 : Nat) ({ cls := "PointLedger", name := "aggMin", desc := "(III)I" } : Jvm.MethodName)) ∈ lw_all := lw_g (lw_at lw_m4 75 rfl) rfl
theorem q907 : (Jvm.Cond.methodLink "PointLedgerLaw" (94 : Nat) ({ cls := "PointLedgerLaw", name := "aggMax", desc := "(LPointLedger;III[J)I" } : Jvm.MethodName)) ∈ lw_all := lw_g (lw_at lw_m4 113 rfl) rfl
theorem q908 : (Jvm.Cond.static ({ cls := "PointLedgerLaw", name := "aggMax", desc := "(LPointLedger;III[J)I" } : Jvm.MethodName)) ∈ lw_all := lw_g (lw_at lw_m4 114 rfl) rfl
theorem q909 : (Jvm.Cond.codeWith ({ cls := "PointLedgerLaw", name := "aggMax", desc := "(LPointLedger;III[J)I" } : Jvm.MethodName) method_4_code (6 : Nat) (Option.some Jvm.ClassFile.FieldType.int) [((0 : Nat), (12 : Nat), (15 : Nat), (13 : Nat)), ((0 : Nat), (12 : Nat), (19 : Nat), (15 : Nat))]) ∈ lw_all := lw_g (lw_at lw_m4 115 rfl) rfl
theorem q910 : (Jvm.Cond.methodLink "PointLedgerLaw" (17 : Nat) ({ cls := "PointLedger", name := "aggMax", desc := "(III)I" } : Jvm.MethodName)) ∈ lw_all := lw_g (lw_at lw_m4 116 rfl) rfl
theorem q914 : (Jvm.Cond.methodLink "PointLedgerLaw" (97 : Nat) ({ cls := "PointLedgerLaw", name := "aggSum", desc := "(LPointLedger;III[J)I" } : Jvm.MethodName)) ∈ lw_all := lw_g (lw_at lw_m4 120 rfl) rfl
theorem q915 : (Jvm.Cond.static ({ cls := "PointLedgerLaw", name := "aggSum", desc := "(LPointLedger;III[J)I" } : Jvm.MethodName)) ∈ lw_all := lw_g (lw_at lw_m4 121 rfl) rfl
theorem q916 : (Jvm.Cond.codeWith ({ cls := "PointLedgerLaw", name := "aggSum", desc := "(LPointLedger;III[J)I" } : Jvm.MethodName) method_5_code (6 : Nat) (Option.some Jvm.ClassFile.FieldType.int) [((0 : Nat), (11 : Nat), (14 : Nat), (13 : Nat)), ((0 : Nat), (11 : Nat), (18 : Nat), (15 : Nat))]) ∈ lw_all := lw_g (lw_at lw_m4 122 rfl) rfl
theorem q917 : (Jvm.Cond.methodLink "PointLedgerLaw" (20 : Nat) ({ cls := "PointLedger", name := "aggSum", desc := "(III)J" } : Jvm.MethodName)) ∈ lw_all := lw_g (lw_at lw_m4 123 rfl) rfl
theorem q921 : (Jvm.Cond.methodLink "PointLedgerLaw" (112 : Nat) ({ cls := "PointLedgerLaw", name := "sizes", desc := "(LPointLedger;II[J)I" } : Jvm.MethodName)) ∈ lw_all := lw_g (lw_at lw_m4 127 rfl) rfl
theorem q922 : (Jvm.Cond.static ({ cls := "PointLedgerLaw", name := "sizes", desc := "(LPointLedger;II[J)I" } : Jvm.MethodName)) ∈ lw_all := lw_g (lw_at lw_m4 128 rfl) rfl
theorem q923 : (Jvm.Cond.codeWith ({ cls := "PointLedgerLaw", name := "sizes", desc := "(LPointLedger;II[J)I" } : Jvm.MethodName) method_6_code (5 : Nat) (Option.some Jvm.ClassFile.FieldType.int) [((0 : Nat), (10 : Nat), (13 : Nat), (13 : Nat)), ((0 : Nat), (10 : Nat), (17 : Nat), (15 : Nat)), ((0 : Nat), (10 : Nat), (21 : Nat), (28 : Nat))]) ∈ lw_all := lw_g (lw_at lw_m4 129 rfl) rfl
theorem q924 : (Jvm.Cond.classLink "PointLedgerLaw" (28 : Nat) "java/util/NoSuchElementException") ∈ lw_all := lw_g (lw_at lw_m4 130 rfl) rfl
theorem q925 : (Jvm.Cond.methodLink "PointLedgerLaw" (24 : Nat) ({ cls := "PointLedger", name := "sizes", desc := "(II)I" } : Jvm.MethodName)) ∈ lw_all := lw_g (lw_at lw_m4 131 rfl) rfl
theorem q948 : (Jvm.Cond.methodLink "PointLedgerLaw" (116 : Nat) ({ cls := "PointLedgerLaw", name := "chunk", desc := "(LPointLedger;III[J)I" } : Jvm.MethodName)) ∈ lw_all := lw_g (lw_at lw_m4 154 rfl) rfl
theorem q949 : (Jvm.Cond.static ({ cls := "PointLedgerLaw", name := "chunk", desc := "(LPointLedger;III[J)I" } : Jvm.MethodName)) ∈ lw_all := lw_g (lw_at lw_m4 155 rfl) rfl
theorem q950 : (Jvm.Cond.codeWith ({ cls := "PointLedgerLaw", name := "chunk", desc := "(LPointLedger;III[J)I" } : Jvm.MethodName) method_7_code (6 : Nat) (Option.some Jvm.ClassFile.FieldType.int) [((0 : Nat), (12 : Nat), (15 : Nat), (13 : Nat)), ((0 : Nat), (12 : Nat), (19 : Nat), (15 : Nat)), ((0 : Nat), (12 : Nat), (23 : Nat), (28 : Nat))]) ∈ lw_all := lw_g (lw_at lw_m4 156 rfl) rfl
theorem q951 : (Jvm.Cond.methodLink "PointLedgerLaw" (30 : Nat) ({ cls := "PointLedger", name := "chunk", desc := "(III)I" } : Jvm.MethodName)) ∈ lw_all := lw_g (lw_at lw_m4 157 rfl) rfl
theorem q961 : (Jvm.Cond.methodLink "PointLedgerLaw" (119 : Nat) ({ cls := "PointLedgerLaw", name := "group", desc := "(LPointLedger;III[J)I" } : Jvm.MethodName)) ∈ lw_all := lw_g (lw_at lw_m4 167 rfl) rfl
theorem q962 : (Jvm.Cond.static ({ cls := "PointLedgerLaw", name := "group", desc := "(LPointLedger;III[J)I" } : Jvm.MethodName)) ∈ lw_all := lw_g (lw_at lw_m4 168 rfl) rfl
theorem q963 : (Jvm.Cond.codeWith ({ cls := "PointLedgerLaw", name := "group", desc := "(LPointLedger;III[J)I" } : Jvm.MethodName) method_8_code (6 : Nat) (Option.some Jvm.ClassFile.FieldType.int) [((0 : Nat), (12 : Nat), (15 : Nat), (13 : Nat)), ((0 : Nat), (12 : Nat), (19 : Nat), (15 : Nat)), ((0 : Nat), (12 : Nat), (23 : Nat), (28 : Nat))]) ∈ lw_all := lw_g (lw_at lw_m4 169 rfl) rfl
theorem q964 : (Jvm.Cond.methodLink "PointLedgerLaw" (33 : Nat) ({ cls := "PointLedger", name := "group", desc := "(III)I" } : Jvm.MethodName)) ∈ lw_all := lw_g (lw_at lw_m4 170 rfl) rfl
theorem q968 : (Jvm.Cond.classLink "PointLedgerLaw" (45 : Nat) "PointLedgerModel") ∈ lw_all := lw_g (lw_at lw_m4 174 rfl) rfl
theorem q970 : (Jvm.Cond.methodLink "PointLedgerLaw" (47 : Nat) ({ cls := "PointLedgerModel", name := "<init>", desc := "(III)V" } : Jvm.MethodName)) ∈ lw_all := lw_g (lw_at lw_m4 176 rfl) rfl
theorem q1098 : (Jvm.Cond.methodLink "PointLedgerLaw" (91 : Nat) ({ cls := "PointLedgerModel", name := "thrown", desc := "()I" } : Jvm.MethodName)) ∈ lw_all := lw_g (lw_at lw_m5 64 rfl) rfl
theorem q1102 : (Jvm.Cond.methodLink "PointLedgerLaw" (51 : Nat) ({ cls := "PointLedgerModel", name := "append", desc := "(III)I" } : Jvm.MethodName)) ∈ lw_all := lw_g (lw_at lw_m5 68 rfl) rfl
theorem q1122 : (Jvm.Cond.methodLink "PointLedgerLaw" (56 : Nat) ({ cls := "PointLedgerModel", name := "flush", desc := "()I" } : Jvm.MethodName)) ∈ lw_all := lw_g (lw_at lw_m5 88 rfl) rfl
theorem q1227 : (Jvm.Cond.methodLink "PointLedgerLaw" (61 : Nat) ({ cls := "PointLedgerModel", name := "compact", desc := "(I)I" } : Jvm.MethodName)) ∈ lw_all := lw_g (lw_at lw_m5 193 rfl) rfl
theorem q1239 : (Jvm.Cond.methodLink "PointLedgerLaw" (65 : Nat) ({ cls := "PointLedgerModel", name := "expire", desc := "(I)I" } : Jvm.MethodName)) ∈ lw_all := lw_g (lw_at lw_m5 205 rfl) rfl
theorem q1243 : (Jvm.Cond.methodLink "PointLedgerLaw" (69 : Nat) ({ cls := "PointLedgerModel", name := "seek", desc := "(III)I" } : Jvm.MethodName)) ∈ lw_all := lw_g (lw_at lw_m5 209 rfl) rfl
theorem q1278 : (Jvm.Cond.methodLink "PointLedgerLaw" (74 : Nat) ({ cls := "PointLedgerModel", name := "next", desc := "()Z" } : Jvm.MethodName)) ∈ lw_all := lw_g (lw_at lw_m6 4 rfl) rfl
theorem q1282 : (Jvm.Cond.methodLink "PointLedgerLaw" (78 : Nat) ({ cls := "PointLedgerModel", name := "curTime", desc := "()I" } : Jvm.MethodName)) ∈ lw_all := lw_g (lw_at lw_m6 8 rfl) rfl
theorem q1290 : (Jvm.Cond.methodLink "PointLedgerLaw" (82 : Nat) ({ cls := "PointLedgerModel", name := "curVal", desc := "()I" } : Jvm.MethodName)) ∈ lw_all := lw_g (lw_at lw_m6 16 rfl) rfl
theorem q1294 : (Jvm.Cond.methodLink "PointLedgerLaw" (86 : Nat) ({ cls := "PointLedgerModel", name := "aggCount", desc := "(III)I" } : Jvm.MethodName)) ∈ lw_all := lw_g (lw_at lw_m6 20 rfl) rfl
theorem q1298 : (Jvm.Cond.methodLink "PointLedgerLaw" (90 : Nat) ({ cls := "PointLedgerModel", name := "aggMin", desc := "(III)I" } : Jvm.MethodName)) ∈ lw_all := lw_g (lw_at lw_m6 24 rfl) rfl
theorem q1306 : (Jvm.Cond.methodLink "PointLedgerLaw" (96 : Nat) ({ cls := "PointLedgerModel", name := "aggMax", desc := "(III)I" } : Jvm.MethodName)) ∈ lw_all := lw_g (lw_at lw_m6 32 rfl) rfl
theorem q1310 : (Jvm.Cond.methodLink "PointLedgerLaw" (99 : Nat) ({ cls := "PointLedgerModel", name := "aggSum", desc := "(III)J" } : Jvm.MethodName)) ∈ lw_all := lw_g (lw_at lw_m6 36 rfl) rfl
theorem q1314 : (Jvm.Cond.methodLink "PointLedgerLaw" (104 : Nat) ({ cls := "PointLedgerModel", name := "crashAfter", desc := "(I)Z" } : Jvm.MethodName)) ∈ lw_all := lw_g (lw_at lw_m6 40 rfl) rfl
theorem q1319 : (Jvm.Cond.methodLink "PointLedgerLaw" (108 : Nat) ({ cls := "PointLedgerModel", name := "recover", desc := "()I" } : Jvm.MethodName)) ∈ lw_all := lw_g (lw_at lw_m6 45 rfl) rfl
theorem q1339 : (Jvm.Cond.methodLink "PointLedgerLaw" (111 : Nat) ({ cls := "PointLedgerModel", name := "cell", desc := "(I)I" } : Jvm.MethodName)) ∈ lw_all := lw_g (lw_at lw_m6 65 rfl) rfl
theorem q1343 : (Jvm.Cond.methodLink "PointLedgerLaw" (115 : Nat) ({ cls := "PointLedgerModel", name := "sizes", desc := "(II)I" } : Jvm.MethodName)) ∈ lw_all := lw_g (lw_at lw_m6 69 rfl) rfl
theorem q1347 : (Jvm.Cond.methodLink "PointLedgerLaw" (118 : Nat) ({ cls := "PointLedgerModel", name := "chunk", desc := "(III)I" } : Jvm.MethodName)) ∈ lw_all := lw_g (lw_at lw_m6 73 rfl) rfl
theorem q1351 : (Jvm.Cond.methodLink "PointLedgerLaw" (121 : Nat) ({ cls := "PointLedgerModel", name := "group", desc := "(III)I" } : Jvm.MethodName)) ∈ lw_all := lw_g (lw_at lw_m6 77 rfl) rfl
theorem q1355 : (Jvm.Cond.methodLink "PointLedgerLaw" (125 : Nat) ({ cls := "PointLedgerModel", name := "look", desc := "(I)I" } : Jvm.MethodName)) ∈ lw_all := lw_g (lw_at lw_m6 81 rfl) rfl
/-! PointLedger -/
def RX1 : String := "PointLedger"
def TX1 : u_T := fun k => match k with
  | 0 => ("PointLedger", "n", "I", true)
  | 1 => ("PointLedger", "most", "I", true)
  | 2 => ("PointLedger", "ratio", "I", true)
  | 3 => ("PointLedger", "disk", "LPointLedger$Disk;", true)
  | 4 => ("PointLedger", "heads", "[LPointLedger$Head;", true)
  | 5 => ("PointLedger", "packer", "LPointLedger$Packer;", true)
  | 6 => ("PointLedger", "unpacker", "LPointLedger$Unpacker;", true)
  | 7 => ("PointLedger", "now", "LPointLedger$Index;", false)
  | 8 => ("PointLedger", "next", "LPointLedger$Index;", false)
  | 9 => ("PointLedger", "groups", "LPointLedger$Spans;", true)
  | 10 => ("PointLedger", "groupBegins", "[I", true)
  | 11 => ("PointLedger", "taken", "[Z", true)
  | 12 => ("PointLedger", "epoch", "I", false)
  | 13 => ("PointLedger", "side", "I", false)
  | 14 => ("PointLedger", "logged", "I", false)
  | 15 => ("PointLedger", "recoveries", "I", false)
  | 16 => ("PointLedger", "walk", "LPointLedger$Walk;", true)
  | 17 => ("PointLedger", "cursor", "LPointLedger$Walk;", false)
  | 18 => ("PointLedger", "total", "LPointLedger$Total;", true)
  | 19 => ("PointLedger", "looks", "I", false)
  | _ => ("PointLedger", "unpacked", "I", false)
def tyX1 : Nat → FieldType := fun k => match k with
  | 0 => .int
  | 1 => .int
  | 2 => .int
  | 3 => .object "PointLedger$Disk"
  | 4 => .array (.object "PointLedger$Head")
  | 5 => .object "PointLedger$Packer"
  | 6 => .object "PointLedger$Unpacker"
  | 7 => .object "PointLedger$Index"
  | 8 => .object "PointLedger$Index"
  | 9 => .object "PointLedger$Spans"
  | 10 => .array .int
  | 11 => .array .boolean
  | 12 => .int
  | 13 => .int
  | 14 => .int
  | 15 => .int
  | 16 => .object "PointLedger$Walk"
  | 17 => .object "PointLedger$Walk"
  | 18 => .object "PointLedger$Total"
  | 19 => .int
  | _ => .int
abbrev wsX10 : List Cond := u_ws RX1 TX1 21
theorem nmX1 : ∀ a, a < 21 → ∀ b, b < 21 → a ≠ b → (TX1 a).2.1 ≠ (TX1 b).2.1 := by decide +kernel
theorem tyX1_ok : ∀ k, k < 21 → parseFieldDescriptor (TX1 k).2.2.1 = some (tyX1 k) := by decide +kernel
abbrev cX1_init : ByteArray := prog_1_method_1_code
def yX1_init : MethodName := ⟨RX1, "<init>", "(III)V"⟩
abbrev cX1_gather : ByteArray := prog_1_method_5_code
def yX1_gather : MethodName := ⟨RX1, "gather", "()V"⟩
abbrev cX1_append : ByteArray := prog_1_method_7_code
def yX1_append : MethodName := ⟨RX1, "append", "(III)I"⟩
abbrev cX1_isSeries : ByteArray := prog_1_method_3_code
def yX1_isSeries : MethodName := ⟨RX1, "isSeries", "(I)Z"⟩
abbrev cX1_head : ByteArray := prog_1_method_2_code
def yX1_head : MethodName := ⟨RX1, "head", "(I)LPointLedger$Head;"⟩
abbrev cX1_isRising : ByteArray := prog_1_method_6_code
def yX1_isRising : MethodName := ⟨RX1, "isRising", "(II)Z"⟩
abbrev cX1_flush : ByteArray := prog_1_method_18_code
def yX1_flush : MethodName := ⟨RX1, "flush", "()I"⟩
abbrev cX1_plans : ByteArray := prog_1_method_8_code
def yX1_plans : MethodName := ⟨RX1, "plans", "()V"⟩
abbrev cX1_opens : ByteArray := prog_1_method_9_code
def yX1_opens : MethodName := ⟨RX1, "opens", "(I)Z"⟩
abbrev cX1_adds : ByteArray := prog_1_method_10_code
def yX1_adds : MethodName := ⟨RX1, "adds", "(II)V"⟩
abbrev cX1_closes : ByteArray := prog_1_method_11_code
def yX1_closes : MethodName := ⟨RX1, "closes", "()V"⟩
abbrev cX1_done : ByteArray := prog_1_method_17_code
def yX1_done : MethodName := ⟨RX1, "done", "(II)I"⟩
abbrev cX1_places : ByteArray := prog_1_method_12_code
def yX1_places : MethodName := ⟨RX1, "places", "()Z"⟩
abbrev cX1_takes : ByteArray := prog_1_method_13_code
def yX1_takes : MethodName := ⟨RX1, "takes", "(II)V"⟩
abbrev cX1_free : ByteArray := prog_1_method_14_code
def yX1_free : MethodName := ⟨RX1, "free", "(I)I"⟩
abbrev cX1_turn : ByteArray := prog_1_method_15_code
def yX1_turn : MethodName := ⟨RX1, "turn", "(I)V"⟩
abbrev cX1_entry : ByteArray := prog_1_method_16_code
def yX1_entry : MethodName := ⟨RX1, "entry", "(II)V"⟩
abbrev cX1_compact : ByteArray := prog_1_method_21_code
def yX1_compact : MethodName := ⟨RX1, "compact", "(I)I"⟩
abbrev cX1_reach : ByteArray := prog_1_method_19_code
def yX1_reach : MethodName := ⟨RX1, "reach", "(II)I"⟩
abbrev cX1_merges : ByteArray := prog_1_method_20_code
def yX1_merges : MethodName := ⟨RX1, "merges", "(II)V"⟩
abbrev cX1_expire : ByteArray := prog_1_method_22_code
def yX1_expire : MethodName := ⟨RX1, "expire", "(I)I"⟩
abbrev cX1_aggCount : ByteArray := prog_1_method_25_code
def yX1_aggCount : MethodName := ⟨RX1, "aggCount", "(III)I"⟩
abbrev cX1_asks : ByteArray := prog_1_method_23_code
def yX1_asks : MethodName := ⟨RX1, "asks", "(III)V"⟩
abbrev cX1_asksGroup : ByteArray := prog_1_method_24_code
def yX1_asksGroup : MethodName := ⟨RX1, "asksGroup", "(IIII)V"⟩
abbrev cX1_seek : ByteArray := prog_1_method_30_code
def yX1_seek : MethodName := ⟨RX1, "seek", "(III)I"⟩
abbrev cX1_next : ByteArray := prog_1_method_31_code
def yX1_next : MethodName := ⟨RX1, "next", "()Z"⟩
abbrev cX1_curTime : ByteArray := prog_1_method_33_code
def yX1_curTime : MethodName := ⟨RX1, "curTime", "()I"⟩
abbrev cX1_isAt : ByteArray := prog_1_method_32_code
def yX1_isAt : MethodName := ⟨RX1, "isAt", "()Z"⟩
abbrev cX1_curVal : ByteArray := prog_1_method_34_code
def yX1_curVal : MethodName := ⟨RX1, "curVal", "()I"⟩
abbrev cX1_crashAfter : ByteArray := prog_1_method_35_code
def yX1_crashAfter : MethodName := ⟨RX1, "crashAfter", "(I)Z"⟩
abbrev cX1_recover : ByteArray := prog_1_method_37_code
def yX1_recover : MethodName := ⟨RX1, "recover", "()I"⟩
abbrev cX1_reads : ByteArray := prog_1_method_36_code
def yX1_reads : MethodName := ⟨RX1, "reads", "()V"⟩
abbrev cX1_cell : ByteArray := prog_1_method_38_code
def yX1_cell : MethodName := ⟨RX1, "cell", "(I)I"⟩
abbrev cX1_look : ByteArray := prog_1_method_43_code
def yX1_look : MethodName := ⟨RX1, "look", "(I)I"⟩
abbrev cX1_areaTaken : ByteArray := prog_1_method_42_code
def yX1_areaTaken : MethodName := ⟨RX1, "areaTaken", "()I"⟩
abbrev cX1_aggMin : ByteArray := prog_1_method_27_code
def yX1_aggMin : MethodName := ⟨RX1, "aggMin", "(III)I"⟩
abbrev cX1_need : ByteArray := prog_1_method_26_code
def yX1_need : MethodName := ⟨RX1, "need", "(I)V"⟩
abbrev cX1_aggMax : ByteArray := prog_1_method_28_code
def yX1_aggMax : MethodName := ⟨RX1, "aggMax", "(III)I"⟩
abbrev cX1_aggSum : ByteArray := prog_1_method_29_code
def yX1_aggSum : MethodName := ⟨RX1, "aggSum", "(III)J"⟩
abbrev cX1_sizes : ByteArray := prog_1_method_39_code
def yX1_sizes : MethodName := ⟨RX1, "sizes", "(II)I"⟩
abbrev cX1_chunks : ByteArray := prog_1_method_4_code
def yX1_chunks : MethodName := ⟨RX1, "chunks", "(I)I"⟩
abbrev cX1_chunk : ByteArray := prog_1_method_40_code
def yX1_chunk : MethodName := ⟨RX1, "chunk", "(III)I"⟩
abbrev cX1_group : ByteArray := prog_1_method_41_code
def yX1_group : MethodName := ⟨RX1, "group", "(III)I"⟩
theorem q75 : (Jvm.Cond.initialized "PointLedger") ∈ lw_all := lw_g (lw_at lw_m1 1 rfl) rfl
theorem q98 : (Jvm.Cond.instantiable "PointLedger" (21 : Nat)) ∈ lw_all := lw_g (lw_at lw_m1 24 rfl) rfl
theorem q100 : (Jvm.Cond.instanceMethod ({ cls := "PointLedger", name := "<init>", desc := "(III)V" } : Jvm.MethodName)) ∈ lw_all := lw_g (lw_at lw_m1 26 rfl) rfl
theorem q101 : (Jvm.Cond.code ({ cls := "PointLedger", name := "<init>", desc := "(III)V" } : Jvm.MethodName) prog_1_method_1_code (5 : Nat) (Option.none : Option Jvm.ClassFile.FieldType)) ∈ lw_all := lw_g (lw_at lw_m1 27 rfl) rfl
theorem q102 : (Jvm.Cond.methodLink "PointLedger" (3 : Nat) ({ cls := "java/lang/Object", name := "<init>", desc := "()V" } : Jvm.MethodName)) ∈ lw_all := lw_g (lw_at lw_m1 28 rfl) rfl
theorem q105 : (Jvm.Cond.classLink "PointLedger" (9 : Nat) "PointLedger$Disk") ∈ lw_all := lw_g (lw_at lw_m1 31 rfl) rfl
theorem q107 : (Jvm.Cond.methodLinkNest "PointLedger" (11 : Nat) ({ cls := "PointLedger$Disk", name := "<init>", desc := "()V" } : Jvm.MethodName) "PointLedger") ∈ lw_tbl := lw_at lw_m1 33 rfl
theorem q191 : (Jvm.Cond.fieldLinkNest "PointLedger" (25 : Nat) "PointLedger$Disk" "cells" "[I" "PointLedger") ∈ lw_tbl := lw_at lw_m1 117 rfl
theorem q194 : (Jvm.Cond.fieldLinkNest "PointLedger" (335 : Nat) "PointLedger$Disk" "fuse" "I" "PointLedger") ∈ lw_tbl := lw_at lw_m1 120 rfl
theorem q196 : (Jvm.Cond.fieldLinkNest "PointLedger" (141 : Nat) "PointLedger$Disk" "isDown" "Z" "PointLedger") ∈ lw_tbl := lw_at lw_m1 122 rfl
theorem q198 : (Jvm.Cond.fieldLinkNest "PointLedger" (355 : Nat) "PointLedger$Disk" "written" "I" "PointLedger") ∈ lw_tbl := lw_at lw_m1 124 rfl
theorem q210 : (Jvm.Cond.classLink "PointLedger" (16 : Nat) "PointLedger$Packer") ∈ lw_all := lw_g (lw_at lw_m1 136 rfl) rfl
theorem q212 : (Jvm.Cond.methodLinkNest "PointLedger" (18 : Nat) ({ cls := "PointLedger$Packer", name := "<init>", desc := "()V" } : Jvm.MethodName) "PointLedger") ∈ lw_tbl := lw_at lw_m1 138 rfl
theorem q217 : (Jvm.Cond.fieldLinkNest "PointLedger" (208 : Nat) "PointLedger$Packer" "cells" "[I" "PointLedger") ∈ lw_tbl := lw_at lw_m1 143 rfl
theorem q220 : (Jvm.Cond.fieldLinkNest "PointLedger" (180 : Nat) "PointLedger$Packer" "from" "I" "PointLedger") ∈ lw_tbl := lw_at lw_m1 146 rfl
theorem q240 : (Jvm.Cond.classLink "PointLedger" (23 : Nat) "PointLedger$Unpacker") ∈ lw_all := lw_g (lw_at lw_m1 166 rfl) rfl
theorem q242 : (Jvm.Cond.methodLink "PointLedger" (29 : Nat) ({ cls := "PointLedger$Unpacker", name := "<init>", desc := "([I)V" } : Jvm.MethodName)) ∈ lw_all := lw_g (lw_at lw_m1 168 rfl) rfl
theorem q259 : (Jvm.Cond.fieldLink "PointLedger" (267 : Nat) "PointLedger$Unpacker" "time" "I") ∈ lw_all := lw_g (lw_at lw_m1 185 rfl) rfl
theorem q260 : (Jvm.Cond.fieldLink "PointLedger" (332 : Nat) "PointLedger$Walk" "time" "I") ∈ lw_all := lw_g (lw_at lw_m1 186 rfl) rfl
theorem q266 : (Jvm.Cond.fieldLink "PointLedger" (270 : Nat) "PointLedger$Unpacker" "value" "I") ∈ lw_all := lw_g (lw_at lw_m1 192 rfl) rfl
theorem q267 : (Jvm.Cond.fieldLink "PointLedger" (333 : Nat) "PointLedger$Walk" "value" "I") ∈ lw_all := lw_g (lw_at lw_m1 193 rfl) rfl
theorem q283 : (Jvm.Cond.classLink "PointLedger" (36 : Nat) "PointLedger$Index") ∈ lw_all := lw_g (lw_at lw_m1 209 rfl) rfl
theorem q285 : (Jvm.Cond.methodLinkNest "PointLedger" (38 : Nat) ({ cls := "PointLedger$Index", name := "<init>", desc := "()V" } : Jvm.MethodName) "PointLedger") ∈ lw_tbl := lw_at lw_m1 211 rfl
theorem q296 : (Jvm.Cond.fieldLinkNest "PointLedger" (219 : Nat) "PointLedger$Spans" "first" "[I" "PointLedger") ∈ lw_tbl := lw_at lw_m1 222 rfl
theorem q298 : (Jvm.Cond.fieldLinkNest "PointLedger" (135 : Nat) "PointLedger$Spans" "last" "[I" "PointLedger") ∈ lw_tbl := lw_at lw_m1 224 rfl
theorem q301 : (Jvm.Cond.fieldLinkNest "PointLedger" (225 : Nat) "PointLedger$Spans" "least" "[I" "PointLedger") ∈ lw_tbl := lw_at lw_m1 227 rfl
theorem q304 : (Jvm.Cond.fieldLinkNest "PointLedger" (228 : Nat) "PointLedger$Spans" "greatest" "[I" "PointLedger") ∈ lw_tbl := lw_at lw_m1 230 rfl
theorem q308 : (Jvm.Cond.fieldLinkNest "PointLedger" (222 : Nat) "PointLedger$Spans" "points" "[S" "PointLedger") ∈ lw_tbl := lw_at lw_m1 234 rfl
theorem q311 : (Jvm.Cond.fieldLinkNest "PointLedger" (231 : Nat) "PointLedger$Spans" "sums" "[J" "PointLedger") ∈ lw_tbl := lw_at lw_m1 237 rfl
theorem q329 : (Jvm.Cond.fieldLinkNest "PointLedger" (122 : Nat) "PointLedger$Index" "spans" "LPointLedger$Spans;" "PointLedger") ∈ lw_tbl := lw_at lw_m2 15 rfl
theorem q331 : (Jvm.Cond.fieldLinkNest "PointLedger" (215 : Nat) "PointLedger$Index" "series" "[B" "PointLedger") ∈ lw_tbl := lw_at lw_m2 17 rfl
theorem q334 : (Jvm.Cond.fieldLinkNest "PointLedger" (197 : Nat) "PointLedger$Index" "place" "[C" "PointLedger") ∈ lw_tbl := lw_at lw_m2 20 rfl
theorem q336 : (Jvm.Cond.fieldLinkNest "PointLedger" (189 : Nat) "PointLedger$Index" "length" "[S" "PointLedger") ∈ lw_tbl := lw_at lw_m2 22 rfl
theorem q338 : (Jvm.Cond.fieldLinkNest "PointLedger" (177 : Nat) "PointLedger$Index" "waits" "[I" "PointLedger") ∈ lw_tbl := lw_at lw_m2 24 rfl
theorem q340 : (Jvm.Cond.fieldLinkNest "PointLedger" (168 : Nat) "PointLedger$Index" "many" "I" "PointLedger") ∈ lw_tbl := lw_at lw_m2 26 rfl
theorem q343 : (Jvm.Cond.fieldLinkNest "PointLedger" (116 : Nat) "PointLedger$Index" "begins" "[I" "PointLedger") ∈ lw_tbl := lw_at lw_m2 29 rfl
theorem q361 : (Jvm.Cond.classLink "PointLedger" (46 : Nat) "PointLedger$Spans") ∈ lw_all := lw_g (lw_at lw_m2 47 rfl) rfl
theorem q362 : (Jvm.Cond.methodLink "PointLedger" (48 : Nat) ({ cls := "PointLedger$Spans", name := "<init>", desc := "(I)V" } : Jvm.MethodName)) ∈ lw_all := lw_g (lw_at lw_m2 48 rfl) rfl
theorem q363 : (Jvm.Cond.classLink "PointLedger" (62 : Nat) "PointLedger$Walk") ∈ lw_all := lw_g (lw_at lw_m2 49 rfl) rfl
theorem q365 : (Jvm.Cond.methodLinkNest "PointLedger" (64 : Nat) ({ cls := "PointLedger$Walk", name := "<init>", desc := "(LPointLedger;)V" } : Jvm.MethodName) "PointLedger") ∈ lw_tbl := lw_at lw_m2 51 rfl
theorem q379 : (Jvm.Cond.fieldLinkNest "PointLedger" (327 : Nat) "PointLedger$Walk" "isAt" "Z" "PointLedger") ∈ lw_tbl := lw_at lw_m2 65 rfl
theorem q403 : (Jvm.Cond.classLink "PointLedger" (71 : Nat) "PointLedger$Total") ∈ lw_all := lw_g (lw_at lw_m2 89 rfl) rfl
theorem q405 : (Jvm.Cond.methodLinkNest "PointLedger" (73 : Nat) ({ cls := "PointLedger$Total", name := "<init>", desc := "(LPointLedger;)V" } : Jvm.MethodName) "PointLedger") ∈ lw_tbl := lw_at lw_m2 91 rfl
theorem q410 : (Jvm.Cond.fieldLinkNest "PointLedger" (304 : Nat) "PointLedger$Total" "many" "I" "PointLedger") ∈ lw_tbl := lw_at lw_m2 96 rfl
theorem q412 : (Jvm.Cond.fieldLinkNest "PointLedger" (314 : Nat) "PointLedger$Total" "least" "I" "PointLedger") ∈ lw_tbl := lw_at lw_m2 98 rfl
theorem q414 : (Jvm.Cond.fieldLinkNest "PointLedger" (316 : Nat) "PointLedger$Total" "greatest" "I" "PointLedger") ∈ lw_tbl := lw_at lw_m2 100 rfl
theorem q416 : (Jvm.Cond.fieldLinkNest "PointLedger" (318 : Nat) "PointLedger$Total" "sum" "J" "PointLedger") ∈ lw_tbl := lw_at lw_m2 102 rfl
theorem q429 : (Jvm.Cond.methodLink "PointLedger" (78 : Nat) ({ cls := "java/lang/Math", name := "max", desc := "(II)I" } : Jvm.MethodName)) ∈ lw_all := lw_g (lw_at lw_m2 115 rfl) rfl
theorem q432 : (Jvm.Cond.methodLink "PointLedger" (84 : Nat) ({ cls := "java/lang/Math", name := "min", desc := "(II)I" } : Jvm.MethodName)) ∈ lw_all := lw_g (lw_at lw_m2 118 rfl) rfl
theorem q435 : (Jvm.Cond.classLink "PointLedger" (97 : Nat) "PointLedger$Head") ∈ lw_all := lw_g (lw_at lw_m2 121 rfl) rfl
theorem q438 : (Jvm.Cond.methodLinkNest "PointLedger" (103 : Nat) ({ cls := "PointLedger$Head", name := "<init>", desc := "()V" } : Jvm.MethodName) "PointLedger") ∈ lw_tbl := lw_at lw_m2 124 rfl
theorem q444 : (Jvm.Cond.fieldLinkNest "PointLedger" (132 : Nat) "PointLedger$Head" "times" "[I" "PointLedger") ∈ lw_tbl := lw_at lw_m2 130 rfl
theorem q447 : (Jvm.Cond.fieldLinkNest "PointLedger" (250 : Nat) "PointLedger$Head" "values" "[I" "PointLedger") ∈ lw_tbl := lw_at lw_m2 133 rfl
theorem q450 : (Jvm.Cond.fieldLinkNest "PointLedger" (129 : Nat) "PointLedger$Head" "many" "I" "PointLedger") ∈ lw_tbl := lw_at lw_m2 136 rfl
theorem q458 : (Jvm.Cond.methodLink "PointLedger" (104 : Nat) ({ cls := "PointLedger$Index", name := "ends", desc := "()V" } : Jvm.MethodName)) ∈ lw_all := lw_g (lw_at lw_m2 144 rfl) rfl
theorem q462 : (Jvm.Cond.methodLink "PointLedger" (107 : Nat) ({ cls := "PointLedger", name := "gather", desc := "()V" } : Jvm.MethodName)) ∈ lw_all := lw_g (lw_at lw_m2 148 rfl) rfl
theorem q463 : (Jvm.Cond.privateMethod ({ cls := "PointLedger", name := "gather", desc := "()V" } : Jvm.MethodName)) ∈ lw_tbl := lw_at lw_m2 149 rfl
theorem q464 : (Jvm.Cond.instanceMethod ({ cls := "PointLedger", name := "gather", desc := "()V" } : Jvm.MethodName)) ∈ lw_all := lw_g (lw_at lw_m2 150 rfl) rfl
theorem q465 : (Jvm.Cond.code ({ cls := "PointLedger", name := "gather", desc := "()V" } : Jvm.MethodName) prog_1_method_5_code (5 : Nat) (Option.none : Option Jvm.ClassFile.FieldType)) ∈ lw_all := lw_g (lw_at lw_m2 151 rfl) rfl
theorem q466 : (Jvm.Cond.methodLink "PointLedger" (119 : Nat) ({ cls := "PointLedger$Spans", name := "begin", desc := "(I)V" } : Jvm.MethodName)) ∈ lw_all := lw_g (lw_at lw_m2 152 rfl) rfl
theorem q470 : (Jvm.Cond.methodLink "PointLedger" (125 : Nat) ({ cls := "PointLedger$Spans", name := "join", desc := "(ILPointLedger$Spans;I)V" } : Jvm.MethodName)) ∈ lw_all := lw_g (lw_at lw_m2 156 rfl) rfl
theorem q476 : (Jvm.Cond.fieldLink "PointLedger" (87 : Nat) "PointLedger" "n" "I") ∈ lw_all := lw_g (lw_at lw_m2 162 rfl) rfl
theorem q477 : (Jvm.Cond.fieldLink "PointLedger" (91 : Nat) "PointLedger" "most" "I") ∈ lw_all := lw_g (lw_at lw_m2 163 rfl) rfl
theorem q478 : (Jvm.Cond.fieldLink "PointLedger" (94 : Nat) "PointLedger" "ratio" "I") ∈ lw_all := lw_g (lw_at lw_m2 164 rfl) rfl
theorem q479 : (Jvm.Cond.fieldLink "PointLedger" (12 : Nat) "PointLedger" "disk" "LPointLedger$Disk;") ∈ lw_all := lw_g (lw_at lw_m2 165 rfl) rfl
theorem q481 : (Jvm.Cond.fieldLink "PointLedger" (99 : Nat) "PointLedger" "heads" "[LPointLedger$Head;") ∈ lw_all := lw_g (lw_at lw_m2 167 rfl) rfl
theorem q483 : (Jvm.Cond.fieldLink "PointLedger" (19 : Nat) "PointLedger" "packer" "LPointLedger$Packer;") ∈ lw_all := lw_g (lw_at lw_m2 169 rfl) rfl
theorem q484 : (Jvm.Cond.fieldLink "PointLedger" (32 : Nat) "PointLedger" "unpacker" "LPointLedger$Unpacker;") ∈ lw_all := lw_g (lw_at lw_m2 170 rfl) rfl
theorem q485 : (Jvm.Cond.fieldLink "PointLedger" (39 : Nat) "PointLedger" "now" "LPointLedger$Index;") ∈ lw_all := lw_g (lw_at lw_m2 171 rfl) rfl
theorem q487 : (Jvm.Cond.fieldLink "PointLedger" (43 : Nat) "PointLedger" "next" "LPointLedger$Index;") ∈ lw_all := lw_g (lw_at lw_m2 173 rfl) rfl
theorem q488 : (Jvm.Cond.fieldLink "PointLedger" (51 : Nat) "PointLedger" "groups" "LPointLedger$Spans;") ∈ lw_all := lw_g (lw_at lw_m2 174 rfl) rfl
theorem q489 : (Jvm.Cond.fieldLink "PointLedger" (55 : Nat) "PointLedger" "groupBegins" "[I") ∈ lw_all := lw_g (lw_at lw_m2 175 rfl) rfl
theorem q490 : (Jvm.Cond.fieldLink "PointLedger" (58 : Nat) "PointLedger" "taken" "[Z") ∈ lw_all := lw_g (lw_at lw_m2 176 rfl) rfl
theorem q491 : (Jvm.Cond.fieldLink "PointLedger" (160 : Nat) "PointLedger" "epoch" "I") ∈ lw_all := lw_g (lw_at lw_m2 177 rfl) rfl
theorem q492 : (Jvm.Cond.fieldLink "PointLedger" (209 : Nat) "PointLedger" "side" "I") ∈ lw_all := lw_g (lw_at lw_m2 178 rfl) rfl
theorem q493 : (Jvm.Cond.fieldLink "PointLedger" (153 : Nat) "PointLedger" "logged" "I") ∈ lw_all := lw_g (lw_at lw_m2 179 rfl) rfl
theorem q494 : (Jvm.Cond.fieldLink "PointLedger" (340 : Nat) "PointLedger" "recoveries" "I") ∈ lw_all := lw_g (lw_at lw_m2 180 rfl) rfl
theorem q495 : (Jvm.Cond.fieldLink "PointLedger" (67 : Nat) "PointLedger" "walk" "LPointLedger$Walk;") ∈ lw_all := lw_g (lw_at lw_m2 181 rfl) rfl
theorem q496 : (Jvm.Cond.fieldLink "PointLedger" (138 : Nat) "PointLedger" "cursor" "LPointLedger$Walk;") ∈ lw_all := lw_g (lw_at lw_m2 182 rfl) rfl
theorem q497 : (Jvm.Cond.fieldLink "PointLedger" (74 : Nat) "PointLedger" "total" "LPointLedger$Total;") ∈ lw_all := lw_g (lw_at lw_m2 183 rfl) rfl
theorem q498 : (Jvm.Cond.fieldLink "PointLedger" (280 : Nat) "PointLedger" "looks" "I") ∈ lw_all := lw_g (lw_at lw_m2 184 rfl) rfl
theorem q499 : (Jvm.Cond.fieldLink "PointLedger" (283 : Nat) "PointLedger" "unpacked" "I") ∈ lw_all := lw_g (lw_at lw_m2 185 rfl) rfl
theorem q500 : (Jvm.Cond.laysFinal "PointLedger" "PointLedger" "n" "I") ∈ lw_all := lw_g (lw_at lw_m2 186 rfl) rfl
theorem q501 : (Jvm.Cond.soleField "PointLedger" "n") ∈ lw_all := lw_g (lw_at lw_m2 187 rfl) rfl
theorem q502 : (Jvm.Cond.laysFinal "PointLedger" "PointLedger" "most" "I") ∈ lw_all := lw_g (lw_at lw_m2 188 rfl) rfl
theorem q503 : (Jvm.Cond.soleField "PointLedger" "most") ∈ lw_all := lw_g (lw_at lw_m2 189 rfl) rfl
theorem q504 : (Jvm.Cond.laysFinal "PointLedger" "PointLedger" "ratio" "I") ∈ lw_all := lw_g (lw_at lw_m2 190 rfl) rfl
theorem q505 : (Jvm.Cond.soleField "PointLedger" "ratio") ∈ lw_all := lw_g (lw_at lw_m2 191 rfl) rfl
theorem q506 : (Jvm.Cond.laysFinal "PointLedger" "PointLedger" "disk" "LPointLedger$Disk;") ∈ lw_all := lw_g (lw_at lw_m2 192 rfl) rfl
theorem q507 : (Jvm.Cond.soleField "PointLedger" "disk") ∈ lw_all := lw_g (lw_at lw_m2 193 rfl) rfl
theorem q508 : (Jvm.Cond.laysFinal "PointLedger" "PointLedger" "heads" "[LPointLedger$Head;") ∈ lw_all := lw_g (lw_at lw_m2 194 rfl) rfl
theorem q509 : (Jvm.Cond.soleField "PointLedger" "heads") ∈ lw_all := lw_g (lw_at lw_m2 195 rfl) rfl
theorem q510 : (Jvm.Cond.laysFinal "PointLedger" "PointLedger" "packer" "LPointLedger$Packer;") ∈ lw_all := lw_g (lw_at lw_m2 196 rfl) rfl
theorem q511 : (Jvm.Cond.soleField "PointLedger" "packer") ∈ lw_all := lw_g (lw_at lw_m2 197 rfl) rfl
theorem q512 : (Jvm.Cond.laysFinal "PointLedger" "PointLedger" "unpacker" "LPointLedger$Unpacker;") ∈ lw_all := lw_g (lw_at lw_m2 198 rfl) rfl
theorem q513 : (Jvm.Cond.soleField "PointLedger" "unpacker") ∈ lw_all := lw_g (lw_at lw_m2 199 rfl) rfl
theorem q514 : (Jvm.Cond.lays "PointLedger" "PointLedger" "now" "LPointLedger$Index;") ∈ lw_all := lw_g (lw_at lw_m2 200 rfl) rfl
theorem q515 : (Jvm.Cond.soleField "PointLedger" "now") ∈ lw_all := lw_g (lw_at lw_m2 201 rfl) rfl
theorem q516 : (Jvm.Cond.lays "PointLedger" "PointLedger" "next" "LPointLedger$Index;") ∈ lw_all := lw_g (lw_at lw_m2 202 rfl) rfl
theorem q517 : (Jvm.Cond.soleField "PointLedger" "next") ∈ lw_all := lw_g (lw_at lw_m2 203 rfl) rfl
theorem q518 : (Jvm.Cond.laysFinal "PointLedger" "PointLedger" "groups" "LPointLedger$Spans;") ∈ lw_all := lw_g (lw_at lw_m2 204 rfl) rfl
theorem q519 : (Jvm.Cond.soleField "PointLedger" "groups") ∈ lw_all := lw_g (lw_at lw_m2 205 rfl) rfl
theorem q520 : (Jvm.Cond.laysFinal "PointLedger" "PointLedger" "groupBegins" "[I") ∈ lw_all := lw_g (lw_at lw_m2 206 rfl) rfl
theorem q521 : (Jvm.Cond.soleField "PointLedger" "groupBegins") ∈ lw_all := lw_g (lw_at lw_m2 207 rfl) rfl
theorem q522 : (Jvm.Cond.laysFinal "PointLedger" "PointLedger" "taken" "[Z") ∈ lw_all := lw_g (lw_at lw_m2 208 rfl) rfl
theorem q523 : (Jvm.Cond.soleField "PointLedger" "taken") ∈ lw_all := lw_g (lw_at lw_m2 209 rfl) rfl
theorem q524 : (Jvm.Cond.lays "PointLedger" "PointLedger" "epoch" "I") ∈ lw_all := lw_g (lw_at lw_m2 210 rfl) rfl
theorem q525 : (Jvm.Cond.soleField "PointLedger" "epoch") ∈ lw_all := lw_g (lw_at lw_m2 211 rfl) rfl
theorem q526 : (Jvm.Cond.lays "PointLedger" "PointLedger" "side" "I") ∈ lw_all := lw_g (lw_at lw_m2 212 rfl) rfl
theorem q527 : (Jvm.Cond.soleField "PointLedger" "side") ∈ lw_all := lw_g (lw_at lw_m2 213 rfl) rfl
theorem q528 : (Jvm.Cond.lays "PointLedger" "PointLedger" "logged" "I") ∈ lw_all := lw_g (lw_at lw_m2 214 rfl) rfl
theorem q529 : (Jvm.Cond.soleField "PointLedger" "logged") ∈ lw_all := lw_g (lw_at lw_m2 215 rfl) rfl
theorem q530 : (Jvm.Cond.lays "PointLedger" "PointLedger" "recoveries" "I") ∈ lw_all := lw_g (lw_at lw_m2 216 rfl) rfl
theorem q531 : (Jvm.Cond.soleField "PointLedger" "recoveries") ∈ lw_all := lw_g (lw_at lw_m2 217 rfl) rfl
theorem q532 : (Jvm.Cond.laysFinal "PointLedger" "PointLedger" "walk" "LPointLedger$Walk;") ∈ lw_all := lw_g (lw_at lw_m2 218 rfl) rfl
theorem q533 : (Jvm.Cond.soleField "PointLedger" "walk") ∈ lw_all := lw_g (lw_at lw_m2 219 rfl) rfl
theorem q534 : (Jvm.Cond.lays "PointLedger" "PointLedger" "cursor" "LPointLedger$Walk;") ∈ lw_all := lw_g (lw_at lw_m2 220 rfl) rfl
theorem q535 : (Jvm.Cond.soleField "PointLedger" "cursor") ∈ lw_all := lw_g (lw_at lw_m2 221 rfl) rfl
theorem q536 : (Jvm.Cond.laysFinal "PointLedger" "PointLedger" "total" "LPointLedger$Total;") ∈ lw_all := lw_g (lw_at lw_m2 222 rfl) rfl
theorem q537 : (Jvm.Cond.soleField "PointLedger" "total") ∈ lw_all := lw_g (lw_at lw_m2 223 rfl) rfl
theorem q538 : (Jvm.Cond.lays "PointLedger" "PointLedger" "looks" "I") ∈ lw_all := lw_g (lw_at lw_m2 224 rfl) rfl
theorem q539 : (Jvm.Cond.soleField "PointLedger" "looks") ∈ lw_all := lw_g (lw_at lw_m2 225 rfl) rfl
theorem q540 : (Jvm.Cond.lays "PointLedger" "PointLedger" "unpacked" "I") ∈ lw_all := lw_g (lw_at lw_m2 226 rfl) rfl
theorem q541 : (Jvm.Cond.soleField "PointLedger" "unpacked") ∈ lw_all := lw_g (lw_at lw_m2 227 rfl) rfl
theorem q542 : (Jvm.Cond.superclass "PointLedger" "java/lang/Object") ∈ lw_all := lw_g (lw_at lw_m2 228 rfl) rfl
theorem q544 : (Jvm.Cond.instanceMethod ({ cls := "PointLedger", name := "append", desc := "(III)I" } : Jvm.MethodName)) ∈ lw_all := lw_g (lw_at lw_m2 230 rfl) rfl
theorem q545 : (Jvm.Cond.selects "PointLedger" ({ cls := "PointLedger", name := "append", desc := "(III)I" } : Jvm.MethodName) ({ cls := "PointLedger", name := "append", desc := "(III)I" } : Jvm.MethodName)) ∈ lw_all := lw_g (lw_at lw_m2 231 rfl) rfl
theorem q546 : (Jvm.Cond.codeWith ({ cls := "PointLedger", name := "append", desc := "(III)I" } : Jvm.MethodName) prog_1_method_7_code (6 : Nat) (Option.some Jvm.ClassFile.FieldType.int) [((65 : Nat), (116 : Nat), (119 : Nat), (163 : Nat))]) ∈ lw_all := lw_g (lw_at lw_m2 232 rfl) rfl
theorem q547 : (Jvm.Cond.classLink "PointLedger" (163 : Nat) "PointLedger$Cut") ∈ lw_all := lw_g (lw_at lw_m2 233 rfl) rfl
theorem q548 : (Jvm.Cond.methodLink "PointLedger" (145 : Nat) ({ cls := "PointLedger", name := "isSeries", desc := "(I)Z" } : Jvm.MethodName)) ∈ lw_all := lw_g (lw_at lw_m2 234 rfl) rfl
theorem q549 : (Jvm.Cond.privateMethod ({ cls := "PointLedger", name := "isSeries", desc := "(I)Z" } : Jvm.MethodName)) ∈ lw_tbl := lw_at lw_m2 235 rfl
theorem q550 : (Jvm.Cond.instanceMethod ({ cls := "PointLedger", name := "isSeries", desc := "(I)Z" } : Jvm.MethodName)) ∈ lw_all := lw_g (lw_at lw_m2 236 rfl) rfl
theorem q551 : (Jvm.Cond.code ({ cls := "PointLedger", name := "isSeries", desc := "(I)Z" } : Jvm.MethodName) prog_1_method_3_code (2 : Nat) (Option.some Jvm.ClassFile.FieldType.boolean)) ∈ lw_all := lw_g (lw_at lw_m2 237 rfl) rfl
theorem q552 : (Jvm.Cond.methodLink "PointLedger" (112 : Nat) ({ cls := "PointLedger", name := "head", desc := "(I)LPointLedger$Head;" } : Jvm.MethodName)) ∈ lw_all := lw_g (lw_at lw_m2 238 rfl) rfl
theorem q553 : (Jvm.Cond.privateMethod ({ cls := "PointLedger", name := "head", desc := "(I)LPointLedger$Head;" } : Jvm.MethodName)) ∈ lw_tbl := lw_at lw_m2 239 rfl
theorem q554 : (Jvm.Cond.instanceMethod ({ cls := "PointLedger", name := "head", desc := "(I)LPointLedger$Head;" } : Jvm.MethodName)) ∈ lw_all := lw_g (lw_at lw_m3 0 rfl) rfl
theorem q555 : (Jvm.Cond.codeWith ({ cls := "PointLedger", name := "head", desc := "(I)LPointLedger$Head;" } : Jvm.MethodName) prog_1_method_2_code (3 : Nat) (Option.some (Jvm.ClassFile.FieldType.object "PointLedger$Head")) [((0 : Nat), (6 : Nat), (7 : Nat), (110 : Nat))]) ∈ lw_all := lw_g (lw_at lw_m3 1 rfl) rfl
theorem q556 : (Jvm.Cond.classLink "PointLedger" (110 : Nat) "java/lang/ArrayIndexOutOfBoundsException") ∈ lw_all := lw_g (lw_at lw_m3 2 rfl) rfl
theorem q590 : (Jvm.Cond.methodLink "PointLedger" (149 : Nat) ({ cls := "PointLedger", name := "isRising", desc := "(II)Z" } : Jvm.MethodName)) ∈ lw_all := lw_g (lw_at lw_m3 36 rfl) rfl
theorem q591 : (Jvm.Cond.privateMethod ({ cls := "PointLedger", name := "isRising", desc := "(II)Z" } : Jvm.MethodName)) ∈ lw_tbl := lw_at lw_m3 37 rfl
theorem q592 : (Jvm.Cond.instanceMethod ({ cls := "PointLedger", name := "isRising", desc := "(II)Z" } : Jvm.MethodName)) ∈ lw_all := lw_g (lw_at lw_m3 38 rfl) rfl
theorem q593 : (Jvm.Cond.code ({ cls := "PointLedger", name := "isRising", desc := "(II)Z" } : Jvm.MethodName) prog_1_method_6_code (5 : Nat) (Option.some Jvm.ClassFile.FieldType.boolean)) ∈ lw_all := lw_g (lw_at lw_m3 39 rfl) rfl
theorem q594 : (Jvm.Cond.methodLink "PointLedger" (156 : Nat) ({ cls := "PointLedger$Disk", name := "write", desc := "(II)V" } : Jvm.MethodName)) ∈ lw_all := lw_g (lw_at lw_m3 40 rfl) rfl
theorem q598 : (Jvm.Cond.methodLink "PointLedger" (165 : Nat) ({ cls := "PointLedger$Head", name := "add", desc := "(II)V" } : Jvm.MethodName)) ∈ lw_all := lw_g (lw_at lw_m3 44 rfl) rfl
theorem q603 : (Jvm.Cond.instanceMethod ({ cls := "PointLedger", name := "flush", desc := "()I" } : Jvm.MethodName)) ∈ lw_all := lw_g (lw_at lw_m3 49 rfl) rfl
theorem q604 : (Jvm.Cond.selects "PointLedger" ({ cls := "PointLedger", name := "flush", desc := "()I" } : Jvm.MethodName) ({ cls := "PointLedger", name := "flush", desc := "()I" } : Jvm.MethodName)) ∈ lw_all := lw_g (lw_at lw_m3 50 rfl) rfl
theorem q605 : (Jvm.Cond.code ({ cls := "PointLedger", name := "flush", desc := "()I" } : Jvm.MethodName) prog_1_method_18_code (7 : Nat) (Option.some Jvm.ClassFile.FieldType.int)) ∈ lw_all := lw_g (lw_at lw_m3 51 rfl) rfl
theorem q606 : (Jvm.Cond.methodLink "PointLedger" (242 : Nat) ({ cls := "PointLedger", name := "plans", desc := "()V" } : Jvm.MethodName)) ∈ lw_all := lw_g (lw_at lw_m3 52 rfl) rfl
theorem q607 : (Jvm.Cond.privateMethod ({ cls := "PointLedger", name := "plans", desc := "()V" } : Jvm.MethodName)) ∈ lw_tbl := lw_at lw_m3 53 rfl
theorem q608 : (Jvm.Cond.instanceMethod ({ cls := "PointLedger", name := "plans", desc := "()V" } : Jvm.MethodName)) ∈ lw_all := lw_g (lw_at lw_m3 54 rfl) rfl
theorem q609 : (Jvm.Cond.code ({ cls := "PointLedger", name := "plans", desc := "()V" } : Jvm.MethodName) prog_1_method_8_code (1 : Nat) (Option.none : Option Jvm.ClassFile.FieldType)) ∈ lw_all := lw_g (lw_at lw_m3 55 rfl) rfl
theorem q610 : (Jvm.Cond.methodLink "PointLedger" (169 : Nat) ({ cls := "PointLedger$Packer", name := "clear", desc := "()V" } : Jvm.MethodName)) ∈ lw_all := lw_g (lw_at lw_m3 56 rfl) rfl
theorem q614 : (Jvm.Cond.methodLink "PointLedger" (245 : Nat) ({ cls := "PointLedger$Index", name := "copies", desc := "(LPointLedger$Index;I)Z" } : Jvm.MethodName)) ∈ lw_all := lw_g (lw_at lw_m3 60 rfl) rfl
theorem q624 : (Jvm.Cond.methodLink "PointLedger" (249 : Nat) ({ cls := "PointLedger", name := "opens", desc := "(I)Z" } : Jvm.MethodName)) ∈ lw_all := lw_g (lw_at lw_m3 70 rfl) rfl
theorem q625 : (Jvm.Cond.privateMethod ({ cls := "PointLedger", name := "opens", desc := "(I)Z" } : Jvm.MethodName)) ∈ lw_tbl := lw_at lw_m3 71 rfl
theorem q626 : (Jvm.Cond.instanceMethod ({ cls := "PointLedger", name := "opens", desc := "(I)Z" } : Jvm.MethodName)) ∈ lw_all := lw_g (lw_at lw_m3 72 rfl) rfl
theorem q627 : (Jvm.Cond.code ({ cls := "PointLedger", name := "opens", desc := "(I)Z" } : Jvm.MethodName) prog_1_method_9_code (2 : Nat) (Option.some Jvm.ClassFile.FieldType.boolean)) ∈ lw_all := lw_g (lw_at lw_m3 73 rfl) rfl
theorem q628 : (Jvm.Cond.methodLink "PointLedger" (172 : Nat) ({ cls := "PointLedger$Index", name := "opens", desc := "(I)Z" } : Jvm.MethodName)) ∈ lw_all := lw_g (lw_at lw_m3 74 rfl) rfl
theorem q629 : (Jvm.Cond.methodLink "PointLedger" (175 : Nat) ({ cls := "PointLedger$Packer", name := "begin", desc := "()V" } : Jvm.MethodName)) ∈ lw_all := lw_g (lw_at lw_m3 75 rfl) rfl
theorem q633 : (Jvm.Cond.methodLink "PointLedger" (253 : Nat) ({ cls := "PointLedger", name := "adds", desc := "(II)V" } : Jvm.MethodName)) ∈ lw_all := lw_g (lw_at lw_m3 79 rfl) rfl
theorem q634 : (Jvm.Cond.privateMethod ({ cls := "PointLedger", name := "adds", desc := "(II)V" } : Jvm.MethodName)) ∈ lw_tbl := lw_at lw_m3 80 rfl
theorem q635 : (Jvm.Cond.instanceMethod ({ cls := "PointLedger", name := "adds", desc := "(II)V" } : Jvm.MethodName)) ∈ lw_all := lw_g (lw_at lw_m3 81 rfl) rfl
theorem q636 : (Jvm.Cond.code ({ cls := "PointLedger", name := "adds", desc := "(II)V" } : Jvm.MethodName) prog_1_method_10_code (3 : Nat) (Option.none : Option Jvm.ClassFile.FieldType)) ∈ lw_all := lw_g (lw_at lw_m3 82 rfl) rfl
theorem q637 : (Jvm.Cond.methodLink "PointLedger" (183 : Nat) ({ cls := "PointLedger$Spans", name := "add", desc := "(III)V" } : Jvm.MethodName)) ∈ lw_all := lw_g (lw_at lw_m3 83 rfl) rfl
theorem q641 : (Jvm.Cond.methodLink "PointLedger" (186 : Nat) ({ cls := "PointLedger$Packer", name := "take", desc := "(II)V" } : Jvm.MethodName)) ∈ lw_all := lw_g (lw_at lw_m3 87 rfl) rfl
theorem q665 : (Jvm.Cond.methodLink "PointLedger" (256 : Nat) ({ cls := "PointLedger", name := "closes", desc := "()V" } : Jvm.MethodName)) ∈ lw_all := lw_g (lw_at lw_m3 111 rfl) rfl
theorem q666 : (Jvm.Cond.privateMethod ({ cls := "PointLedger", name := "closes", desc := "()V" } : Jvm.MethodName)) ∈ lw_tbl := lw_at lw_m3 112 rfl
theorem q667 : (Jvm.Cond.instanceMethod ({ cls := "PointLedger", name := "closes", desc := "()V" } : Jvm.MethodName)) ∈ lw_all := lw_g (lw_at lw_m3 113 rfl) rfl
theorem q668 : (Jvm.Cond.code ({ cls := "PointLedger", name := "closes", desc := "()V" } : Jvm.MethodName) prog_1_method_11_code (1 : Nat) (Option.none : Option Jvm.ClassFile.FieldType)) ∈ lw_all := lw_g (lw_at lw_m3 114 rfl) rfl
theorem q669 : (Jvm.Cond.methodLink "PointLedger" (193 : Nat) ({ cls := "PointLedger$Packer", name := "end", desc := "()I" } : Jvm.MethodName)) ∈ lw_all := lw_g (lw_at lw_m3 115 rfl) rfl
theorem q673 : (Jvm.Cond.methodLink "PointLedger" (259 : Nat) ({ cls := "PointLedger", name := "done", desc := "(II)I" } : Jvm.MethodName)) ∈ lw_all := lw_g (lw_at lw_m3 119 rfl) rfl
theorem q674 : (Jvm.Cond.privateMethod ({ cls := "PointLedger", name := "done", desc := "(II)I" } : Jvm.MethodName)) ∈ lw_tbl := lw_at lw_m3 120 rfl
theorem q675 : (Jvm.Cond.instanceMethod ({ cls := "PointLedger", name := "done", desc := "(II)I" } : Jvm.MethodName)) ∈ lw_all := lw_g (lw_at lw_m3 121 rfl) rfl
theorem q676 : (Jvm.Cond.codeWith ({ cls := "PointLedger", name := "done", desc := "(II)I" } : Jvm.MethodName) prog_1_method_17_code (4 : Nat) (Option.some Jvm.ClassFile.FieldType.int) [((10 : Nat), (15 : Nat), (18 : Nat), (163 : Nat))]) ∈ lw_all := lw_g (lw_at lw_m3 122 rfl) rfl
theorem q677 : (Jvm.Cond.methodLink "PointLedger" (235 : Nat) ({ cls := "PointLedger", name := "places", desc := "()Z" } : Jvm.MethodName)) ∈ lw_all := lw_g (lw_at lw_m3 123 rfl) rfl
theorem q678 : (Jvm.Cond.privateMethod ({ cls := "PointLedger", name := "places", desc := "()Z" } : Jvm.MethodName)) ∈ lw_tbl := lw_at lw_m3 124 rfl
theorem q679 : (Jvm.Cond.instanceMethod ({ cls := "PointLedger", name := "places", desc := "()Z" } : Jvm.MethodName)) ∈ lw_all := lw_g (lw_at lw_m3 125 rfl) rfl
theorem q680 : (Jvm.Cond.code ({ cls := "PointLedger", name := "places", desc := "()Z" } : Jvm.MethodName) prog_1_method_12_code (4 : Nat) (Option.some Jvm.ClassFile.FieldType.boolean)) ∈ lw_all := lw_g (lw_at lw_m3 126 rfl) rfl
theorem q681 : (Jvm.Cond.methodLink "PointLedger" (201 : Nat) ({ cls := "PointLedger", name := "takes", desc := "(II)V" } : Jvm.MethodName)) ∈ lw_all := lw_g (lw_at lw_m3 127 rfl) rfl
theorem q682 : (Jvm.Cond.privateMethod ({ cls := "PointLedger", name := "takes", desc := "(II)V" } : Jvm.MethodName)) ∈ lw_tbl := lw_at lw_m3 128 rfl
theorem q683 : (Jvm.Cond.instanceMethod ({ cls := "PointLedger", name := "takes", desc := "(II)V" } : Jvm.MethodName)) ∈ lw_all := lw_g (lw_at lw_m3 129 rfl) rfl
theorem q684 : (Jvm.Cond.code ({ cls := "PointLedger", name := "takes", desc := "(II)V" } : Jvm.MethodName) prog_1_method_13_code (4 : Nat) (Option.none : Option Jvm.ClassFile.FieldType)) ∈ lw_all := lw_g (lw_at lw_m3 130 rfl) rfl
theorem q685 : (Jvm.Cond.methodLink "PointLedger" (204 : Nat) ({ cls := "PointLedger", name := "free", desc := "(I)I" } : Jvm.MethodName)) ∈ lw_all := lw_g (lw_at lw_m3 131 rfl) rfl
theorem q686 : (Jvm.Cond.privateMethod ({ cls := "PointLedger", name := "free", desc := "(I)I" } : Jvm.MethodName)) ∈ lw_tbl := lw_at lw_m3 132 rfl
theorem q687 : (Jvm.Cond.instanceMethod ({ cls := "PointLedger", name := "free", desc := "(I)I" } : Jvm.MethodName)) ∈ lw_all := lw_g (lw_at lw_m3 133 rfl) rfl
theorem q688 : (Jvm.Cond.code ({ cls := "PointLedger", name := "free", desc := "(I)I" } : Jvm.MethodName) prog_1_method_14_code (4 : Nat) (Option.some Jvm.ClassFile.FieldType.int)) ∈ lw_all := lw_g (lw_at lw_m3 134 rfl) rfl
theorem q689 : (Jvm.Cond.methodLink "PointLedger" (239 : Nat) ({ cls := "PointLedger", name := "turn", desc := "(I)V" } : Jvm.MethodName)) ∈ lw_all := lw_g (lw_at lw_m3 135 rfl) rfl
theorem q690 : (Jvm.Cond.privateMethod ({ cls := "PointLedger", name := "turn", desc := "(I)V" } : Jvm.MethodName)) ∈ lw_tbl := lw_at lw_m3 136 rfl
theorem q691 : (Jvm.Cond.instanceMethod ({ cls := "PointLedger", name := "turn", desc := "(I)V" } : Jvm.MethodName)) ∈ lw_all := lw_g (lw_at lw_m3 137 rfl) rfl
theorem q692 : (Jvm.Cond.code ({ cls := "PointLedger", name := "turn", desc := "(I)V" } : Jvm.MethodName) prog_1_method_15_code (5 : Nat) (Option.none : Option Jvm.ClassFile.FieldType)) ∈ lw_all := lw_g (lw_at lw_m3 138 rfl) rfl
theorem q693 : (Jvm.Cond.methodLink "PointLedger" (212 : Nat) ({ cls := "PointLedger", name := "entry", desc := "(II)V" } : Jvm.MethodName)) ∈ lw_all := lw_g (lw_at lw_m3 139 rfl) rfl
theorem q694 : (Jvm.Cond.privateMethod ({ cls := "PointLedger", name := "entry", desc := "(II)V" } : Jvm.MethodName)) ∈ lw_tbl := lw_at lw_m3 140 rfl
theorem q695 : (Jvm.Cond.instanceMethod ({ cls := "PointLedger", name := "entry", desc := "(II)V" } : Jvm.MethodName)) ∈ lw_all := lw_g (lw_at lw_m3 141 rfl) rfl
theorem q696 : (Jvm.Cond.code ({ cls := "PointLedger", name := "entry", desc := "(II)V" } : Jvm.MethodName) prog_1_method_16_code (4 : Nat) (Option.none : Option Jvm.ClassFile.FieldType)) ∈ lw_all := lw_g (lw_at lw_m3 142 rfl) rfl
theorem q698 : (Jvm.Cond.instanceMethod ({ cls := "PointLedger", name := "compact", desc := "(I)I" } : Jvm.MethodName)) ∈ lw_all := lw_g (lw_at lw_m3 144 rfl) rfl
theorem q699 : (Jvm.Cond.selects "PointLedger" ({ cls := "PointLedger", name := "compact", desc := "(I)I" } : Jvm.MethodName) ({ cls := "PointLedger", name := "compact", desc := "(I)I" } : Jvm.MethodName)) ∈ lw_all := lw_g (lw_at lw_m3 145 rfl) rfl
theorem q700 : (Jvm.Cond.code ({ cls := "PointLedger", name := "compact", desc := "(I)I" } : Jvm.MethodName) prog_1_method_21_code (6 : Nat) (Option.some Jvm.ClassFile.FieldType.int)) ∈ lw_all := lw_g (lw_at lw_m3 146 rfl) rfl
theorem q701 : (Jvm.Cond.methodLink "PointLedger" (273 : Nat) ({ cls := "PointLedger", name := "reach", desc := "(II)I" } : Jvm.MethodName)) ∈ lw_all := lw_g (lw_at lw_m3 147 rfl) rfl
theorem q702 : (Jvm.Cond.privateMethod ({ cls := "PointLedger", name := "reach", desc := "(II)I" } : Jvm.MethodName)) ∈ lw_tbl := lw_at lw_m3 148 rfl
theorem q703 : (Jvm.Cond.instanceMethod ({ cls := "PointLedger", name := "reach", desc := "(II)I" } : Jvm.MethodName)) ∈ lw_all := lw_g (lw_at lw_m3 149 rfl) rfl
theorem q704 : (Jvm.Cond.code ({ cls := "PointLedger", name := "reach", desc := "(II)I" } : Jvm.MethodName) prog_1_method_19_code (5 : Nat) (Option.some Jvm.ClassFile.FieldType.int)) ∈ lw_all := lw_g (lw_at lw_m3 150 rfl) rfl
theorem q705 : (Jvm.Cond.methodLink "PointLedger" (276 : Nat) ({ cls := "PointLedger", name := "merges", desc := "(II)V" } : Jvm.MethodName)) ∈ lw_all := lw_g (lw_at lw_m3 151 rfl) rfl
theorem q706 : (Jvm.Cond.privateMethod ({ cls := "PointLedger", name := "merges", desc := "(II)V" } : Jvm.MethodName)) ∈ lw_tbl := lw_at lw_m3 152 rfl
theorem q707 : (Jvm.Cond.instanceMethod ({ cls := "PointLedger", name := "merges", desc := "(II)V" } : Jvm.MethodName)) ∈ lw_all := lw_g (lw_at lw_m3 153 rfl) rfl
theorem q708 : (Jvm.Cond.code ({ cls := "PointLedger", name := "merges", desc := "(II)V" } : Jvm.MethodName) prog_1_method_20_code (4 : Nat) (Option.none : Option Jvm.ClassFile.FieldType)) ∈ lw_all := lw_g (lw_at lw_m3 154 rfl) rfl
theorem q709 : (Jvm.Cond.methodLink "PointLedger" (262 : Nat) ({ cls := "PointLedger$Unpacker", name := "begin", desc := "(II)V" } : Jvm.MethodName)) ∈ lw_all := lw_g (lw_at lw_m3 155 rfl) rfl
theorem q713 : (Jvm.Cond.methodLink "PointLedger" (264 : Nat) ({ cls := "PointLedger$Unpacker", name := "step", desc := "()Z" } : Jvm.MethodName)) ∈ lw_all := lw_g (lw_at lw_m3 159 rfl) rfl
theorem q738 : (Jvm.Cond.instanceMethod ({ cls := "PointLedger", name := "expire", desc := "(I)I" } : Jvm.MethodName)) ∈ lw_all := lw_g (lw_at lw_m3 184 rfl) rfl
theorem q739 : (Jvm.Cond.selects "PointLedger" ({ cls := "PointLedger", name := "expire", desc := "(I)I" } : Jvm.MethodName) ({ cls := "PointLedger", name := "expire", desc := "(I)I" } : Jvm.MethodName)) ∈ lw_all := lw_g (lw_at lw_m3 185 rfl) rfl
theorem q740 : (Jvm.Cond.code ({ cls := "PointLedger", name := "expire", desc := "(I)I" } : Jvm.MethodName) prog_1_method_22_code (4 : Nat) (Option.some Jvm.ClassFile.FieldType.int)) ∈ lw_all := lw_g (lw_at lw_m3 186 rfl) rfl
theorem q742 : (Jvm.Cond.instanceMethod ({ cls := "PointLedger", name := "aggCount", desc := "(III)I" } : Jvm.MethodName)) ∈ lw_all := lw_g (lw_at lw_m3 188 rfl) rfl
theorem q743 : (Jvm.Cond.selects "PointLedger" ({ cls := "PointLedger", name := "aggCount", desc := "(III)I" } : Jvm.MethodName) ({ cls := "PointLedger", name := "aggCount", desc := "(III)I" } : Jvm.MethodName)) ∈ lw_all := lw_g (lw_at lw_m3 189 rfl) rfl
theorem q744 : (Jvm.Cond.code ({ cls := "PointLedger", name := "aggCount", desc := "(III)I" } : Jvm.MethodName) prog_1_method_25_code (4 : Nat) (Option.some Jvm.ClassFile.FieldType.int)) ∈ lw_all := lw_g (lw_at lw_m3 190 rfl) rfl
theorem q745 : (Jvm.Cond.methodLink "PointLedger" (301 : Nat) ({ cls := "PointLedger", name := "asks", desc := "(III)V" } : Jvm.MethodName)) ∈ lw_all := lw_g (lw_at lw_m3 191 rfl) rfl
theorem q746 : (Jvm.Cond.privateMethod ({ cls := "PointLedger", name := "asks", desc := "(III)V" } : Jvm.MethodName)) ∈ lw_tbl := lw_at lw_m3 192 rfl
theorem q747 : (Jvm.Cond.instanceMethod ({ cls := "PointLedger", name := "asks", desc := "(III)V" } : Jvm.MethodName)) ∈ lw_all := lw_g (lw_at lw_m3 193 rfl) rfl
theorem q748 : (Jvm.Cond.code ({ cls := "PointLedger", name := "asks", desc := "(III)V" } : Jvm.MethodName) prog_1_method_23_code (6 : Nat) (Option.none : Option Jvm.ClassFile.FieldType)) ∈ lw_all := lw_g (lw_at lw_m3 194 rfl) rfl
theorem q749 : (Jvm.Cond.methodLink "PointLedger" (279 : Nat) ({ cls := "PointLedger$Total", name := "begin", desc := "()V" } : Jvm.MethodName)) ∈ lw_all := lw_g (lw_at lw_m3 195 rfl) rfl
theorem q753 : (Jvm.Cond.methodLink "PointLedger" (286 : Nat) ({ cls := "PointLedger$Spans", name := "isOut", desc := "(III)Z" } : Jvm.MethodName)) ∈ lw_all := lw_g (lw_at lw_m3 199 rfl) rfl
theorem q757 : (Jvm.Cond.methodLink "PointLedger" (290 : Nat) ({ cls := "PointLedger$Spans", name := "isIn", desc := "(III)Z" } : Jvm.MethodName)) ∈ lw_all := lw_g (lw_at lw_m3 203 rfl) rfl
theorem q761 : (Jvm.Cond.methodLink "PointLedger" (293 : Nat) ({ cls := "PointLedger$Total", name := "join", desc := "(LPointLedger$Spans;I)V" } : Jvm.MethodName)) ∈ lw_all := lw_g (lw_at lw_m3 207 rfl) rfl
theorem q767 : (Jvm.Cond.methodLink "PointLedger" (296 : Nat) ({ cls := "PointLedger", name := "asksGroup", desc := "(IIII)V" } : Jvm.MethodName)) ∈ lw_all := lw_g (lw_at lw_m3 213 rfl) rfl
theorem q768 : (Jvm.Cond.privateMethod ({ cls := "PointLedger", name := "asksGroup", desc := "(IIII)V" } : Jvm.MethodName)) ∈ lw_tbl := lw_at lw_m3 214 rfl
theorem q769 : (Jvm.Cond.instanceMethod ({ cls := "PointLedger", name := "asksGroup", desc := "(IIII)V" } : Jvm.MethodName)) ∈ lw_all := lw_g (lw_at lw_m3 215 rfl) rfl
theorem q770 : (Jvm.Cond.code ({ cls := "PointLedger", name := "asksGroup", desc := "(IIII)V" } : Jvm.MethodName) prog_1_method_24_code (7 : Nat) (Option.none : Option Jvm.ClassFile.FieldType)) ∈ lw_all := lw_g (lw_at lw_m3 216 rfl) rfl
theorem q771 : (Jvm.Cond.methodLink "PointLedger" (300 : Nat) ({ cls := "PointLedger$Total", name := "take", desc := "(II)V" } : Jvm.MethodName)) ∈ lw_all := lw_g (lw_at lw_m3 217 rfl) rfl
theorem q776 : (Jvm.Cond.instanceMethod ({ cls := "PointLedger", name := "seek", desc := "(III)I" } : Jvm.MethodName)) ∈ lw_all := lw_g (lw_at lw_m3 222 rfl) rfl
theorem q777 : (Jvm.Cond.selects "PointLedger" ({ cls := "PointLedger", name := "seek", desc := "(III)I" } : Jvm.MethodName) ({ cls := "PointLedger", name := "seek", desc := "(III)I" } : Jvm.MethodName)) ∈ lw_all := lw_g (lw_at lw_m3 223 rfl) rfl
theorem q778 : (Jvm.Cond.code ({ cls := "PointLedger", name := "seek", desc := "(III)I" } : Jvm.MethodName) prog_1_method_30_code (4 : Nat) (Option.some Jvm.ClassFile.FieldType.int)) ∈ lw_all := lw_g (lw_at lw_m3 224 rfl) rfl
theorem q779 : (Jvm.Cond.methodLink "PointLedger" (322 : Nat) ({ cls := "PointLedger$Walk", name := "begin", desc := "(III)V" } : Jvm.MethodName)) ∈ lw_all := lw_g (lw_at lw_m3 225 rfl) rfl
theorem q784 : (Jvm.Cond.instanceMethod ({ cls := "PointLedger", name := "next", desc := "()Z" } : Jvm.MethodName)) ∈ lw_all := lw_g (lw_at lw_m3 230 rfl) rfl
theorem q785 : (Jvm.Cond.selects "PointLedger" ({ cls := "PointLedger", name := "next", desc := "()Z" } : Jvm.MethodName) ({ cls := "PointLedger", name := "next", desc := "()Z" } : Jvm.MethodName)) ∈ lw_all := lw_g (lw_at lw_m3 231 rfl) rfl
theorem q786 : (Jvm.Cond.codeWith ({ cls := "PointLedger", name := "next", desc := "()Z" } : Jvm.MethodName) prog_1_method_31_code (2 : Nat) (Option.some Jvm.ClassFile.FieldType.boolean) [((0 : Nat), (7 : Nat), (8 : Nat), (325 : Nat))]) ∈ lw_all := lw_g (lw_at lw_m3 232 rfl) rfl
theorem q787 : (Jvm.Cond.classLink "PointLedger" (325 : Nat) "java/lang/NullPointerException") ∈ lw_all := lw_g (lw_at lw_m3 233 rfl) rfl
theorem q812 : (Jvm.Cond.methodLink "PointLedger" (324 : Nat) ({ cls := "PointLedger$Walk", name := "step", desc := "()Z" } : Jvm.MethodName)) ∈ lw_all := lw_g (lw_at lw_m4 18 rfl) rfl
theorem q824 : (Jvm.Cond.instanceMethod ({ cls := "PointLedger", name := "curTime", desc := "()I" } : Jvm.MethodName)) ∈ lw_all := lw_g (lw_at lw_m4 30 rfl) rfl
theorem q825 : (Jvm.Cond.selects "PointLedger" ({ cls := "PointLedger", name := "curTime", desc := "()I" } : Jvm.MethodName) ({ cls := "PointLedger", name := "curTime", desc := "()I" } : Jvm.MethodName)) ∈ lw_all := lw_g (lw_at lw_m4 31 rfl) rfl
theorem q826 : (Jvm.Cond.code ({ cls := "PointLedger", name := "curTime", desc := "()I" } : Jvm.MethodName) prog_1_method_33_code (1 : Nat) (Option.some Jvm.ClassFile.FieldType.int)) ∈ lw_all := lw_g (lw_at lw_m4 32 rfl) rfl
theorem q827 : (Jvm.Cond.methodLink "PointLedger" (330 : Nat) ({ cls := "PointLedger", name := "isAt", desc := "()Z" } : Jvm.MethodName)) ∈ lw_all := lw_g (lw_at lw_m4 33 rfl) rfl
theorem q828 : (Jvm.Cond.privateMethod ({ cls := "PointLedger", name := "isAt", desc := "()Z" } : Jvm.MethodName)) ∈ lw_tbl := lw_at lw_m4 34 rfl
theorem q829 : (Jvm.Cond.instanceMethod ({ cls := "PointLedger", name := "isAt", desc := "()Z" } : Jvm.MethodName)) ∈ lw_all := lw_g (lw_at lw_m4 35 rfl) rfl
theorem q830 : (Jvm.Cond.code ({ cls := "PointLedger", name := "isAt", desc := "()Z" } : Jvm.MethodName) prog_1_method_32_code (1 : Nat) (Option.some Jvm.ClassFile.FieldType.boolean)) ∈ lw_all := lw_g (lw_at lw_m4 36 rfl) rfl
theorem q832 : (Jvm.Cond.instanceMethod ({ cls := "PointLedger", name := "curVal", desc := "()I" } : Jvm.MethodName)) ∈ lw_all := lw_g (lw_at lw_m4 38 rfl) rfl
theorem q833 : (Jvm.Cond.selects "PointLedger" ({ cls := "PointLedger", name := "curVal", desc := "()I" } : Jvm.MethodName) ({ cls := "PointLedger", name := "curVal", desc := "()I" } : Jvm.MethodName)) ∈ lw_all := lw_g (lw_at lw_m4 39 rfl) rfl
theorem q834 : (Jvm.Cond.code ({ cls := "PointLedger", name := "curVal", desc := "()I" } : Jvm.MethodName) prog_1_method_34_code (1 : Nat) (Option.some Jvm.ClassFile.FieldType.int)) ∈ lw_all := lw_g (lw_at lw_m4 40 rfl) rfl
theorem q836 : (Jvm.Cond.instanceMethod ({ cls := "PointLedger", name := "crashAfter", desc := "(I)Z" } : Jvm.MethodName)) ∈ lw_all := lw_g (lw_at lw_m4 42 rfl) rfl
theorem q837 : (Jvm.Cond.selects "PointLedger" ({ cls := "PointLedger", name := "crashAfter", desc := "(I)Z" } : Jvm.MethodName) ({ cls := "PointLedger", name := "crashAfter", desc := "(I)Z" } : Jvm.MethodName)) ∈ lw_all := lw_g (lw_at lw_m4 43 rfl) rfl
theorem q838 : (Jvm.Cond.code ({ cls := "PointLedger", name := "crashAfter", desc := "(I)Z" } : Jvm.MethodName) prog_1_method_35_code (2 : Nat) (Option.some Jvm.ClassFile.FieldType.boolean)) ∈ lw_all := lw_g (lw_at lw_m4 44 rfl) rfl
theorem q839 : (Jvm.Cond.constant "PointLedger" (334 : Nat) (1000000 : Int32)) ∈ lw_all := lw_g (lw_at lw_m4 45 rfl) rfl
theorem q841 : (Jvm.Cond.instanceMethod ({ cls := "PointLedger", name := "recover", desc := "()I" } : Jvm.MethodName)) ∈ lw_all := lw_g (lw_at lw_m4 47 rfl) rfl
theorem q842 : (Jvm.Cond.selects "PointLedger" ({ cls := "PointLedger", name := "recover", desc := "()I" } : Jvm.MethodName) ({ cls := "PointLedger", name := "recover", desc := "()I" } : Jvm.MethodName)) ∈ lw_all := lw_g (lw_at lw_m4 48 rfl) rfl
theorem q843 : (Jvm.Cond.code ({ cls := "PointLedger", name := "recover", desc := "()I" } : Jvm.MethodName) prog_1_method_37_code (5 : Nat) (Option.some Jvm.ClassFile.FieldType.int)) ∈ lw_all := lw_g (lw_at lw_m4 49 rfl) rfl
theorem q844 : (Jvm.Cond.methodLink "PointLedger" (343 : Nat) ({ cls := "PointLedger", name := "reads", desc := "()V" } : Jvm.MethodName)) ∈ lw_all := lw_g (lw_at lw_m4 50 rfl) rfl
theorem q845 : (Jvm.Cond.privateMethod ({ cls := "PointLedger", name := "reads", desc := "()V" } : Jvm.MethodName)) ∈ lw_tbl := lw_at lw_m4 51 rfl
theorem q846 : (Jvm.Cond.instanceMethod ({ cls := "PointLedger", name := "reads", desc := "()V" } : Jvm.MethodName)) ∈ lw_all := lw_g (lw_at lw_m4 52 rfl) rfl
theorem q847 : (Jvm.Cond.code ({ cls := "PointLedger", name := "reads", desc := "()V" } : Jvm.MethodName) prog_1_method_36_code (6 : Nat) (Option.none : Option Jvm.ClassFile.FieldType)) ∈ lw_all := lw_g (lw_at lw_m4 53 rfl) rfl
theorem q848 : (Jvm.Cond.constantLong "PointLedger" (338 : Nat) (4294967295 : Int64)) ∈ lw_all := lw_g (lw_at lw_m4 54 rfl) rfl
theorem q850 : (Jvm.Cond.instanceMethod ({ cls := "PointLedger", name := "cell", desc := "(I)I" } : Jvm.MethodName)) ∈ lw_all := lw_g (lw_at lw_m4 56 rfl) rfl
theorem q851 : (Jvm.Cond.selects "PointLedger" ({ cls := "PointLedger", name := "cell", desc := "(I)I" } : Jvm.MethodName) ({ cls := "PointLedger", name := "cell", desc := "(I)I" } : Jvm.MethodName)) ∈ lw_all := lw_g (lw_at lw_m4 57 rfl) rfl
theorem q852 : (Jvm.Cond.codeWith ({ cls := "PointLedger", name := "cell", desc := "(I)I" } : Jvm.MethodName) prog_1_method_38_code (3 : Nat) (Option.some Jvm.ClassFile.FieldType.int) [((0 : Nat), (9 : Nat), (10 : Nat), (110 : Nat))]) ∈ lw_all := lw_g (lw_at lw_m4 58 rfl) rfl
theorem q854 : (Jvm.Cond.instanceMethod ({ cls := "PointLedger", name := "look", desc := "(I)I" } : Jvm.MethodName)) ∈ lw_all := lw_g (lw_at lw_m4 60 rfl) rfl
theorem q855 : (Jvm.Cond.selects "PointLedger" ({ cls := "PointLedger", name := "look", desc := "(I)I" } : Jvm.MethodName) ({ cls := "PointLedger", name := "look", desc := "(I)I" } : Jvm.MethodName)) ∈ lw_all := lw_g (lw_at lw_m4 61 rfl) rfl
theorem q856 : (Jvm.Cond.code ({ cls := "PointLedger", name := "look", desc := "(I)I" } : Jvm.MethodName) prog_1_method_43_code (2 : Nat) (Option.some Jvm.ClassFile.FieldType.int)) ∈ lw_all := lw_g (lw_at lw_m4 62 rfl) rfl
theorem q857 : (Jvm.Cond.methodLink "PointLedger" (358 : Nat) ({ cls := "PointLedger", name := "areaTaken", desc := "()I" } : Jvm.MethodName)) ∈ lw_all := lw_g (lw_at lw_m4 63 rfl) rfl
theorem q858 : (Jvm.Cond.privateMethod ({ cls := "PointLedger", name := "areaTaken", desc := "()I" } : Jvm.MethodName)) ∈ lw_tbl := lw_at lw_m4 64 rfl
theorem q859 : (Jvm.Cond.instanceMethod ({ cls := "PointLedger", name := "areaTaken", desc := "()I" } : Jvm.MethodName)) ∈ lw_all := lw_g (lw_at lw_m4 65 rfl) rfl
theorem q860 : (Jvm.Cond.code ({ cls := "PointLedger", name := "areaTaken", desc := "()I" } : Jvm.MethodName) prog_1_method_42_code (3 : Nat) (Option.some Jvm.ClassFile.FieldType.int)) ∈ lw_all := lw_g (lw_at lw_m4 66 rfl) rfl
theorem q870 : (Jvm.Cond.instanceMethod ({ cls := "PointLedger", name := "aggMin", desc := "(III)I" } : Jvm.MethodName)) ∈ lw_all := lw_g (lw_at lw_m4 76 rfl) rfl
theorem q871 : (Jvm.Cond.selects "PointLedger" ({ cls := "PointLedger", name := "aggMin", desc := "(III)I" } : Jvm.MethodName) ({ cls := "PointLedger", name := "aggMin", desc := "(III)I" } : Jvm.MethodName)) ∈ lw_all := lw_g (lw_at lw_m4 77 rfl) rfl
theorem q872 : (Jvm.Cond.code ({ cls := "PointLedger", name := "aggMin", desc := "(III)I" } : Jvm.MethodName) prog_1_method_27_code (4 : Nat) (Option.some Jvm.ClassFile.FieldType.int)) ∈ lw_all := lw_g (lw_at lw_m4 78 rfl) rfl
theorem q873 : (Jvm.Cond.methodLink "PointLedger" (311 : Nat) ({ cls := "PointLedger", name := "need", desc := "(I)V" } : Jvm.MethodName)) ∈ lw_all := lw_g (lw_at lw_m4 79 rfl) rfl
theorem q874 : (Jvm.Cond.privateMethod ({ cls := "PointLedger", name := "need", desc := "(I)V" } : Jvm.MethodName)) ∈ lw_tbl := lw_at lw_m4 80 rfl
theorem q875 : (Jvm.Cond.instanceMethod ({ cls := "PointLedger", name := "need", desc := "(I)V" } : Jvm.MethodName)) ∈ lw_all := lw_g (lw_at lw_m4 81 rfl) rfl
theorem q876 : (Jvm.Cond.code ({ cls := "PointLedger", name := "need", desc := "(I)V" } : Jvm.MethodName) prog_1_method_26_code (2 : Nat) (Option.none : Option Jvm.ClassFile.FieldType)) ∈ lw_all := lw_g (lw_at lw_m4 82 rfl) rfl
theorem q877 : (Jvm.Cond.classLink "PointLedger" (305 : Nat) "java/lang/IllegalStateException") ∈ lw_all := lw_g (lw_at lw_m4 83 rfl) rfl
theorem q886 : (Jvm.Cond.methodLink "PointLedger" (307 : Nat) ({ cls := "java/lang/IllegalStateException", name := "<init>", desc := "()V" } : Jvm.MethodName)) ∈ lw_all := lw_g (lw_at lw_m4 92 rfl) rfl
theorem q892 : (Jvm.Cond.classLink "PointLedger" (308 : Nat) "java/lang/IndexOutOfBoundsException") ∈ lw_all := lw_g (lw_at lw_m4 98 rfl) rfl
theorem q901 : (Jvm.Cond.methodLink "PointLedger" (310 : Nat) ({ cls := "java/lang/IndexOutOfBoundsException", name := "<init>", desc := "()V" } : Jvm.MethodName)) ∈ lw_all := lw_g (lw_at lw_m4 107 rfl) rfl
theorem q911 : (Jvm.Cond.instanceMethod ({ cls := "PointLedger", name := "aggMax", desc := "(III)I" } : Jvm.MethodName)) ∈ lw_all := lw_g (lw_at lw_m4 117 rfl) rfl
theorem q912 : (Jvm.Cond.selects "PointLedger" ({ cls := "PointLedger", name := "aggMax", desc := "(III)I" } : Jvm.MethodName) ({ cls := "PointLedger", name := "aggMax", desc := "(III)I" } : Jvm.MethodName)) ∈ lw_all := lw_g (lw_at lw_m4 118 rfl) rfl
theorem q913 : (Jvm.Cond.code ({ cls := "PointLedger", name := "aggMax", desc := "(III)I" } : Jvm.MethodName) prog_1_method_28_code (4 : Nat) (Option.some Jvm.ClassFile.FieldType.int)) ∈ lw_all := lw_g (lw_at lw_m4 119 rfl) rfl
theorem q918 : (Jvm.Cond.instanceMethod ({ cls := "PointLedger", name := "aggSum", desc := "(III)J" } : Jvm.MethodName)) ∈ lw_all := lw_g (lw_at lw_m4 124 rfl) rfl
theorem q919 : (Jvm.Cond.selects "PointLedger" ({ cls := "PointLedger", name := "aggSum", desc := "(III)J" } : Jvm.MethodName) ({ cls := "PointLedger", name := "aggSum", desc := "(III)J" } : Jvm.MethodName)) ∈ lw_all := lw_g (lw_at lw_m4 125 rfl) rfl
theorem q920 : (Jvm.Cond.code ({ cls := "PointLedger", name := "aggSum", desc := "(III)J" } : Jvm.MethodName) prog_1_method_29_code (4 : Nat) (Option.some Jvm.ClassFile.FieldType.long)) ∈ lw_all := lw_g (lw_at lw_m4 126 rfl) rfl
theorem q926 : (Jvm.Cond.instanceMethod ({ cls := "PointLedger", name := "sizes", desc := "(II)I" } : Jvm.MethodName)) ∈ lw_all := lw_g (lw_at lw_m4 132 rfl) rfl
theorem q927 : (Jvm.Cond.selects "PointLedger" ({ cls := "PointLedger", name := "sizes", desc := "(II)I" } : Jvm.MethodName) ({ cls := "PointLedger", name := "sizes", desc := "(II)I" } : Jvm.MethodName)) ∈ lw_all := lw_g (lw_at lw_m4 133 rfl) rfl
theorem q928 : (Jvm.Cond.code ({ cls := "PointLedger", name := "sizes", desc := "(II)I" } : Jvm.MethodName) prog_1_method_39_code (3 : Nat) (Option.some Jvm.ClassFile.FieldType.int)) ∈ lw_all := lw_g (lw_at lw_m4 134 rfl) rfl
theorem q929 : (Jvm.Cond.methodLink "PointLedger" (346 : Nat) ({ cls := "PointLedger", name := "chunks", desc := "(I)I" } : Jvm.MethodName)) ∈ lw_all := lw_g (lw_at lw_m4 135 rfl) rfl
theorem q930 : (Jvm.Cond.privateMethod ({ cls := "PointLedger", name := "chunks", desc := "(I)I" } : Jvm.MethodName)) ∈ lw_tbl := lw_at lw_m4 136 rfl
theorem q931 : (Jvm.Cond.instanceMethod ({ cls := "PointLedger", name := "chunks", desc := "(I)I" } : Jvm.MethodName)) ∈ lw_all := lw_g (lw_at lw_m4 137 rfl) rfl
theorem q932 : (Jvm.Cond.code ({ cls := "PointLedger", name := "chunks", desc := "(I)I" } : Jvm.MethodName) prog_1_method_4_code (2 : Nat) (Option.some Jvm.ClassFile.FieldType.int)) ∈ lw_all := lw_g (lw_at lw_m4 138 rfl) rfl
theorem q933 : (Jvm.Cond.classLink "PointLedger" (349 : Nat) "java/util/NoSuchElementException") ∈ lw_all := lw_g (lw_at lw_m4 139 rfl) rfl
theorem q942 : (Jvm.Cond.methodLink "PointLedger" (351 : Nat) ({ cls := "java/util/NoSuchElementException", name := "<init>", desc := "()V" } : Jvm.MethodName)) ∈ lw_all := lw_g (lw_at lw_m4 148 rfl) rfl
theorem q952 : (Jvm.Cond.instanceMethod ({ cls := "PointLedger", name := "chunk", desc := "(III)I" } : Jvm.MethodName)) ∈ lw_all := lw_g (lw_at lw_m4 158 rfl) rfl
theorem q953 : (Jvm.Cond.selects "PointLedger" ({ cls := "PointLedger", name := "chunk", desc := "(III)I" } : Jvm.MethodName) ({ cls := "PointLedger", name := "chunk", desc := "(III)I" } : Jvm.MethodName)) ∈ lw_all := lw_g (lw_at lw_m4 159 rfl) rfl
theorem q954 : (Jvm.Cond.code ({ cls := "PointLedger", name := "chunk", desc := "(III)I" } : Jvm.MethodName) prog_1_method_40_code (5 : Nat) (Option.some Jvm.ClassFile.FieldType.int)) ∈ lw_all := lw_g (lw_at lw_m4 160 rfl) rfl
theorem q955 : (Jvm.Cond.methodLink "PointLedger" (352 : Nat) ({ cls := "PointLedger$Spans", name := "told", desc := "(II)I" } : Jvm.MethodName)) ∈ lw_all := lw_g (lw_at lw_m4 161 rfl) rfl
theorem q965 : (Jvm.Cond.instanceMethod ({ cls := "PointLedger", name := "group", desc := "(III)I" } : Jvm.MethodName)) ∈ lw_all := lw_g (lw_at lw_m4 171 rfl) rfl
theorem q966 : (Jvm.Cond.selects "PointLedger" ({ cls := "PointLedger", name := "group", desc := "(III)I" } : Jvm.MethodName) ({ cls := "PointLedger", name := "group", desc := "(III)I" } : Jvm.MethodName)) ∈ lw_all := lw_g (lw_at lw_m4 172 rfl) rfl
theorem q967 : (Jvm.Cond.code ({ cls := "PointLedger", name := "group", desc := "(III)I" } : Jvm.MethodName) prog_1_method_41_code (5 : Nat) (Option.some Jvm.ClassFile.FieldType.int)) ∈ lw_all := lw_g (lw_at lw_m4 173 rfl) rfl
theorem in_X1 : ∀ w ∈ wsX10, w ∈ lw_all := lw_in wsX10 [500, 502, 504, 506, 508, 510, 512, 514, 516, 518, 520, 522, 524, 526, 528, 530, 532, 534, 536, 538, 540] (by decide +kernel) (by decide +kernel)
/-! PointLedger$Disk -/
def RX2 : String := "PointLedger$Disk"
def TX2 : u_T := fun k => match k with
  | 0 => ("PointLedger$Disk", "cells", "[I", true)
  | 1 => ("PointLedger$Disk", "cut", "LPointLedger$Cut;", true)
  | 2 => ("PointLedger$Disk", "fuse", "I", false)
  | 3 => ("PointLedger$Disk", "isDown", "Z", false)
  | _ => ("PointLedger$Disk", "written", "I", false)
def tyX2 : Nat → FieldType := fun k => match k with
  | 0 => .array .int
  | 1 => .object "PointLedger$Cut"
  | 2 => .int
  | 3 => .boolean
  | _ => .int
abbrev wsX20 : List Cond := u_ws RX2 TX2 5
theorem nmX2 : ∀ a, a < 5 → ∀ b, b < 5 → a ≠ b → (TX2 a).2.1 ≠ (TX2 b).2.1 := by decide +kernel
theorem tyX2_ok : ∀ k, k < 5 → parseFieldDescriptor (TX2 k).2.2.1 = some (tyX2 k) := by decide +kernel
abbrev cX2_init : ByteArray := prog_3_method_1_code
def yX2_init : MethodName := ⟨RX2, "<init>", "()V"⟩
abbrev cX2_write : ByteArray := prog_3_method_2_code
def yX2_write : MethodName := ⟨RX2, "write", "(II)V"⟩
theorem q76 : (Jvm.Cond.initialized "PointLedger$Disk") ∈ lw_all := lw_g (lw_at lw_m1 2 rfl) rfl
theorem q106 : (Jvm.Cond.instantiable "PointLedger$Disk" (5 : Nat)) ∈ lw_all := lw_g (lw_at lw_m1 32 rfl) rfl
theorem q108 : (Jvm.Cond.instanceMethod ({ cls := "PointLedger$Disk", name := "<init>", desc := "()V" } : Jvm.MethodName)) ∈ lw_all := lw_g (lw_at lw_m1 34 rfl) rfl
theorem q109 : (Jvm.Cond.code ({ cls := "PointLedger$Disk", name := "<init>", desc := "()V" } : Jvm.MethodName) prog_3_method_1_code (1 : Nat) (Option.none : Option Jvm.ClassFile.FieldType)) ∈ lw_all := lw_g (lw_at lw_m1 35 rfl) rfl
theorem q110 : (Jvm.Cond.methodLink "PointLedger$Disk" (3 : Nat) ({ cls := "java/lang/Object", name := "<init>", desc := "()V" } : Jvm.MethodName)) ∈ lw_all := lw_g (lw_at lw_m1 36 rfl) rfl
theorem q111 : (Jvm.Cond.classLink "PointLedger$Disk" (15 : Nat) "PointLedger$Cut") ∈ lw_all := lw_g (lw_at lw_m1 37 rfl) rfl
theorem q166 : (Jvm.Cond.methodLink "PointLedger$Disk" (17 : Nat) ({ cls := "PointLedger$Cut", name := "<init>", desc := "()V" } : Jvm.MethodName)) ∈ lw_all := lw_g (lw_at lw_m1 92 rfl) rfl
theorem q189 : (Jvm.Cond.fieldLink "PointLedger$Disk" (9 : Nat) "PointLedger$Disk" "cells" "[I") ∈ lw_all := lw_g (lw_at lw_m1 115 rfl) rfl
theorem q192 : (Jvm.Cond.fieldLink "PointLedger$Disk" (18 : Nat) "PointLedger$Disk" "cut" "LPointLedger$Cut;") ∈ lw_all := lw_g (lw_at lw_m1 118 rfl) rfl
theorem q193 : (Jvm.Cond.fieldLink "PointLedger$Disk" (22 : Nat) "PointLedger$Disk" "fuse" "I") ∈ lw_all := lw_g (lw_at lw_m1 119 rfl) rfl
theorem q195 : (Jvm.Cond.fieldLink "PointLedger$Disk" (26 : Nat) "PointLedger$Disk" "isDown" "Z") ∈ lw_all := lw_g (lw_at lw_m1 121 rfl) rfl
theorem q197 : (Jvm.Cond.fieldLink "PointLedger$Disk" (30 : Nat) "PointLedger$Disk" "written" "I") ∈ lw_all := lw_g (lw_at lw_m1 123 rfl) rfl
theorem q199 : (Jvm.Cond.laysFinal "PointLedger$Disk" "PointLedger$Disk" "cells" "[I") ∈ lw_all := lw_g (lw_at lw_m1 125 rfl) rfl
theorem q200 : (Jvm.Cond.soleField "PointLedger$Disk" "cells") ∈ lw_all := lw_g (lw_at lw_m1 126 rfl) rfl
theorem q201 : (Jvm.Cond.laysFinal "PointLedger$Disk" "PointLedger$Disk" "cut" "LPointLedger$Cut;") ∈ lw_all := lw_g (lw_at lw_m1 127 rfl) rfl
theorem q202 : (Jvm.Cond.soleField "PointLedger$Disk" "cut") ∈ lw_all := lw_g (lw_at lw_m1 128 rfl) rfl
theorem q203 : (Jvm.Cond.lays "PointLedger$Disk" "PointLedger$Disk" "fuse" "I") ∈ lw_all := lw_g (lw_at lw_m1 129 rfl) rfl
theorem q204 : (Jvm.Cond.soleField "PointLedger$Disk" "fuse") ∈ lw_all := lw_g (lw_at lw_m1 130 rfl) rfl
theorem q205 : (Jvm.Cond.lays "PointLedger$Disk" "PointLedger$Disk" "isDown" "Z") ∈ lw_all := lw_g (lw_at lw_m1 131 rfl) rfl
theorem q206 : (Jvm.Cond.soleField "PointLedger$Disk" "isDown") ∈ lw_all := lw_g (lw_at lw_m1 132 rfl) rfl
theorem q207 : (Jvm.Cond.lays "PointLedger$Disk" "PointLedger$Disk" "written" "I") ∈ lw_all := lw_g (lw_at lw_m1 133 rfl) rfl
theorem q208 : (Jvm.Cond.soleField "PointLedger$Disk" "written") ∈ lw_all := lw_g (lw_at lw_m1 134 rfl) rfl
theorem q209 : (Jvm.Cond.superclass "PointLedger$Disk" "java/lang/Object") ∈ lw_all := lw_g (lw_at lw_m1 135 rfl) rfl
theorem q595 : (Jvm.Cond.instanceMethod ({ cls := "PointLedger$Disk", name := "write", desc := "(II)V" } : Jvm.MethodName)) ∈ lw_all := lw_g (lw_at lw_m3 41 rfl) rfl
theorem q596 : (Jvm.Cond.selects "PointLedger$Disk" ({ cls := "PointLedger$Disk", name := "write", desc := "(II)V" } : Jvm.MethodName) ({ cls := "PointLedger$Disk", name := "write", desc := "(II)V" } : Jvm.MethodName)) ∈ lw_all := lw_g (lw_at lw_m3 42 rfl) rfl
theorem q597 : (Jvm.Cond.code ({ cls := "PointLedger$Disk", name := "write", desc := "(II)V" } : Jvm.MethodName) prog_3_method_2_code (3 : Nat) (Option.none : Option Jvm.ClassFile.FieldType)) ∈ lw_all := lw_g (lw_at lw_m3 43 rfl) rfl
theorem in_X2 : ∀ w ∈ wsX20, w ∈ lw_all := lw_in wsX20 [199, 201, 203, 205, 207] (by decide +kernel) (by decide +kernel)
/-! java/lang/Throwable -/
def RJ0 : String := "java/lang/Throwable"
def TJ0 : u_T := fun k => match k with
  | 0 => ("java/lang/Throwable", "cause", "Ljava/lang/Throwable;", false)
  | 1 => ("java/lang/Throwable", "stackTrace", "[Ljava/lang/StackTraceElement;", false)
  | 2 => ("java/lang/Throwable", "suppressedExceptions", "Ljava/util/List;", false)
  | 3 => ("java/lang/Throwable", "detailMessage", "Ljava/lang/String;", false)
  | _ => ("java/lang/Throwable", "backtrace", "Ljava/lang/Object;", false)
def tyJ0 : Nat → FieldType := fun k => match k with
  | 0 => .object "java/lang/Throwable"
  | 1 => .array (.object "java/lang/StackTraceElement")
  | 2 => .object "java/util/List"
  | 3 => .object "java/lang/String"
  | _ => .object "java/lang/Object"
abbrev wsJ00 : List Cond := u_ws RJ0 TJ0 5
theorem nmJ0 : ∀ a, a < 5 → ∀ b, b < 5 → a ≠ b → (TJ0 a).2.1 ≠ (TJ0 b).2.1 := by decide +kernel
theorem tyJ0_ok : ∀ k, k < 5 → parseFieldDescriptor (TJ0 k).2.2.1 = some (tyJ0 k) := by decide +kernel
abbrev cJ0_init : ByteArray := prog_23_method_1_code
def yJ0_init : MethodName := ⟨RJ0, "<init>", "()V"⟩
abbrev cJ0_init_2 : ByteArray := prog_23_method_5_code
def yJ0_init_2 : MethodName := ⟨RJ0, "<init>", "(Ljava/lang/String;Ljava/lang/Throwable;ZZ)V"⟩
abbrev cJ0_init_3 : ByteArray := prog_23_method_2_code
def yJ0_init_3 : MethodName := ⟨RJ0, "<init>", "(Ljava/lang/String;)V"⟩
theorem q77 : (Jvm.Cond.initialized "java/lang/Throwable") ∈ lw_all := lw_g (lw_at lw_m1 3 rfl) rfl
theorem q116 : (Jvm.Cond.declares ({ cls := "java/lang/Throwable", name := "<init>", desc := "()V" } : Jvm.MethodName)) ∈ lw_tbl := lw_at lw_m1 42 rfl
theorem q117 : (Jvm.Cond.declares ({ cls := "java/lang/Throwable", name := "<init>", desc := "(Ljava/lang/String;)V" } : Jvm.MethodName)) ∈ lw_tbl := lw_at lw_m1 43 rfl
theorem q121 : (Jvm.Cond.lays "java/lang/Throwable" "java/lang/Throwable" "cause" "Ljava/lang/Throwable;") ∈ lw_all := lw_g (lw_at lw_m1 47 rfl) rfl
theorem q123 : (Jvm.Cond.lays "java/lang/Throwable" "java/lang/Throwable" "stackTrace" "[Ljava/lang/StackTraceElement;") ∈ lw_all := lw_g (lw_at lw_m1 49 rfl) rfl
theorem q125 : (Jvm.Cond.lays "java/lang/Throwable" "java/lang/Throwable" "suppressedExceptions" "Ljava/util/List;") ∈ lw_all := lw_g (lw_at lw_m1 51 rfl) rfl
theorem q127 : (Jvm.Cond.lays "java/lang/Throwable" "java/lang/Throwable" "detailMessage" "Ljava/lang/String;") ∈ lw_all := lw_g (lw_at lw_m1 53 rfl) rfl
theorem q129 : (Jvm.Cond.lays "java/lang/Throwable" "java/lang/Throwable" "backtrace" "Ljava/lang/Object;") ∈ lw_all := lw_g (lw_at lw_m1 55 rfl) rfl
theorem q130 : (Jvm.Cond.fieldLink "java/lang/Throwable" (198 : Nat) "java/lang/Throwable" "backtrace" "Ljava/lang/Object;") ∈ lw_all := lw_g (lw_at lw_m1 56 rfl) rfl
theorem q131 : (Jvm.Cond.superclass "java/lang/Throwable" "java/lang/Object") ∈ lw_all := lw_g (lw_at lw_m1 57 rfl) rfl
theorem q132 : (Jvm.Cond.instanceMethod ({ cls := "java/lang/Throwable", name := "<init>", desc := "()V" } : Jvm.MethodName)) ∈ lw_all := lw_g (lw_at lw_m1 58 rfl) rfl
theorem q133 : (Jvm.Cond.code ({ cls := "java/lang/Throwable", name := "<init>", desc := "()V" } : Jvm.MethodName) prog_23_method_1_code (1 : Nat) (Option.none : Option Jvm.ClassFile.FieldType)) ∈ lw_all := lw_g (lw_at lw_m1 59 rfl) rfl
theorem q134 : (Jvm.Cond.methodLink "java/lang/Throwable" (1 : Nat) ({ cls := "java/lang/Object", name := "<init>", desc := "()V" } : Jvm.MethodName)) ∈ lw_all := lw_g (lw_at lw_m1 60 rfl) rfl
theorem q135 : (Jvm.Cond.fieldLink "java/lang/Throwable" (13 : Nat) "java/lang/Throwable" "UNASSIGNED_STACK" "[Ljava/lang/StackTraceElement;") ∈ lw_all := lw_g (lw_at lw_m1 61 rfl) rfl
theorem q136 : (Jvm.Cond.laysStatic "java/lang/Throwable" "UNASSIGNED_STACK" "[Ljava/lang/StackTraceElement;") ∈ lw_tbl := lw_at lw_m1 62 rfl
theorem q137 : (Jvm.Cond.fieldLink "java/lang/Throwable" (20 : Nat) "java/lang/Throwable" "SUPPRESSED_SENTINEL" "Ljava/util/List;") ∈ lw_all := lw_g (lw_at lw_m1 63 rfl) rfl
theorem q138 : (Jvm.Cond.laysStatic "java/lang/Throwable" "SUPPRESSED_SENTINEL" "Ljava/util/List;") ∈ lw_tbl := lw_at lw_m1 64 rfl
theorem q139 : (Jvm.Cond.methodLink "java/lang/Throwable" (27 : Nat) ({ cls := "java/lang/Throwable", name := "fillInStackTrace", desc := "()Ljava/lang/Throwable;" } : Jvm.MethodName)) ∈ lw_all := lw_g (lw_at lw_m1 65 rfl) rfl
theorem q140 : (Jvm.Cond.instanceMethod ({ cls := "java/lang/Throwable", name := "fillInStackTrace", desc := "()Ljava/lang/Throwable;" } : Jvm.MethodName)) ∈ lw_all := lw_g (lw_at lw_m1 66 rfl) rfl
theorem q141 : (Jvm.Cond.sameMethod "java/lang/Throwable" "java/lang/Throwable" "fillInStackTrace" "()Ljava/lang/Throwable;") ∈ lw_all := lw_g (lw_at lw_m1 67 rfl) rfl
theorem q155 : (Jvm.Cond.declares ({ cls := "java/lang/Throwable", name := "fillInStackTrace", desc := "()Ljava/lang/Throwable;" } : Jvm.MethodName)) ∈ lw_tbl := lw_at lw_m1 81 rfl
theorem q160 : (Jvm.Cond.codeSync ({ cls := "java/lang/Throwable", name := "fillInStackTrace", desc := "()Ljava/lang/Throwable;" } : Jvm.MethodName) prog_23_method_18_code (1 : Nat) (Option.some (Jvm.ClassFile.FieldType.object "java/lang/Throwable"))) ∈ lw_all := lw_g (lw_at lw_m1 86 rfl) rfl
theorem q161 : (Jvm.Cond.methodLink "java/lang/Throwable" (202 : Nat) ({ cls := "java/lang/Throwable", name := "fillInStackTrace", desc := "(I)Ljava/lang/Throwable;" } : Jvm.MethodName)) ∈ lw_all := lw_g (lw_at lw_m1 87 rfl) rfl
theorem q162 : (Jvm.Cond.privateMethod ({ cls := "java/lang/Throwable", name := "fillInStackTrace", desc := "(I)Ljava/lang/Throwable;" } : Jvm.MethodName)) ∈ lw_tbl := lw_at lw_m1 88 rfl
theorem q163 : (Jvm.Cond.instanceMethod ({ cls := "java/lang/Throwable", name := "fillInStackTrace", desc := "(I)Ljava/lang/Throwable;" } : Jvm.MethodName)) ∈ lw_all := lw_g (lw_at lw_m1 89 rfl) rfl
theorem q164 : (Jvm.Cond.instantiable "java/lang/Throwable" (6 : Nat)) ∈ lw_all := lw_g (lw_at lw_m1 90 rfl) rfl
theorem q165 : (Jvm.Cond.native ({ cls := "java/lang/Throwable", name := "fillInStackTrace", desc := "(I)Ljava/lang/Throwable;" } : Jvm.MethodName)) ∈ lw_all := lw_g (lw_at lw_m1 91 rfl) rfl
theorem q173 : (Jvm.Cond.instanceMethod ({ cls := "java/lang/Throwable", name := "<init>", desc := "(Ljava/lang/String;Ljava/lang/Throwable;ZZ)V" } : Jvm.MethodName)) ∈ lw_all := lw_g (lw_at lw_m1 99 rfl) rfl
theorem q174 : (Jvm.Cond.code ({ cls := "java/lang/Throwable", name := "<init>", desc := "(Ljava/lang/String;Ljava/lang/Throwable;ZZ)V" } : Jvm.MethodName) prog_23_method_5_code (5 : Nat) (Option.none : Option Jvm.ClassFile.FieldType)) ∈ lw_all := lw_g (lw_at lw_m1 100 rfl) rfl
theorem q175 : (Jvm.Cond.fieldLink "java/lang/Throwable" (198 : Nat) "java/lang/Throwable" "backtrace" "Ljava/lang/Object;") ∈ lw_all := lw_g (lw_at lw_m1 101 rfl) rfl
theorem q176 : (Jvm.Cond.fieldLink "java/lang/Throwable" (31 : Nat) "java/lang/Throwable" "detailMessage" "Ljava/lang/String;") ∈ lw_all := lw_g (lw_at lw_m1 102 rfl) rfl
theorem q177 : (Jvm.Cond.fieldLink "java/lang/Throwable" (7 : Nat) "java/lang/Throwable" "cause" "Ljava/lang/Throwable;") ∈ lw_all := lw_g (lw_at lw_m1 103 rfl) rfl
theorem q178 : (Jvm.Cond.fieldLink "java/lang/Throwable" (17 : Nat) "java/lang/Throwable" "stackTrace" "[Ljava/lang/StackTraceElement;") ∈ lw_all := lw_g (lw_at lw_m1 104 rfl) rfl
theorem q179 : (Jvm.Cond.fieldLink "java/lang/Throwable" (24 : Nat) "java/lang/Throwable" "suppressedExceptions" "Ljava/util/List;") ∈ lw_all := lw_g (lw_at lw_m1 105 rfl) rfl
theorem q180 : (Jvm.Cond.soleField "java/lang/Throwable" "backtrace") ∈ lw_all := lw_g (lw_at lw_m1 106 rfl) rfl
theorem q181 : (Jvm.Cond.soleField "java/lang/Throwable" "detailMessage") ∈ lw_all := lw_g (lw_at lw_m1 107 rfl) rfl
theorem q182 : (Jvm.Cond.soleField "java/lang/Throwable" "cause") ∈ lw_all := lw_g (lw_at lw_m1 108 rfl) rfl
theorem q183 : (Jvm.Cond.soleField "java/lang/Throwable" "stackTrace") ∈ lw_all := lw_g (lw_at lw_m1 109 rfl) rfl
theorem q185 : (Jvm.Cond.soleField "java/lang/Throwable" "depth") ∈ lw_all := lw_g (lw_at lw_m1 111 rfl) rfl
theorem q186 : (Jvm.Cond.soleField "java/lang/Throwable" "suppressedExceptions") ∈ lw_all := lw_g (lw_at lw_m1 112 rfl) rfl
theorem q570 : (Jvm.Cond.instanceMethod ({ cls := "java/lang/Throwable", name := "<init>", desc := "(Ljava/lang/String;)V" } : Jvm.MethodName)) ∈ lw_all := lw_g (lw_at lw_m3 16 rfl) rfl
theorem q571 : (Jvm.Cond.code ({ cls := "java/lang/Throwable", name := "<init>", desc := "(Ljava/lang/String;)V" } : Jvm.MethodName) prog_23_method_2_code (2 : Nat) (Option.none : Option Jvm.ClassFile.FieldType)) ∈ lw_all := lw_g (lw_at lw_m3 17 rfl) rfl
theorem q1363 : (Jvm.Cond.sameMethod "java/lang/Throwable" "java/lang/Throwable" "fillInStackTrace" "(I)Ljava/lang/Throwable;") ∈ lw_all := lw_g (lw_at lw_m6 89 rfl) rfl
theorem in_J0 : ∀ w ∈ wsJ00, w ∈ lw_all := lw_in wsJ00 [121, 123, 125, 127, 129] (by decide +kernel) (by decide +kernel)
/-! java/lang/Exception -/
def RJ1 : String := "java/lang/Exception"
abbrev cJ1_init : ByteArray := prog_16_method_5_code
def yJ1_init : MethodName := ⟨RJ1, "<init>", "(Ljava/lang/String;Ljava/lang/Throwable;ZZ)V"⟩
abbrev cJ1_init_2 : ByteArray := prog_16_method_2_code
def yJ1_init_2 : MethodName := ⟨RJ1, "<init>", "(Ljava/lang/String;)V"⟩
abbrev cJ1_init_3 : ByteArray := prog_16_method_1_code
def yJ1_init_3 : MethodName := ⟨RJ1, "<init>", "()V"⟩
theorem q78 : (Jvm.Cond.initialized "java/lang/Exception") ∈ lw_all := lw_g (lw_at lw_m1 4 rfl) rfl
theorem q114 : (Jvm.Cond.declares ({ cls := "java/lang/Exception", name := "<init>", desc := "()V" } : Jvm.MethodName)) ∈ lw_tbl := lw_at lw_m1 40 rfl
theorem q115 : (Jvm.Cond.declares ({ cls := "java/lang/Exception", name := "<init>", desc := "(Ljava/lang/String;)V" } : Jvm.MethodName)) ∈ lw_tbl := lw_at lw_m1 41 rfl
theorem q158 : (Jvm.Cond.superclass "java/lang/Exception" "java/lang/Throwable") ∈ lw_all := lw_g (lw_at lw_m1 84 rfl) rfl
theorem q170 : (Jvm.Cond.instanceMethod ({ cls := "java/lang/Exception", name := "<init>", desc := "(Ljava/lang/String;Ljava/lang/Throwable;ZZ)V" } : Jvm.MethodName)) ∈ lw_all := lw_g (lw_at lw_m1 96 rfl) rfl
theorem q171 : (Jvm.Cond.code ({ cls := "java/lang/Exception", name := "<init>", desc := "(Ljava/lang/String;Ljava/lang/Throwable;ZZ)V" } : Jvm.MethodName) prog_16_method_5_code (5 : Nat) (Option.none : Option Jvm.ClassFile.FieldType)) ∈ lw_all := lw_g (lw_at lw_m1 97 rfl) rfl
theorem q172 : (Jvm.Cond.methodLink "java/lang/Exception" (16 : Nat) ({ cls := "java/lang/Throwable", name := "<init>", desc := "(Ljava/lang/String;Ljava/lang/Throwable;ZZ)V" } : Jvm.MethodName)) ∈ lw_all := lw_g (lw_at lw_m1 98 rfl) rfl
theorem q567 : (Jvm.Cond.instanceMethod ({ cls := "java/lang/Exception", name := "<init>", desc := "(Ljava/lang/String;)V" } : Jvm.MethodName)) ∈ lw_all := lw_g (lw_at lw_m3 13 rfl) rfl
theorem q568 : (Jvm.Cond.code ({ cls := "java/lang/Exception", name := "<init>", desc := "(Ljava/lang/String;)V" } : Jvm.MethodName) prog_16_method_2_code (2 : Nat) (Option.none : Option Jvm.ClassFile.FieldType)) ∈ lw_all := lw_g (lw_at lw_m3 14 rfl) rfl
theorem q569 : (Jvm.Cond.methodLink "java/lang/Exception" (7 : Nat) ({ cls := "java/lang/Throwable", name := "<init>", desc := "(Ljava/lang/String;)V" } : Jvm.MethodName)) ∈ lw_all := lw_g (lw_at lw_m3 15 rfl) rfl
theorem q794 : (Jvm.Cond.instanceMethod ({ cls := "java/lang/Exception", name := "<init>", desc := "()V" } : Jvm.MethodName)) ∈ lw_all := lw_g (lw_at lw_m4 0 rfl) rfl
theorem q795 : (Jvm.Cond.code ({ cls := "java/lang/Exception", name := "<init>", desc := "()V" } : Jvm.MethodName) prog_16_method_1_code (1 : Nat) (Option.none : Option Jvm.ClassFile.FieldType)) ∈ lw_all := lw_g (lw_at lw_m4 1 rfl) rfl
theorem q796 : (Jvm.Cond.methodLink "java/lang/Exception" (1 : Nat) ({ cls := "java/lang/Throwable", name := "<init>", desc := "()V" } : Jvm.MethodName)) ∈ lw_all := lw_g (lw_at lw_m4 2 rfl) rfl
/-! PointLedger$Cut -/
def RX3 : String := "PointLedger$Cut"
def TX3 : u_T := fun k => match k with
  | 0 => ("java/lang/Throwable", "cause", "Ljava/lang/Throwable;", false)
  | 1 => ("java/lang/Throwable", "stackTrace", "[Ljava/lang/StackTraceElement;", false)
  | 2 => ("java/lang/Throwable", "suppressedExceptions", "Ljava/util/List;", false)
  | 3 => ("java/lang/Throwable", "detailMessage", "Ljava/lang/String;", false)
  | 4 => ("java/lang/Throwable", "backtrace", "Ljava/lang/Object;", false)
  | _ => ("java/lang/Throwable", "depth", "I", false)
def tyX3 : Nat → FieldType := fun k => match k with
  | 0 => .object "java/lang/Throwable"
  | 1 => .array (.object "java/lang/StackTraceElement")
  | 2 => .object "java/util/List"
  | 3 => .object "java/lang/String"
  | 4 => .object "java/lang/Object"
  | _ => .int
abbrev wsX30 : List Cond := u_ws RX3 TX3 6
theorem nmX3 : ∀ a, a < 6 → ∀ b, b < 6 → a ≠ b → (TX3 a).2.1 ≠ (TX3 b).2.1 := by decide +kernel
theorem tyX3_ok : ∀ k, k < 6 → parseFieldDescriptor (TX3 k).2.2.1 = some (tyX3 k) := by decide +kernel
abbrev cX3_init : ByteArray := prog_2_method_1_code
def yX3_init : MethodName := ⟨RX3, "<init>", "()V"⟩
theorem q79 : (Jvm.Cond.initialized "PointLedger$Cut") ∈ lw_all := lw_g (lw_at lw_m1 5 rfl) rfl
theorem q112 : (Jvm.Cond.instantiable "PointLedger$Cut" (6 : Nat)) ∈ lw_all := lw_g (lw_at lw_m1 38 rfl) rfl
theorem q113 : (Jvm.Cond.castable "PointLedger$Cut" "PointLedger$Cut") ∈ lw_tbl := lw_at lw_m1 39 rfl
theorem q118 : (Jvm.Cond.selects "PointLedger$Cut" ({ cls := "java/lang/Throwable", name := "fillInStackTrace", desc := "(I)Ljava/lang/Throwable;" } : Jvm.MethodName) ({ cls := "java/lang/Throwable", name := "fillInStackTrace", desc := "(I)Ljava/lang/Throwable;" } : Jvm.MethodName)) ∈ lw_all := lw_g (lw_at lw_m1 44 rfl) rfl
theorem q119 : (Jvm.Cond.selects "PointLedger$Cut" ({ cls := "java/lang/Throwable", name := "fillInStackTrace", desc := "()Ljava/lang/Throwable;" } : Jvm.MethodName) ({ cls := "java/lang/Throwable", name := "fillInStackTrace", desc := "()Ljava/lang/Throwable;" } : Jvm.MethodName)) ∈ lw_all := lw_g (lw_at lw_m1 45 rfl) rfl
theorem q120 : (Jvm.Cond.lays "PointLedger$Cut" "java/lang/Throwable" "cause" "Ljava/lang/Throwable;") ∈ lw_all := lw_g (lw_at lw_m1 46 rfl) rfl
theorem q122 : (Jvm.Cond.lays "PointLedger$Cut" "java/lang/Throwable" "stackTrace" "[Ljava/lang/StackTraceElement;") ∈ lw_all := lw_g (lw_at lw_m1 48 rfl) rfl
theorem q124 : (Jvm.Cond.lays "PointLedger$Cut" "java/lang/Throwable" "suppressedExceptions" "Ljava/util/List;") ∈ lw_all := lw_g (lw_at lw_m1 50 rfl) rfl
theorem q126 : (Jvm.Cond.lays "PointLedger$Cut" "java/lang/Throwable" "detailMessage" "Ljava/lang/String;") ∈ lw_all := lw_g (lw_at lw_m1 52 rfl) rfl
theorem q128 : (Jvm.Cond.lays "PointLedger$Cut" "java/lang/Throwable" "backtrace" "Ljava/lang/Object;") ∈ lw_all := lw_g (lw_at lw_m1 54 rfl) rfl
theorem q167 : (Jvm.Cond.instanceMethod ({ cls := "PointLedger$Cut", name := "<init>", desc := "()V" } : Jvm.MethodName)) ∈ lw_all := lw_g (lw_at lw_m1 93 rfl) rfl
theorem q168 : (Jvm.Cond.code ({ cls := "PointLedger$Cut", name := "<init>", desc := "()V" } : Jvm.MethodName) prog_2_method_1_code (1 : Nat) (Option.none : Option Jvm.ClassFile.FieldType)) ∈ lw_all := lw_g (lw_at lw_m1 94 rfl) rfl
theorem q169 : (Jvm.Cond.methodLink "PointLedger$Cut" (1 : Nat) ({ cls := "java/lang/Exception", name := "<init>", desc := "(Ljava/lang/String;Ljava/lang/Throwable;ZZ)V" } : Jvm.MethodName)) ∈ lw_all := lw_g (lw_at lw_m1 95 rfl) rfl
theorem q184 : (Jvm.Cond.lays "PointLedger$Cut" "java/lang/Throwable" "depth" "I") ∈ lw_all := lw_g (lw_at lw_m1 110 rfl) rfl
theorem q187 : (Jvm.Cond.superclass "PointLedger$Cut" "java/lang/Exception") ∈ lw_all := lw_g (lw_at lw_m1 113 rfl) rfl
theorem in_X3 : ∀ w ∈ wsX30, w ∈ lw_all := lw_in wsX30 [120, 122, 124, 126, 128, 184] (by decide +kernel) (by decide +kernel)
/-! PointLedger$Packer -/
def RX4 : String := "PointLedger$Packer"
def TX4 : u_T := fun k => match k with
  | 0 => ("PointLedger$Packer", "cells", "[I", true)
  | 1 => ("PointLedger$Packer", "at", "I", false)
  | 2 => ("PointLedger$Packer", "from", "I", false)
  | 3 => ("PointLedger$Packer", "isFirst", "Z", false)
  | 4 => ("PointLedger$Packer", "time", "I", false)
  | 5 => ("PointLedger$Packer", "value", "I", false)
  | _ => ("PointLedger$Packer", "rise", "J", false)
def tyX4 : Nat → FieldType := fun k => match k with
  | 0 => .array .int
  | 1 => .int
  | 2 => .int
  | 3 => .boolean
  | 4 => .int
  | 5 => .int
  | _ => .long
abbrev wsX40 : List Cond := u_ws RX4 TX4 7
theorem nmX4 : ∀ a, a < 7 → ∀ b, b < 7 → a ≠ b → (TX4 a).2.1 ≠ (TX4 b).2.1 := by decide +kernel
theorem tyX4_ok : ∀ k, k < 7 → parseFieldDescriptor (TX4 k).2.2.1 = some (tyX4 k) := by decide +kernel
abbrev cX4_init : ByteArray := prog_6_method_1_code
def yX4_init : MethodName := ⟨RX4, "<init>", "()V"⟩
abbrev cX4_clear : ByteArray := prog_6_method_2_code
def yX4_clear : MethodName := ⟨RX4, "clear", "()V"⟩
abbrev cX4_begin : ByteArray := prog_6_method_3_code
def yX4_begin : MethodName := ⟨RX4, "begin", "()V"⟩
abbrev cX4_take : ByteArray := prog_6_method_6_code
def yX4_take : MethodName := ⟨RX4, "take", "(II)V"⟩
abbrev cX4_put : ByteArray := prog_6_method_4_code
def yX4_put : MethodName := ⟨RX4, "put", "(JI)V"⟩
abbrev cX4_change : ByteArray := prog_6_method_5_code
def yX4_change : MethodName := ⟨RX4, "change", "(J)V"⟩
abbrev cX4_end : ByteArray := prog_6_method_7_code
def yX4_end : MethodName := ⟨RX4, "end", "()I"⟩
theorem q80 : (Jvm.Cond.initialized "PointLedger$Packer") ∈ lw_all := lw_g (lw_at lw_m1 6 rfl) rfl
theorem q211 : (Jvm.Cond.instantiable "PointLedger$Packer" (7 : Nat)) ∈ lw_all := lw_g (lw_at lw_m1 137 rfl) rfl
theorem q213 : (Jvm.Cond.instanceMethod ({ cls := "PointLedger$Packer", name := "<init>", desc := "()V" } : Jvm.MethodName)) ∈ lw_all := lw_g (lw_at lw_m1 139 rfl) rfl
theorem q214 : (Jvm.Cond.code ({ cls := "PointLedger$Packer", name := "<init>", desc := "()V" } : Jvm.MethodName) prog_6_method_1_code (1 : Nat) (Option.none : Option Jvm.ClassFile.FieldType)) ∈ lw_all := lw_g (lw_at lw_m1 140 rfl) rfl
theorem q215 : (Jvm.Cond.methodLink "PointLedger$Packer" (1 : Nat) ({ cls := "java/lang/Object", name := "<init>", desc := "()V" } : Jvm.MethodName)) ∈ lw_all := lw_g (lw_at lw_m1 141 rfl) rfl
theorem q216 : (Jvm.Cond.fieldLink "PointLedger$Packer" (7 : Nat) "PointLedger$Packer" "cells" "[I") ∈ lw_all := lw_g (lw_at lw_m1 142 rfl) rfl
theorem q218 : (Jvm.Cond.fieldLink "PointLedger$Packer" (13 : Nat) "PointLedger$Packer" "at" "I") ∈ lw_all := lw_g (lw_at lw_m1 144 rfl) rfl
theorem q219 : (Jvm.Cond.fieldLink "PointLedger$Packer" (17 : Nat) "PointLedger$Packer" "from" "I") ∈ lw_all := lw_g (lw_at lw_m1 145 rfl) rfl
theorem q221 : (Jvm.Cond.fieldLink "PointLedger$Packer" (20 : Nat) "PointLedger$Packer" "isFirst" "Z") ∈ lw_all := lw_g (lw_at lw_m1 147 rfl) rfl
theorem q222 : (Jvm.Cond.fieldLink "PointLedger$Packer" (54 : Nat) "PointLedger$Packer" "time" "I") ∈ lw_all := lw_g (lw_at lw_m1 148 rfl) rfl
theorem q223 : (Jvm.Cond.fieldLink "PointLedger$Packer" (61 : Nat) "PointLedger$Packer" "value" "I") ∈ lw_all := lw_g (lw_at lw_m1 149 rfl) rfl
theorem q224 : (Jvm.Cond.fieldLink "PointLedger$Packer" (24 : Nat) "PointLedger$Packer" "rise" "J") ∈ lw_all := lw_g (lw_at lw_m1 150 rfl) rfl
theorem q225 : (Jvm.Cond.laysFinal "PointLedger$Packer" "PointLedger$Packer" "cells" "[I") ∈ lw_all := lw_g (lw_at lw_m1 151 rfl) rfl
theorem q226 : (Jvm.Cond.soleField "PointLedger$Packer" "cells") ∈ lw_all := lw_g (lw_at lw_m1 152 rfl) rfl
theorem q227 : (Jvm.Cond.lays "PointLedger$Packer" "PointLedger$Packer" "at" "I") ∈ lw_all := lw_g (lw_at lw_m1 153 rfl) rfl
theorem q228 : (Jvm.Cond.soleField "PointLedger$Packer" "at") ∈ lw_all := lw_g (lw_at lw_m1 154 rfl) rfl
theorem q229 : (Jvm.Cond.lays "PointLedger$Packer" "PointLedger$Packer" "from" "I") ∈ lw_all := lw_g (lw_at lw_m1 155 rfl) rfl
theorem q230 : (Jvm.Cond.soleField "PointLedger$Packer" "from") ∈ lw_all := lw_g (lw_at lw_m1 156 rfl) rfl
theorem q231 : (Jvm.Cond.lays "PointLedger$Packer" "PointLedger$Packer" "isFirst" "Z") ∈ lw_all := lw_g (lw_at lw_m1 157 rfl) rfl
theorem q232 : (Jvm.Cond.soleField "PointLedger$Packer" "isFirst") ∈ lw_all := lw_g (lw_at lw_m1 158 rfl) rfl
theorem q233 : (Jvm.Cond.lays "PointLedger$Packer" "PointLedger$Packer" "time" "I") ∈ lw_all := lw_g (lw_at lw_m1 159 rfl) rfl
theorem q234 : (Jvm.Cond.soleField "PointLedger$Packer" "time") ∈ lw_all := lw_g (lw_at lw_m1 160 rfl) rfl
theorem q235 : (Jvm.Cond.lays "PointLedger$Packer" "PointLedger$Packer" "value" "I") ∈ lw_all := lw_g (lw_at lw_m1 161 rfl) rfl
theorem q236 : (Jvm.Cond.soleField "PointLedger$Packer" "value") ∈ lw_all := lw_g (lw_at lw_m1 162 rfl) rfl
theorem q237 : (Jvm.Cond.lays "PointLedger$Packer" "PointLedger$Packer" "rise" "J") ∈ lw_all := lw_g (lw_at lw_m1 163 rfl) rfl
theorem q238 : (Jvm.Cond.soleField "PointLedger$Packer" "rise") ∈ lw_all := lw_g (lw_at lw_m1 164 rfl) rfl
theorem q239 : (Jvm.Cond.superclass "PointLedger$Packer" "java/lang/Object") ∈ lw_all := lw_g (lw_at lw_m1 165 rfl) rfl
theorem q611 : (Jvm.Cond.instanceMethod ({ cls := "PointLedger$Packer", name := "clear", desc := "()V" } : Jvm.MethodName)) ∈ lw_all := lw_g (lw_at lw_m3 57 rfl) rfl
theorem q612 : (Jvm.Cond.selects "PointLedger$Packer" ({ cls := "PointLedger$Packer", name := "clear", desc := "()V" } : Jvm.MethodName) ({ cls := "PointLedger$Packer", name := "clear", desc := "()V" } : Jvm.MethodName)) ∈ lw_all := lw_g (lw_at lw_m3 58 rfl) rfl
theorem q613 : (Jvm.Cond.code ({ cls := "PointLedger$Packer", name := "clear", desc := "()V" } : Jvm.MethodName) prog_6_method_2_code (1 : Nat) (Option.none : Option Jvm.ClassFile.FieldType)) ∈ lw_all := lw_g (lw_at lw_m3 59 rfl) rfl
theorem q630 : (Jvm.Cond.instanceMethod ({ cls := "PointLedger$Packer", name := "begin", desc := "()V" } : Jvm.MethodName)) ∈ lw_all := lw_g (lw_at lw_m3 76 rfl) rfl
theorem q631 : (Jvm.Cond.selects "PointLedger$Packer" ({ cls := "PointLedger$Packer", name := "begin", desc := "()V" } : Jvm.MethodName) ({ cls := "PointLedger$Packer", name := "begin", desc := "()V" } : Jvm.MethodName)) ∈ lw_all := lw_g (lw_at lw_m3 77 rfl) rfl
theorem q632 : (Jvm.Cond.code ({ cls := "PointLedger$Packer", name := "begin", desc := "()V" } : Jvm.MethodName) prog_6_method_3_code (1 : Nat) (Option.none : Option Jvm.ClassFile.FieldType)) ∈ lw_all := lw_g (lw_at lw_m3 78 rfl) rfl
theorem q642 : (Jvm.Cond.instanceMethod ({ cls := "PointLedger$Packer", name := "take", desc := "(II)V" } : Jvm.MethodName)) ∈ lw_all := lw_g (lw_at lw_m3 88 rfl) rfl
theorem q643 : (Jvm.Cond.selects "PointLedger$Packer" ({ cls := "PointLedger$Packer", name := "take", desc := "(II)V" } : Jvm.MethodName) ({ cls := "PointLedger$Packer", name := "take", desc := "(II)V" } : Jvm.MethodName)) ∈ lw_all := lw_g (lw_at lw_m3 89 rfl) rfl
theorem q644 : (Jvm.Cond.code ({ cls := "PointLedger$Packer", name := "take", desc := "(II)V" } : Jvm.MethodName) prog_6_method_6_code (7 : Nat) (Option.none : Option Jvm.ClassFile.FieldType)) ∈ lw_all := lw_g (lw_at lw_m3 90 rfl) rfl
theorem q645 : (Jvm.Cond.methodLink "PointLedger$Packer" (28 : Nat) ({ cls := "PointLedger$Packer", name := "put", desc := "(JI)V" } : Jvm.MethodName)) ∈ lw_all := lw_g (lw_at lw_m3 91 rfl) rfl
theorem q646 : (Jvm.Cond.privateMethod ({ cls := "PointLedger$Packer", name := "put", desc := "(JI)V" } : Jvm.MethodName)) ∈ lw_tbl := lw_at lw_m3 92 rfl
theorem q647 : (Jvm.Cond.instanceMethod ({ cls := "PointLedger$Packer", name := "put", desc := "(JI)V" } : Jvm.MethodName)) ∈ lw_all := lw_g (lw_at lw_m3 93 rfl) rfl
theorem q648 : (Jvm.Cond.code ({ cls := "PointLedger$Packer", name := "put", desc := "(JI)V" } : Jvm.MethodName) prog_6_method_4_code (6 : Nat) (Option.none : Option Jvm.ClassFile.FieldType)) ∈ lw_all := lw_g (lw_at lw_m3 94 rfl) rfl
theorem q649 : (Jvm.Cond.methodLink "PointLedger$Packer" (57 : Nat) ({ cls := "PointLedger$Packer", name := "change", desc := "(J)V" } : Jvm.MethodName)) ∈ lw_all := lw_g (lw_at lw_m3 95 rfl) rfl
theorem q650 : (Jvm.Cond.privateMethod ({ cls := "PointLedger$Packer", name := "change", desc := "(J)V" } : Jvm.MethodName)) ∈ lw_tbl := lw_at lw_m3 96 rfl
theorem q651 : (Jvm.Cond.instanceMethod ({ cls := "PointLedger$Packer", name := "change", desc := "(J)V" } : Jvm.MethodName)) ∈ lw_all := lw_g (lw_at lw_m3 97 rfl) rfl
theorem q652 : (Jvm.Cond.code ({ cls := "PointLedger$Packer", name := "change", desc := "(J)V" } : Jvm.MethodName) prog_6_method_5_code (3 : Nat) (Option.none : Option Jvm.ClassFile.FieldType)) ∈ lw_all := lw_g (lw_at lw_m3 98 rfl) rfl
theorem q653 : (Jvm.Cond.constantLong "PointLedger$Packer" (32 : Nat) (-64 : Int64)) ∈ lw_all := lw_g (lw_at lw_m3 99 rfl) rfl
theorem q654 : (Jvm.Cond.constantLong "PointLedger$Packer" (34 : Nat) (64 : Int64)) ∈ lw_all := lw_g (lw_at lw_m3 100 rfl) rfl
theorem q655 : (Jvm.Cond.constantLong "PointLedger$Packer" (36 : Nat) (2 : Int64)) ∈ lw_all := lw_g (lw_at lw_m3 101 rfl) rfl
theorem q656 : (Jvm.Cond.constantLong "PointLedger$Packer" (38 : Nat) (-256 : Int64)) ∈ lw_all := lw_g (lw_at lw_m3 102 rfl) rfl
theorem q657 : (Jvm.Cond.constantLong "PointLedger$Packer" (40 : Nat) (256 : Int64)) ∈ lw_all := lw_g (lw_at lw_m3 103 rfl) rfl
theorem q658 : (Jvm.Cond.constantLong "PointLedger$Packer" (42 : Nat) (6 : Int64)) ∈ lw_all := lw_g (lw_at lw_m3 104 rfl) rfl
theorem q659 : (Jvm.Cond.constantLong "PointLedger$Packer" (44 : Nat) (-2048 : Int64)) ∈ lw_all := lw_g (lw_at lw_m3 105 rfl) rfl
theorem q660 : (Jvm.Cond.constantLong "PointLedger$Packer" (46 : Nat) (2048 : Int64)) ∈ lw_all := lw_g (lw_at lw_m3 106 rfl) rfl
theorem q661 : (Jvm.Cond.constantLong "PointLedger$Packer" (48 : Nat) (14 : Int64)) ∈ lw_all := lw_g (lw_at lw_m3 107 rfl) rfl
theorem q662 : (Jvm.Cond.constantLong "PointLedger$Packer" (50 : Nat) (15 : Int64)) ∈ lw_all := lw_g (lw_at lw_m3 108 rfl) rfl
theorem q663 : (Jvm.Cond.constantLong "PointLedger$Packer" (52 : Nat) (8589934592 : Int64)) ∈ lw_all := lw_g (lw_at lw_m3 109 rfl) rfl
theorem q664 : (Jvm.Cond.constantLong "PointLedger$Packer" (64 : Nat) (16 : Int64)) ∈ lw_all := lw_g (lw_at lw_m3 110 rfl) rfl
theorem q670 : (Jvm.Cond.instanceMethod ({ cls := "PointLedger$Packer", name := "end", desc := "()I" } : Jvm.MethodName)) ∈ lw_all := lw_g (lw_at lw_m3 116 rfl) rfl
theorem q671 : (Jvm.Cond.selects "PointLedger$Packer" ({ cls := "PointLedger$Packer", name := "end", desc := "()I" } : Jvm.MethodName) ({ cls := "PointLedger$Packer", name := "end", desc := "()I" } : Jvm.MethodName)) ∈ lw_all := lw_g (lw_at lw_m3 117 rfl) rfl
theorem q672 : (Jvm.Cond.code ({ cls := "PointLedger$Packer", name := "end", desc := "()I" } : Jvm.MethodName) prog_6_method_7_code (1 : Nat) (Option.some Jvm.ClassFile.FieldType.int)) ∈ lw_all := lw_g (lw_at lw_m3 118 rfl) rfl
theorem in_X4 : ∀ w ∈ wsX40, w ∈ lw_all := lw_in wsX40 [225, 227, 229, 231, 233, 235, 237] (by decide +kernel) (by decide +kernel)
/-! PointLedger$Points -/
def RX5 : String := "PointLedger$Points"
abbrev cX5_init : ByteArray := prog_7_method_1_code
def yX5_init : MethodName := ⟨RX5, "<init>", "()V"⟩
theorem q81 : (Jvm.Cond.initialized "PointLedger$Points") ∈ lw_all := lw_g (lw_at lw_m1 7 rfl) rfl
theorem q246 : (Jvm.Cond.instanceMethod ({ cls := "PointLedger$Points", name := "<init>", desc := "()V" } : Jvm.MethodName)) ∈ lw_all := lw_g (lw_at lw_m1 172 rfl) rfl
theorem q247 : (Jvm.Cond.code ({ cls := "PointLedger$Points", name := "<init>", desc := "()V" } : Jvm.MethodName) prog_7_method_1_code (1 : Nat) (Option.none : Option Jvm.ClassFile.FieldType)) ∈ lw_all := lw_g (lw_at lw_m1 173 rfl) rfl
theorem q248 : (Jvm.Cond.methodLink "PointLedger$Points" (1 : Nat) ({ cls := "java/lang/Object", name := "<init>", desc := "()V" } : Jvm.MethodName)) ∈ lw_all := lw_g (lw_at lw_m1 174 rfl) rfl
theorem q279 : (Jvm.Cond.soleField "PointLedger$Points" "time") ∈ lw_all := lw_g (lw_at lw_m1 205 rfl) rfl
theorem q281 : (Jvm.Cond.soleField "PointLedger$Points" "value") ∈ lw_all := lw_g (lw_at lw_m1 207 rfl) rfl
/-! PointLedger$Unpacker -/
def RX6 : String := "PointLedger$Unpacker"
def TX6 : u_T := fun k => match k with
  | 0 => ("PointLedger$Points", "time", "I", false)
  | 1 => ("PointLedger$Points", "value", "I", false)
  | 2 => ("PointLedger$Unpacker", "cells", "[I", true)
  | 3 => ("PointLedger$Unpacker", "left", "I", false)
  | 4 => ("PointLedger$Unpacker", "at", "I", false)
  | 5 => ("PointLedger$Unpacker", "isFirst", "Z", false)
  | _ => ("PointLedger$Unpacker", "rise", "J", false)
def tyX6 : Nat → FieldType := fun k => match k with
  | 0 => .int
  | 1 => .int
  | 2 => .array .int
  | 3 => .int
  | 4 => .int
  | 5 => .boolean
  | _ => .long
abbrev wsX60 : List Cond := u_ws RX6 TX6 7
theorem nmX6 : ∀ a, a < 7 → ∀ b, b < 7 → a ≠ b → (TX6 a).2.1 ≠ (TX6 b).2.1 := by decide +kernel
theorem tyX6_ok : ∀ k, k < 7 → parseFieldDescriptor (TX6 k).2.2.1 = some (tyX6 k) := by decide +kernel
abbrev cX6_init : ByteArray := prog_11_method_1_code
def yX6_init : MethodName := ⟨RX6, "<init>", "([I)V"⟩
abbrev cX6_begin : ByteArray := prog_11_method_2_code
def yX6_begin : MethodName := ⟨RX6, "begin", "(II)V"⟩
abbrev cX6_step : ByteArray := prog_11_method_7_code
def yX6_step : MethodName := ⟨RX6, "step", "()Z"⟩
abbrev cX6_bits : ByteArray := prog_11_method_3_code
def yX6_bits : MethodName := ⟨RX6, "bits", "(I)J"⟩
abbrev cX6_change : ByteArray := prog_11_method_5_code
def yX6_change : MethodName := ⟨RX6, "change", "()J"⟩
abbrev cX6_bit : ByteArray := prog_11_method_4_code
def yX6_bit : MethodName := ⟨RX6, "bit", "()Z"⟩
abbrev cX6_difference : ByteArray := prog_11_method_6_code
def yX6_difference : MethodName := ⟨RX6, "difference", "()I"⟩
theorem q82 : (Jvm.Cond.initialized "PointLedger$Unpacker") ∈ lw_all := lw_g (lw_at lw_m1 8 rfl) rfl
theorem q241 : (Jvm.Cond.instantiable "PointLedger$Unpacker" (7 : Nat)) ∈ lw_all := lw_g (lw_at lw_m1 167 rfl) rfl
theorem q243 : (Jvm.Cond.instanceMethod ({ cls := "PointLedger$Unpacker", name := "<init>", desc := "([I)V" } : Jvm.MethodName)) ∈ lw_all := lw_g (lw_at lw_m1 169 rfl) rfl
theorem q244 : (Jvm.Cond.code ({ cls := "PointLedger$Unpacker", name := "<init>", desc := "([I)V" } : Jvm.MethodName) prog_11_method_1_code (2 : Nat) (Option.none : Option Jvm.ClassFile.FieldType)) ∈ lw_all := lw_g (lw_at lw_m1 170 rfl) rfl
theorem q245 : (Jvm.Cond.methodLinkNest "PointLedger$Unpacker" (1 : Nat) ({ cls := "PointLedger$Points", name := "<init>", desc := "()V" } : Jvm.MethodName) "PointLedger") ∈ lw_tbl := lw_at lw_m1 171 rfl
theorem q249 : (Jvm.Cond.fieldLink "PointLedger$Unpacker" (7 : Nat) "PointLedger$Unpacker" "cells" "[I") ∈ lw_all := lw_g (lw_at lw_m1 175 rfl) rfl
theorem q250 : (Jvm.Cond.fieldLink "PointLedger$Unpacker" (17 : Nat) "PointLedger$Unpacker" "left" "I") ∈ lw_all := lw_g (lw_at lw_m1 176 rfl) rfl
theorem q251 : (Jvm.Cond.fieldLink "PointLedger$Unpacker" (13 : Nat) "PointLedger$Unpacker" "at" "I") ∈ lw_all := lw_g (lw_at lw_m1 177 rfl) rfl
theorem q252 : (Jvm.Cond.fieldLink "PointLedger$Unpacker" (20 : Nat) "PointLedger$Unpacker" "isFirst" "Z") ∈ lw_all := lw_g (lw_at lw_m1 178 rfl) rfl
theorem q253 : (Jvm.Cond.fieldLink "PointLedger$Unpacker" (24 : Nat) "PointLedger$Unpacker" "rise" "J") ∈ lw_all := lw_g (lw_at lw_m1 179 rfl) rfl
theorem q255 : (Jvm.Cond.sameField "PointLedger$Unpacker" "PointLedger$Points" "time" "I") ∈ lw_all := lw_g (lw_at lw_m1 181 rfl) rfl
theorem q258 : (Jvm.Cond.fieldLink "PointLedger$Unpacker" (44 : Nat) "PointLedger$Unpacker" "time" "I") ∈ lw_all := lw_g (lw_at lw_m1 184 rfl) rfl
theorem q262 : (Jvm.Cond.sameField "PointLedger$Unpacker" "PointLedger$Points" "value" "I") ∈ lw_all := lw_g (lw_at lw_m1 188 rfl) rfl
theorem q265 : (Jvm.Cond.fieldLink "PointLedger$Unpacker" (47 : Nat) "PointLedger$Unpacker" "value" "I") ∈ lw_all := lw_g (lw_at lw_m1 191 rfl) rfl
theorem q268 : (Jvm.Cond.laysFinal "PointLedger$Unpacker" "PointLedger$Unpacker" "cells" "[I") ∈ lw_all := lw_g (lw_at lw_m1 194 rfl) rfl
theorem q269 : (Jvm.Cond.soleField "PointLedger$Unpacker" "cells") ∈ lw_all := lw_g (lw_at lw_m1 195 rfl) rfl
theorem q270 : (Jvm.Cond.lays "PointLedger$Unpacker" "PointLedger$Unpacker" "left" "I") ∈ lw_all := lw_g (lw_at lw_m1 196 rfl) rfl
theorem q271 : (Jvm.Cond.soleField "PointLedger$Unpacker" "left") ∈ lw_all := lw_g (lw_at lw_m1 197 rfl) rfl
theorem q272 : (Jvm.Cond.lays "PointLedger$Unpacker" "PointLedger$Unpacker" "at" "I") ∈ lw_all := lw_g (lw_at lw_m1 198 rfl) rfl
theorem q273 : (Jvm.Cond.soleField "PointLedger$Unpacker" "at") ∈ lw_all := lw_g (lw_at lw_m1 199 rfl) rfl
theorem q274 : (Jvm.Cond.lays "PointLedger$Unpacker" "PointLedger$Unpacker" "isFirst" "Z") ∈ lw_all := lw_g (lw_at lw_m1 200 rfl) rfl
theorem q275 : (Jvm.Cond.soleField "PointLedger$Unpacker" "isFirst") ∈ lw_all := lw_g (lw_at lw_m1 201 rfl) rfl
theorem q276 : (Jvm.Cond.lays "PointLedger$Unpacker" "PointLedger$Unpacker" "rise" "J") ∈ lw_all := lw_g (lw_at lw_m1 202 rfl) rfl
theorem q277 : (Jvm.Cond.soleField "PointLedger$Unpacker" "rise") ∈ lw_all := lw_g (lw_at lw_m1 203 rfl) rfl
theorem q278 : (Jvm.Cond.lays "PointLedger$Unpacker" "PointLedger$Points" "time" "I") ∈ lw_all := lw_g (lw_at lw_m1 204 rfl) rfl
theorem q280 : (Jvm.Cond.lays "PointLedger$Unpacker" "PointLedger$Points" "value" "I") ∈ lw_all := lw_g (lw_at lw_m1 206 rfl) rfl
theorem q282 : (Jvm.Cond.superclass "PointLedger$Unpacker" "PointLedger$Points") ∈ lw_all := lw_g (lw_at lw_m1 208 rfl) rfl
theorem q710 : (Jvm.Cond.instanceMethod ({ cls := "PointLedger$Unpacker", name := "begin", desc := "(II)V" } : Jvm.MethodName)) ∈ lw_all := lw_g (lw_at lw_m3 156 rfl) rfl
theorem q711 : (Jvm.Cond.selects "PointLedger$Unpacker" ({ cls := "PointLedger$Unpacker", name := "begin", desc := "(II)V" } : Jvm.MethodName) ({ cls := "PointLedger$Unpacker", name := "begin", desc := "(II)V" } : Jvm.MethodName)) ∈ lw_all := lw_g (lw_at lw_m3 157 rfl) rfl
theorem q712 : (Jvm.Cond.code ({ cls := "PointLedger$Unpacker", name := "begin", desc := "(II)V" } : Jvm.MethodName) prog_11_method_2_code (3 : Nat) (Option.none : Option Jvm.ClassFile.FieldType)) ∈ lw_all := lw_g (lw_at lw_m3 158 rfl) rfl
theorem q714 : (Jvm.Cond.instanceMethod ({ cls := "PointLedger$Unpacker", name := "step", desc := "()Z" } : Jvm.MethodName)) ∈ lw_all := lw_g (lw_at lw_m3 160 rfl) rfl
theorem q715 : (Jvm.Cond.selects "PointLedger$Unpacker" ({ cls := "PointLedger$Unpacker", name := "step", desc := "()Z" } : Jvm.MethodName) ({ cls := "PointLedger$Unpacker", name := "step", desc := "()Z" } : Jvm.MethodName)) ∈ lw_all := lw_g (lw_at lw_m3 161 rfl) rfl
theorem q716 : (Jvm.Cond.code ({ cls := "PointLedger$Unpacker", name := "step", desc := "()Z" } : Jvm.MethodName) prog_11_method_7_code (1 : Nat) (Option.some Jvm.ClassFile.FieldType.boolean)) ∈ lw_all := lw_g (lw_at lw_m3 162 rfl) rfl
theorem q717 : (Jvm.Cond.methodLink "PointLedger$Unpacker" (28 : Nat) ({ cls := "PointLedger$Unpacker", name := "bits", desc := "(I)J" } : Jvm.MethodName)) ∈ lw_all := lw_g (lw_at lw_m3 163 rfl) rfl
theorem q718 : (Jvm.Cond.privateMethod ({ cls := "PointLedger$Unpacker", name := "bits", desc := "(I)J" } : Jvm.MethodName)) ∈ lw_tbl := lw_at lw_m3 164 rfl
theorem q719 : (Jvm.Cond.instanceMethod ({ cls := "PointLedger$Unpacker", name := "bits", desc := "(I)J" } : Jvm.MethodName)) ∈ lw_all := lw_g (lw_at lw_m3 165 rfl) rfl
theorem q720 : (Jvm.Cond.code ({ cls := "PointLedger$Unpacker", name := "bits", desc := "(I)J" } : Jvm.MethodName) prog_11_method_3_code (5 : Nat) (Option.some Jvm.ClassFile.FieldType.long)) ∈ lw_all := lw_g (lw_at lw_m3 166 rfl) rfl
theorem q721 : (Jvm.Cond.methodLink "PointLedger$Unpacker" (50 : Nat) ({ cls := "PointLedger$Unpacker", name := "change", desc := "()J" } : Jvm.MethodName)) ∈ lw_all := lw_g (lw_at lw_m3 167 rfl) rfl
theorem q722 : (Jvm.Cond.privateMethod ({ cls := "PointLedger$Unpacker", name := "change", desc := "()J" } : Jvm.MethodName)) ∈ lw_tbl := lw_at lw_m3 168 rfl
theorem q723 : (Jvm.Cond.instanceMethod ({ cls := "PointLedger$Unpacker", name := "change", desc := "()J" } : Jvm.MethodName)) ∈ lw_all := lw_g (lw_at lw_m3 169 rfl) rfl
theorem q724 : (Jvm.Cond.code ({ cls := "PointLedger$Unpacker", name := "change", desc := "()J" } : Jvm.MethodName) prog_11_method_5_code (1 : Nat) (Option.some Jvm.ClassFile.FieldType.long)) ∈ lw_all := lw_g (lw_at lw_m3 170 rfl) rfl
theorem q725 : (Jvm.Cond.methodLink "PointLedger$Unpacker" (32 : Nat) ({ cls := "PointLedger$Unpacker", name := "bit", desc := "()Z" } : Jvm.MethodName)) ∈ lw_all := lw_g (lw_at lw_m3 171 rfl) rfl
theorem q726 : (Jvm.Cond.privateMethod ({ cls := "PointLedger$Unpacker", name := "bit", desc := "()Z" } : Jvm.MethodName)) ∈ lw_tbl := lw_at lw_m3 172 rfl
theorem q727 : (Jvm.Cond.instanceMethod ({ cls := "PointLedger$Unpacker", name := "bit", desc := "()Z" } : Jvm.MethodName)) ∈ lw_all := lw_g (lw_at lw_m3 173 rfl) rfl
theorem q728 : (Jvm.Cond.code ({ cls := "PointLedger$Unpacker", name := "bit", desc := "()Z" } : Jvm.MethodName) prog_11_method_4_code (1 : Nat) (Option.some Jvm.ClassFile.FieldType.boolean)) ∈ lw_all := lw_g (lw_at lw_m3 174 rfl) rfl
theorem q729 : (Jvm.Cond.constantLong "PointLedger$Unpacker" (36 : Nat) (64 : Int64)) ∈ lw_all := lw_g (lw_at lw_m3 175 rfl) rfl
theorem q730 : (Jvm.Cond.constantLong "PointLedger$Unpacker" (38 : Nat) (256 : Int64)) ∈ lw_all := lw_g (lw_at lw_m3 176 rfl) rfl
theorem q731 : (Jvm.Cond.constantLong "PointLedger$Unpacker" (40 : Nat) (8589934592 : Int64)) ∈ lw_all := lw_g (lw_at lw_m3 177 rfl) rfl
theorem q732 : (Jvm.Cond.constantLong "PointLedger$Unpacker" (42 : Nat) (2048 : Int64)) ∈ lw_all := lw_g (lw_at lw_m3 178 rfl) rfl
theorem q733 : (Jvm.Cond.methodLink "PointLedger$Unpacker" (54 : Nat) ({ cls := "PointLedger$Unpacker", name := "difference", desc := "()I" } : Jvm.MethodName)) ∈ lw_all := lw_g (lw_at lw_m3 179 rfl) rfl
theorem q734 : (Jvm.Cond.privateMethod ({ cls := "PointLedger$Unpacker", name := "difference", desc := "()I" } : Jvm.MethodName)) ∈ lw_tbl := lw_at lw_m3 180 rfl
theorem q735 : (Jvm.Cond.instanceMethod ({ cls := "PointLedger$Unpacker", name := "difference", desc := "()I" } : Jvm.MethodName)) ∈ lw_all := lw_g (lw_at lw_m3 181 rfl) rfl
theorem q736 : (Jvm.Cond.code ({ cls := "PointLedger$Unpacker", name := "difference", desc := "()I" } : Jvm.MethodName) prog_11_method_6_code (3 : Nat) (Option.some Jvm.ClassFile.FieldType.int)) ∈ lw_all := lw_g (lw_at lw_m3 182 rfl) rfl
theorem in_X6 : ∀ w ∈ wsX60, w ∈ lw_all := lw_in wsX60 [278, 280, 268, 270, 272, 274, 276] (by decide +kernel) (by decide +kernel)
/-! PointLedger$Index -/
def RX7 : String := "PointLedger$Index"
def TX7 : u_T := fun k => match k with
  | 0 => ("PointLedger$Index", "spans", "LPointLedger$Spans;", true)
  | 1 => ("PointLedger$Index", "series", "[B", true)
  | 2 => ("PointLedger$Index", "place", "[C", true)
  | 3 => ("PointLedger$Index", "length", "[S", true)
  | 4 => ("PointLedger$Index", "waits", "[I", true)
  | 5 => ("PointLedger$Index", "many", "I", false)
  | _ => ("PointLedger$Index", "begins", "[I", true)
def tyX7 : Nat → FieldType := fun k => match k with
  | 0 => .object "PointLedger$Spans"
  | 1 => .array .byte
  | 2 => .array .char
  | 3 => .array .short
  | 4 => .array .int
  | 5 => .int
  | _ => .array .int
abbrev wsX70 : List Cond := u_ws RX7 TX7 7
theorem nmX7 : ∀ a, a < 7 → ∀ b, b < 7 → a ≠ b → (TX7 a).2.1 ≠ (TX7 b).2.1 := by decide +kernel
theorem tyX7_ok : ∀ k, k < 7 → parseFieldDescriptor (TX7 k).2.2.1 = some (tyX7 k) := by decide +kernel
abbrev cX7_init : ByteArray := prog_5_method_1_code
def yX7_init : MethodName := ⟨RX7, "<init>", "()V"⟩
abbrev cX7_ends : ByteArray := prog_5_method_4_code
def yX7_ends : MethodName := ⟨RX7, "ends", "()V"⟩
abbrev cX7_copies : ByteArray := prog_5_method_3_code
def yX7_copies : MethodName := ⟨RX7, "copies", "(LPointLedger$Index;I)Z"⟩
abbrev cX7_opens : ByteArray := prog_5_method_2_code
def yX7_opens : MethodName := ⟨RX7, "opens", "(I)Z"⟩
theorem q83 : (Jvm.Cond.initialized "PointLedger$Index") ∈ lw_all := lw_g (lw_at lw_m1 9 rfl) rfl
theorem q284 : (Jvm.Cond.instantiable "PointLedger$Index" (7 : Nat)) ∈ lw_all := lw_g (lw_at lw_m1 210 rfl) rfl
theorem q286 : (Jvm.Cond.instanceMethod ({ cls := "PointLedger$Index", name := "<init>", desc := "()V" } : Jvm.MethodName)) ∈ lw_all := lw_g (lw_at lw_m1 212 rfl) rfl
theorem q287 : (Jvm.Cond.code ({ cls := "PointLedger$Index", name := "<init>", desc := "()V" } : Jvm.MethodName) prog_5_method_1_code (1 : Nat) (Option.none : Option Jvm.ClassFile.FieldType)) ∈ lw_all := lw_g (lw_at lw_m1 213 rfl) rfl
theorem q288 : (Jvm.Cond.methodLink "PointLedger$Index" (3 : Nat) ({ cls := "java/lang/Object", name := "<init>", desc := "()V" } : Jvm.MethodName)) ∈ lw_all := lw_g (lw_at lw_m1 214 rfl) rfl
theorem q289 : (Jvm.Cond.classLink "PointLedger$Index" (9 : Nat) "PointLedger$Spans") ∈ lw_all := lw_g (lw_at lw_m1 215 rfl) rfl
theorem q291 : (Jvm.Cond.methodLink "PointLedger$Index" (11 : Nat) ({ cls := "PointLedger$Spans", name := "<init>", desc := "(I)V" } : Jvm.MethodName)) ∈ lw_all := lw_g (lw_at lw_m1 217 rfl) rfl
theorem q327 : (Jvm.Cond.fieldLink "PointLedger$Index" (14 : Nat) "PointLedger$Index" "spans" "LPointLedger$Spans;") ∈ lw_all := lw_g (lw_at lw_m2 13 rfl) rfl
theorem q330 : (Jvm.Cond.fieldLink "PointLedger$Index" (20 : Nat) "PointLedger$Index" "series" "[B") ∈ lw_all := lw_g (lw_at lw_m2 16 rfl) rfl
theorem q332 : (Jvm.Cond.fieldLink "PointLedger$Index" (24 : Nat) "PointLedger$Index" "place" "[C") ∈ lw_all := lw_g (lw_at lw_m2 18 rfl) rfl
theorem q335 : (Jvm.Cond.fieldLink "PointLedger$Index" (28 : Nat) "PointLedger$Index" "length" "[S") ∈ lw_all := lw_g (lw_at lw_m2 21 rfl) rfl
theorem q337 : (Jvm.Cond.fieldLink "PointLedger$Index" (32 : Nat) "PointLedger$Index" "waits" "[I") ∈ lw_all := lw_g (lw_at lw_m2 23 rfl) rfl
theorem q339 : (Jvm.Cond.fieldLink "PointLedger$Index" (39 : Nat) "PointLedger$Index" "many" "I") ∈ lw_all := lw_g (lw_at lw_m2 25 rfl) rfl
theorem q341 : (Jvm.Cond.fieldLink "PointLedger$Index" (36 : Nat) "PointLedger$Index" "begins" "[I") ∈ lw_all := lw_g (lw_at lw_m2 27 rfl) rfl
theorem q344 : (Jvm.Cond.laysFinal "PointLedger$Index" "PointLedger$Index" "spans" "LPointLedger$Spans;") ∈ lw_all := lw_g (lw_at lw_m2 30 rfl) rfl
theorem q345 : (Jvm.Cond.soleField "PointLedger$Index" "spans") ∈ lw_all := lw_g (lw_at lw_m2 31 rfl) rfl
theorem q346 : (Jvm.Cond.laysFinal "PointLedger$Index" "PointLedger$Index" "series" "[B") ∈ lw_all := lw_g (lw_at lw_m2 32 rfl) rfl
theorem q347 : (Jvm.Cond.soleField "PointLedger$Index" "series") ∈ lw_all := lw_g (lw_at lw_m2 33 rfl) rfl
theorem q348 : (Jvm.Cond.laysFinal "PointLedger$Index" "PointLedger$Index" "place" "[C") ∈ lw_all := lw_g (lw_at lw_m2 34 rfl) rfl
theorem q349 : (Jvm.Cond.soleField "PointLedger$Index" "place") ∈ lw_all := lw_g (lw_at lw_m2 35 rfl) rfl
theorem q350 : (Jvm.Cond.laysFinal "PointLedger$Index" "PointLedger$Index" "length" "[S") ∈ lw_all := lw_g (lw_at lw_m2 36 rfl) rfl
theorem q351 : (Jvm.Cond.soleField "PointLedger$Index" "length") ∈ lw_all := lw_g (lw_at lw_m2 37 rfl) rfl
theorem q352 : (Jvm.Cond.laysFinal "PointLedger$Index" "PointLedger$Index" "waits" "[I") ∈ lw_all := lw_g (lw_at lw_m2 38 rfl) rfl
theorem q353 : (Jvm.Cond.soleField "PointLedger$Index" "waits") ∈ lw_all := lw_g (lw_at lw_m2 39 rfl) rfl
theorem q354 : (Jvm.Cond.lays "PointLedger$Index" "PointLedger$Index" "many" "I") ∈ lw_all := lw_g (lw_at lw_m2 40 rfl) rfl
theorem q355 : (Jvm.Cond.soleField "PointLedger$Index" "many") ∈ lw_all := lw_g (lw_at lw_m2 41 rfl) rfl
theorem q356 : (Jvm.Cond.laysFinal "PointLedger$Index" "PointLedger$Index" "begins" "[I") ∈ lw_all := lw_g (lw_at lw_m2 42 rfl) rfl
theorem q357 : (Jvm.Cond.soleField "PointLedger$Index" "begins") ∈ lw_all := lw_g (lw_at lw_m2 43 rfl) rfl
theorem q358 : (Jvm.Cond.superclass "PointLedger$Index" "java/lang/Object") ∈ lw_all := lw_g (lw_at lw_m2 44 rfl) rfl
theorem q459 : (Jvm.Cond.instanceMethod ({ cls := "PointLedger$Index", name := "ends", desc := "()V" } : Jvm.MethodName)) ∈ lw_all := lw_g (lw_at lw_m2 145 rfl) rfl
theorem q460 : (Jvm.Cond.selects "PointLedger$Index" ({ cls := "PointLedger$Index", name := "ends", desc := "()V" } : Jvm.MethodName) ({ cls := "PointLedger$Index", name := "ends", desc := "()V" } : Jvm.MethodName)) ∈ lw_all := lw_g (lw_at lw_m2 146 rfl) rfl
theorem q461 : (Jvm.Cond.code ({ cls := "PointLedger$Index", name := "ends", desc := "()V" } : Jvm.MethodName) prog_5_method_4_code (3 : Nat) (Option.none : Option Jvm.ClassFile.FieldType)) ∈ lw_all := lw_g (lw_at lw_m2 147 rfl) rfl
theorem q615 : (Jvm.Cond.instanceMethod ({ cls := "PointLedger$Index", name := "copies", desc := "(LPointLedger$Index;I)Z" } : Jvm.MethodName)) ∈ lw_all := lw_g (lw_at lw_m3 61 rfl) rfl
theorem q616 : (Jvm.Cond.selects "PointLedger$Index" ({ cls := "PointLedger$Index", name := "copies", desc := "(LPointLedger$Index;I)Z" } : Jvm.MethodName) ({ cls := "PointLedger$Index", name := "copies", desc := "(LPointLedger$Index;I)Z" } : Jvm.MethodName)) ∈ lw_all := lw_g (lw_at lw_m3 62 rfl) rfl
theorem q617 : (Jvm.Cond.code ({ cls := "PointLedger$Index", name := "copies", desc := "(LPointLedger$Index;I)Z" } : Jvm.MethodName) prog_5_method_3_code (3 : Nat) (Option.some Jvm.ClassFile.FieldType.boolean)) ∈ lw_all := lw_g (lw_at lw_m3 63 rfl) rfl
theorem q618 : (Jvm.Cond.methodLink "PointLedger$Index" (46 : Nat) ({ cls := "PointLedger$Index", name := "opens", desc := "(I)Z" } : Jvm.MethodName)) ∈ lw_all := lw_g (lw_at lw_m3 64 rfl) rfl
theorem q619 : (Jvm.Cond.instanceMethod ({ cls := "PointLedger$Index", name := "opens", desc := "(I)Z" } : Jvm.MethodName)) ∈ lw_all := lw_g (lw_at lw_m3 65 rfl) rfl
theorem q620 : (Jvm.Cond.selects "PointLedger$Index" ({ cls := "PointLedger$Index", name := "opens", desc := "(I)Z" } : Jvm.MethodName) ({ cls := "PointLedger$Index", name := "opens", desc := "(I)Z" } : Jvm.MethodName)) ∈ lw_all := lw_g (lw_at lw_m3 66 rfl) rfl
theorem q621 : (Jvm.Cond.code ({ cls := "PointLedger$Index", name := "opens", desc := "(I)Z" } : Jvm.MethodName) prog_5_method_2_code (2 : Nat) (Option.some Jvm.ClassFile.FieldType.boolean)) ∈ lw_all := lw_g (lw_at lw_m3 67 rfl) rfl
theorem q622 : (Jvm.Cond.methodLink "PointLedger$Index" (43 : Nat) ({ cls := "PointLedger$Spans", name := "begin", desc := "(I)V" } : Jvm.MethodName)) ∈ lw_all := lw_g (lw_at lw_m3 68 rfl) rfl
theorem q623 : (Jvm.Cond.methodLink "PointLedger$Index" (50 : Nat) ({ cls := "PointLedger$Spans", name := "join", desc := "(ILPointLedger$Spans;I)V" } : Jvm.MethodName)) ∈ lw_all := lw_g (lw_at lw_m3 69 rfl) rfl
theorem in_X7 : ∀ w ∈ wsX70, w ∈ lw_all := lw_in wsX70 [344, 346, 348, 350, 352, 354, 356] (by decide +kernel) (by decide +kernel)
/-! PointLedger$Spans -/
def RX8 : String := "PointLedger$Spans"
def TX8 : u_T := fun k => match k with
  | 0 => ("PointLedger$Spans", "first", "[I", true)
  | 1 => ("PointLedger$Spans", "last", "[I", true)
  | 2 => ("PointLedger$Spans", "least", "[I", true)
  | 3 => ("PointLedger$Spans", "greatest", "[I", true)
  | 4 => ("PointLedger$Spans", "points", "[S", true)
  | _ => ("PointLedger$Spans", "sums", "[J", true)
def tyX8 : Nat → FieldType := fun k => match k with
  | 0 => .array .int
  | 1 => .array .int
  | 2 => .array .int
  | 3 => .array .int
  | 4 => .array .short
  | _ => .array .long
abbrev wsX80 : List Cond := u_ws RX8 TX8 6
theorem nmX8 : ∀ a, a < 6 → ∀ b, b < 6 → a ≠ b → (TX8 a).2.1 ≠ (TX8 b).2.1 := by decide +kernel
theorem tyX8_ok : ∀ k, k < 6 → parseFieldDescriptor (TX8 k).2.2.1 = some (tyX8 k) := by decide +kernel
abbrev cX8_init : ByteArray := prog_8_method_1_code
def yX8_init : MethodName := ⟨RX8, "<init>", "(I)V"⟩
abbrev cX8_begin : ByteArray := prog_8_method_2_code
def yX8_begin : MethodName := ⟨RX8, "begin", "(I)V"⟩
abbrev cX8_join : ByteArray := prog_8_method_4_code
def yX8_join : MethodName := ⟨RX8, "join", "(ILPointLedger$Spans;I)V"⟩
abbrev cX8_add : ByteArray := prog_8_method_3_code
def yX8_add : MethodName := ⟨RX8, "add", "(III)V"⟩
abbrev cX8_isOut : ByteArray := prog_8_method_5_code
def yX8_isOut : MethodName := ⟨RX8, "isOut", "(III)Z"⟩
abbrev cX8_isIn : ByteArray := prog_8_method_6_code
def yX8_isIn : MethodName := ⟨RX8, "isIn", "(III)Z"⟩
abbrev cX8_told : ByteArray := prog_8_method_7_code
def yX8_told : MethodName := ⟨RX8, "told", "(II)I"⟩
theorem q84 : (Jvm.Cond.initialized "PointLedger$Spans") ∈ lw_all := lw_g (lw_at lw_m1 10 rfl) rfl
theorem q290 : (Jvm.Cond.instantiable "PointLedger$Spans" (6 : Nat)) ∈ lw_all := lw_g (lw_at lw_m1 216 rfl) rfl
theorem q292 : (Jvm.Cond.instanceMethod ({ cls := "PointLedger$Spans", name := "<init>", desc := "(I)V" } : Jvm.MethodName)) ∈ lw_all := lw_g (lw_at lw_m1 218 rfl) rfl
theorem q293 : (Jvm.Cond.code ({ cls := "PointLedger$Spans", name := "<init>", desc := "(I)V" } : Jvm.MethodName) prog_8_method_1_code (2 : Nat) (Option.none : Option Jvm.ClassFile.FieldType)) ∈ lw_all := lw_g (lw_at lw_m1 219 rfl) rfl
theorem q294 : (Jvm.Cond.methodLink "PointLedger$Spans" (1 : Nat) ({ cls := "java/lang/Object", name := "<init>", desc := "()V" } : Jvm.MethodName)) ∈ lw_all := lw_g (lw_at lw_m1 220 rfl) rfl
theorem q295 : (Jvm.Cond.fieldLink "PointLedger$Spans" (7 : Nat) "PointLedger$Spans" "first" "[I") ∈ lw_all := lw_g (lw_at lw_m1 221 rfl) rfl
theorem q297 : (Jvm.Cond.fieldLink "PointLedger$Spans" (13 : Nat) "PointLedger$Spans" "last" "[I") ∈ lw_all := lw_g (lw_at lw_m1 223 rfl) rfl
theorem q299 : (Jvm.Cond.fieldLink "PointLedger$Spans" (16 : Nat) "PointLedger$Spans" "least" "[I") ∈ lw_all := lw_g (lw_at lw_m1 225 rfl) rfl
theorem q302 : (Jvm.Cond.fieldLink "PointLedger$Spans" (19 : Nat) "PointLedger$Spans" "greatest" "[I") ∈ lw_all := lw_g (lw_at lw_m1 228 rfl) rfl
theorem q305 : (Jvm.Cond.fieldLink "PointLedger$Spans" (22 : Nat) "PointLedger$Spans" "points" "[S") ∈ lw_all := lw_g (lw_at lw_m1 231 rfl) rfl
theorem q309 : (Jvm.Cond.fieldLink "PointLedger$Spans" (26 : Nat) "PointLedger$Spans" "sums" "[J") ∈ lw_all := lw_g (lw_at lw_m1 235 rfl) rfl
theorem q312 : (Jvm.Cond.laysFinal "PointLedger$Spans" "PointLedger$Spans" "first" "[I") ∈ lw_all := lw_g (lw_at lw_m1 238 rfl) rfl
theorem q313 : (Jvm.Cond.soleField "PointLedger$Spans" "first") ∈ lw_all := lw_g (lw_at lw_m1 239 rfl) rfl
theorem q314 : (Jvm.Cond.laysFinal "PointLedger$Spans" "PointLedger$Spans" "last" "[I") ∈ lw_all := lw_g (lw_at lw_m2 0 rfl) rfl
theorem q315 : (Jvm.Cond.soleField "PointLedger$Spans" "last") ∈ lw_all := lw_g (lw_at lw_m2 1 rfl) rfl
theorem q316 : (Jvm.Cond.laysFinal "PointLedger$Spans" "PointLedger$Spans" "least" "[I") ∈ lw_all := lw_g (lw_at lw_m2 2 rfl) rfl
theorem q317 : (Jvm.Cond.soleField "PointLedger$Spans" "least") ∈ lw_all := lw_g (lw_at lw_m2 3 rfl) rfl
theorem q318 : (Jvm.Cond.laysFinal "PointLedger$Spans" "PointLedger$Spans" "greatest" "[I") ∈ lw_all := lw_g (lw_at lw_m2 4 rfl) rfl
theorem q319 : (Jvm.Cond.soleField "PointLedger$Spans" "greatest") ∈ lw_all := lw_g (lw_at lw_m2 5 rfl) rfl
theorem q320 : (Jvm.Cond.laysFinal "PointLedger$Spans" "PointLedger$Spans" "points" "[S") ∈ lw_all := lw_g (lw_at lw_m2 6 rfl) rfl
theorem q321 : (Jvm.Cond.soleField "PointLedger$Spans" "points") ∈ lw_all := lw_g (lw_at lw_m2 7 rfl) rfl
theorem q322 : (Jvm.Cond.laysFinal "PointLedger$Spans" "PointLedger$Spans" "sums" "[J") ∈ lw_all := lw_g (lw_at lw_m2 8 rfl) rfl
theorem q323 : (Jvm.Cond.soleField "PointLedger$Spans" "sums") ∈ lw_all := lw_g (lw_at lw_m2 9 rfl) rfl
theorem q324 : (Jvm.Cond.superclass "PointLedger$Spans" "java/lang/Object") ∈ lw_all := lw_g (lw_at lw_m2 10 rfl) rfl
theorem q467 : (Jvm.Cond.instanceMethod ({ cls := "PointLedger$Spans", name := "begin", desc := "(I)V" } : Jvm.MethodName)) ∈ lw_all := lw_g (lw_at lw_m2 153 rfl) rfl
theorem q468 : (Jvm.Cond.selects "PointLedger$Spans" ({ cls := "PointLedger$Spans", name := "begin", desc := "(I)V" } : Jvm.MethodName) ({ cls := "PointLedger$Spans", name := "begin", desc := "(I)V" } : Jvm.MethodName)) ∈ lw_all := lw_g (lw_at lw_m2 154 rfl) rfl
theorem q469 : (Jvm.Cond.code ({ cls := "PointLedger$Spans", name := "begin", desc := "(I)V" } : Jvm.MethodName) prog_8_method_2_code (2 : Nat) (Option.none : Option Jvm.ClassFile.FieldType)) ∈ lw_all := lw_g (lw_at lw_m2 155 rfl) rfl
theorem q471 : (Jvm.Cond.instanceMethod ({ cls := "PointLedger$Spans", name := "join", desc := "(ILPointLedger$Spans;I)V" } : Jvm.MethodName)) ∈ lw_all := lw_g (lw_at lw_m2 157 rfl) rfl
theorem q472 : (Jvm.Cond.selects "PointLedger$Spans" ({ cls := "PointLedger$Spans", name := "join", desc := "(ILPointLedger$Spans;I)V" } : Jvm.MethodName) ({ cls := "PointLedger$Spans", name := "join", desc := "(ILPointLedger$Spans;I)V" } : Jvm.MethodName)) ∈ lw_all := lw_g (lw_at lw_m2 158 rfl) rfl
theorem q473 : (Jvm.Cond.code ({ cls := "PointLedger$Spans", name := "join", desc := "(ILPointLedger$Spans;I)V" } : Jvm.MethodName) prog_8_method_4_code (5 : Nat) (Option.none : Option Jvm.ClassFile.FieldType)) ∈ lw_all := lw_g (lw_at lw_m2 159 rfl) rfl
theorem q474 : (Jvm.Cond.methodLink "PointLedger$Spans" (30 : Nat) ({ cls := "java/lang/Math", name := "min", desc := "(II)I" } : Jvm.MethodName)) ∈ lw_all := lw_g (lw_at lw_m2 160 rfl) rfl
theorem q475 : (Jvm.Cond.methodLink "PointLedger$Spans" (36 : Nat) ({ cls := "java/lang/Math", name := "max", desc := "(II)I" } : Jvm.MethodName)) ∈ lw_all := lw_g (lw_at lw_m2 161 rfl) rfl
theorem q638 : (Jvm.Cond.instanceMethod ({ cls := "PointLedger$Spans", name := "add", desc := "(III)V" } : Jvm.MethodName)) ∈ lw_all := lw_g (lw_at lw_m3 84 rfl) rfl
theorem q639 : (Jvm.Cond.selects "PointLedger$Spans" ({ cls := "PointLedger$Spans", name := "add", desc := "(III)V" } : Jvm.MethodName) ({ cls := "PointLedger$Spans", name := "add", desc := "(III)V" } : Jvm.MethodName)) ∈ lw_all := lw_g (lw_at lw_m3 85 rfl) rfl
theorem q640 : (Jvm.Cond.code ({ cls := "PointLedger$Spans", name := "add", desc := "(III)V" } : Jvm.MethodName) prog_8_method_3_code (5 : Nat) (Option.none : Option Jvm.ClassFile.FieldType)) ∈ lw_all := lw_g (lw_at lw_m3 86 rfl) rfl
theorem q754 : (Jvm.Cond.instanceMethod ({ cls := "PointLedger$Spans", name := "isOut", desc := "(III)Z" } : Jvm.MethodName)) ∈ lw_all := lw_g (lw_at lw_m3 200 rfl) rfl
theorem q755 : (Jvm.Cond.selects "PointLedger$Spans" ({ cls := "PointLedger$Spans", name := "isOut", desc := "(III)Z" } : Jvm.MethodName) ({ cls := "PointLedger$Spans", name := "isOut", desc := "(III)Z" } : Jvm.MethodName)) ∈ lw_all := lw_g (lw_at lw_m3 201 rfl) rfl
theorem q756 : (Jvm.Cond.code ({ cls := "PointLedger$Spans", name := "isOut", desc := "(III)Z" } : Jvm.MethodName) prog_8_method_5_code (4 : Nat) (Option.some Jvm.ClassFile.FieldType.boolean)) ∈ lw_all := lw_g (lw_at lw_m3 202 rfl) rfl
theorem q758 : (Jvm.Cond.instanceMethod ({ cls := "PointLedger$Spans", name := "isIn", desc := "(III)Z" } : Jvm.MethodName)) ∈ lw_all := lw_g (lw_at lw_m3 204 rfl) rfl
theorem q759 : (Jvm.Cond.selects "PointLedger$Spans" ({ cls := "PointLedger$Spans", name := "isIn", desc := "(III)Z" } : Jvm.MethodName) ({ cls := "PointLedger$Spans", name := "isIn", desc := "(III)Z" } : Jvm.MethodName)) ∈ lw_all := lw_g (lw_at lw_m3 205 rfl) rfl
theorem q760 : (Jvm.Cond.code ({ cls := "PointLedger$Spans", name := "isIn", desc := "(III)Z" } : Jvm.MethodName) prog_8_method_6_code (4 : Nat) (Option.some Jvm.ClassFile.FieldType.boolean)) ∈ lw_all := lw_g (lw_at lw_m3 206 rfl) rfl
theorem q956 : (Jvm.Cond.instanceMethod ({ cls := "PointLedger$Spans", name := "told", desc := "(II)I" } : Jvm.MethodName)) ∈ lw_all := lw_g (lw_at lw_m4 162 rfl) rfl
theorem q957 : (Jvm.Cond.selects "PointLedger$Spans" ({ cls := "PointLedger$Spans", name := "told", desc := "(II)I" } : Jvm.MethodName) ({ cls := "PointLedger$Spans", name := "told", desc := "(II)I" } : Jvm.MethodName)) ∈ lw_all := lw_g (lw_at lw_m4 163 rfl) rfl
theorem q958 : (Jvm.Cond.code ({ cls := "PointLedger$Spans", name := "told", desc := "(II)I" } : Jvm.MethodName) prog_8_method_7_code (3 : Nat) (Option.some Jvm.ClassFile.FieldType.int)) ∈ lw_all := lw_g (lw_at lw_m4 164 rfl) rfl
theorem q959 : (Jvm.Cond.classLink "PointLedger$Spans" (39 : Nat) "java/util/NoSuchElementException") ∈ lw_all := lw_g (lw_at lw_m4 165 rfl) rfl
theorem q960 : (Jvm.Cond.methodLink "PointLedger$Spans" (41 : Nat) ({ cls := "java/util/NoSuchElementException", name := "<init>", desc := "()V" } : Jvm.MethodName)) ∈ lw_all := lw_g (lw_at lw_m4 166 rfl) rfl
theorem in_X8 : ∀ w ∈ wsX80, w ∈ lw_all := lw_in wsX80 [312, 314, 316, 318, 320, 322] (by decide +kernel) (by decide +kernel)
/-! PointLedger$Walk -/
def RX9 : String := "PointLedger$Walk"
def TX9 : u_T := fun k => match k with
  | 0 => ("PointLedger$Points", "time", "I", false)
  | 1 => ("PointLedger$Points", "value", "I", false)
  | 2 => ("PointLedger$Walk", "in", "LPointLedger$Unpacker;", true)
  | 3 => ("PointLedger$Walk", "series", "I", false)
  | 4 => ("PointLedger$Walk", "from", "I", false)
  | 5 => ("PointLedger$Walk", "to", "I", false)
  | 6 => ("PointLedger$Walk", "chunk", "I", false)
  | 7 => ("PointLedger$Walk", "at", "I", false)
  | 8 => ("PointLedger$Walk", "isOpen", "Z", false)
  | 9 => ("PointLedger$Walk", "isAt", "Z", false)
  | _ => ("PointLedger$Walk", "this$0", "LPointLedger;", true)
def tyX9 : Nat → FieldType := fun k => match k with
  | 0 => .int
  | 1 => .int
  | 2 => .object "PointLedger$Unpacker"
  | 3 => .int
  | 4 => .int
  | 5 => .int
  | 6 => .int
  | 7 => .int
  | 8 => .boolean
  | 9 => .boolean
  | _ => .object "PointLedger"
abbrev wsX90 : List Cond := u_ws RX9 TX9 11
theorem nmX9 : ∀ a, a < 11 → ∀ b, b < 11 → a ≠ b → (TX9 a).2.1 ≠ (TX9 b).2.1 := by decide +kernel
theorem tyX9_ok : ∀ k, k < 11 → parseFieldDescriptor (TX9 k).2.2.1 = some (tyX9 k) := by decide +kernel
abbrev cX9_init : ByteArray := prog_12_method_1_code
def yX9_init : MethodName := ⟨RX9, "<init>", "(LPointLedger;)V"⟩
abbrev cX9_begin : ByteArray := prog_12_method_2_code
def yX9_begin : MethodName := ⟨RX9, "begin", "(III)V"⟩
abbrev cX9_step : ByteArray := prog_12_method_4_code
def yX9_step : MethodName := ⟨RX9, "step", "()Z"⟩
abbrev cX9_goes : ByteArray := prog_12_method_3_code
def yX9_goes : MethodName := ⟨RX9, "goes", "()Z"⟩
theorem q85 : (Jvm.Cond.initialized "PointLedger$Walk") ∈ lw_all := lw_g (lw_at lw_m1 11 rfl) rfl
theorem q190 : (Jvm.Cond.fieldLinkNest "PointLedger$Walk" (21 : Nat) "PointLedger$Disk" "cells" "[I" "PointLedger") ∈ lw_tbl := lw_at lw_m1 116 rfl
theorem q254 : (Jvm.Cond.fieldLink "PointLedger$Walk" (92 : Nat) "PointLedger$Unpacker" "time" "I") ∈ lw_all := lw_g (lw_at lw_m1 180 rfl) rfl
theorem q256 : (Jvm.Cond.fieldLink "PointLedger$Walk" (95 : Nat) "PointLedger$Walk" "time" "I") ∈ lw_all := lw_g (lw_at lw_m1 182 rfl) rfl
theorem q257 : (Jvm.Cond.sameField "PointLedger$Walk" "PointLedger$Points" "time" "I") ∈ lw_all := lw_g (lw_at lw_m1 183 rfl) rfl
theorem q261 : (Jvm.Cond.fieldLink "PointLedger$Walk" (96 : Nat) "PointLedger$Unpacker" "value" "I") ∈ lw_all := lw_g (lw_at lw_m1 187 rfl) rfl
theorem q263 : (Jvm.Cond.fieldLink "PointLedger$Walk" (99 : Nat) "PointLedger$Walk" "value" "I") ∈ lw_all := lw_g (lw_at lw_m1 189 rfl) rfl
theorem q264 : (Jvm.Cond.sameField "PointLedger$Walk" "PointLedger$Points" "value" "I") ∈ lw_all := lw_g (lw_at lw_m1 190 rfl) rfl
theorem q306 : (Jvm.Cond.fieldLinkNest "PointLedger$Walk" (80 : Nat) "PointLedger$Spans" "points" "[S" "PointLedger") ∈ lw_tbl := lw_at lw_m1 232 rfl
theorem q328 : (Jvm.Cond.fieldLinkNest "PointLedger$Walk" (66 : Nat) "PointLedger$Index" "spans" "LPointLedger$Spans;" "PointLedger") ∈ lw_tbl := lw_at lw_m2 14 rfl
theorem q333 : (Jvm.Cond.fieldLinkNest "PointLedger$Walk" (76 : Nat) "PointLedger$Index" "place" "[C" "PointLedger") ∈ lw_tbl := lw_at lw_m2 19 rfl
theorem q342 : (Jvm.Cond.fieldLinkNest "PointLedger$Walk" (48 : Nat) "PointLedger$Index" "begins" "[I" "PointLedger") ∈ lw_tbl := lw_at lw_m2 28 rfl
theorem q364 : (Jvm.Cond.instantiable "PointLedger$Walk" (11 : Nat)) ∈ lw_all := lw_g (lw_at lw_m2 50 rfl) rfl
theorem q366 : (Jvm.Cond.instanceMethod ({ cls := "PointLedger$Walk", name := "<init>", desc := "(LPointLedger;)V" } : Jvm.MethodName)) ∈ lw_all := lw_g (lw_at lw_m2 52 rfl) rfl
theorem q367 : (Jvm.Cond.code ({ cls := "PointLedger$Walk", name := "<init>", desc := "(LPointLedger;)V" } : Jvm.MethodName) prog_12_method_1_code (2 : Nat) (Option.none : Option Jvm.ClassFile.FieldType)) ∈ lw_all := lw_g (lw_at lw_m2 53 rfl) rfl
theorem q368 : (Jvm.Cond.methodLinkNest "PointLedger$Walk" (7 : Nat) ({ cls := "PointLedger$Points", name := "<init>", desc := "()V" } : Jvm.MethodName) "PointLedger") ∈ lw_tbl := lw_at lw_m2 54 rfl
theorem q369 : (Jvm.Cond.classLink "PointLedger$Walk" (13 : Nat) "PointLedger$Unpacker") ∈ lw_all := lw_g (lw_at lw_m2 55 rfl) rfl
theorem q370 : (Jvm.Cond.methodLink "PointLedger$Walk" (27 : Nat) ({ cls := "PointLedger$Unpacker", name := "<init>", desc := "([I)V" } : Jvm.MethodName)) ∈ lw_all := lw_g (lw_at lw_m2 56 rfl) rfl
theorem q371 : (Jvm.Cond.fieldLink "PointLedger$Walk" (30 : Nat) "PointLedger$Walk" "in" "LPointLedger$Unpacker;") ∈ lw_all := lw_g (lw_at lw_m2 57 rfl) rfl
theorem q372 : (Jvm.Cond.fieldLink "PointLedger$Walk" (34 : Nat) "PointLedger$Walk" "series" "I") ∈ lw_all := lw_g (lw_at lw_m2 58 rfl) rfl
theorem q373 : (Jvm.Cond.fieldLink "PointLedger$Walk" (38 : Nat) "PointLedger$Walk" "from" "I") ∈ lw_all := lw_g (lw_at lw_m2 59 rfl) rfl
theorem q374 : (Jvm.Cond.fieldLink "PointLedger$Walk" (41 : Nat) "PointLedger$Walk" "to" "I") ∈ lw_all := lw_g (lw_at lw_m2 60 rfl) rfl
theorem q375 : (Jvm.Cond.fieldLink "PointLedger$Walk" (53 : Nat) "PointLedger$Walk" "chunk" "I") ∈ lw_all := lw_g (lw_at lw_m2 61 rfl) rfl
theorem q376 : (Jvm.Cond.fieldLink "PointLedger$Walk" (56 : Nat) "PointLedger$Walk" "at" "I") ∈ lw_all := lw_g (lw_at lw_m2 62 rfl) rfl
theorem q377 : (Jvm.Cond.fieldLink "PointLedger$Walk" (59 : Nat) "PointLedger$Walk" "isOpen" "Z") ∈ lw_all := lw_g (lw_at lw_m2 63 rfl) rfl
theorem q378 : (Jvm.Cond.fieldLink "PointLedger$Walk" (63 : Nat) "PointLedger$Walk" "isAt" "Z") ∈ lw_all := lw_g (lw_at lw_m2 64 rfl) rfl
theorem q380 : (Jvm.Cond.fieldLink "PointLedger$Walk" (1 : Nat) "PointLedger$Walk" "this$0" "LPointLedger;") ∈ lw_all := lw_g (lw_at lw_m2 66 rfl) rfl
theorem q381 : (Jvm.Cond.laysFinal "PointLedger$Walk" "PointLedger$Walk" "in" "LPointLedger$Unpacker;") ∈ lw_all := lw_g (lw_at lw_m2 67 rfl) rfl
theorem q382 : (Jvm.Cond.soleField "PointLedger$Walk" "in") ∈ lw_all := lw_g (lw_at lw_m2 68 rfl) rfl
theorem q383 : (Jvm.Cond.lays "PointLedger$Walk" "PointLedger$Walk" "series" "I") ∈ lw_all := lw_g (lw_at lw_m2 69 rfl) rfl
theorem q384 : (Jvm.Cond.soleField "PointLedger$Walk" "series") ∈ lw_all := lw_g (lw_at lw_m2 70 rfl) rfl
theorem q385 : (Jvm.Cond.lays "PointLedger$Walk" "PointLedger$Walk" "from" "I") ∈ lw_all := lw_g (lw_at lw_m2 71 rfl) rfl
theorem q386 : (Jvm.Cond.soleField "PointLedger$Walk" "from") ∈ lw_all := lw_g (lw_at lw_m2 72 rfl) rfl
theorem q387 : (Jvm.Cond.lays "PointLedger$Walk" "PointLedger$Walk" "to" "I") ∈ lw_all := lw_g (lw_at lw_m2 73 rfl) rfl
theorem q388 : (Jvm.Cond.soleField "PointLedger$Walk" "to") ∈ lw_all := lw_g (lw_at lw_m2 74 rfl) rfl
theorem q389 : (Jvm.Cond.lays "PointLedger$Walk" "PointLedger$Walk" "chunk" "I") ∈ lw_all := lw_g (lw_at lw_m2 75 rfl) rfl
theorem q390 : (Jvm.Cond.soleField "PointLedger$Walk" "chunk") ∈ lw_all := lw_g (lw_at lw_m2 76 rfl) rfl
theorem q391 : (Jvm.Cond.lays "PointLedger$Walk" "PointLedger$Walk" "at" "I") ∈ lw_all := lw_g (lw_at lw_m2 77 rfl) rfl
theorem q392 : (Jvm.Cond.soleField "PointLedger$Walk" "at") ∈ lw_all := lw_g (lw_at lw_m2 78 rfl) rfl
theorem q393 : (Jvm.Cond.lays "PointLedger$Walk" "PointLedger$Walk" "isOpen" "Z") ∈ lw_all := lw_g (lw_at lw_m2 79 rfl) rfl
theorem q394 : (Jvm.Cond.soleField "PointLedger$Walk" "isOpen") ∈ lw_all := lw_g (lw_at lw_m2 80 rfl) rfl
theorem q395 : (Jvm.Cond.lays "PointLedger$Walk" "PointLedger$Walk" "isAt" "Z") ∈ lw_all := lw_g (lw_at lw_m2 81 rfl) rfl
theorem q396 : (Jvm.Cond.soleField "PointLedger$Walk" "isAt") ∈ lw_all := lw_g (lw_at lw_m2 82 rfl) rfl
theorem q397 : (Jvm.Cond.laysFinal "PointLedger$Walk" "PointLedger$Walk" "this$0" "LPointLedger;") ∈ lw_all := lw_g (lw_at lw_m2 83 rfl) rfl
theorem q398 : (Jvm.Cond.soleField "PointLedger$Walk" "this$0") ∈ lw_all := lw_g (lw_at lw_m2 84 rfl) rfl
theorem q399 : (Jvm.Cond.lays "PointLedger$Walk" "PointLedger$Points" "time" "I") ∈ lw_all := lw_g (lw_at lw_m2 85 rfl) rfl
theorem q400 : (Jvm.Cond.lays "PointLedger$Walk" "PointLedger$Points" "value" "I") ∈ lw_all := lw_g (lw_at lw_m2 86 rfl) rfl
theorem q401 : (Jvm.Cond.superclass "PointLedger$Walk" "PointLedger$Points") ∈ lw_all := lw_g (lw_at lw_m2 87 rfl) rfl
theorem q443 : (Jvm.Cond.fieldLinkNest "PointLedger$Walk" (109 : Nat) "PointLedger$Head" "times" "[I" "PointLedger") ∈ lw_tbl := lw_at lw_m2 129 rfl
theorem q446 : (Jvm.Cond.fieldLinkNest "PointLedger$Walk" (112 : Nat) "PointLedger$Head" "values" "[I" "PointLedger") ∈ lw_tbl := lw_at lw_m2 132 rfl
theorem q449 : (Jvm.Cond.fieldLinkNest "PointLedger$Walk" (104 : Nat) "PointLedger$Head" "many" "I" "PointLedger") ∈ lw_tbl := lw_at lw_m2 135 rfl
theorem q480 : (Jvm.Cond.fieldLinkNest "PointLedger$Walk" (15 : Nat) "PointLedger" "disk" "LPointLedger$Disk;" "PointLedger") ∈ lw_tbl := lw_at lw_m2 166 rfl
theorem q482 : (Jvm.Cond.fieldLinkNest "PointLedger$Walk" (100 : Nat) "PointLedger" "heads" "[LPointLedger$Head;" "PointLedger") ∈ lw_tbl := lw_at lw_m2 168 rfl
theorem q486 : (Jvm.Cond.fieldLinkNest "PointLedger$Walk" (44 : Nat) "PointLedger" "now" "LPointLedger$Index;" "PointLedger") ∈ lw_tbl := lw_at lw_m2 172 rfl
theorem q780 : (Jvm.Cond.instanceMethod ({ cls := "PointLedger$Walk", name := "begin", desc := "(III)V" } : Jvm.MethodName)) ∈ lw_all := lw_g (lw_at lw_m3 226 rfl) rfl
theorem q781 : (Jvm.Cond.selects "PointLedger$Walk" ({ cls := "PointLedger$Walk", name := "begin", desc := "(III)V" } : Jvm.MethodName) ({ cls := "PointLedger$Walk", name := "begin", desc := "(III)V" } : Jvm.MethodName)) ∈ lw_all := lw_g (lw_at lw_m3 227 rfl) rfl
theorem q782 : (Jvm.Cond.code ({ cls := "PointLedger$Walk", name := "begin", desc := "(III)V" } : Jvm.MethodName) prog_12_method_2_code (4 : Nat) (Option.none : Option Jvm.ClassFile.FieldType)) ∈ lw_all := lw_g (lw_at lw_m3 228 rfl) rfl
theorem q813 : (Jvm.Cond.instanceMethod ({ cls := "PointLedger$Walk", name := "step", desc := "()Z" } : Jvm.MethodName)) ∈ lw_all := lw_g (lw_at lw_m4 19 rfl) rfl
theorem q814 : (Jvm.Cond.selects "PointLedger$Walk" ({ cls := "PointLedger$Walk", name := "step", desc := "()Z" } : Jvm.MethodName) ({ cls := "PointLedger$Walk", name := "step", desc := "()Z" } : Jvm.MethodName)) ∈ lw_all := lw_g (lw_at lw_m4 20 rfl) rfl
theorem q815 : (Jvm.Cond.code ({ cls := "PointLedger$Walk", name := "step", desc := "()Z" } : Jvm.MethodName) prog_12_method_4_code (1 : Nat) (Option.some Jvm.ClassFile.FieldType.boolean)) ∈ lw_all := lw_g (lw_at lw_m4 21 rfl) rfl
theorem q816 : (Jvm.Cond.methodLink "PointLedger$Walk" (115 : Nat) ({ cls := "PointLedger$Walk", name := "goes", desc := "()Z" } : Jvm.MethodName)) ∈ lw_all := lw_g (lw_at lw_m4 22 rfl) rfl
theorem q817 : (Jvm.Cond.privateMethod ({ cls := "PointLedger$Walk", name := "goes", desc := "()Z" } : Jvm.MethodName)) ∈ lw_tbl := lw_at lw_m4 23 rfl
theorem q818 : (Jvm.Cond.instanceMethod ({ cls := "PointLedger$Walk", name := "goes", desc := "()Z" } : Jvm.MethodName)) ∈ lw_all := lw_g (lw_at lw_m4 24 rfl) rfl
theorem q819 : (Jvm.Cond.code ({ cls := "PointLedger$Walk", name := "goes", desc := "()Z" } : Jvm.MethodName) prog_12_method_3_code (2 : Nat) (Option.some Jvm.ClassFile.FieldType.boolean)) ∈ lw_all := lw_g (lw_at lw_m4 25 rfl) rfl
theorem q820 : (Jvm.Cond.methodLink "PointLedger$Walk" (70 : Nat) ({ cls := "PointLedger$Spans", name := "isOut", desc := "(III)Z" } : Jvm.MethodName)) ∈ lw_all := lw_g (lw_at lw_m4 26 rfl) rfl
theorem q821 : (Jvm.Cond.methodLink "PointLedger$Walk" (84 : Nat) ({ cls := "PointLedger$Unpacker", name := "begin", desc := "(II)V" } : Jvm.MethodName)) ∈ lw_all := lw_g (lw_at lw_m4 27 rfl) rfl
theorem q822 : (Jvm.Cond.methodLink "PointLedger$Walk" (88 : Nat) ({ cls := "PointLedger$Unpacker", name := "step", desc := "()Z" } : Jvm.MethodName)) ∈ lw_all := lw_g (lw_at lw_m4 28 rfl) rfl
theorem in_X9 : ∀ w ∈ wsX90, w ∈ lw_all := lw_in wsX90 [399, 400, 381, 383, 385, 387, 389, 391, 393, 395, 397] (by decide +kernel) (by decide +kernel)
/-! PointLedger$Total -/
def RX10 : String := "PointLedger$Total"
def TX10 : u_T := fun k => match k with
  | 0 => ("PointLedger$Total", "many", "I", false)
  | 1 => ("PointLedger$Total", "least", "I", false)
  | 2 => ("PointLedger$Total", "greatest", "I", false)
  | 3 => ("PointLedger$Total", "sum", "J", false)
  | _ => ("PointLedger$Total", "this$0", "LPointLedger;", true)
def tyX10 : Nat → FieldType := fun k => match k with
  | 0 => .int
  | 1 => .int
  | 2 => .int
  | 3 => .long
  | _ => .object "PointLedger"
abbrev wsX100 : List Cond := u_ws RX10 TX10 5
theorem nmX10 : ∀ a, a < 5 → ∀ b, b < 5 → a ≠ b → (TX10 a).2.1 ≠ (TX10 b).2.1 := by decide +kernel
theorem tyX10_ok : ∀ k, k < 5 → parseFieldDescriptor (TX10 k).2.2.1 = some (tyX10 k) := by decide +kernel
abbrev cX10_init : ByteArray := prog_10_method_1_code
def yX10_init : MethodName := ⟨RX10, "<init>", "(LPointLedger;)V"⟩
abbrev cX10_begin : ByteArray := prog_10_method_2_code
def yX10_begin : MethodName := ⟨RX10, "begin", "()V"⟩
abbrev cX10_join : ByteArray := prog_10_method_4_code
def yX10_join : MethodName := ⟨RX10, "join", "(LPointLedger$Spans;I)V"⟩
abbrev cX10_take : ByteArray := prog_10_method_3_code
def yX10_take : MethodName := ⟨RX10, "take", "(II)V"⟩
theorem q86 : (Jvm.Cond.initialized "PointLedger$Total") ∈ lw_all := lw_g (lw_at lw_m1 12 rfl) rfl
theorem q300 : (Jvm.Cond.fieldLinkNest "PointLedger$Total" (36 : Nat) "PointLedger$Spans" "least" "[I" "PointLedger") ∈ lw_tbl := lw_at lw_m1 226 rfl
theorem q303 : (Jvm.Cond.fieldLinkNest "PointLedger$Total" (41 : Nat) "PointLedger$Spans" "greatest" "[I" "PointLedger") ∈ lw_tbl := lw_at lw_m1 229 rfl
theorem q307 : (Jvm.Cond.fieldLinkNest "PointLedger$Total" (43 : Nat) "PointLedger$Spans" "points" "[S" "PointLedger") ∈ lw_tbl := lw_at lw_m1 233 rfl
theorem q310 : (Jvm.Cond.fieldLinkNest "PointLedger$Total" (47 : Nat) "PointLedger$Spans" "sums" "[J" "PointLedger") ∈ lw_tbl := lw_at lw_m1 236 rfl
theorem q404 : (Jvm.Cond.instantiable "PointLedger$Total" (5 : Nat)) ∈ lw_all := lw_g (lw_at lw_m2 90 rfl) rfl
theorem q406 : (Jvm.Cond.instanceMethod ({ cls := "PointLedger$Total", name := "<init>", desc := "(LPointLedger;)V" } : Jvm.MethodName)) ∈ lw_all := lw_g (lw_at lw_m2 92 rfl) rfl
theorem q407 : (Jvm.Cond.code ({ cls := "PointLedger$Total", name := "<init>", desc := "(LPointLedger;)V" } : Jvm.MethodName) prog_10_method_1_code (2 : Nat) (Option.none : Option Jvm.ClassFile.FieldType)) ∈ lw_all := lw_g (lw_at lw_m2 93 rfl) rfl
theorem q408 : (Jvm.Cond.methodLink "PointLedger$Total" (7 : Nat) ({ cls := "java/lang/Object", name := "<init>", desc := "()V" } : Jvm.MethodName)) ∈ lw_all := lw_g (lw_at lw_m2 94 rfl) rfl
theorem q409 : (Jvm.Cond.fieldLink "PointLedger$Total" (13 : Nat) "PointLedger$Total" "many" "I") ∈ lw_all := lw_g (lw_at lw_m2 95 rfl) rfl
theorem q411 : (Jvm.Cond.fieldLink "PointLedger$Total" (17 : Nat) "PointLedger$Total" "least" "I") ∈ lw_all := lw_g (lw_at lw_m2 97 rfl) rfl
theorem q413 : (Jvm.Cond.fieldLink "PointLedger$Total" (20 : Nat) "PointLedger$Total" "greatest" "I") ∈ lw_all := lw_g (lw_at lw_m2 99 rfl) rfl
theorem q415 : (Jvm.Cond.fieldLink "PointLedger$Total" (23 : Nat) "PointLedger$Total" "sum" "J") ∈ lw_all := lw_g (lw_at lw_m2 101 rfl) rfl
theorem q417 : (Jvm.Cond.fieldLink "PointLedger$Total" (1 : Nat) "PointLedger$Total" "this$0" "LPointLedger;") ∈ lw_all := lw_g (lw_at lw_m2 103 rfl) rfl
theorem q418 : (Jvm.Cond.lays "PointLedger$Total" "PointLedger$Total" "many" "I") ∈ lw_all := lw_g (lw_at lw_m2 104 rfl) rfl
theorem q419 : (Jvm.Cond.soleField "PointLedger$Total" "many") ∈ lw_all := lw_g (lw_at lw_m2 105 rfl) rfl
theorem q420 : (Jvm.Cond.lays "PointLedger$Total" "PointLedger$Total" "least" "I") ∈ lw_all := lw_g (lw_at lw_m2 106 rfl) rfl
theorem q421 : (Jvm.Cond.soleField "PointLedger$Total" "least") ∈ lw_all := lw_g (lw_at lw_m2 107 rfl) rfl
theorem q422 : (Jvm.Cond.lays "PointLedger$Total" "PointLedger$Total" "greatest" "I") ∈ lw_all := lw_g (lw_at lw_m2 108 rfl) rfl
theorem q423 : (Jvm.Cond.soleField "PointLedger$Total" "greatest") ∈ lw_all := lw_g (lw_at lw_m2 109 rfl) rfl
theorem q424 : (Jvm.Cond.lays "PointLedger$Total" "PointLedger$Total" "sum" "J") ∈ lw_all := lw_g (lw_at lw_m2 110 rfl) rfl
theorem q425 : (Jvm.Cond.soleField "PointLedger$Total" "sum") ∈ lw_all := lw_g (lw_at lw_m2 111 rfl) rfl
theorem q426 : (Jvm.Cond.laysFinal "PointLedger$Total" "PointLedger$Total" "this$0" "LPointLedger;") ∈ lw_all := lw_g (lw_at lw_m2 112 rfl) rfl
theorem q427 : (Jvm.Cond.soleField "PointLedger$Total" "this$0") ∈ lw_all := lw_g (lw_at lw_m2 113 rfl) rfl
theorem q428 : (Jvm.Cond.superclass "PointLedger$Total" "java/lang/Object") ∈ lw_all := lw_g (lw_at lw_m2 114 rfl) rfl
theorem q750 : (Jvm.Cond.instanceMethod ({ cls := "PointLedger$Total", name := "begin", desc := "()V" } : Jvm.MethodName)) ∈ lw_all := lw_g (lw_at lw_m3 196 rfl) rfl
theorem q751 : (Jvm.Cond.selects "PointLedger$Total" ({ cls := "PointLedger$Total", name := "begin", desc := "()V" } : Jvm.MethodName) ({ cls := "PointLedger$Total", name := "begin", desc := "()V" } : Jvm.MethodName)) ∈ lw_all := lw_g (lw_at lw_m3 197 rfl) rfl
theorem q752 : (Jvm.Cond.code ({ cls := "PointLedger$Total", name := "begin", desc := "()V" } : Jvm.MethodName) prog_10_method_2_code (1 : Nat) (Option.none : Option Jvm.ClassFile.FieldType)) ∈ lw_all := lw_g (lw_at lw_m3 198 rfl) rfl
theorem q762 : (Jvm.Cond.instanceMethod ({ cls := "PointLedger$Total", name := "join", desc := "(LPointLedger$Spans;I)V" } : Jvm.MethodName)) ∈ lw_all := lw_g (lw_at lw_m3 208 rfl) rfl
theorem q763 : (Jvm.Cond.selects "PointLedger$Total" ({ cls := "PointLedger$Total", name := "join", desc := "(LPointLedger$Spans;I)V" } : Jvm.MethodName) ({ cls := "PointLedger$Total", name := "join", desc := "(LPointLedger$Spans;I)V" } : Jvm.MethodName)) ∈ lw_all := lw_g (lw_at lw_m3 209 rfl) rfl
theorem q764 : (Jvm.Cond.code ({ cls := "PointLedger$Total", name := "join", desc := "(LPointLedger$Spans;I)V" } : Jvm.MethodName) prog_10_method_4_code (3 : Nat) (Option.none : Option Jvm.ClassFile.FieldType)) ∈ lw_all := lw_g (lw_at lw_m3 210 rfl) rfl
theorem q765 : (Jvm.Cond.methodLink "PointLedger$Total" (27 : Nat) ({ cls := "java/lang/Math", name := "min", desc := "(II)I" } : Jvm.MethodName)) ∈ lw_all := lw_g (lw_at lw_m3 211 rfl) rfl
theorem q766 : (Jvm.Cond.methodLink "PointLedger$Total" (33 : Nat) ({ cls := "java/lang/Math", name := "max", desc := "(II)I" } : Jvm.MethodName)) ∈ lw_all := lw_g (lw_at lw_m3 212 rfl) rfl
theorem q772 : (Jvm.Cond.instanceMethod ({ cls := "PointLedger$Total", name := "take", desc := "(II)V" } : Jvm.MethodName)) ∈ lw_all := lw_g (lw_at lw_m3 218 rfl) rfl
theorem q773 : (Jvm.Cond.selects "PointLedger$Total" ({ cls := "PointLedger$Total", name := "take", desc := "(II)V" } : Jvm.MethodName) ({ cls := "PointLedger$Total", name := "take", desc := "(II)V" } : Jvm.MethodName)) ∈ lw_all := lw_g (lw_at lw_m3 219 rfl) rfl
theorem q774 : (Jvm.Cond.code ({ cls := "PointLedger$Total", name := "take", desc := "(II)V" } : Jvm.MethodName) prog_10_method_3_code (3 : Nat) (Option.none : Option Jvm.ClassFile.FieldType)) ∈ lw_all := lw_g (lw_at lw_m3 220 rfl) rfl
theorem in_X10 : ∀ w ∈ wsX100, w ∈ lw_all := lw_in wsX100 [418, 420, 422, 424, 426] (by decide +kernel) (by decide +kernel)
/-! java/lang/Math -/
def RJ2 : String := "java/lang/Math"
abbrev cJ2_max : ByteArray := prog_19_method_65_code
def yJ2_max : MethodName := ⟨RJ2, "max", "(II)I"⟩
abbrev cJ2_min : ByteArray := prog_19_method_69_code
def yJ2_min : MethodName := ⟨RJ2, "min", "(II)I"⟩
theorem q87 : (Jvm.Cond.initialized "java/lang/Math") ∈ lw_all := lw_g (lw_at lw_m1 13 rfl) rfl
theorem q430 : (Jvm.Cond.static ({ cls := "java/lang/Math", name := "max", desc := "(II)I" } : Jvm.MethodName)) ∈ lw_all := lw_g (lw_at lw_m2 116 rfl) rfl
theorem q431 : (Jvm.Cond.code ({ cls := "java/lang/Math", name := "max", desc := "(II)I" } : Jvm.MethodName) prog_19_method_65_code (2 : Nat) (Option.some Jvm.ClassFile.FieldType.int)) ∈ lw_all := lw_g (lw_at lw_m2 117 rfl) rfl
theorem q433 : (Jvm.Cond.static ({ cls := "java/lang/Math", name := "min", desc := "(II)I" } : Jvm.MethodName)) ∈ lw_all := lw_g (lw_at lw_m2 119 rfl) rfl
theorem q434 : (Jvm.Cond.code ({ cls := "java/lang/Math", name := "min", desc := "(II)I" } : Jvm.MethodName) prog_19_method_69_code (2 : Nat) (Option.some Jvm.ClassFile.FieldType.int)) ∈ lw_all := lw_g (lw_at lw_m2 120 rfl) rfl
/-! PointLedger$Head -/
def RX11 : String := "PointLedger$Head"
def TX11 : u_T := fun k => match k with
  | 0 => ("PointLedger$Head", "times", "[I", true)
  | 1 => ("PointLedger$Head", "values", "[I", true)
  | _ => ("PointLedger$Head", "many", "I", false)
def tyX11 : Nat → FieldType := fun k => match k with
  | 0 => .array .int
  | 1 => .array .int
  | _ => .int
abbrev wsX110 : List Cond := u_ws RX11 TX11 3
theorem nmX11 : ∀ a, a < 3 → ∀ b, b < 3 → a ≠ b → (TX11 a).2.1 ≠ (TX11 b).2.1 := by decide +kernel
theorem tyX11_ok : ∀ k, k < 3 → parseFieldDescriptor (TX11 k).2.2.1 = some (tyX11 k) := by decide +kernel
abbrev cX11_init : ByteArray := prog_4_method_1_code
def yX11_init : MethodName := ⟨RX11, "<init>", "()V"⟩
abbrev cX11_add : ByteArray := prog_4_method_2_code
def yX11_add : MethodName := ⟨RX11, "add", "(II)V"⟩
theorem q88 : (Jvm.Cond.initialized "PointLedger$Head") ∈ lw_all := lw_g (lw_at lw_m1 14 rfl) rfl
theorem q437 : (Jvm.Cond.instantiable "PointLedger$Head" (3 : Nat)) ∈ lw_all := lw_g (lw_at lw_m2 123 rfl) rfl
theorem q439 : (Jvm.Cond.instanceMethod ({ cls := "PointLedger$Head", name := "<init>", desc := "()V" } : Jvm.MethodName)) ∈ lw_all := lw_g (lw_at lw_m2 125 rfl) rfl
theorem q440 : (Jvm.Cond.code ({ cls := "PointLedger$Head", name := "<init>", desc := "()V" } : Jvm.MethodName) prog_4_method_1_code (1 : Nat) (Option.none : Option Jvm.ClassFile.FieldType)) ∈ lw_all := lw_g (lw_at lw_m2 126 rfl) rfl
theorem q441 : (Jvm.Cond.methodLink "PointLedger$Head" (3 : Nat) ({ cls := "java/lang/Object", name := "<init>", desc := "()V" } : Jvm.MethodName)) ∈ lw_all := lw_g (lw_at lw_m2 127 rfl) rfl
theorem q442 : (Jvm.Cond.fieldLink "PointLedger$Head" (9 : Nat) "PointLedger$Head" "times" "[I") ∈ lw_all := lw_g (lw_at lw_m2 128 rfl) rfl
theorem q445 : (Jvm.Cond.fieldLink "PointLedger$Head" (15 : Nat) "PointLedger$Head" "values" "[I") ∈ lw_all := lw_g (lw_at lw_m2 131 rfl) rfl
theorem q448 : (Jvm.Cond.fieldLink "PointLedger$Head" (18 : Nat) "PointLedger$Head" "many" "I") ∈ lw_all := lw_g (lw_at lw_m2 134 rfl) rfl
theorem q451 : (Jvm.Cond.laysFinal "PointLedger$Head" "PointLedger$Head" "times" "[I") ∈ lw_all := lw_g (lw_at lw_m2 137 rfl) rfl
theorem q452 : (Jvm.Cond.soleField "PointLedger$Head" "times") ∈ lw_all := lw_g (lw_at lw_m2 138 rfl) rfl
theorem q453 : (Jvm.Cond.laysFinal "PointLedger$Head" "PointLedger$Head" "values" "[I") ∈ lw_all := lw_g (lw_at lw_m2 139 rfl) rfl
theorem q454 : (Jvm.Cond.soleField "PointLedger$Head" "values") ∈ lw_all := lw_g (lw_at lw_m2 140 rfl) rfl
theorem q455 : (Jvm.Cond.lays "PointLedger$Head" "PointLedger$Head" "many" "I") ∈ lw_all := lw_g (lw_at lw_m2 141 rfl) rfl
theorem q456 : (Jvm.Cond.soleField "PointLedger$Head" "many") ∈ lw_all := lw_g (lw_at lw_m2 142 rfl) rfl
theorem q457 : (Jvm.Cond.superclass "PointLedger$Head" "java/lang/Object") ∈ lw_all := lw_g (lw_at lw_m2 143 rfl) rfl
theorem q599 : (Jvm.Cond.instanceMethod ({ cls := "PointLedger$Head", name := "add", desc := "(II)V" } : Jvm.MethodName)) ∈ lw_all := lw_g (lw_at lw_m3 45 rfl) rfl
theorem q600 : (Jvm.Cond.selects "PointLedger$Head" ({ cls := "PointLedger$Head", name := "add", desc := "(II)V" } : Jvm.MethodName) ({ cls := "PointLedger$Head", name := "add", desc := "(II)V" } : Jvm.MethodName)) ∈ lw_all := lw_g (lw_at lw_m3 46 rfl) rfl
theorem q601 : (Jvm.Cond.code ({ cls := "PointLedger$Head", name := "add", desc := "(II)V" } : Jvm.MethodName) prog_4_method_2_code (3 : Nat) (Option.none : Option Jvm.ClassFile.FieldType)) ∈ lw_all := lw_g (lw_at lw_m3 47 rfl) rfl
theorem in_X11 : ∀ w ∈ wsX110, w ∈ lw_all := lw_in wsX110 [451, 453, 455] (by decide +kernel) (by decide +kernel)
/-! PointLedgerModel -/
def RX12 : String := "PointLedgerModel"
def TX12 : u_T := fun k => match k with
  | 0 => ("PointLedgerModel", "thrown", "I", false)
  | 1 => ("PointLedgerModel", "series", "I", true)
  | 2 => ("PointLedgerModel", "most", "I", true)
  | 3 => ("PointLedgerModel", "ratio", "I", true)
  | 4 => ("PointLedgerModel", "disk", "[I", true)
  | 5 => ("PointLedgerModel", "writes", "I", false)
  | 6 => ("PointLedgerModel", "fuse", "I", false)
  | 7 => ("PointLedgerModel", "down", "Z", false)
  | 8 => ("PointLedgerModel", "recovers", "I", false)
  | 9 => ("PointLedgerModel", "looks", "I", false)
  | 10 => ("PointLedgerModel", "unpacked", "I", false)
  | 11 => ("PointLedgerModel", "its", "[I", true)
  | 12 => ("PointLedgerModel", "many", "[I", true)
  | 13 => ("PointLedgerModel", "place", "[I", true)
  | 14 => ("PointLedgerModel", "length", "[I", true)
  | 15 => ("PointLedgerModel", "times", "[I", true)
  | 16 => ("PointLedgerModel", "values", "[I", true)
  | 17 => ("PointLedgerModel", "order", "[I", true)
  | 18 => ("PointLedgerModel", "chunks", "I", false)
  | 19 => ("PointLedgerModel", "epoch", "I", false)
  | 20 => ("PointLedgerModel", "side", "I", false)
  | 21 => ("PointLedgerModel", "headOf", "[I", true)
  | 22 => ("PointLedgerModel", "headTime", "[I", true)
  | 23 => ("PointLedgerModel", "headValue", "[I", true)
  | 24 => ("PointLedgerModel", "logged", "I", false)
  | 25 => ("PointLedgerModel", "next", "[I", true)
  | 26 => ("PointLedgerModel", "isNew", "[Z", true)
  | 27 => ("PointLedgerModel", "nexts", "I", false)
  | 28 => ("PointLedgerModel", "cursorTime", "[I", true)
  | 29 => ("PointLedgerModel", "cursorValue", "[I", true)
  | 30 => ("PointLedgerModel", "hasCursor", "Z", false)
  | 31 => ("PointLedgerModel", "cursorMany", "I", false)
  | 32 => ("PointLedgerModel", "cursorAt", "I", false)
  | 33 => ("PointLedgerModel", "made", "[I", true)
  | 34 => ("PointLedgerModel", "bits", "I", false)
  | 35 => ("PointLedgerModel", "from", "I", false)
  | 36 => ("PointLedgerModel", "askMany", "I", false)
  | 37 => ("PointLedgerModel", "askLeast", "I", false)
  | 38 => ("PointLedgerModel", "askGreatest", "I", false)
  | _ => ("PointLedgerModel", "askSum", "J", false)
def tyX12 : Nat → FieldType := fun k => match k with
  | 0 => .int
  | 1 => .int
  | 2 => .int
  | 3 => .int
  | 4 => .array .int
  | 5 => .int
  | 6 => .int
  | 7 => .boolean
  | 8 => .int
  | 9 => .int
  | 10 => .int
  | 11 => .array .int
  | 12 => .array .int
  | 13 => .array .int
  | 14 => .array .int
  | 15 => .array .int
  | 16 => .array .int
  | 17 => .array .int
  | 18 => .int
  | 19 => .int
  | 20 => .int
  | 21 => .array .int
  | 22 => .array .int
  | 23 => .array .int
  | 24 => .int
  | 25 => .array .int
  | 26 => .array .boolean
  | 27 => .int
  | 28 => .array .int
  | 29 => .array .int
  | 30 => .boolean
  | 31 => .int
  | 32 => .int
  | 33 => .array .int
  | 34 => .int
  | 35 => .int
  | 36 => .int
  | 37 => .int
  | 38 => .int
  | _ => .long
abbrev wsX120 : List Cond := u_ws RX12 TX12 40
theorem nmX12 : ∀ a, a < 40 → ∀ b, b < 40 → a ≠ b → (TX12 a).2.1 ≠ (TX12 b).2.1 := by decide +kernel
theorem tyX12_ok : ∀ k, k < 40 → parseFieldDescriptor (TX12 k).2.2.1 = some (tyX12 k) := by decide +kernel
abbrev cX12_init : ByteArray := prog_14_method_1_code
def yX12_init : MethodName := ⟨RX12, "<init>", "(III)V"⟩
abbrev cX12_between : ByteArray := prog_14_method_2_code
def yX12_between : MethodName := ⟨RX12, "between", "(III)I"⟩
abbrev cX12_thrown : ByteArray := prog_14_method_3_code
def yX12_thrown : MethodName := ⟨RX12, "thrown", "()I"⟩
abbrev cX12_append : ByteArray := prog_14_method_7_code
def yX12_append : MethodName := ⟨RX12, "append", "(III)I"⟩
abbrev cX12_dropCursor : ByteArray := prog_14_method_6_code
def yX12_dropCursor : MethodName := ⟨RX12, "dropCursor", "()V"⟩
abbrev cX12_isSeries : ByteArray := prog_14_method_4_code
def yX12_isSeries : MethodName := ⟨RX12, "isSeries", "(I)Z"⟩
abbrev cX12_isRising : ByteArray := prog_14_method_8_code
def yX12_isRising : MethodName := ⟨RX12, "isRising", "(II)Z"⟩
abbrev cX12_write : ByteArray := prog_14_method_5_code
def yX12_write : MethodName := ⟨RX12, "write", "(II)Z"⟩
abbrev cX12_flush : ByteArray := prog_14_method_33_code
def yX12_flush : MethodName := ⟨RX12, "flush", "()I"⟩
abbrev cX12_beginNext : ByteArray := prog_14_method_17_code
def yX12_beginNext : MethodName := ⟨RX12, "beginNext", "()V"⟩
abbrev cX12_comes : ByteArray := prog_14_method_18_code
def yX12_comes : MethodName := ⟨RX12, "comes", "(IZ)V"⟩
abbrev cX12_headsOf : ByteArray := prog_14_method_34_code
def yX12_headsOf : MethodName := ⟨RX12, "headsOf", "(I)V"⟩
abbrev cX12_freeSlot : ByteArray := prog_14_method_19_code
def yX12_freeSlot : MethodName := ⟨RX12, "freeSlot", "()I"⟩
abbrev cX12_isUsed : ByteArray := prog_14_method_20_code
def yX12_isUsed : MethodName := ⟨RX12, "isUsed", "(I)Z"⟩
abbrev cX12_add : ByteArray := prog_14_method_35_code
def yX12_add : MethodName := ⟨RX12, "add", "(III)V"⟩
abbrev cX12_turn : ByteArray := prog_14_method_25_code
def yX12_turn : MethodName := ⟨RX12, "turn", "(I)I"⟩
abbrev cX12_make : ByteArray := prog_14_method_12_code
def yX12_make : MethodName := ⟨RX12, "make", "(I)I"⟩
abbrev cX12_putStep : ByteArray := prog_14_method_10_code
def yX12_putStep : MethodName := ⟨RX12, "putStep", "(J)V"⟩
abbrev cX12_put : ByteArray := prog_14_method_9_code
def yX12_put : MethodName := ⟨RX12, "put", "(JI)V"⟩
abbrev cX12_putValue : ByteArray := prog_14_method_11_code
def yX12_putValue : MethodName := ⟨RX12, "putValue", "(I)V"⟩
abbrev cX12_find : ByteArray := prog_14_method_23_code
def yX12_find : MethodName := ⟨RX12, "find", "(II)I"⟩
abbrev cX12_isTaken : ByteArray := prog_14_method_21_code
def yX12_isTaken : MethodName := ⟨RX12, "isTaken", "(II)Z"⟩
abbrev cX12_isOf : ByteArray := prog_14_method_22_code
def yX12_isOf : MethodName := ⟨RX12, "isOf", "(II)Z"⟩
abbrev cX12_writeChunk : ByteArray := prog_14_method_26_code
def yX12_writeChunk : MethodName := ⟨RX12, "writeChunk", "(I)Z"⟩
abbrev cX12_index : ByteArray := prog_14_method_24_code
def yX12_index : MethodName := ⟨RX12, "index", "(I)I"⟩
abbrev cX12_writeIndex : ByteArray := prog_14_method_27_code
def yX12_writeIndex : MethodName := ⟨RX12, "writeIndex", "(I)Z"⟩
abbrev cX12_sumOf : ByteArray := prog_14_method_32_code
def yX12_sumOf : MethodName := ⟨RX12, "sumOf", "(I)J"⟩
abbrev cX12_firstTime : ByteArray := prog_14_method_28_code
def yX12_firstTime : MethodName := ⟨RX12, "firstTime", "(I)I"⟩
abbrev cX12_lastTime : ByteArray := prog_14_method_29_code
def yX12_lastTime : MethodName := ⟨RX12, "lastTime", "(I)I"⟩
abbrev cX12_leastOf : ByteArray := prog_14_method_30_code
def yX12_leastOf : MethodName := ⟨RX12, "leastOf", "(I)I"⟩
abbrev cX12_greatestOf : ByteArray := prog_14_method_31_code
def yX12_greatestOf : MethodName := ⟨RX12, "greatestOf", "(I)I"⟩
abbrev cX12_compact : ByteArray := prog_14_method_36_code
def yX12_compact : MethodName := ⟨RX12, "compact", "(I)I"⟩
abbrev cX12_together : ByteArray := prog_14_method_37_code
def yX12_together : MethodName := ⟨RX12, "together", "(I)I"⟩
abbrev cX12_joined : ByteArray := prog_14_method_38_code
def yX12_joined : MethodName := ⟨RX12, "joined", "(II)V"⟩
abbrev cX12_expire : ByteArray := prog_14_method_39_code
def yX12_expire : MethodName := ⟨RX12, "expire", "(I)I"⟩
abbrev cX12_seek : ByteArray := prog_14_method_48_code
def yX12_seek : MethodName := ⟨RX12, "seek", "(III)I"⟩
abbrev cX12_ask : ByteArray := prog_14_method_41_code
def yX12_ask : MethodName := ⟨RX12, "ask", "(IIIZ)V"⟩
abbrev cX12_meet : ByteArray := prog_14_method_40_code
def yX12_meet : MethodName := ⟨RX12, "meet", "(IIIIZ)V"⟩
abbrev cX12_lookAt : ByteArray := prog_14_method_42_code
def yX12_lookAt : MethodName := ⟨RX12, "lookAt", "(III)V"⟩
abbrev cX12_chunksOf : ByteArray := prog_14_method_45_code
def yX12_chunksOf : MethodName := ⟨RX12, "chunksOf", "(I)I"⟩
abbrev cX12_groupsOf : ByteArray := prog_14_method_46_code
def yX12_groupsOf : MethodName := ⟨RX12, "groupsOf", "(I)I"⟩
abbrev cX12_slot : ByteArray := prog_14_method_47_code
def yX12_slot : MethodName := ⟨RX12, "slot", "(II)I"⟩
abbrev cX12_isPart : ByteArray := prog_14_method_44_code
def yX12_isPart : MethodName := ⟨RX12, "isPart", "(IIII)Z"⟩
abbrev cX12_lookInto : ByteArray := prog_14_method_43_code
def yX12_lookInto : MethodName := ⟨RX12, "lookInto", "(IIIII)V"⟩
abbrev cX12_next : ByteArray := prog_14_method_49_code
def yX12_next : MethodName := ⟨RX12, "next", "()Z"⟩
abbrev cX12_curTime : ByteArray := prog_14_method_51_code
def yX12_curTime : MethodName := ⟨RX12, "curTime", "()I"⟩
abbrev cX12_isAt : ByteArray := prog_14_method_50_code
def yX12_isAt : MethodName := ⟨RX12, "isAt", "()Z"⟩
abbrev cX12_curVal : ByteArray := prog_14_method_52_code
def yX12_curVal : MethodName := ⟨RX12, "curVal", "()I"⟩
abbrev cX12_aggCount : ByteArray := prog_14_method_53_code
def yX12_aggCount : MethodName := ⟨RX12, "aggCount", "(III)I"⟩
abbrev cX12_aggMin : ByteArray := prog_14_method_55_code
def yX12_aggMin : MethodName := ⟨RX12, "aggMin", "(III)I"⟩
abbrev cX12_asks : ByteArray := prog_14_method_54_code
def yX12_asks : MethodName := ⟨RX12, "asks", "(III)Z"⟩
abbrev cX12_aggMax : ByteArray := prog_14_method_56_code
def yX12_aggMax : MethodName := ⟨RX12, "aggMax", "(III)I"⟩
abbrev cX12_aggSum : ByteArray := prog_14_method_57_code
def yX12_aggSum : MethodName := ⟨RX12, "aggSum", "(III)J"⟩
abbrev cX12_crashAfter : ByteArray := prog_14_method_58_code
def yX12_crashAfter : MethodName := ⟨RX12, "crashAfter", "(I)Z"⟩
abbrev cX12_recover : ByteArray := prog_14_method_59_code
def yX12_recover : MethodName := ⟨RX12, "recover", "()I"⟩
abbrev cX12_read : ByteArray := prog_14_method_16_code
def yX12_read : MethodName := ⟨RX12, "read", "(I)V"⟩
abbrev cX12_takeStep : ByteArray := prog_14_method_14_code
def yX12_takeStep : MethodName := ⟨RX12, "takeStep", "()J"⟩
abbrev cX12_take : ByteArray := prog_14_method_13_code
def yX12_take : MethodName := ⟨RX12, "take", "(I)J"⟩
abbrev cX12_takeValue : ByteArray := prog_14_method_15_code
def yX12_takeValue : MethodName := ⟨RX12, "takeValue", "()I"⟩
abbrev cX12_cell : ByteArray := prog_14_method_60_code
def yX12_cell : MethodName := ⟨RX12, "cell", "(I)I"⟩
abbrev cX12_sizes : ByteArray := prog_14_method_61_code
def yX12_sizes : MethodName := ⟨RX12, "sizes", "(II)I"⟩
abbrev cX12_chunk : ByteArray := prog_14_method_62_code
def yX12_chunk : MethodName := ⟨RX12, "chunk", "(III)I"⟩
abbrev cX12_group : ByteArray := prog_14_method_63_code
def yX12_group : MethodName := ⟨RX12, "group", "(III)I"⟩
abbrev cX12_look : ByteArray := prog_14_method_64_code
def yX12_look : MethodName := ⟨RX12, "look", "(I)I"⟩
abbrev cX12_taken : ByteArray := prog_14_method_65_code
def yX12_taken : MethodName := ⟨RX12, "taken", "()I"⟩
theorem q89 : (Jvm.Cond.initialized "PointLedgerModel") ∈ lw_all := lw_g (lw_at lw_m1 15 rfl) rfl
theorem q969 : (Jvm.Cond.instantiable "PointLedgerModel" (40 : Nat)) ∈ lw_all := lw_g (lw_at lw_m4 175 rfl) rfl
theorem q971 : (Jvm.Cond.instanceMethod ({ cls := "PointLedgerModel", name := "<init>", desc := "(III)V" } : Jvm.MethodName)) ∈ lw_all := lw_g (lw_at lw_m4 177 rfl) rfl
theorem q972 : (Jvm.Cond.code ({ cls := "PointLedgerModel", name := "<init>", desc := "(III)V" } : Jvm.MethodName) prog_14_method_1_code (4 : Nat) (Option.none : Option Jvm.ClassFile.FieldType)) ∈ lw_all := lw_g (lw_at lw_m4 178 rfl) rfl
theorem q973 : (Jvm.Cond.methodLink "PointLedgerModel" (1 : Nat) ({ cls := "java/lang/Object", name := "<init>", desc := "()V" } : Jvm.MethodName)) ∈ lw_all := lw_g (lw_at lw_m4 179 rfl) rfl
theorem q974 : (Jvm.Cond.methodLink "PointLedgerModel" (63 : Nat) ({ cls := "PointLedgerModel", name := "between", desc := "(III)I" } : Jvm.MethodName)) ∈ lw_all := lw_g (lw_at lw_m4 180 rfl) rfl
theorem q975 : (Jvm.Cond.static ({ cls := "PointLedgerModel", name := "between", desc := "(III)I" } : Jvm.MethodName)) ∈ lw_all := lw_g (lw_at lw_m4 181 rfl) rfl
theorem q976 : (Jvm.Cond.code ({ cls := "PointLedgerModel", name := "between", desc := "(III)I" } : Jvm.MethodName) prog_14_method_2_code (3 : Nat) (Option.some Jvm.ClassFile.FieldType.int)) ∈ lw_all := lw_g (lw_at lw_m4 182 rfl) rfl
theorem q977 : (Jvm.Cond.fieldLink "PointLedgerModel" (76 : Nat) "PointLedgerModel" "thrown" "I") ∈ lw_all := lw_g (lw_at lw_m4 183 rfl) rfl
theorem q978 : (Jvm.Cond.fieldLink "PointLedgerModel" (67 : Nat) "PointLedgerModel" "series" "I") ∈ lw_all := lw_g (lw_at lw_m4 184 rfl) rfl
theorem q979 : (Jvm.Cond.fieldLink "PointLedgerModel" (70 : Nat) "PointLedgerModel" "most" "I") ∈ lw_all := lw_g (lw_at lw_m4 185 rfl) rfl
theorem q980 : (Jvm.Cond.fieldLink "PointLedgerModel" (73 : Nat) "PointLedgerModel" "ratio" "I") ∈ lw_all := lw_g (lw_at lw_m4 186 rfl) rfl
theorem q981 : (Jvm.Cond.fieldLink "PointLedgerModel" (7 : Nat) "PointLedgerModel" "disk" "[I") ∈ lw_all := lw_g (lw_at lw_m4 187 rfl) rfl
theorem q982 : (Jvm.Cond.fieldLink "PointLedgerModel" (83 : Nat) "PointLedgerModel" "writes" "I") ∈ lw_all := lw_g (lw_at lw_m4 188 rfl) rfl
theorem q983 : (Jvm.Cond.fieldLink "PointLedgerModel" (13 : Nat) "PointLedgerModel" "fuse" "I") ∈ lw_all := lw_g (lw_at lw_m4 189 rfl) rfl
theorem q984 : (Jvm.Cond.fieldLink "PointLedgerModel" (79 : Nat) "PointLedgerModel" "down" "Z") ∈ lw_all := lw_g (lw_at lw_m4 190 rfl) rfl
theorem q985 : (Jvm.Cond.fieldLink "PointLedgerModel" (304 : Nat) "PointLedgerModel" "recovers" "I") ∈ lw_all := lw_g (lw_at lw_m4 191 rfl) rfl
theorem q986 : (Jvm.Cond.fieldLink "PointLedgerModel" (268 : Nat) "PointLedgerModel" "looks" "I") ∈ lw_all := lw_g (lw_at lw_m4 192 rfl) rfl
theorem q987 : (Jvm.Cond.fieldLink "PointLedgerModel" (271 : Nat) "PointLedgerModel" "unpacked" "I") ∈ lw_all := lw_g (lw_at lw_m4 193 rfl) rfl
theorem q988 : (Jvm.Cond.fieldLink "PointLedgerModel" (17 : Nat) "PointLedgerModel" "its" "[I") ∈ lw_all := lw_g (lw_at lw_m4 194 rfl) rfl
theorem q989 : (Jvm.Cond.fieldLink "PointLedgerModel" (20 : Nat) "PointLedgerModel" "many" "[I") ∈ lw_all := lw_g (lw_at lw_m4 195 rfl) rfl
theorem q990 : (Jvm.Cond.fieldLink "PointLedgerModel" (23 : Nat) "PointLedgerModel" "place" "[I") ∈ lw_all := lw_g (lw_at lw_m4 196 rfl) rfl
theorem q991 : (Jvm.Cond.fieldLink "PointLedgerModel" (26 : Nat) "PointLedgerModel" "length" "[I") ∈ lw_all := lw_g (lw_at lw_m4 197 rfl) rfl
theorem q992 : (Jvm.Cond.fieldLink "PointLedgerModel" (29 : Nat) "PointLedgerModel" "times" "[I") ∈ lw_all := lw_g (lw_at lw_m4 198 rfl) rfl
theorem q993 : (Jvm.Cond.fieldLink "PointLedgerModel" (32 : Nat) "PointLedgerModel" "values" "[I") ∈ lw_all := lw_g (lw_at lw_m4 199 rfl) rfl
theorem q994 : (Jvm.Cond.fieldLink "PointLedgerModel" (35 : Nat) "PointLedgerModel" "order" "[I") ∈ lw_all := lw_g (lw_at lw_m4 200 rfl) rfl
theorem q995 : (Jvm.Cond.fieldLink "PointLedgerModel" (115 : Nat) "PointLedgerModel" "chunks" "I") ∈ lw_all := lw_g (lw_at lw_m4 201 rfl) rfl
theorem q996 : (Jvm.Cond.fieldLink "PointLedgerModel" (112 : Nat) "PointLedgerModel" "epoch" "I") ∈ lw_all := lw_g (lw_at lw_m4 202 rfl) rfl
theorem q997 : (Jvm.Cond.fieldLink "PointLedgerModel" (197 : Nat) "PointLedgerModel" "side" "I") ∈ lw_all := lw_g (lw_at lw_m4 203 rfl) rfl
theorem q998 : (Jvm.Cond.fieldLink "PointLedgerModel" (38 : Nat) "PointLedgerModel" "headOf" "[I") ∈ lw_all := lw_g (lw_at lw_m4 204 rfl) rfl
theorem q999 : (Jvm.Cond.fieldLink "PointLedgerModel" (41 : Nat) "PointLedgerModel" "headTime" "[I") ∈ lw_all := lw_g (lw_at lw_m4 205 rfl) rfl
theorem q1000 : (Jvm.Cond.fieldLink "PointLedgerModel" (44 : Nat) "PointLedgerModel" "headValue" "[I") ∈ lw_all := lw_g (lw_at lw_m4 206 rfl) rfl
theorem q1001 : (Jvm.Cond.fieldLink "PointLedgerModel" (106 : Nat) "PointLedgerModel" "logged" "I") ∈ lw_all := lw_g (lw_at lw_m4 207 rfl) rfl
theorem q1002 : (Jvm.Cond.fieldLink "PointLedgerModel" (47 : Nat) "PointLedgerModel" "next" "[I") ∈ lw_all := lw_g (lw_at lw_m4 208 rfl) rfl
theorem q1003 : (Jvm.Cond.fieldLink "PointLedgerModel" (50 : Nat) "PointLedgerModel" "isNew" "[Z") ∈ lw_all := lw_g (lw_at lw_m4 209 rfl) rfl
theorem q1004 : (Jvm.Cond.fieldLink "PointLedgerModel" (174 : Nat) "PointLedgerModel" "nexts" "I") ∈ lw_all := lw_g (lw_at lw_m4 210 rfl) rfl
theorem q1005 : (Jvm.Cond.fieldLink "PointLedgerModel" (54 : Nat) "PointLedgerModel" "cursorTime" "[I") ∈ lw_all := lw_g (lw_at lw_m4 211 rfl) rfl
theorem q1006 : (Jvm.Cond.fieldLink "PointLedgerModel" (57 : Nat) "PointLedgerModel" "cursorValue" "[I") ∈ lw_all := lw_g (lw_at lw_m4 212 rfl) rfl
theorem q1007 : (Jvm.Cond.fieldLink "PointLedgerModel" (86 : Nat) "PointLedgerModel" "hasCursor" "Z") ∈ lw_all := lw_g (lw_at lw_m4 213 rfl) rfl
theorem q1008 : (Jvm.Cond.fieldLink "PointLedgerModel" (89 : Nat) "PointLedgerModel" "cursorMany" "I") ∈ lw_all := lw_g (lw_at lw_m4 214 rfl) rfl
theorem q1009 : (Jvm.Cond.fieldLink "PointLedgerModel" (92 : Nat) "PointLedgerModel" "cursorAt" "I") ∈ lw_all := lw_g (lw_at lw_m4 215 rfl) rfl
theorem q1010 : (Jvm.Cond.fieldLink "PointLedgerModel" (60 : Nat) "PointLedgerModel" "made" "[I") ∈ lw_all := lw_g (lw_at lw_m4 216 rfl) rfl
theorem q1011 : (Jvm.Cond.fieldLink "PointLedgerModel" (118 : Nat) "PointLedgerModel" "bits" "I") ∈ lw_all := lw_g (lw_at lw_m4 217 rfl) rfl
theorem q1012 : (Jvm.Cond.fieldLink "PointLedgerModel" (159 : Nat) "PointLedgerModel" "from" "I") ∈ lw_all := lw_g (lw_at lw_m4 218 rfl) rfl
theorem q1013 : (Jvm.Cond.fieldLink "PointLedgerModel" (248 : Nat) "PointLedgerModel" "askMany" "I") ∈ lw_all := lw_g (lw_at lw_m4 219 rfl) rfl
theorem q1014 : (Jvm.Cond.fieldLink "PointLedgerModel" (251 : Nat) "PointLedgerModel" "askLeast" "I") ∈ lw_all := lw_g (lw_at lw_m4 220 rfl) rfl
theorem q1015 : (Jvm.Cond.fieldLink "PointLedgerModel" (254 : Nat) "PointLedgerModel" "askGreatest" "I") ∈ lw_all := lw_g (lw_at lw_m4 221 rfl) rfl
theorem q1016 : (Jvm.Cond.fieldLink "PointLedgerModel" (257 : Nat) "PointLedgerModel" "askSum" "J") ∈ lw_all := lw_g (lw_at lw_m4 222 rfl) rfl
theorem q1017 : (Jvm.Cond.lays "PointLedgerModel" "PointLedgerModel" "thrown" "I") ∈ lw_all := lw_g (lw_at lw_m4 223 rfl) rfl
theorem q1018 : (Jvm.Cond.soleField "PointLedgerModel" "thrown") ∈ lw_all := lw_g (lw_at lw_m4 224 rfl) rfl
theorem q1019 : (Jvm.Cond.laysFinal "PointLedgerModel" "PointLedgerModel" "series" "I") ∈ lw_all := lw_g (lw_at lw_m4 225 rfl) rfl
theorem q1020 : (Jvm.Cond.soleField "PointLedgerModel" "series") ∈ lw_all := lw_g (lw_at lw_m4 226 rfl) rfl
theorem q1021 : (Jvm.Cond.laysFinal "PointLedgerModel" "PointLedgerModel" "most" "I") ∈ lw_all := lw_g (lw_at lw_m4 227 rfl) rfl
theorem q1022 : (Jvm.Cond.soleField "PointLedgerModel" "most") ∈ lw_all := lw_g (lw_at lw_m4 228 rfl) rfl
theorem q1023 : (Jvm.Cond.laysFinal "PointLedgerModel" "PointLedgerModel" "ratio" "I") ∈ lw_all := lw_g (lw_at lw_m4 229 rfl) rfl
theorem q1024 : (Jvm.Cond.soleField "PointLedgerModel" "ratio") ∈ lw_all := lw_g (lw_at lw_m4 230 rfl) rfl
theorem q1025 : (Jvm.Cond.laysFinal "PointLedgerModel" "PointLedgerModel" "disk" "[I") ∈ lw_all := lw_g (lw_at lw_m4 231 rfl) rfl
theorem q1026 : (Jvm.Cond.soleField "PointLedgerModel" "disk") ∈ lw_all := lw_g (lw_at lw_m4 232 rfl) rfl
theorem q1027 : (Jvm.Cond.lays "PointLedgerModel" "PointLedgerModel" "writes" "I") ∈ lw_all := lw_g (lw_at lw_m4 233 rfl) rfl
theorem q1028 : (Jvm.Cond.soleField "PointLedgerModel" "writes") ∈ lw_all := lw_g (lw_at lw_m4 234 rfl) rfl
theorem q1029 : (Jvm.Cond.lays "PointLedgerModel" "PointLedgerModel" "fuse" "I") ∈ lw_all := lw_g (lw_at lw_m4 235 rfl) rfl
theorem q1030 : (Jvm.Cond.soleField "PointLedgerModel" "fuse") ∈ lw_all := lw_g (lw_at lw_m4 236 rfl) rfl
theorem q1031 : (Jvm.Cond.lays "PointLedgerModel" "PointLedgerModel" "down" "Z") ∈ lw_all := lw_g (lw_at lw_m4 237 rfl) rfl
theorem q1032 : (Jvm.Cond.soleField "PointLedgerModel" "down") ∈ lw_all := lw_g (lw_at lw_m4 238 rfl) rfl
theorem q1033 : (Jvm.Cond.lays "PointLedgerModel" "PointLedgerModel" "recovers" "I") ∈ lw_all := lw_g (lw_at lw_m4 239 rfl) rfl
theorem q1034 : (Jvm.Cond.soleField "PointLedgerModel" "recovers") ∈ lw_all := lw_g (lw_at lw_m5 0 rfl) rfl
theorem q1035 : (Jvm.Cond.lays "PointLedgerModel" "PointLedgerModel" "looks" "I") ∈ lw_all := lw_g (lw_at lw_m5 1 rfl) rfl
theorem q1036 : (Jvm.Cond.soleField "PointLedgerModel" "looks") ∈ lw_all := lw_g (lw_at lw_m5 2 rfl) rfl
theorem q1037 : (Jvm.Cond.lays "PointLedgerModel" "PointLedgerModel" "unpacked" "I") ∈ lw_all := lw_g (lw_at lw_m5 3 rfl) rfl
theorem q1038 : (Jvm.Cond.soleField "PointLedgerModel" "unpacked") ∈ lw_all := lw_g (lw_at lw_m5 4 rfl) rfl
theorem q1039 : (Jvm.Cond.laysFinal "PointLedgerModel" "PointLedgerModel" "its" "[I") ∈ lw_all := lw_g (lw_at lw_m5 5 rfl) rfl
theorem q1040 : (Jvm.Cond.soleField "PointLedgerModel" "its") ∈ lw_all := lw_g (lw_at lw_m5 6 rfl) rfl
theorem q1041 : (Jvm.Cond.laysFinal "PointLedgerModel" "PointLedgerModel" "many" "[I") ∈ lw_all := lw_g (lw_at lw_m5 7 rfl) rfl
theorem q1042 : (Jvm.Cond.soleField "PointLedgerModel" "many") ∈ lw_all := lw_g (lw_at lw_m5 8 rfl) rfl
theorem q1043 : (Jvm.Cond.laysFinal "PointLedgerModel" "PointLedgerModel" "place" "[I") ∈ lw_all := lw_g (lw_at lw_m5 9 rfl) rfl
theorem q1044 : (Jvm.Cond.soleField "PointLedgerModel" "place") ∈ lw_all := lw_g (lw_at lw_m5 10 rfl) rfl
theorem q1045 : (Jvm.Cond.laysFinal "PointLedgerModel" "PointLedgerModel" "length" "[I") ∈ lw_all := lw_g (lw_at lw_m5 11 rfl) rfl
theorem q1046 : (Jvm.Cond.soleField "PointLedgerModel" "length") ∈ lw_all := lw_g (lw_at lw_m5 12 rfl) rfl
theorem q1047 : (Jvm.Cond.laysFinal "PointLedgerModel" "PointLedgerModel" "times" "[I") ∈ lw_all := lw_g (lw_at lw_m5 13 rfl) rfl
theorem q1048 : (Jvm.Cond.soleField "PointLedgerModel" "times") ∈ lw_all := lw_g (lw_at lw_m5 14 rfl) rfl
theorem q1049 : (Jvm.Cond.laysFinal "PointLedgerModel" "PointLedgerModel" "values" "[I") ∈ lw_all := lw_g (lw_at lw_m5 15 rfl) rfl
theorem q1050 : (Jvm.Cond.soleField "PointLedgerModel" "values") ∈ lw_all := lw_g (lw_at lw_m5 16 rfl) rfl
theorem q1051 : (Jvm.Cond.laysFinal "PointLedgerModel" "PointLedgerModel" "order" "[I") ∈ lw_all := lw_g (lw_at lw_m5 17 rfl) rfl
theorem q1052 : (Jvm.Cond.soleField "PointLedgerModel" "order") ∈ lw_all := lw_g (lw_at lw_m5 18 rfl) rfl
theorem q1053 : (Jvm.Cond.lays "PointLedgerModel" "PointLedgerModel" "chunks" "I") ∈ lw_all := lw_g (lw_at lw_m5 19 rfl) rfl
theorem q1054 : (Jvm.Cond.soleField "PointLedgerModel" "chunks") ∈ lw_all := lw_g (lw_at lw_m5 20 rfl) rfl
theorem q1055 : (Jvm.Cond.lays "PointLedgerModel" "PointLedgerModel" "epoch" "I") ∈ lw_all := lw_g (lw_at lw_m5 21 rfl) rfl
theorem q1056 : (Jvm.Cond.soleField "PointLedgerModel" "epoch") ∈ lw_all := lw_g (lw_at lw_m5 22 rfl) rfl
theorem q1057 : (Jvm.Cond.lays "PointLedgerModel" "PointLedgerModel" "side" "I") ∈ lw_all := lw_g (lw_at lw_m5 23 rfl) rfl
theorem q1058 : (Jvm.Cond.soleField "PointLedgerModel" "side") ∈ lw_all := lw_g (lw_at lw_m5 24 rfl) rfl
theorem q1059 : (Jvm.Cond.laysFinal "PointLedgerModel" "PointLedgerModel" "headOf" "[I") ∈ lw_all := lw_g (lw_at lw_m5 25 rfl) rfl
theorem q1060 : (Jvm.Cond.soleField "PointLedgerModel" "headOf") ∈ lw_all := lw_g (lw_at lw_m5 26 rfl) rfl
theorem q1061 : (Jvm.Cond.laysFinal "PointLedgerModel" "PointLedgerModel" "headTime" "[I") ∈ lw_all := lw_g (lw_at lw_m5 27 rfl) rfl
theorem q1062 : (Jvm.Cond.soleField "PointLedgerModel" "headTime") ∈ lw_all := lw_g (lw_at lw_m5 28 rfl) rfl
theorem q1063 : (Jvm.Cond.laysFinal "PointLedgerModel" "PointLedgerModel" "headValue" "[I") ∈ lw_all := lw_g (lw_at lw_m5 29 rfl) rfl
theorem q1064 : (Jvm.Cond.soleField "PointLedgerModel" "headValue") ∈ lw_all := lw_g (lw_at lw_m5 30 rfl) rfl
theorem q1065 : (Jvm.Cond.lays "PointLedgerModel" "PointLedgerModel" "logged" "I") ∈ lw_all := lw_g (lw_at lw_m5 31 rfl) rfl
theorem q1066 : (Jvm.Cond.soleField "PointLedgerModel" "logged") ∈ lw_all := lw_g (lw_at lw_m5 32 rfl) rfl
theorem q1067 : (Jvm.Cond.laysFinal "PointLedgerModel" "PointLedgerModel" "next" "[I") ∈ lw_all := lw_g (lw_at lw_m5 33 rfl) rfl
theorem q1068 : (Jvm.Cond.soleField "PointLedgerModel" "next") ∈ lw_all := lw_g (lw_at lw_m5 34 rfl) rfl
theorem q1069 : (Jvm.Cond.laysFinal "PointLedgerModel" "PointLedgerModel" "isNew" "[Z") ∈ lw_all := lw_g (lw_at lw_m5 35 rfl) rfl
theorem q1070 : (Jvm.Cond.soleField "PointLedgerModel" "isNew") ∈ lw_all := lw_g (lw_at lw_m5 36 rfl) rfl
theorem q1071 : (Jvm.Cond.lays "PointLedgerModel" "PointLedgerModel" "nexts" "I") ∈ lw_all := lw_g (lw_at lw_m5 37 rfl) rfl
theorem q1072 : (Jvm.Cond.soleField "PointLedgerModel" "nexts") ∈ lw_all := lw_g (lw_at lw_m5 38 rfl) rfl
theorem q1073 : (Jvm.Cond.laysFinal "PointLedgerModel" "PointLedgerModel" "cursorTime" "[I") ∈ lw_all := lw_g (lw_at lw_m5 39 rfl) rfl
theorem q1074 : (Jvm.Cond.soleField "PointLedgerModel" "cursorTime") ∈ lw_all := lw_g (lw_at lw_m5 40 rfl) rfl
theorem q1075 : (Jvm.Cond.laysFinal "PointLedgerModel" "PointLedgerModel" "cursorValue" "[I") ∈ lw_all := lw_g (lw_at lw_m5 41 rfl) rfl
theorem q1076 : (Jvm.Cond.soleField "PointLedgerModel" "cursorValue") ∈ lw_all := lw_g (lw_at lw_m5 42 rfl) rfl
theorem q1077 : (Jvm.Cond.lays "PointLedgerModel" "PointLedgerModel" "hasCursor" "Z") ∈ lw_all := lw_g (lw_at lw_m5 43 rfl) rfl
theorem q1078 : (Jvm.Cond.soleField "PointLedgerModel" "hasCursor") ∈ lw_all := lw_g (lw_at lw_m5 44 rfl) rfl
theorem q1079 : (Jvm.Cond.lays "PointLedgerModel" "PointLedgerModel" "cursorMany" "I") ∈ lw_all := lw_g (lw_at lw_m5 45 rfl) rfl
theorem q1080 : (Jvm.Cond.soleField "PointLedgerModel" "cursorMany") ∈ lw_all := lw_g (lw_at lw_m5 46 rfl) rfl
theorem q1081 : (Jvm.Cond.lays "PointLedgerModel" "PointLedgerModel" "cursorAt" "I") ∈ lw_all := lw_g (lw_at lw_m5 47 rfl) rfl
theorem q1082 : (Jvm.Cond.soleField "PointLedgerModel" "cursorAt") ∈ lw_all := lw_g (lw_at lw_m5 48 rfl) rfl
theorem q1083 : (Jvm.Cond.laysFinal "PointLedgerModel" "PointLedgerModel" "made" "[I") ∈ lw_all := lw_g (lw_at lw_m5 49 rfl) rfl
theorem q1084 : (Jvm.Cond.soleField "PointLedgerModel" "made") ∈ lw_all := lw_g (lw_at lw_m5 50 rfl) rfl
theorem q1085 : (Jvm.Cond.lays "PointLedgerModel" "PointLedgerModel" "bits" "I") ∈ lw_all := lw_g (lw_at lw_m5 51 rfl) rfl
theorem q1086 : (Jvm.Cond.soleField "PointLedgerModel" "bits") ∈ lw_all := lw_g (lw_at lw_m5 52 rfl) rfl
theorem q1087 : (Jvm.Cond.lays "PointLedgerModel" "PointLedgerModel" "from" "I") ∈ lw_all := lw_g (lw_at lw_m5 53 rfl) rfl
theorem q1088 : (Jvm.Cond.soleField "PointLedgerModel" "from") ∈ lw_all := lw_g (lw_at lw_m5 54 rfl) rfl
theorem q1089 : (Jvm.Cond.lays "PointLedgerModel" "PointLedgerModel" "askMany" "I") ∈ lw_all := lw_g (lw_at lw_m5 55 rfl) rfl
theorem q1090 : (Jvm.Cond.soleField "PointLedgerModel" "askMany") ∈ lw_all := lw_g (lw_at lw_m5 56 rfl) rfl
theorem q1091 : (Jvm.Cond.lays "PointLedgerModel" "PointLedgerModel" "askLeast" "I") ∈ lw_all := lw_g (lw_at lw_m5 57 rfl) rfl
theorem q1092 : (Jvm.Cond.soleField "PointLedgerModel" "askLeast") ∈ lw_all := lw_g (lw_at lw_m5 58 rfl) rfl
theorem q1093 : (Jvm.Cond.lays "PointLedgerModel" "PointLedgerModel" "askGreatest" "I") ∈ lw_all := lw_g (lw_at lw_m5 59 rfl) rfl
theorem q1094 : (Jvm.Cond.soleField "PointLedgerModel" "askGreatest") ∈ lw_all := lw_g (lw_at lw_m5 60 rfl) rfl
theorem q1095 : (Jvm.Cond.lays "PointLedgerModel" "PointLedgerModel" "askSum" "J") ∈ lw_all := lw_g (lw_at lw_m5 61 rfl) rfl
theorem q1096 : (Jvm.Cond.soleField "PointLedgerModel" "askSum") ∈ lw_all := lw_g (lw_at lw_m5 62 rfl) rfl
theorem q1097 : (Jvm.Cond.superclass "PointLedgerModel" "java/lang/Object") ∈ lw_all := lw_g (lw_at lw_m5 63 rfl) rfl
theorem q1099 : (Jvm.Cond.instanceMethod ({ cls := "PointLedgerModel", name := "thrown", desc := "()I" } : Jvm.MethodName)) ∈ lw_all := lw_g (lw_at lw_m5 65 rfl) rfl
theorem q1100 : (Jvm.Cond.selects "PointLedgerModel" ({ cls := "PointLedgerModel", name := "thrown", desc := "()I" } : Jvm.MethodName) ({ cls := "PointLedgerModel", name := "thrown", desc := "()I" } : Jvm.MethodName)) ∈ lw_all := lw_g (lw_at lw_m5 66 rfl) rfl
theorem q1101 : (Jvm.Cond.code ({ cls := "PointLedgerModel", name := "thrown", desc := "()I" } : Jvm.MethodName) prog_14_method_3_code (1 : Nat) (Option.some Jvm.ClassFile.FieldType.int)) ∈ lw_all := lw_g (lw_at lw_m5 67 rfl) rfl
theorem q1103 : (Jvm.Cond.instanceMethod ({ cls := "PointLedgerModel", name := "append", desc := "(III)I" } : Jvm.MethodName)) ∈ lw_all := lw_g (lw_at lw_m5 69 rfl) rfl
theorem q1104 : (Jvm.Cond.selects "PointLedgerModel" ({ cls := "PointLedgerModel", name := "append", desc := "(III)I" } : Jvm.MethodName) ({ cls := "PointLedgerModel", name := "append", desc := "(III)I" } : Jvm.MethodName)) ∈ lw_all := lw_g (lw_at lw_m5 70 rfl) rfl
theorem q1105 : (Jvm.Cond.code ({ cls := "PointLedgerModel", name := "append", desc := "(III)I" } : Jvm.MethodName) prog_14_method_7_code (5 : Nat) (Option.some Jvm.ClassFile.FieldType.int)) ∈ lw_all := lw_g (lw_at lw_m5 71 rfl) rfl
theorem q1106 : (Jvm.Cond.methodLink "PointLedgerModel" (95 : Nat) ({ cls := "PointLedgerModel", name := "dropCursor", desc := "()V" } : Jvm.MethodName)) ∈ lw_all := lw_g (lw_at lw_m5 72 rfl) rfl
theorem q1107 : (Jvm.Cond.privateMethod ({ cls := "PointLedgerModel", name := "dropCursor", desc := "()V" } : Jvm.MethodName)) ∈ lw_tbl := lw_at lw_m5 73 rfl
theorem q1108 : (Jvm.Cond.instanceMethod ({ cls := "PointLedgerModel", name := "dropCursor", desc := "()V" } : Jvm.MethodName)) ∈ lw_all := lw_g (lw_at lw_m5 74 rfl) rfl
theorem q1109 : (Jvm.Cond.code ({ cls := "PointLedgerModel", name := "dropCursor", desc := "()V" } : Jvm.MethodName) prog_14_method_6_code (1 : Nat) (Option.none : Option Jvm.ClassFile.FieldType)) ∈ lw_all := lw_g (lw_at lw_m5 75 rfl) rfl
theorem q1110 : (Jvm.Cond.methodLink "PointLedgerModel" (98 : Nat) ({ cls := "PointLedgerModel", name := "isSeries", desc := "(I)Z" } : Jvm.MethodName)) ∈ lw_all := lw_g (lw_at lw_m5 76 rfl) rfl
theorem q1111 : (Jvm.Cond.privateMethod ({ cls := "PointLedgerModel", name := "isSeries", desc := "(I)Z" } : Jvm.MethodName)) ∈ lw_tbl := lw_at lw_m5 77 rfl
theorem q1112 : (Jvm.Cond.instanceMethod ({ cls := "PointLedgerModel", name := "isSeries", desc := "(I)Z" } : Jvm.MethodName)) ∈ lw_all := lw_g (lw_at lw_m5 78 rfl) rfl
theorem q1113 : (Jvm.Cond.code ({ cls := "PointLedgerModel", name := "isSeries", desc := "(I)Z" } : Jvm.MethodName) prog_14_method_4_code (2 : Nat) (Option.some Jvm.ClassFile.FieldType.boolean)) ∈ lw_all := lw_g (lw_at lw_m5 79 rfl) rfl
theorem q1114 : (Jvm.Cond.methodLink "PointLedgerModel" (102 : Nat) ({ cls := "PointLedgerModel", name := "isRising", desc := "(II)Z" } : Jvm.MethodName)) ∈ lw_all := lw_g (lw_at lw_m5 80 rfl) rfl
theorem q1115 : (Jvm.Cond.privateMethod ({ cls := "PointLedgerModel", name := "isRising", desc := "(II)Z" } : Jvm.MethodName)) ∈ lw_tbl := lw_at lw_m5 81 rfl
theorem q1116 : (Jvm.Cond.instanceMethod ({ cls := "PointLedgerModel", name := "isRising", desc := "(II)Z" } : Jvm.MethodName)) ∈ lw_all := lw_g (lw_at lw_m5 82 rfl) rfl
theorem q1117 : (Jvm.Cond.code ({ cls := "PointLedgerModel", name := "isRising", desc := "(II)Z" } : Jvm.MethodName) prog_14_method_8_code (7 : Nat) (Option.some Jvm.ClassFile.FieldType.boolean)) ∈ lw_all := lw_g (lw_at lw_m5 83 rfl) rfl
theorem q1118 : (Jvm.Cond.methodLink "PointLedgerModel" (109 : Nat) ({ cls := "PointLedgerModel", name := "write", desc := "(II)Z" } : Jvm.MethodName)) ∈ lw_all := lw_g (lw_at lw_m5 84 rfl) rfl
theorem q1119 : (Jvm.Cond.privateMethod ({ cls := "PointLedgerModel", name := "write", desc := "(II)Z" } : Jvm.MethodName)) ∈ lw_tbl := lw_at lw_m5 85 rfl
theorem q1120 : (Jvm.Cond.instanceMethod ({ cls := "PointLedgerModel", name := "write", desc := "(II)Z" } : Jvm.MethodName)) ∈ lw_all := lw_g (lw_at lw_m5 86 rfl) rfl
theorem q1121 : (Jvm.Cond.code ({ cls := "PointLedgerModel", name := "write", desc := "(II)Z" } : Jvm.MethodName) prog_14_method_5_code (3 : Nat) (Option.some Jvm.ClassFile.FieldType.boolean)) ∈ lw_all := lw_g (lw_at lw_m5 87 rfl) rfl
theorem q1123 : (Jvm.Cond.instanceMethod ({ cls := "PointLedgerModel", name := "flush", desc := "()I" } : Jvm.MethodName)) ∈ lw_all := lw_g (lw_at lw_m5 89 rfl) rfl
theorem q1124 : (Jvm.Cond.selects "PointLedgerModel" ({ cls := "PointLedgerModel", name := "flush", desc := "()I" } : Jvm.MethodName) ({ cls := "PointLedgerModel", name := "flush", desc := "()I" } : Jvm.MethodName)) ∈ lw_all := lw_g (lw_at lw_m5 90 rfl) rfl
theorem q1125 : (Jvm.Cond.code ({ cls := "PointLedgerModel", name := "flush", desc := "()I" } : Jvm.MethodName) prog_14_method_33_code (3 : Nat) (Option.some Jvm.ClassFile.FieldType.int)) ∈ lw_all := lw_g (lw_at lw_m5 91 rfl) rfl
theorem q1126 : (Jvm.Cond.methodLink "PointLedgerModel" (221 : Nat) ({ cls := "PointLedgerModel", name := "beginNext", desc := "()V" } : Jvm.MethodName)) ∈ lw_all := lw_g (lw_at lw_m5 92 rfl) rfl
theorem q1127 : (Jvm.Cond.privateMethod ({ cls := "PointLedgerModel", name := "beginNext", desc := "()V" } : Jvm.MethodName)) ∈ lw_tbl := lw_at lw_m5 93 rfl
theorem q1128 : (Jvm.Cond.instanceMethod ({ cls := "PointLedgerModel", name := "beginNext", desc := "()V" } : Jvm.MethodName)) ∈ lw_all := lw_g (lw_at lw_m5 94 rfl) rfl
theorem q1129 : (Jvm.Cond.code ({ cls := "PointLedgerModel", name := "beginNext", desc := "()V" } : Jvm.MethodName) prog_14_method_17_code (1 : Nat) (Option.none : Option Jvm.ClassFile.FieldType)) ∈ lw_all := lw_g (lw_at lw_m5 95 rfl) rfl
theorem q1130 : (Jvm.Cond.methodLink "PointLedgerModel" (224 : Nat) ({ cls := "PointLedgerModel", name := "comes", desc := "(IZ)V" } : Jvm.MethodName)) ∈ lw_all := lw_g (lw_at lw_m5 96 rfl) rfl
theorem q1131 : (Jvm.Cond.privateMethod ({ cls := "PointLedgerModel", name := "comes", desc := "(IZ)V" } : Jvm.MethodName)) ∈ lw_tbl := lw_at lw_m5 97 rfl
theorem q1132 : (Jvm.Cond.instanceMethod ({ cls := "PointLedgerModel", name := "comes", desc := "(IZ)V" } : Jvm.MethodName)) ∈ lw_all := lw_g (lw_at lw_m5 98 rfl) rfl
theorem q1133 : (Jvm.Cond.code ({ cls := "PointLedgerModel", name := "comes", desc := "(IZ)V" } : Jvm.MethodName) prog_14_method_18_code (3 : Nat) (Option.none : Option Jvm.ClassFile.FieldType)) ∈ lw_all := lw_g (lw_at lw_m5 99 rfl) rfl
theorem q1134 : (Jvm.Cond.methodLink "PointLedgerModel" (228 : Nat) ({ cls := "PointLedgerModel", name := "headsOf", desc := "(I)V" } : Jvm.MethodName)) ∈ lw_all := lw_g (lw_at lw_m5 100 rfl) rfl
theorem q1135 : (Jvm.Cond.privateMethod ({ cls := "PointLedgerModel", name := "headsOf", desc := "(I)V" } : Jvm.MethodName)) ∈ lw_tbl := lw_at lw_m5 101 rfl
theorem q1136 : (Jvm.Cond.instanceMethod ({ cls := "PointLedgerModel", name := "headsOf", desc := "(I)V" } : Jvm.MethodName)) ∈ lw_all := lw_g (lw_at lw_m5 102 rfl) rfl
theorem q1137 : (Jvm.Cond.code ({ cls := "PointLedgerModel", name := "headsOf", desc := "(I)V" } : Jvm.MethodName) prog_14_method_34_code (4 : Nat) (Option.none : Option Jvm.ClassFile.FieldType)) ∈ lw_all := lw_g (lw_at lw_m5 103 rfl) rfl
theorem q1138 : (Jvm.Cond.methodLink "PointLedgerModel" (234 : Nat) ({ cls := "PointLedgerModel", name := "freeSlot", desc := "()I" } : Jvm.MethodName)) ∈ lw_all := lw_g (lw_at lw_m5 104 rfl) rfl
theorem q1139 : (Jvm.Cond.privateMethod ({ cls := "PointLedgerModel", name := "freeSlot", desc := "()I" } : Jvm.MethodName)) ∈ lw_tbl := lw_at lw_m5 105 rfl
theorem q1140 : (Jvm.Cond.instanceMethod ({ cls := "PointLedgerModel", name := "freeSlot", desc := "()I" } : Jvm.MethodName)) ∈ lw_all := lw_g (lw_at lw_m5 106 rfl) rfl
theorem q1141 : (Jvm.Cond.code ({ cls := "PointLedgerModel", name := "freeSlot", desc := "()I" } : Jvm.MethodName) prog_14_method_19_code (2 : Nat) (Option.some Jvm.ClassFile.FieldType.int)) ∈ lw_all := lw_g (lw_at lw_m5 107 rfl) rfl
theorem q1142 : (Jvm.Cond.methodLink "PointLedgerModel" (177 : Nat) ({ cls := "PointLedgerModel", name := "isUsed", desc := "(I)Z" } : Jvm.MethodName)) ∈ lw_all := lw_g (lw_at lw_m5 108 rfl) rfl
theorem q1143 : (Jvm.Cond.privateMethod ({ cls := "PointLedgerModel", name := "isUsed", desc := "(I)Z" } : Jvm.MethodName)) ∈ lw_tbl := lw_at lw_m5 109 rfl
theorem q1144 : (Jvm.Cond.instanceMethod ({ cls := "PointLedgerModel", name := "isUsed", desc := "(I)Z" } : Jvm.MethodName)) ∈ lw_all := lw_g (lw_at lw_m5 110 rfl) rfl
theorem q1145 : (Jvm.Cond.code ({ cls := "PointLedgerModel", name := "isUsed", desc := "(I)Z" } : Jvm.MethodName) prog_14_method_20_code (4 : Nat) (Option.some Jvm.ClassFile.FieldType.boolean)) ∈ lw_all := lw_g (lw_at lw_m5 111 rfl) rfl
theorem q1146 : (Jvm.Cond.methodLink "PointLedgerModel" (237 : Nat) ({ cls := "PointLedgerModel", name := "add", desc := "(III)V" } : Jvm.MethodName)) ∈ lw_all := lw_g (lw_at lw_m5 112 rfl) rfl
theorem q1147 : (Jvm.Cond.privateMethod ({ cls := "PointLedgerModel", name := "add", desc := "(III)V" } : Jvm.MethodName)) ∈ lw_tbl := lw_at lw_m5 113 rfl
theorem q1148 : (Jvm.Cond.instanceMethod ({ cls := "PointLedgerModel", name := "add", desc := "(III)V" } : Jvm.MethodName)) ∈ lw_all := lw_g (lw_at lw_m5 114 rfl) rfl
theorem q1149 : (Jvm.Cond.code ({ cls := "PointLedgerModel", name := "add", desc := "(III)V" } : Jvm.MethodName) prog_14_method_35_code (4 : Nat) (Option.none : Option Jvm.ClassFile.FieldType)) ∈ lw_all := lw_g (lw_at lw_m5 115 rfl) rfl
theorem q1150 : (Jvm.Cond.methodLink "PointLedgerModel" (231 : Nat) ({ cls := "PointLedgerModel", name := "turn", desc := "(I)I" } : Jvm.MethodName)) ∈ lw_all := lw_g (lw_at lw_m5 116 rfl) rfl
theorem q1151 : (Jvm.Cond.privateMethod ({ cls := "PointLedgerModel", name := "turn", desc := "(I)I" } : Jvm.MethodName)) ∈ lw_tbl := lw_at lw_m5 117 rfl
theorem q1152 : (Jvm.Cond.instanceMethod ({ cls := "PointLedgerModel", name := "turn", desc := "(I)I" } : Jvm.MethodName)) ∈ lw_all := lw_g (lw_at lw_m5 118 rfl) rfl
theorem q1153 : (Jvm.Cond.code ({ cls := "PointLedgerModel", name := "turn", desc := "(I)I" } : Jvm.MethodName) prog_14_method_25_code (5 : Nat) (Option.some Jvm.ClassFile.FieldType.int)) ∈ lw_all := lw_g (lw_at lw_m5 119 rfl) rfl
theorem q1154 : (Jvm.Cond.methodLink "PointLedgerModel" (186 : Nat) ({ cls := "PointLedgerModel", name := "make", desc := "(I)I" } : Jvm.MethodName)) ∈ lw_all := lw_g (lw_at lw_m5 120 rfl) rfl
theorem q1155 : (Jvm.Cond.privateMethod ({ cls := "PointLedgerModel", name := "make", desc := "(I)I" } : Jvm.MethodName)) ∈ lw_tbl := lw_at lw_m5 121 rfl
theorem q1156 : (Jvm.Cond.instanceMethod ({ cls := "PointLedgerModel", name := "make", desc := "(I)I" } : Jvm.MethodName)) ∈ lw_all := lw_g (lw_at lw_m5 122 rfl) rfl
theorem q1157 : (Jvm.Cond.code ({ cls := "PointLedgerModel", name := "make", desc := "(I)I" } : Jvm.MethodName) prog_14_method_12_code (8 : Nat) (Option.some Jvm.ClassFile.FieldType.int)) ∈ lw_all := lw_g (lw_at lw_m5 123 rfl) rfl
theorem q1158 : (Jvm.Cond.methodLink "PointLedgerModel" (151 : Nat) ({ cls := "PointLedgerModel", name := "putStep", desc := "(J)V" } : Jvm.MethodName)) ∈ lw_all := lw_g (lw_at lw_m5 124 rfl) rfl
theorem q1159 : (Jvm.Cond.privateMethod ({ cls := "PointLedgerModel", name := "putStep", desc := "(J)V" } : Jvm.MethodName)) ∈ lw_tbl := lw_at lw_m5 125 rfl
theorem q1160 : (Jvm.Cond.instanceMethod ({ cls := "PointLedgerModel", name := "putStep", desc := "(J)V" } : Jvm.MethodName)) ∈ lw_all := lw_g (lw_at lw_m5 126 rfl) rfl
theorem q1161 : (Jvm.Cond.code ({ cls := "PointLedgerModel", name := "putStep", desc := "(J)V" } : Jvm.MethodName) prog_14_method_10_code (3 : Nat) (Option.none : Option Jvm.ClassFile.FieldType)) ∈ lw_all := lw_g (lw_at lw_m5 127 rfl) rfl
theorem q1162 : (Jvm.Cond.methodLink "PointLedgerModel" (121 : Nat) ({ cls := "PointLedgerModel", name := "put", desc := "(JI)V" } : Jvm.MethodName)) ∈ lw_all := lw_g (lw_at lw_m5 128 rfl) rfl
theorem q1163 : (Jvm.Cond.privateMethod ({ cls := "PointLedgerModel", name := "put", desc := "(JI)V" } : Jvm.MethodName)) ∈ lw_tbl := lw_at lw_m5 129 rfl
theorem q1164 : (Jvm.Cond.instanceMethod ({ cls := "PointLedgerModel", name := "put", desc := "(JI)V" } : Jvm.MethodName)) ∈ lw_all := lw_g (lw_at lw_m5 130 rfl) rfl
theorem q1165 : (Jvm.Cond.code ({ cls := "PointLedgerModel", name := "put", desc := "(JI)V" } : Jvm.MethodName) prog_14_method_9_code (5 : Nat) (Option.none : Option Jvm.ClassFile.FieldType)) ∈ lw_all := lw_g (lw_at lw_m5 131 rfl) rfl
theorem q1166 : (Jvm.Cond.constantLong "PointLedgerModel" (125 : Nat) (64 : Int64)) ∈ lw_all := lw_g (lw_at lw_m5 132 rfl) rfl
theorem q1167 : (Jvm.Cond.constantLong "PointLedgerModel" (127 : Nat) (127 : Int64)) ∈ lw_all := lw_g (lw_at lw_m5 133 rfl) rfl
theorem q1168 : (Jvm.Cond.constantLong "PointLedgerModel" (129 : Nat) (2 : Int64)) ∈ lw_all := lw_g (lw_at lw_m5 134 rfl) rfl
theorem q1169 : (Jvm.Cond.constantLong "PointLedgerModel" (131 : Nat) (256 : Int64)) ∈ lw_all := lw_g (lw_at lw_m5 135 rfl) rfl
theorem q1170 : (Jvm.Cond.constantLong "PointLedgerModel" (133 : Nat) (511 : Int64)) ∈ lw_all := lw_g (lw_at lw_m5 136 rfl) rfl
theorem q1171 : (Jvm.Cond.constantLong "PointLedgerModel" (135 : Nat) (6 : Int64)) ∈ lw_all := lw_g (lw_at lw_m5 137 rfl) rfl
theorem q1172 : (Jvm.Cond.constantLong "PointLedgerModel" (137 : Nat) (2048 : Int64)) ∈ lw_all := lw_g (lw_at lw_m5 138 rfl) rfl
theorem q1173 : (Jvm.Cond.constantLong "PointLedgerModel" (139 : Nat) (4095 : Int64)) ∈ lw_all := lw_g (lw_at lw_m5 139 rfl) rfl
theorem q1174 : (Jvm.Cond.constantLong "PointLedgerModel" (141 : Nat) (14 : Int64)) ∈ lw_all := lw_g (lw_at lw_m5 140 rfl) rfl
theorem q1175 : (Jvm.Cond.constantLong "PointLedgerModel" (143 : Nat) (15 : Int64)) ∈ lw_all := lw_g (lw_at lw_m5 141 rfl) rfl
theorem q1176 : (Jvm.Cond.constantLong "PointLedgerModel" (145 : Nat) (8589934592 : Int64)) ∈ lw_all := lw_g (lw_at lw_m5 142 rfl) rfl
theorem q1177 : (Jvm.Cond.methodLink "PointLedgerModel" (155 : Nat) ({ cls := "PointLedgerModel", name := "putValue", desc := "(I)V" } : Jvm.MethodName)) ∈ lw_all := lw_g (lw_at lw_m5 143 rfl) rfl
theorem q1178 : (Jvm.Cond.privateMethod ({ cls := "PointLedgerModel", name := "putValue", desc := "(I)V" } : Jvm.MethodName)) ∈ lw_tbl := lw_at lw_m5 144 rfl
theorem q1179 : (Jvm.Cond.instanceMethod ({ cls := "PointLedgerModel", name := "putValue", desc := "(I)V" } : Jvm.MethodName)) ∈ lw_all := lw_g (lw_at lw_m5 145 rfl) rfl
theorem q1180 : (Jvm.Cond.code ({ cls := "PointLedgerModel", name := "putValue", desc := "(I)V" } : Jvm.MethodName) prog_14_method_11_code (4 : Nat) (Option.none : Option Jvm.ClassFile.FieldType)) ∈ lw_all := lw_g (lw_at lw_m5 146 rfl) rfl
theorem q1181 : (Jvm.Cond.constantLong "PointLedgerModel" (147 : Nat) (-2 : Int64)) ∈ lw_all := lw_g (lw_at lw_m5 147 rfl) rfl
theorem q1182 : (Jvm.Cond.constantLong "PointLedgerModel" (149 : Nat) (4294967295 : Int64)) ∈ lw_all := lw_g (lw_at lw_m5 148 rfl) rfl
theorem q1183 : (Jvm.Cond.methodLink "PointLedgerModel" (190 : Nat) ({ cls := "PointLedgerModel", name := "find", desc := "(II)I" } : Jvm.MethodName)) ∈ lw_all := lw_g (lw_at lw_m5 149 rfl) rfl
theorem q1184 : (Jvm.Cond.privateMethod ({ cls := "PointLedgerModel", name := "find", desc := "(II)I" } : Jvm.MethodName)) ∈ lw_tbl := lw_at lw_m5 150 rfl
theorem q1185 : (Jvm.Cond.instanceMethod ({ cls := "PointLedgerModel", name := "find", desc := "(II)I" } : Jvm.MethodName)) ∈ lw_all := lw_g (lw_at lw_m5 151 rfl) rfl
theorem q1186 : (Jvm.Cond.code ({ cls := "PointLedgerModel", name := "find", desc := "(II)I" } : Jvm.MethodName) prog_14_method_23_code (5 : Nat) (Option.some Jvm.ClassFile.FieldType.int)) ∈ lw_all := lw_g (lw_at lw_m5 152 rfl) rfl
theorem q1187 : (Jvm.Cond.methodLink "PointLedgerModel" (183 : Nat) ({ cls := "PointLedgerModel", name := "isTaken", desc := "(II)Z" } : Jvm.MethodName)) ∈ lw_all := lw_g (lw_at lw_m5 153 rfl) rfl
theorem q1188 : (Jvm.Cond.privateMethod ({ cls := "PointLedgerModel", name := "isTaken", desc := "(II)Z" } : Jvm.MethodName)) ∈ lw_tbl := lw_at lw_m5 154 rfl
theorem q1189 : (Jvm.Cond.instanceMethod ({ cls := "PointLedgerModel", name := "isTaken", desc := "(II)Z" } : Jvm.MethodName)) ∈ lw_all := lw_g (lw_at lw_m5 155 rfl) rfl
theorem q1190 : (Jvm.Cond.code ({ cls := "PointLedgerModel", name := "isTaken", desc := "(II)Z" } : Jvm.MethodName) prog_14_method_21_code (5 : Nat) (Option.some Jvm.ClassFile.FieldType.boolean)) ∈ lw_all := lw_g (lw_at lw_m5 156 rfl) rfl
theorem q1191 : (Jvm.Cond.methodLink "PointLedgerModel" (180 : Nat) ({ cls := "PointLedgerModel", name := "isOf", desc := "(II)Z" } : Jvm.MethodName)) ∈ lw_all := lw_g (lw_at lw_m5 157 rfl) rfl
theorem q1192 : (Jvm.Cond.privateMethod ({ cls := "PointLedgerModel", name := "isOf", desc := "(II)Z" } : Jvm.MethodName)) ∈ lw_tbl := lw_at lw_m5 158 rfl
theorem q1193 : (Jvm.Cond.instanceMethod ({ cls := "PointLedgerModel", name := "isOf", desc := "(II)Z" } : Jvm.MethodName)) ∈ lw_all := lw_g (lw_at lw_m5 159 rfl) rfl
theorem q1194 : (Jvm.Cond.code ({ cls := "PointLedgerModel", name := "isOf", desc := "(II)Z" } : Jvm.MethodName) prog_14_method_22_code (3 : Nat) (Option.some Jvm.ClassFile.FieldType.boolean)) ∈ lw_all := lw_g (lw_at lw_m5 160 rfl) rfl
theorem q1195 : (Jvm.Cond.methodLink "PointLedgerModel" (194 : Nat) ({ cls := "PointLedgerModel", name := "writeChunk", desc := "(I)Z" } : Jvm.MethodName)) ∈ lw_all := lw_g (lw_at lw_m5 161 rfl) rfl
theorem q1196 : (Jvm.Cond.privateMethod ({ cls := "PointLedgerModel", name := "writeChunk", desc := "(I)Z" } : Jvm.MethodName)) ∈ lw_tbl := lw_at lw_m5 162 rfl
theorem q1197 : (Jvm.Cond.instanceMethod ({ cls := "PointLedgerModel", name := "writeChunk", desc := "(I)Z" } : Jvm.MethodName)) ∈ lw_all := lw_g (lw_at lw_m5 163 rfl) rfl
theorem q1198 : (Jvm.Cond.code ({ cls := "PointLedgerModel", name := "writeChunk", desc := "(I)Z" } : Jvm.MethodName) prog_14_method_26_code (5 : Nat) (Option.some Jvm.ClassFile.FieldType.boolean)) ∈ lw_all := lw_g (lw_at lw_m5 164 rfl) rfl
theorem q1199 : (Jvm.Cond.methodLink "PointLedgerModel" (200 : Nat) ({ cls := "PointLedgerModel", name := "index", desc := "(I)I" } : Jvm.MethodName)) ∈ lw_all := lw_g (lw_at lw_m5 165 rfl) rfl
theorem q1200 : (Jvm.Cond.privateMethod ({ cls := "PointLedgerModel", name := "index", desc := "(I)I" } : Jvm.MethodName)) ∈ lw_tbl := lw_at lw_m5 166 rfl
theorem q1201 : (Jvm.Cond.instanceMethod ({ cls := "PointLedgerModel", name := "index", desc := "(I)I" } : Jvm.MethodName)) ∈ lw_all := lw_g (lw_at lw_m5 167 rfl) rfl
theorem q1202 : (Jvm.Cond.code ({ cls := "PointLedgerModel", name := "index", desc := "(I)I" } : Jvm.MethodName) prog_14_method_24_code (2 : Nat) (Option.some Jvm.ClassFile.FieldType.int)) ∈ lw_all := lw_g (lw_at lw_m5 168 rfl) rfl
theorem q1203 : (Jvm.Cond.methodLink "PointLedgerModel" (203 : Nat) ({ cls := "PointLedgerModel", name := "writeIndex", desc := "(I)Z" } : Jvm.MethodName)) ∈ lw_all := lw_g (lw_at lw_m5 169 rfl) rfl
theorem q1204 : (Jvm.Cond.privateMethod ({ cls := "PointLedgerModel", name := "writeIndex", desc := "(I)Z" } : Jvm.MethodName)) ∈ lw_tbl := lw_at lw_m5 170 rfl
theorem q1205 : (Jvm.Cond.instanceMethod ({ cls := "PointLedgerModel", name := "writeIndex", desc := "(I)Z" } : Jvm.MethodName)) ∈ lw_all := lw_g (lw_at lw_m5 171 rfl) rfl
theorem q1206 : (Jvm.Cond.code ({ cls := "PointLedgerModel", name := "writeIndex", desc := "(I)Z" } : Jvm.MethodName) prog_14_method_27_code (8 : Nat) (Option.some Jvm.ClassFile.FieldType.boolean)) ∈ lw_all := lw_g (lw_at lw_m5 172 rfl) rfl
theorem q1207 : (Jvm.Cond.methodLink "PointLedgerModel" (206 : Nat) ({ cls := "PointLedgerModel", name := "sumOf", desc := "(I)J" } : Jvm.MethodName)) ∈ lw_all := lw_g (lw_at lw_m5 173 rfl) rfl
theorem q1208 : (Jvm.Cond.privateMethod ({ cls := "PointLedgerModel", name := "sumOf", desc := "(I)J" } : Jvm.MethodName)) ∈ lw_tbl := lw_at lw_m5 174 rfl
theorem q1209 : (Jvm.Cond.instanceMethod ({ cls := "PointLedgerModel", name := "sumOf", desc := "(I)J" } : Jvm.MethodName)) ∈ lw_all := lw_g (lw_at lw_m5 175 rfl) rfl
theorem q1210 : (Jvm.Cond.code ({ cls := "PointLedgerModel", name := "sumOf", desc := "(I)J" } : Jvm.MethodName) prog_14_method_32_code (5 : Nat) (Option.some Jvm.ClassFile.FieldType.long)) ∈ lw_all := lw_g (lw_at lw_m5 176 rfl) rfl
theorem q1211 : (Jvm.Cond.methodLink "PointLedgerModel" (209 : Nat) ({ cls := "PointLedgerModel", name := "firstTime", desc := "(I)I" } : Jvm.MethodName)) ∈ lw_all := lw_g (lw_at lw_m5 177 rfl) rfl
theorem q1212 : (Jvm.Cond.privateMethod ({ cls := "PointLedgerModel", name := "firstTime", desc := "(I)I" } : Jvm.MethodName)) ∈ lw_tbl := lw_at lw_m5 178 rfl
theorem q1213 : (Jvm.Cond.instanceMethod ({ cls := "PointLedgerModel", name := "firstTime", desc := "(I)I" } : Jvm.MethodName)) ∈ lw_all := lw_g (lw_at lw_m5 179 rfl) rfl
theorem q1214 : (Jvm.Cond.code ({ cls := "PointLedgerModel", name := "firstTime", desc := "(I)I" } : Jvm.MethodName) prog_14_method_28_code (2 : Nat) (Option.some Jvm.ClassFile.FieldType.int)) ∈ lw_all := lw_g (lw_at lw_m5 180 rfl) rfl
theorem q1215 : (Jvm.Cond.methodLink "PointLedgerModel" (212 : Nat) ({ cls := "PointLedgerModel", name := "lastTime", desc := "(I)I" } : Jvm.MethodName)) ∈ lw_all := lw_g (lw_at lw_m5 181 rfl) rfl
theorem q1216 : (Jvm.Cond.privateMethod ({ cls := "PointLedgerModel", name := "lastTime", desc := "(I)I" } : Jvm.MethodName)) ∈ lw_tbl := lw_at lw_m5 182 rfl
theorem q1217 : (Jvm.Cond.instanceMethod ({ cls := "PointLedgerModel", name := "lastTime", desc := "(I)I" } : Jvm.MethodName)) ∈ lw_all := lw_g (lw_at lw_m5 183 rfl) rfl
theorem q1218 : (Jvm.Cond.code ({ cls := "PointLedgerModel", name := "lastTime", desc := "(I)I" } : Jvm.MethodName) prog_14_method_29_code (2 : Nat) (Option.some Jvm.ClassFile.FieldType.int)) ∈ lw_all := lw_g (lw_at lw_m5 184 rfl) rfl
theorem q1219 : (Jvm.Cond.methodLink "PointLedgerModel" (215 : Nat) ({ cls := "PointLedgerModel", name := "leastOf", desc := "(I)I" } : Jvm.MethodName)) ∈ lw_all := lw_g (lw_at lw_m5 185 rfl) rfl
theorem q1220 : (Jvm.Cond.privateMethod ({ cls := "PointLedgerModel", name := "leastOf", desc := "(I)I" } : Jvm.MethodName)) ∈ lw_tbl := lw_at lw_m5 186 rfl
theorem q1221 : (Jvm.Cond.instanceMethod ({ cls := "PointLedgerModel", name := "leastOf", desc := "(I)I" } : Jvm.MethodName)) ∈ lw_all := lw_g (lw_at lw_m5 187 rfl) rfl
theorem q1222 : (Jvm.Cond.code ({ cls := "PointLedgerModel", name := "leastOf", desc := "(I)I" } : Jvm.MethodName) prog_14_method_30_code (4 : Nat) (Option.some Jvm.ClassFile.FieldType.int)) ∈ lw_all := lw_g (lw_at lw_m5 188 rfl) rfl
theorem q1223 : (Jvm.Cond.methodLink "PointLedgerModel" (218 : Nat) ({ cls := "PointLedgerModel", name := "greatestOf", desc := "(I)I" } : Jvm.MethodName)) ∈ lw_all := lw_g (lw_at lw_m5 189 rfl) rfl
theorem q1224 : (Jvm.Cond.privateMethod ({ cls := "PointLedgerModel", name := "greatestOf", desc := "(I)I" } : Jvm.MethodName)) ∈ lw_tbl := lw_at lw_m5 190 rfl
theorem q1225 : (Jvm.Cond.instanceMethod ({ cls := "PointLedgerModel", name := "greatestOf", desc := "(I)I" } : Jvm.MethodName)) ∈ lw_all := lw_g (lw_at lw_m5 191 rfl) rfl
theorem q1226 : (Jvm.Cond.code ({ cls := "PointLedgerModel", name := "greatestOf", desc := "(I)I" } : Jvm.MethodName) prog_14_method_31_code (4 : Nat) (Option.some Jvm.ClassFile.FieldType.int)) ∈ lw_all := lw_g (lw_at lw_m5 192 rfl) rfl
theorem q1228 : (Jvm.Cond.instanceMethod ({ cls := "PointLedgerModel", name := "compact", desc := "(I)I" } : Jvm.MethodName)) ∈ lw_all := lw_g (lw_at lw_m5 194 rfl) rfl
theorem q1229 : (Jvm.Cond.selects "PointLedgerModel" ({ cls := "PointLedgerModel", name := "compact", desc := "(I)I" } : Jvm.MethodName) ({ cls := "PointLedgerModel", name := "compact", desc := "(I)I" } : Jvm.MethodName)) ∈ lw_all := lw_g (lw_at lw_m5 195 rfl) rfl
theorem q1230 : (Jvm.Cond.code ({ cls := "PointLedgerModel", name := "compact", desc := "(I)I" } : Jvm.MethodName) prog_14_method_36_code (5 : Nat) (Option.some Jvm.ClassFile.FieldType.int)) ∈ lw_all := lw_g (lw_at lw_m5 196 rfl) rfl
theorem q1231 : (Jvm.Cond.methodLink "PointLedgerModel" (241 : Nat) ({ cls := "PointLedgerModel", name := "together", desc := "(I)I" } : Jvm.MethodName)) ∈ lw_all := lw_g (lw_at lw_m5 197 rfl) rfl
theorem q1232 : (Jvm.Cond.privateMethod ({ cls := "PointLedgerModel", name := "together", desc := "(I)I" } : Jvm.MethodName)) ∈ lw_tbl := lw_at lw_m5 198 rfl
theorem q1233 : (Jvm.Cond.instanceMethod ({ cls := "PointLedgerModel", name := "together", desc := "(I)I" } : Jvm.MethodName)) ∈ lw_all := lw_g (lw_at lw_m5 199 rfl) rfl
theorem q1234 : (Jvm.Cond.code ({ cls := "PointLedgerModel", name := "together", desc := "(I)I" } : Jvm.MethodName) prog_14_method_37_code (4 : Nat) (Option.some Jvm.ClassFile.FieldType.int)) ∈ lw_all := lw_g (lw_at lw_m5 200 rfl) rfl
theorem q1235 : (Jvm.Cond.methodLink "PointLedgerModel" (244 : Nat) ({ cls := "PointLedgerModel", name := "joined", desc := "(II)V" } : Jvm.MethodName)) ∈ lw_all := lw_g (lw_at lw_m5 201 rfl) rfl
theorem q1236 : (Jvm.Cond.privateMethod ({ cls := "PointLedgerModel", name := "joined", desc := "(II)V" } : Jvm.MethodName)) ∈ lw_tbl := lw_at lw_m5 202 rfl
theorem q1237 : (Jvm.Cond.instanceMethod ({ cls := "PointLedgerModel", name := "joined", desc := "(II)V" } : Jvm.MethodName)) ∈ lw_all := lw_g (lw_at lw_m5 203 rfl) rfl
theorem q1238 : (Jvm.Cond.code ({ cls := "PointLedgerModel", name := "joined", desc := "(II)V" } : Jvm.MethodName) prog_14_method_38_code (6 : Nat) (Option.none : Option Jvm.ClassFile.FieldType)) ∈ lw_all := lw_g (lw_at lw_m5 204 rfl) rfl
theorem q1240 : (Jvm.Cond.instanceMethod ({ cls := "PointLedgerModel", name := "expire", desc := "(I)I" } : Jvm.MethodName)) ∈ lw_all := lw_g (lw_at lw_m5 206 rfl) rfl
theorem q1241 : (Jvm.Cond.selects "PointLedgerModel" ({ cls := "PointLedgerModel", name := "expire", desc := "(I)I" } : Jvm.MethodName) ({ cls := "PointLedgerModel", name := "expire", desc := "(I)I" } : Jvm.MethodName)) ∈ lw_all := lw_g (lw_at lw_m5 207 rfl) rfl
theorem q1242 : (Jvm.Cond.code ({ cls := "PointLedgerModel", name := "expire", desc := "(I)I" } : Jvm.MethodName) prog_14_method_39_code (4 : Nat) (Option.some Jvm.ClassFile.FieldType.int)) ∈ lw_all := lw_g (lw_at lw_m5 208 rfl) rfl
theorem q1244 : (Jvm.Cond.instanceMethod ({ cls := "PointLedgerModel", name := "seek", desc := "(III)I" } : Jvm.MethodName)) ∈ lw_all := lw_g (lw_at lw_m5 210 rfl) rfl
theorem q1245 : (Jvm.Cond.selects "PointLedgerModel" ({ cls := "PointLedgerModel", name := "seek", desc := "(III)I" } : Jvm.MethodName) ({ cls := "PointLedgerModel", name := "seek", desc := "(III)I" } : Jvm.MethodName)) ∈ lw_all := lw_g (lw_at lw_m5 211 rfl) rfl
theorem q1246 : (Jvm.Cond.code ({ cls := "PointLedgerModel", name := "seek", desc := "(III)I" } : Jvm.MethodName) prog_14_method_48_code (4 : Nat) (Option.some Jvm.ClassFile.FieldType.int)) ∈ lw_all := lw_g (lw_at lw_m5 212 rfl) rfl
theorem q1247 : (Jvm.Cond.methodLink "PointLedgerModel" (291 : Nat) ({ cls := "PointLedgerModel", name := "ask", desc := "(IIIZ)V" } : Jvm.MethodName)) ∈ lw_all := lw_g (lw_at lw_m5 213 rfl) rfl
theorem q1248 : (Jvm.Cond.privateMethod ({ cls := "PointLedgerModel", name := "ask", desc := "(IIIZ)V" } : Jvm.MethodName)) ∈ lw_tbl := lw_at lw_m5 214 rfl
theorem q1249 : (Jvm.Cond.instanceMethod ({ cls := "PointLedgerModel", name := "ask", desc := "(IIIZ)V" } : Jvm.MethodName)) ∈ lw_all := lw_g (lw_at lw_m5 215 rfl) rfl
theorem q1250 : (Jvm.Cond.code ({ cls := "PointLedgerModel", name := "ask", desc := "(IIIZ)V" } : Jvm.MethodName) prog_14_method_41_code (8 : Nat) (Option.none : Option Jvm.ClassFile.FieldType)) ∈ lw_all := lw_g (lw_at lw_m5 216 rfl) rfl
theorem q1251 : (Jvm.Cond.methodLink "PointLedgerModel" (261 : Nat) ({ cls := "PointLedgerModel", name := "meet", desc := "(IIIIZ)V" } : Jvm.MethodName)) ∈ lw_all := lw_g (lw_at lw_m5 217 rfl) rfl
theorem q1252 : (Jvm.Cond.privateMethod ({ cls := "PointLedgerModel", name := "meet", desc := "(IIIIZ)V" } : Jvm.MethodName)) ∈ lw_tbl := lw_at lw_m5 218 rfl
theorem q1253 : (Jvm.Cond.instanceMethod ({ cls := "PointLedgerModel", name := "meet", desc := "(IIIIZ)V" } : Jvm.MethodName)) ∈ lw_all := lw_g (lw_at lw_m5 219 rfl) rfl
theorem q1254 : (Jvm.Cond.code ({ cls := "PointLedgerModel", name := "meet", desc := "(IIIIZ)V" } : Jvm.MethodName) prog_14_method_40_code (6 : Nat) (Option.none : Option Jvm.ClassFile.FieldType)) ∈ lw_all := lw_g (lw_at lw_m5 220 rfl) rfl
theorem q1255 : (Jvm.Cond.methodLink "PointLedgerModel" (265 : Nat) ({ cls := "PointLedgerModel", name := "lookAt", desc := "(III)V" } : Jvm.MethodName)) ∈ lw_all := lw_g (lw_at lw_m5 221 rfl) rfl
theorem q1256 : (Jvm.Cond.privateMethod ({ cls := "PointLedgerModel", name := "lookAt", desc := "(III)V" } : Jvm.MethodName)) ∈ lw_tbl := lw_at lw_m5 222 rfl
theorem q1257 : (Jvm.Cond.instanceMethod ({ cls := "PointLedgerModel", name := "lookAt", desc := "(III)V" } : Jvm.MethodName)) ∈ lw_all := lw_g (lw_at lw_m5 223 rfl) rfl
theorem q1258 : (Jvm.Cond.code ({ cls := "PointLedgerModel", name := "lookAt", desc := "(III)V" } : Jvm.MethodName) prog_14_method_42_code (8 : Nat) (Option.none : Option Jvm.ClassFile.FieldType)) ∈ lw_all := lw_g (lw_at lw_m5 224 rfl) rfl
theorem q1259 : (Jvm.Cond.methodLink "PointLedgerModel" (274 : Nat) ({ cls := "PointLedgerModel", name := "chunksOf", desc := "(I)I" } : Jvm.MethodName)) ∈ lw_all := lw_g (lw_at lw_m5 225 rfl) rfl
theorem q1260 : (Jvm.Cond.privateMethod ({ cls := "PointLedgerModel", name := "chunksOf", desc := "(I)I" } : Jvm.MethodName)) ∈ lw_tbl := lw_at lw_m5 226 rfl
theorem q1261 : (Jvm.Cond.instanceMethod ({ cls := "PointLedgerModel", name := "chunksOf", desc := "(I)I" } : Jvm.MethodName)) ∈ lw_all := lw_g (lw_at lw_m5 227 rfl) rfl
theorem q1262 : (Jvm.Cond.code ({ cls := "PointLedgerModel", name := "chunksOf", desc := "(I)I" } : Jvm.MethodName) prog_14_method_45_code (4 : Nat) (Option.some Jvm.ClassFile.FieldType.int)) ∈ lw_all := lw_g (lw_at lw_m5 228 rfl) rfl
theorem q1263 : (Jvm.Cond.methodLink "PointLedgerModel" (277 : Nat) ({ cls := "PointLedgerModel", name := "groupsOf", desc := "(I)I" } : Jvm.MethodName)) ∈ lw_all := lw_g (lw_at lw_m5 229 rfl) rfl
theorem q1264 : (Jvm.Cond.privateMethod ({ cls := "PointLedgerModel", name := "groupsOf", desc := "(I)I" } : Jvm.MethodName)) ∈ lw_tbl := lw_at lw_m5 230 rfl
theorem q1265 : (Jvm.Cond.instanceMethod ({ cls := "PointLedgerModel", name := "groupsOf", desc := "(I)I" } : Jvm.MethodName)) ∈ lw_all := lw_g (lw_at lw_m5 231 rfl) rfl
theorem q1266 : (Jvm.Cond.code ({ cls := "PointLedgerModel", name := "groupsOf", desc := "(I)I" } : Jvm.MethodName) prog_14_method_46_code (2 : Nat) (Option.some Jvm.ClassFile.FieldType.int)) ∈ lw_all := lw_g (lw_at lw_m5 232 rfl) rfl
theorem q1267 : (Jvm.Cond.methodLink "PointLedgerModel" (280 : Nat) ({ cls := "PointLedgerModel", name := "slot", desc := "(II)I" } : Jvm.MethodName)) ∈ lw_all := lw_g (lw_at lw_m5 233 rfl) rfl
theorem q1268 : (Jvm.Cond.privateMethod ({ cls := "PointLedgerModel", name := "slot", desc := "(II)I" } : Jvm.MethodName)) ∈ lw_tbl := lw_at lw_m5 234 rfl
theorem q1269 : (Jvm.Cond.instanceMethod ({ cls := "PointLedgerModel", name := "slot", desc := "(II)I" } : Jvm.MethodName)) ∈ lw_all := lw_g (lw_at lw_m5 235 rfl) rfl
theorem q1270 : (Jvm.Cond.code ({ cls := "PointLedgerModel", name := "slot", desc := "(II)I" } : Jvm.MethodName) prog_14_method_47_code (5 : Nat) (Option.some Jvm.ClassFile.FieldType.int)) ∈ lw_all := lw_g (lw_at lw_m5 236 rfl) rfl
theorem q1271 : (Jvm.Cond.methodLink "PointLedgerModel" (283 : Nat) ({ cls := "PointLedgerModel", name := "isPart", desc := "(IIII)Z" } : Jvm.MethodName)) ∈ lw_all := lw_g (lw_at lw_m5 237 rfl) rfl
theorem q1272 : (Jvm.Cond.static ({ cls := "PointLedgerModel", name := "isPart", desc := "(IIII)Z" } : Jvm.MethodName)) ∈ lw_all := lw_g (lw_at lw_m5 238 rfl) rfl
theorem q1273 : (Jvm.Cond.code ({ cls := "PointLedgerModel", name := "isPart", desc := "(IIII)Z" } : Jvm.MethodName) prog_14_method_44_code (6 : Nat) (Option.some Jvm.ClassFile.FieldType.boolean)) ∈ lw_all := lw_g (lw_at lw_m5 239 rfl) rfl
theorem q1274 : (Jvm.Cond.methodLink "PointLedgerModel" (287 : Nat) ({ cls := "PointLedgerModel", name := "lookInto", desc := "(IIIII)V" } : Jvm.MethodName)) ∈ lw_all := lw_g (lw_at lw_m6 0 rfl) rfl
theorem q1275 : (Jvm.Cond.privateMethod ({ cls := "PointLedgerModel", name := "lookInto", desc := "(IIIII)V" } : Jvm.MethodName)) ∈ lw_tbl := lw_at lw_m6 1 rfl
theorem q1276 : (Jvm.Cond.instanceMethod ({ cls := "PointLedgerModel", name := "lookInto", desc := "(IIIII)V" } : Jvm.MethodName)) ∈ lw_all := lw_g (lw_at lw_m6 2 rfl) rfl
theorem q1277 : (Jvm.Cond.code ({ cls := "PointLedgerModel", name := "lookInto", desc := "(IIIII)V" } : Jvm.MethodName) prog_14_method_43_code (7 : Nat) (Option.none : Option Jvm.ClassFile.FieldType)) ∈ lw_all := lw_g (lw_at lw_m6 3 rfl) rfl
theorem q1279 : (Jvm.Cond.instanceMethod ({ cls := "PointLedgerModel", name := "next", desc := "()Z" } : Jvm.MethodName)) ∈ lw_all := lw_g (lw_at lw_m6 5 rfl) rfl
theorem q1280 : (Jvm.Cond.selects "PointLedgerModel" ({ cls := "PointLedgerModel", name := "next", desc := "()Z" } : Jvm.MethodName) ({ cls := "PointLedgerModel", name := "next", desc := "()Z" } : Jvm.MethodName)) ∈ lw_all := lw_g (lw_at lw_m6 6 rfl) rfl
theorem q1281 : (Jvm.Cond.code ({ cls := "PointLedgerModel", name := "next", desc := "()Z" } : Jvm.MethodName) prog_14_method_49_code (1 : Nat) (Option.some Jvm.ClassFile.FieldType.boolean)) ∈ lw_all := lw_g (lw_at lw_m6 7 rfl) rfl
theorem q1283 : (Jvm.Cond.instanceMethod ({ cls := "PointLedgerModel", name := "curTime", desc := "()I" } : Jvm.MethodName)) ∈ lw_all := lw_g (lw_at lw_m6 9 rfl) rfl
theorem q1284 : (Jvm.Cond.selects "PointLedgerModel" ({ cls := "PointLedgerModel", name := "curTime", desc := "()I" } : Jvm.MethodName) ({ cls := "PointLedgerModel", name := "curTime", desc := "()I" } : Jvm.MethodName)) ∈ lw_all := lw_g (lw_at lw_m6 10 rfl) rfl
theorem q1285 : (Jvm.Cond.code ({ cls := "PointLedgerModel", name := "curTime", desc := "()I" } : Jvm.MethodName) prog_14_method_51_code (1 : Nat) (Option.some Jvm.ClassFile.FieldType.int)) ∈ lw_all := lw_g (lw_at lw_m6 11 rfl) rfl
theorem q1286 : (Jvm.Cond.methodLink "PointLedgerModel" (295 : Nat) ({ cls := "PointLedgerModel", name := "isAt", desc := "()Z" } : Jvm.MethodName)) ∈ lw_all := lw_g (lw_at lw_m6 12 rfl) rfl
theorem q1287 : (Jvm.Cond.privateMethod ({ cls := "PointLedgerModel", name := "isAt", desc := "()Z" } : Jvm.MethodName)) ∈ lw_tbl := lw_at lw_m6 13 rfl
theorem q1288 : (Jvm.Cond.instanceMethod ({ cls := "PointLedgerModel", name := "isAt", desc := "()Z" } : Jvm.MethodName)) ∈ lw_all := lw_g (lw_at lw_m6 14 rfl) rfl
theorem q1289 : (Jvm.Cond.code ({ cls := "PointLedgerModel", name := "isAt", desc := "()Z" } : Jvm.MethodName) prog_14_method_50_code (1 : Nat) (Option.some Jvm.ClassFile.FieldType.boolean)) ∈ lw_all := lw_g (lw_at lw_m6 15 rfl) rfl
theorem q1291 : (Jvm.Cond.instanceMethod ({ cls := "PointLedgerModel", name := "curVal", desc := "()I" } : Jvm.MethodName)) ∈ lw_all := lw_g (lw_at lw_m6 17 rfl) rfl
theorem q1292 : (Jvm.Cond.selects "PointLedgerModel" ({ cls := "PointLedgerModel", name := "curVal", desc := "()I" } : Jvm.MethodName) ({ cls := "PointLedgerModel", name := "curVal", desc := "()I" } : Jvm.MethodName)) ∈ lw_all := lw_g (lw_at lw_m6 18 rfl) rfl
theorem q1293 : (Jvm.Cond.code ({ cls := "PointLedgerModel", name := "curVal", desc := "()I" } : Jvm.MethodName) prog_14_method_52_code (1 : Nat) (Option.some Jvm.ClassFile.FieldType.int)) ∈ lw_all := lw_g (lw_at lw_m6 19 rfl) rfl
theorem q1295 : (Jvm.Cond.instanceMethod ({ cls := "PointLedgerModel", name := "aggCount", desc := "(III)I" } : Jvm.MethodName)) ∈ lw_all := lw_g (lw_at lw_m6 21 rfl) rfl
theorem q1296 : (Jvm.Cond.selects "PointLedgerModel" ({ cls := "PointLedgerModel", name := "aggCount", desc := "(III)I" } : Jvm.MethodName) ({ cls := "PointLedgerModel", name := "aggCount", desc := "(III)I" } : Jvm.MethodName)) ∈ lw_all := lw_g (lw_at lw_m6 22 rfl) rfl
theorem q1297 : (Jvm.Cond.code ({ cls := "PointLedgerModel", name := "aggCount", desc := "(III)I" } : Jvm.MethodName) prog_14_method_53_code (4 : Nat) (Option.some Jvm.ClassFile.FieldType.int)) ∈ lw_all := lw_g (lw_at lw_m6 23 rfl) rfl
theorem q1299 : (Jvm.Cond.instanceMethod ({ cls := "PointLedgerModel", name := "aggMin", desc := "(III)I" } : Jvm.MethodName)) ∈ lw_all := lw_g (lw_at lw_m6 25 rfl) rfl
theorem q1300 : (Jvm.Cond.selects "PointLedgerModel" ({ cls := "PointLedgerModel", name := "aggMin", desc := "(III)I" } : Jvm.MethodName) ({ cls := "PointLedgerModel", name := "aggMin", desc := "(III)I" } : Jvm.MethodName)) ∈ lw_all := lw_g (lw_at lw_m6 26 rfl) rfl
theorem q1301 : (Jvm.Cond.code ({ cls := "PointLedgerModel", name := "aggMin", desc := "(III)I" } : Jvm.MethodName) prog_14_method_55_code (4 : Nat) (Option.some Jvm.ClassFile.FieldType.int)) ∈ lw_all := lw_g (lw_at lw_m6 27 rfl) rfl
theorem q1302 : (Jvm.Cond.methodLink "PointLedgerModel" (299 : Nat) ({ cls := "PointLedgerModel", name := "asks", desc := "(III)Z" } : Jvm.MethodName)) ∈ lw_all := lw_g (lw_at lw_m6 28 rfl) rfl
theorem q1303 : (Jvm.Cond.privateMethod ({ cls := "PointLedgerModel", name := "asks", desc := "(III)Z" } : Jvm.MethodName)) ∈ lw_tbl := lw_at lw_m6 29 rfl
theorem q1304 : (Jvm.Cond.instanceMethod ({ cls := "PointLedgerModel", name := "asks", desc := "(III)Z" } : Jvm.MethodName)) ∈ lw_all := lw_g (lw_at lw_m6 30 rfl) rfl
theorem q1305 : (Jvm.Cond.code ({ cls := "PointLedgerModel", name := "asks", desc := "(III)Z" } : Jvm.MethodName) prog_14_method_54_code (4 : Nat) (Option.some Jvm.ClassFile.FieldType.boolean)) ∈ lw_all := lw_g (lw_at lw_m6 31 rfl) rfl
theorem q1307 : (Jvm.Cond.instanceMethod ({ cls := "PointLedgerModel", name := "aggMax", desc := "(III)I" } : Jvm.MethodName)) ∈ lw_all := lw_g (lw_at lw_m6 33 rfl) rfl
theorem q1308 : (Jvm.Cond.selects "PointLedgerModel" ({ cls := "PointLedgerModel", name := "aggMax", desc := "(III)I" } : Jvm.MethodName) ({ cls := "PointLedgerModel", name := "aggMax", desc := "(III)I" } : Jvm.MethodName)) ∈ lw_all := lw_g (lw_at lw_m6 34 rfl) rfl
theorem q1309 : (Jvm.Cond.code ({ cls := "PointLedgerModel", name := "aggMax", desc := "(III)I" } : Jvm.MethodName) prog_14_method_56_code (4 : Nat) (Option.some Jvm.ClassFile.FieldType.int)) ∈ lw_all := lw_g (lw_at lw_m6 35 rfl) rfl
theorem q1311 : (Jvm.Cond.instanceMethod ({ cls := "PointLedgerModel", name := "aggSum", desc := "(III)J" } : Jvm.MethodName)) ∈ lw_all := lw_g (lw_at lw_m6 37 rfl) rfl
theorem q1312 : (Jvm.Cond.selects "PointLedgerModel" ({ cls := "PointLedgerModel", name := "aggSum", desc := "(III)J" } : Jvm.MethodName) ({ cls := "PointLedgerModel", name := "aggSum", desc := "(III)J" } : Jvm.MethodName)) ∈ lw_all := lw_g (lw_at lw_m6 38 rfl) rfl
theorem q1313 : (Jvm.Cond.code ({ cls := "PointLedgerModel", name := "aggSum", desc := "(III)J" } : Jvm.MethodName) prog_14_method_57_code (4 : Nat) (Option.some Jvm.ClassFile.FieldType.long)) ∈ lw_all := lw_g (lw_at lw_m6 39 rfl) rfl
theorem q1315 : (Jvm.Cond.instanceMethod ({ cls := "PointLedgerModel", name := "crashAfter", desc := "(I)Z" } : Jvm.MethodName)) ∈ lw_all := lw_g (lw_at lw_m6 41 rfl) rfl
theorem q1316 : (Jvm.Cond.selects "PointLedgerModel" ({ cls := "PointLedgerModel", name := "crashAfter", desc := "(I)Z" } : Jvm.MethodName) ({ cls := "PointLedgerModel", name := "crashAfter", desc := "(I)Z" } : Jvm.MethodName)) ∈ lw_all := lw_g (lw_at lw_m6 42 rfl) rfl
theorem q1317 : (Jvm.Cond.code ({ cls := "PointLedgerModel", name := "crashAfter", desc := "(I)Z" } : Jvm.MethodName) prog_14_method_58_code (2 : Nat) (Option.some Jvm.ClassFile.FieldType.boolean)) ∈ lw_all := lw_g (lw_at lw_m6 43 rfl) rfl
theorem q1318 : (Jvm.Cond.constant "PointLedgerModel" (303 : Nat) (1000000 : Int32)) ∈ lw_all := lw_g (lw_at lw_m6 44 rfl) rfl
theorem q1320 : (Jvm.Cond.instanceMethod ({ cls := "PointLedgerModel", name := "recover", desc := "()I" } : Jvm.MethodName)) ∈ lw_all := lw_g (lw_at lw_m6 46 rfl) rfl
theorem q1321 : (Jvm.Cond.selects "PointLedgerModel" ({ cls := "PointLedgerModel", name := "recover", desc := "()I" } : Jvm.MethodName) ({ cls := "PointLedgerModel", name := "recover", desc := "()I" } : Jvm.MethodName)) ∈ lw_all := lw_g (lw_at lw_m6 47 rfl) rfl
theorem q1322 : (Jvm.Cond.code ({ cls := "PointLedgerModel", name := "recover", desc := "()I" } : Jvm.MethodName) prog_14_method_59_code (5 : Nat) (Option.some Jvm.ClassFile.FieldType.int)) ∈ lw_all := lw_g (lw_at lw_m6 48 rfl) rfl
theorem q1323 : (Jvm.Cond.methodLink "PointLedgerModel" (307 : Nat) ({ cls := "PointLedgerModel", name := "read", desc := "(I)V" } : Jvm.MethodName)) ∈ lw_all := lw_g (lw_at lw_m6 49 rfl) rfl
theorem q1324 : (Jvm.Cond.privateMethod ({ cls := "PointLedgerModel", name := "read", desc := "(I)V" } : Jvm.MethodName)) ∈ lw_tbl := lw_at lw_m6 50 rfl
theorem q1325 : (Jvm.Cond.instanceMethod ({ cls := "PointLedgerModel", name := "read", desc := "(I)V" } : Jvm.MethodName)) ∈ lw_all := lw_g (lw_at lw_m6 51 rfl) rfl
theorem q1326 : (Jvm.Cond.code ({ cls := "PointLedgerModel", name := "read", desc := "(I)V" } : Jvm.MethodName) prog_14_method_16_code (6 : Nat) (Option.none : Option Jvm.ClassFile.FieldType)) ∈ lw_all := lw_g (lw_at lw_m6 52 rfl) rfl
theorem q1327 : (Jvm.Cond.methodLink "PointLedgerModel" (166 : Nat) ({ cls := "PointLedgerModel", name := "takeStep", desc := "()J" } : Jvm.MethodName)) ∈ lw_all := lw_g (lw_at lw_m6 53 rfl) rfl
theorem q1328 : (Jvm.Cond.privateMethod ({ cls := "PointLedgerModel", name := "takeStep", desc := "()J" } : Jvm.MethodName)) ∈ lw_tbl := lw_at lw_m6 54 rfl
theorem q1329 : (Jvm.Cond.instanceMethod ({ cls := "PointLedgerModel", name := "takeStep", desc := "()J" } : Jvm.MethodName)) ∈ lw_all := lw_g (lw_at lw_m6 55 rfl) rfl
theorem q1330 : (Jvm.Cond.code ({ cls := "PointLedgerModel", name := "takeStep", desc := "()J" } : Jvm.MethodName) prog_14_method_14_code (1 : Nat) (Option.some Jvm.ClassFile.FieldType.long)) ∈ lw_all := lw_g (lw_at lw_m6 56 rfl) rfl
theorem q1331 : (Jvm.Cond.methodLink "PointLedgerModel" (162 : Nat) ({ cls := "PointLedgerModel", name := "take", desc := "(I)J" } : Jvm.MethodName)) ∈ lw_all := lw_g (lw_at lw_m6 57 rfl) rfl
theorem q1332 : (Jvm.Cond.privateMethod ({ cls := "PointLedgerModel", name := "take", desc := "(I)J" } : Jvm.MethodName)) ∈ lw_tbl := lw_at lw_m6 58 rfl
theorem q1333 : (Jvm.Cond.instanceMethod ({ cls := "PointLedgerModel", name := "take", desc := "(I)J" } : Jvm.MethodName)) ∈ lw_all := lw_g (lw_at lw_m6 59 rfl) rfl
theorem q1334 : (Jvm.Cond.code ({ cls := "PointLedgerModel", name := "take", desc := "(I)J" } : Jvm.MethodName) prog_14_method_13_code (5 : Nat) (Option.some Jvm.ClassFile.FieldType.long)) ∈ lw_all := lw_g (lw_at lw_m6 60 rfl) rfl
theorem q1335 : (Jvm.Cond.methodLink "PointLedgerModel" (170 : Nat) ({ cls := "PointLedgerModel", name := "takeValue", desc := "()I" } : Jvm.MethodName)) ∈ lw_all := lw_g (lw_at lw_m6 61 rfl) rfl
theorem q1336 : (Jvm.Cond.privateMethod ({ cls := "PointLedgerModel", name := "takeValue", desc := "()I" } : Jvm.MethodName)) ∈ lw_tbl := lw_at lw_m6 62 rfl
theorem q1337 : (Jvm.Cond.instanceMethod ({ cls := "PointLedgerModel", name := "takeValue", desc := "()I" } : Jvm.MethodName)) ∈ lw_all := lw_g (lw_at lw_m6 63 rfl) rfl
theorem q1338 : (Jvm.Cond.code ({ cls := "PointLedgerModel", name := "takeValue", desc := "()I" } : Jvm.MethodName) prog_14_method_15_code (4 : Nat) (Option.some Jvm.ClassFile.FieldType.int)) ∈ lw_all := lw_g (lw_at lw_m6 64 rfl) rfl
theorem q1340 : (Jvm.Cond.instanceMethod ({ cls := "PointLedgerModel", name := "cell", desc := "(I)I" } : Jvm.MethodName)) ∈ lw_all := lw_g (lw_at lw_m6 66 rfl) rfl
theorem q1341 : (Jvm.Cond.selects "PointLedgerModel" ({ cls := "PointLedgerModel", name := "cell", desc := "(I)I" } : Jvm.MethodName) ({ cls := "PointLedgerModel", name := "cell", desc := "(I)I" } : Jvm.MethodName)) ∈ lw_all := lw_g (lw_at lw_m6 67 rfl) rfl
theorem q1342 : (Jvm.Cond.code ({ cls := "PointLedgerModel", name := "cell", desc := "(I)I" } : Jvm.MethodName) prog_14_method_60_code (2 : Nat) (Option.some Jvm.ClassFile.FieldType.int)) ∈ lw_all := lw_g (lw_at lw_m6 68 rfl) rfl
theorem q1344 : (Jvm.Cond.instanceMethod ({ cls := "PointLedgerModel", name := "sizes", desc := "(II)I" } : Jvm.MethodName)) ∈ lw_all := lw_g (lw_at lw_m6 70 rfl) rfl
theorem q1345 : (Jvm.Cond.selects "PointLedgerModel" ({ cls := "PointLedgerModel", name := "sizes", desc := "(II)I" } : Jvm.MethodName) ({ cls := "PointLedgerModel", name := "sizes", desc := "(II)I" } : Jvm.MethodName)) ∈ lw_all := lw_g (lw_at lw_m6 71 rfl) rfl
theorem q1346 : (Jvm.Cond.code ({ cls := "PointLedgerModel", name := "sizes", desc := "(II)I" } : Jvm.MethodName) prog_14_method_61_code (5 : Nat) (Option.some Jvm.ClassFile.FieldType.int)) ∈ lw_all := lw_g (lw_at lw_m6 72 rfl) rfl
theorem q1348 : (Jvm.Cond.instanceMethod ({ cls := "PointLedgerModel", name := "chunk", desc := "(III)I" } : Jvm.MethodName)) ∈ lw_all := lw_g (lw_at lw_m6 74 rfl) rfl
theorem q1349 : (Jvm.Cond.selects "PointLedgerModel" ({ cls := "PointLedgerModel", name := "chunk", desc := "(III)I" } : Jvm.MethodName) ({ cls := "PointLedgerModel", name := "chunk", desc := "(III)I" } : Jvm.MethodName)) ∈ lw_all := lw_g (lw_at lw_m6 75 rfl) rfl
theorem q1350 : (Jvm.Cond.code ({ cls := "PointLedgerModel", name := "chunk", desc := "(III)I" } : Jvm.MethodName) prog_14_method_62_code (5 : Nat) (Option.some Jvm.ClassFile.FieldType.int)) ∈ lw_all := lw_g (lw_at lw_m6 76 rfl) rfl
theorem q1352 : (Jvm.Cond.instanceMethod ({ cls := "PointLedgerModel", name := "group", desc := "(III)I" } : Jvm.MethodName)) ∈ lw_all := lw_g (lw_at lw_m6 78 rfl) rfl
theorem q1353 : (Jvm.Cond.selects "PointLedgerModel" ({ cls := "PointLedgerModel", name := "group", desc := "(III)I" } : Jvm.MethodName) ({ cls := "PointLedgerModel", name := "group", desc := "(III)I" } : Jvm.MethodName)) ∈ lw_all := lw_g (lw_at lw_m6 79 rfl) rfl
theorem q1354 : (Jvm.Cond.code ({ cls := "PointLedgerModel", name := "group", desc := "(III)I" } : Jvm.MethodName) prog_14_method_63_code (10 : Nat) (Option.some Jvm.ClassFile.FieldType.int)) ∈ lw_all := lw_g (lw_at lw_m6 80 rfl) rfl
theorem q1356 : (Jvm.Cond.instanceMethod ({ cls := "PointLedgerModel", name := "look", desc := "(I)I" } : Jvm.MethodName)) ∈ lw_all := lw_g (lw_at lw_m6 82 rfl) rfl
theorem q1357 : (Jvm.Cond.selects "PointLedgerModel" ({ cls := "PointLedgerModel", name := "look", desc := "(I)I" } : Jvm.MethodName) ({ cls := "PointLedgerModel", name := "look", desc := "(I)I" } : Jvm.MethodName)) ∈ lw_all := lw_g (lw_at lw_m6 83 rfl) rfl
theorem q1358 : (Jvm.Cond.code ({ cls := "PointLedgerModel", name := "look", desc := "(I)I" } : Jvm.MethodName) prog_14_method_64_code (2 : Nat) (Option.some Jvm.ClassFile.FieldType.int)) ∈ lw_all := lw_g (lw_at lw_m6 84 rfl) rfl
theorem q1359 : (Jvm.Cond.methodLink "PointLedgerModel" (310 : Nat) ({ cls := "PointLedgerModel", name := "taken", desc := "()I" } : Jvm.MethodName)) ∈ lw_all := lw_g (lw_at lw_m6 85 rfl) rfl
theorem q1360 : (Jvm.Cond.privateMethod ({ cls := "PointLedgerModel", name := "taken", desc := "()I" } : Jvm.MethodName)) ∈ lw_tbl := lw_at lw_m6 86 rfl
theorem q1361 : (Jvm.Cond.instanceMethod ({ cls := "PointLedgerModel", name := "taken", desc := "()I" } : Jvm.MethodName)) ∈ lw_all := lw_g (lw_at lw_m6 87 rfl) rfl
theorem q1362 : (Jvm.Cond.code ({ cls := "PointLedgerModel", name := "taken", desc := "()I" } : Jvm.MethodName) prog_14_method_65_code (3 : Nat) (Option.some Jvm.ClassFile.FieldType.int)) ∈ lw_all := lw_g (lw_at lw_m6 88 rfl) rfl
theorem in_X12 : ∀ w ∈ wsX120, w ∈ lw_all := lw_in wsX120 [1017, 1019, 1021, 1023, 1025, 1027, 1029, 1031, 1033, 1035, 1037, 1039, 1041, 1043, 1045, 1047, 1049, 1051, 1053, 1055, 1057, 1059, 1061, 1063, 1065, 1067, 1069, 1071, 1073, 1075, 1077, 1079, 1081, 1083, 1085, 1087, 1089, 1091, 1093, 1095] (by decide +kernel) (by decide +kernel)
/-! java/lang/RuntimeException -/
def RJ3 : String := "java/lang/RuntimeException"
abbrev cJ3_init : ByteArray := prog_21_method_2_code
def yJ3_init : MethodName := ⟨RJ3, "<init>", "(Ljava/lang/String;)V"⟩
abbrev cJ3_init_2 : ByteArray := prog_21_method_1_code
def yJ3_init_2 : MethodName := ⟨RJ3, "<init>", "()V"⟩
theorem q90 : (Jvm.Cond.initialized "java/lang/RuntimeException") ∈ lw_all := lw_g (lw_at lw_m1 16 rfl) rfl
theorem q154 : (Jvm.Cond.sameMethod "java/lang/RuntimeException" "java/lang/Throwable" "fillInStackTrace" "()Ljava/lang/Throwable;") ∈ lw_all := lw_g (lw_at lw_m1 80 rfl) rfl
theorem q157 : (Jvm.Cond.superclass "java/lang/RuntimeException" "java/lang/Exception") ∈ lw_all := lw_g (lw_at lw_m1 83 rfl) rfl
theorem q564 : (Jvm.Cond.instanceMethod ({ cls := "java/lang/RuntimeException", name := "<init>", desc := "(Ljava/lang/String;)V" } : Jvm.MethodName)) ∈ lw_all := lw_g (lw_at lw_m3 10 rfl) rfl
theorem q565 : (Jvm.Cond.code ({ cls := "java/lang/RuntimeException", name := "<init>", desc := "(Ljava/lang/String;)V" } : Jvm.MethodName) prog_21_method_2_code (2 : Nat) (Option.none : Option Jvm.ClassFile.FieldType)) ∈ lw_all := lw_g (lw_at lw_m3 11 rfl) rfl
theorem q566 : (Jvm.Cond.methodLink "java/lang/RuntimeException" (7 : Nat) ({ cls := "java/lang/Exception", name := "<init>", desc := "(Ljava/lang/String;)V" } : Jvm.MethodName)) ∈ lw_all := lw_g (lw_at lw_m3 12 rfl) rfl
theorem q582 : (Jvm.Cond.declares ({ cls := "java/lang/RuntimeException", name := "<init>", desc := "()V" } : Jvm.MethodName)) ∈ lw_tbl := lw_at lw_m3 28 rfl
theorem q583 : (Jvm.Cond.declares ({ cls := "java/lang/RuntimeException", name := "<init>", desc := "(Ljava/lang/String;)V" } : Jvm.MethodName)) ∈ lw_tbl := lw_at lw_m3 29 rfl
theorem q791 : (Jvm.Cond.instanceMethod ({ cls := "java/lang/RuntimeException", name := "<init>", desc := "()V" } : Jvm.MethodName)) ∈ lw_all := lw_g (lw_at lw_m3 237 rfl) rfl
theorem q792 : (Jvm.Cond.code ({ cls := "java/lang/RuntimeException", name := "<init>", desc := "()V" } : Jvm.MethodName) prog_21_method_1_code (1 : Nat) (Option.none : Option Jvm.ClassFile.FieldType)) ∈ lw_all := lw_g (lw_at lw_m3 238 rfl) rfl
theorem q793 : (Jvm.Cond.methodLink "java/lang/RuntimeException" (1 : Nat) ({ cls := "java/lang/Exception", name := "<init>", desc := "()V" } : Jvm.MethodName)) ∈ lw_all := lw_g (lw_at lw_m3 239 rfl) rfl
theorem q811 : (Jvm.Cond.castable "java/lang/RuntimeException" "java/lang/Throwable") ∈ lw_tbl := lw_at lw_m4 17 rfl
/-! java/lang/IndexOutOfBoundsException -/
def RJ4 : String := "java/lang/IndexOutOfBoundsException"
def TJ4 : u_T := fun k => match k with
  | 0 => ("java/lang/Throwable", "cause", "Ljava/lang/Throwable;", false)
  | 1 => ("java/lang/Throwable", "stackTrace", "[Ljava/lang/StackTraceElement;", false)
  | 2 => ("java/lang/Throwable", "suppressedExceptions", "Ljava/util/List;", false)
  | 3 => ("java/lang/Throwable", "detailMessage", "Ljava/lang/String;", false)
  | 4 => ("java/lang/Throwable", "backtrace", "Ljava/lang/Object;", false)
  | _ => ("java/lang/Throwable", "depth", "I", false)
def tyJ4 : Nat → FieldType := fun k => match k with
  | 0 => .object "java/lang/Throwable"
  | 1 => .array (.object "java/lang/StackTraceElement")
  | 2 => .object "java/util/List"
  | 3 => .object "java/lang/String"
  | 4 => .object "java/lang/Object"
  | _ => .int
abbrev wsJ40 : List Cond := u_ws RJ4 TJ4 6
theorem nmJ4 : ∀ a, a < 6 → ∀ b, b < 6 → a ≠ b → (TJ4 a).2.1 ≠ (TJ4 b).2.1 := by decide +kernel
theorem tyJ4_ok : ∀ k, k < 6 → parseFieldDescriptor (TJ4 k).2.2.1 = some (tyJ4 k) := by decide +kernel
abbrev cJ4_init : ByteArray := prog_18_method_2_code
def yJ4_init : MethodName := ⟨RJ4, "<init>", "(Ljava/lang/String;)V"⟩
abbrev cJ4_init_2 : ByteArray := prog_18_method_1_code
def yJ4_init_2 : MethodName := ⟨RJ4, "<init>", "()V"⟩
theorem q91 : (Jvm.Cond.initialized "java/lang/IndexOutOfBoundsException") ∈ lw_all := lw_g (lw_at lw_m1 17 rfl) rfl
theorem q144 : (Jvm.Cond.selects "java/lang/IndexOutOfBoundsException" ({ cls := "java/lang/Throwable", name := "fillInStackTrace", desc := "()Ljava/lang/Throwable;" } : Jvm.MethodName) ({ cls := "java/lang/Throwable", name := "fillInStackTrace", desc := "()Ljava/lang/Throwable;" } : Jvm.MethodName)) ∈ lw_all := lw_g (lw_at lw_m1 70 rfl) rfl
theorem q561 : (Jvm.Cond.instanceMethod ({ cls := "java/lang/IndexOutOfBoundsException", name := "<init>", desc := "(Ljava/lang/String;)V" } : Jvm.MethodName)) ∈ lw_all := lw_g (lw_at lw_m3 7 rfl) rfl
theorem q562 : (Jvm.Cond.code ({ cls := "java/lang/IndexOutOfBoundsException", name := "<init>", desc := "(Ljava/lang/String;)V" } : Jvm.MethodName) prog_18_method_2_code (2 : Nat) (Option.none : Option Jvm.ClassFile.FieldType)) ∈ lw_all := lw_g (lw_at lw_m3 8 rfl) rfl
theorem q563 : (Jvm.Cond.methodLink "java/lang/IndexOutOfBoundsException" (7 : Nat) ({ cls := "java/lang/RuntimeException", name := "<init>", desc := "(Ljava/lang/String;)V" } : Jvm.MethodName)) ∈ lw_all := lw_g (lw_at lw_m3 9 rfl) rfl
theorem q580 : (Jvm.Cond.declares ({ cls := "java/lang/IndexOutOfBoundsException", name := "<init>", desc := "()V" } : Jvm.MethodName)) ∈ lw_tbl := lw_at lw_m3 26 rfl
theorem q581 : (Jvm.Cond.declares ({ cls := "java/lang/IndexOutOfBoundsException", name := "<init>", desc := "(Ljava/lang/String;)V" } : Jvm.MethodName)) ∈ lw_tbl := lw_at lw_m3 27 rfl
theorem q893 : (Jvm.Cond.instantiable "java/lang/IndexOutOfBoundsException" (6 : Nat)) ∈ lw_all := lw_g (lw_at lw_m4 99 rfl) rfl
theorem q894 : (Jvm.Cond.castable "java/lang/IndexOutOfBoundsException" "java/lang/IndexOutOfBoundsException") ∈ lw_tbl := lw_at lw_m4 100 rfl
theorem q895 : (Jvm.Cond.selects "java/lang/IndexOutOfBoundsException" ({ cls := "java/lang/Throwable", name := "fillInStackTrace", desc := "(I)Ljava/lang/Throwable;" } : Jvm.MethodName) ({ cls := "java/lang/Throwable", name := "fillInStackTrace", desc := "(I)Ljava/lang/Throwable;" } : Jvm.MethodName)) ∈ lw_all := lw_g (lw_at lw_m4 101 rfl) rfl
theorem q896 : (Jvm.Cond.lays "java/lang/IndexOutOfBoundsException" "java/lang/Throwable" "cause" "Ljava/lang/Throwable;") ∈ lw_all := lw_g (lw_at lw_m4 102 rfl) rfl
theorem q897 : (Jvm.Cond.lays "java/lang/IndexOutOfBoundsException" "java/lang/Throwable" "stackTrace" "[Ljava/lang/StackTraceElement;") ∈ lw_all := lw_g (lw_at lw_m4 103 rfl) rfl
theorem q898 : (Jvm.Cond.lays "java/lang/IndexOutOfBoundsException" "java/lang/Throwable" "suppressedExceptions" "Ljava/util/List;") ∈ lw_all := lw_g (lw_at lw_m4 104 rfl) rfl
theorem q899 : (Jvm.Cond.lays "java/lang/IndexOutOfBoundsException" "java/lang/Throwable" "detailMessage" "Ljava/lang/String;") ∈ lw_all := lw_g (lw_at lw_m4 105 rfl) rfl
theorem q900 : (Jvm.Cond.lays "java/lang/IndexOutOfBoundsException" "java/lang/Throwable" "backtrace" "Ljava/lang/Object;") ∈ lw_all := lw_g (lw_at lw_m4 106 rfl) rfl
theorem q902 : (Jvm.Cond.instanceMethod ({ cls := "java/lang/IndexOutOfBoundsException", name := "<init>", desc := "()V" } : Jvm.MethodName)) ∈ lw_all := lw_g (lw_at lw_m4 108 rfl) rfl
theorem q903 : (Jvm.Cond.code ({ cls := "java/lang/IndexOutOfBoundsException", name := "<init>", desc := "()V" } : Jvm.MethodName) prog_18_method_1_code (1 : Nat) (Option.none : Option Jvm.ClassFile.FieldType)) ∈ lw_all := lw_g (lw_at lw_m4 109 rfl) rfl
theorem q904 : (Jvm.Cond.methodLink "java/lang/IndexOutOfBoundsException" (1 : Nat) ({ cls := "java/lang/RuntimeException", name := "<init>", desc := "()V" } : Jvm.MethodName)) ∈ lw_all := lw_g (lw_at lw_m4 110 rfl) rfl
theorem q905 : (Jvm.Cond.lays "java/lang/IndexOutOfBoundsException" "java/lang/Throwable" "depth" "I") ∈ lw_all := lw_g (lw_at lw_m4 111 rfl) rfl
theorem q906 : (Jvm.Cond.superclass "java/lang/IndexOutOfBoundsException" "java/lang/RuntimeException") ∈ lw_all := lw_g (lw_at lw_m4 112 rfl) rfl
theorem in_J4 : ∀ w ∈ wsJ40, w ∈ lw_all := lw_in wsJ40 [896, 897, 898, 899, 900, 905] (by decide +kernel) (by decide +kernel)
/-! java/lang/ArrayIndexOutOfBoundsException -/
def RJ5 : String := "java/lang/ArrayIndexOutOfBoundsException"
def TJ5 : u_T := fun k => match k with
  | 0 => ("java/lang/Throwable", "backtrace", "Ljava/lang/Object;", false)
  | 1 => ("java/lang/Throwable", "detailMessage", "Ljava/lang/String;", false)
  | 2 => ("java/lang/Throwable", "cause", "Ljava/lang/Throwable;", false)
  | 3 => ("java/lang/Throwable", "stackTrace", "[Ljava/lang/StackTraceElement;", false)
  | 4 => ("java/lang/Throwable", "depth", "I", false)
  | _ => ("java/lang/Throwable", "suppressedExceptions", "Ljava/util/List;", false)
def tyJ5 : Nat → FieldType := fun k => match k with
  | 0 => .object "java/lang/Object"
  | 1 => .object "java/lang/String"
  | 2 => .object "java/lang/Throwable"
  | 3 => .array (.object "java/lang/StackTraceElement")
  | 4 => .int
  | _ => .object "java/util/List"
abbrev wsJ50 : List Cond := u_ws RJ5 TJ5 6
theorem nmJ5 : ∀ a, a < 6 → ∀ b, b < 6 → a ≠ b → (TJ5 a).2.1 ≠ (TJ5 b).2.1 := by decide +kernel
theorem tyJ5_ok : ∀ k, k < 6 → parseFieldDescriptor (TJ5 k).2.2.1 = some (tyJ5 k) := by decide +kernel
abbrev cJ5_init : ByteArray := prog_15_method_2_code
def yJ5_init : MethodName := ⟨RJ5, "<init>", "(Ljava/lang/String;)V"⟩
theorem q92 : (Jvm.Cond.initialized "java/lang/ArrayIndexOutOfBoundsException") ∈ lw_all := lw_g (lw_at lw_m1 18 rfl) rfl
theorem q142 : (Jvm.Cond.selects "java/lang/ArrayIndexOutOfBoundsException" ({ cls := "java/lang/Throwable", name := "fillInStackTrace", desc := "()Ljava/lang/Throwable;" } : Jvm.MethodName) ({ cls := "java/lang/Throwable", name := "fillInStackTrace", desc := "()Ljava/lang/Throwable;" } : Jvm.MethodName)) ∈ lw_all := lw_g (lw_at lw_m1 68 rfl) rfl
theorem q557 : (Jvm.Cond.instantiable "java/lang/ArrayIndexOutOfBoundsException" (6 : Nat)) ∈ lw_all := lw_g (lw_at lw_m3 3 rfl) rfl
theorem q558 : (Jvm.Cond.instanceMethod ({ cls := "java/lang/ArrayIndexOutOfBoundsException", name := "<init>", desc := "(Ljava/lang/String;)V" } : Jvm.MethodName)) ∈ lw_all := lw_g (lw_at lw_m3 4 rfl) rfl
theorem q559 : (Jvm.Cond.code ({ cls := "java/lang/ArrayIndexOutOfBoundsException", name := "<init>", desc := "(Ljava/lang/String;)V" } : Jvm.MethodName) prog_15_method_2_code (2 : Nat) (Option.none : Option Jvm.ClassFile.FieldType)) ∈ lw_all := lw_g (lw_at lw_m3 5 rfl) rfl
theorem q560 : (Jvm.Cond.methodLink "java/lang/ArrayIndexOutOfBoundsException" (7 : Nat) ({ cls := "java/lang/IndexOutOfBoundsException", name := "<init>", desc := "(Ljava/lang/String;)V" } : Jvm.MethodName)) ∈ lw_all := lw_g (lw_at lw_m3 6 rfl) rfl
theorem q572 : (Jvm.Cond.lays "java/lang/ArrayIndexOutOfBoundsException" "java/lang/Throwable" "backtrace" "Ljava/lang/Object;") ∈ lw_all := lw_g (lw_at lw_m3 18 rfl) rfl
theorem q573 : (Jvm.Cond.lays "java/lang/ArrayIndexOutOfBoundsException" "java/lang/Throwable" "detailMessage" "Ljava/lang/String;") ∈ lw_all := lw_g (lw_at lw_m3 19 rfl) rfl
theorem q574 : (Jvm.Cond.lays "java/lang/ArrayIndexOutOfBoundsException" "java/lang/Throwable" "cause" "Ljava/lang/Throwable;") ∈ lw_all := lw_g (lw_at lw_m3 20 rfl) rfl
theorem q575 : (Jvm.Cond.lays "java/lang/ArrayIndexOutOfBoundsException" "java/lang/Throwable" "stackTrace" "[Ljava/lang/StackTraceElement;") ∈ lw_all := lw_g (lw_at lw_m3 21 rfl) rfl
theorem q576 : (Jvm.Cond.lays "java/lang/ArrayIndexOutOfBoundsException" "java/lang/Throwable" "depth" "I") ∈ lw_all := lw_g (lw_at lw_m3 22 rfl) rfl
theorem q577 : (Jvm.Cond.lays "java/lang/ArrayIndexOutOfBoundsException" "java/lang/Throwable" "suppressedExceptions" "Ljava/util/List;") ∈ lw_all := lw_g (lw_at lw_m3 23 rfl) rfl
theorem q578 : (Jvm.Cond.superclass "java/lang/ArrayIndexOutOfBoundsException" "java/lang/IndexOutOfBoundsException") ∈ lw_all := lw_g (lw_at lw_m3 24 rfl) rfl
theorem q579 : (Jvm.Cond.castable "java/lang/ArrayIndexOutOfBoundsException" "java/lang/ArrayIndexOutOfBoundsException") ∈ lw_tbl := lw_at lw_m3 25 rfl
theorem q584 : (Jvm.Cond.selects "java/lang/ArrayIndexOutOfBoundsException" ({ cls := "java/lang/Throwable", name := "fillInStackTrace", desc := "(I)Ljava/lang/Throwable;" } : Jvm.MethodName) ({ cls := "java/lang/Throwable", name := "fillInStackTrace", desc := "(I)Ljava/lang/Throwable;" } : Jvm.MethodName)) ∈ lw_all := lw_g (lw_at lw_m3 30 rfl) rfl
theorem q1364 : (Jvm.Cond.castable "java/lang/ArrayIndexOutOfBoundsException" "java/lang/IndexOutOfBoundsException") ∈ lw_tbl := lw_at lw_m6 90 rfl
theorem in_J5 : ∀ w ∈ wsJ50, w ∈ lw_all := lw_in wsJ50 [572, 573, 574, 575, 576, 577] (by decide +kernel) (by decide +kernel)
/-! java/lang/String -/
def RJ6 : String := "java/lang/String"
def TJ6 : u_T := fun k => match k with
  | 0 => ("java/lang/String", "value", "[B", true)
  | _ => ("java/lang/String", "coder", "B", true)
def tyJ6 : Nat → FieldType := fun k => match k with
  | 0 => .array .byte
  | _ => .byte
abbrev wsJ60 : List Cond := u_ws RJ6 TJ6 2
theorem nmJ6 : ∀ a, a < 2 → ∀ b, b < 2 → a ≠ b → (TJ6 a).2.1 ≠ (TJ6 b).2.1 := by decide +kernel
theorem tyJ6_ok : ∀ k, k < 2 → parseFieldDescriptor (TJ6 k).2.2.1 = some (tyJ6 k) := by decide +kernel
theorem q93 : (Jvm.Cond.initialized "java/lang/String") ∈ lw_all := lw_g (lw_at lw_m1 19 rfl) rfl
theorem q585 : (Jvm.Cond.instantiable "java/lang/String" (4 : Nat)) ∈ lw_all := lw_g (lw_at lw_m3 31 rfl) rfl
theorem q586 : (Jvm.Cond.laysFinal "java/lang/String" "java/lang/String" "value" "[B") ∈ lw_all := lw_g (lw_at lw_m3 32 rfl) rfl
theorem q587 : (Jvm.Cond.soleField "java/lang/String" "value") ∈ lw_all := lw_g (lw_at lw_m3 33 rfl) rfl
theorem q588 : (Jvm.Cond.laysFinal "java/lang/String" "java/lang/String" "coder" "B") ∈ lw_all := lw_g (lw_at lw_m3 34 rfl) rfl
theorem q589 : (Jvm.Cond.soleField "java/lang/String" "coder") ∈ lw_all := lw_g (lw_at lw_m3 35 rfl) rfl
theorem in_J6 : ∀ w ∈ wsJ60, w ∈ lw_all := lw_in wsJ60 [586, 588] (by decide +kernel) (by decide +kernel)
/-! java/lang/NullPointerException -/
def RJ7 : String := "java/lang/NullPointerException"
def TJ7 : u_T := fun k => match k with
  | 0 => ("java/lang/Throwable", "backtrace", "Ljava/lang/Object;", false)
  | 1 => ("java/lang/Throwable", "detailMessage", "Ljava/lang/String;", false)
  | 2 => ("java/lang/Throwable", "cause", "Ljava/lang/Throwable;", false)
  | 3 => ("java/lang/Throwable", "stackTrace", "[Ljava/lang/StackTraceElement;", false)
  | 4 => ("java/lang/Throwable", "depth", "I", false)
  | 5 => ("java/lang/Throwable", "suppressedExceptions", "Ljava/util/List;", false)
  | 6 => ("java/lang/NullPointerException", "extendedMessageState", "I", false)
  | _ => ("java/lang/NullPointerException", "extendedMessage", "Ljava/lang/String;", false)
def tyJ7 : Nat → FieldType := fun k => match k with
  | 0 => .object "java/lang/Object"
  | 1 => .object "java/lang/String"
  | 2 => .object "java/lang/Throwable"
  | 3 => .array (.object "java/lang/StackTraceElement")
  | 4 => .int
  | 5 => .object "java/util/List"
  | 6 => .int
  | _ => .object "java/lang/String"
abbrev wsJ70 : List Cond := u_ws RJ7 TJ7 8
theorem nmJ7 : ∀ a, a < 8 → ∀ b, b < 8 → a ≠ b → (TJ7 a).2.1 ≠ (TJ7 b).2.1 := by decide +kernel
theorem tyJ7_ok : ∀ k, k < 8 → parseFieldDescriptor (TJ7 k).2.2.1 = some (tyJ7 k) := by decide +kernel
abbrev cJ7_init : ByteArray := prog_20_method_1_code
def yJ7_init : MethodName := ⟨RJ7, "<init>", "()V"⟩
theorem q94 : (Jvm.Cond.initialized "java/lang/NullPointerException") ∈ lw_all := lw_g (lw_at lw_m1 20 rfl) rfl
theorem q145 : (Jvm.Cond.selects "java/lang/NullPointerException" ({ cls := "java/lang/Throwable", name := "fillInStackTrace", desc := "()Ljava/lang/Throwable;" } : Jvm.MethodName) ({ cls := "java/lang/NullPointerException", name := "fillInStackTrace", desc := "()Ljava/lang/Throwable;" } : Jvm.MethodName)) ∈ lw_all := lw_g (lw_at lw_m1 71 rfl) rfl
theorem q146 : (Jvm.Cond.instanceMethod ({ cls := "java/lang/NullPointerException", name := "fillInStackTrace", desc := "()Ljava/lang/Throwable;" } : Jvm.MethodName)) ∈ lw_all := lw_g (lw_at lw_m1 72 rfl) rfl
theorem q147 : (Jvm.Cond.codeSync ({ cls := "java/lang/NullPointerException", name := "fillInStackTrace", desc := "()Ljava/lang/Throwable;" } : Jvm.MethodName) prog_20_method_3_code (1 : Nat) (Option.some (Jvm.ClassFile.FieldType.object "java/lang/Throwable"))) ∈ lw_all := lw_g (lw_at lw_m1 73 rfl) rfl
theorem q148 : (Jvm.Cond.methodLink "java/lang/NullPointerException" (16 : Nat) ({ cls := "java/lang/NullPointerException", name := "getExtendedNPEMessage", desc := "()Ljava/lang/String;" } : Jvm.MethodName)) ∈ lw_all := lw_g (lw_at lw_m1 74 rfl) rfl
theorem q149 : (Jvm.Cond.privateMethod ({ cls := "java/lang/NullPointerException", name := "getExtendedNPEMessage", desc := "()Ljava/lang/String;" } : Jvm.MethodName)) ∈ lw_tbl := lw_at lw_m1 75 rfl
theorem q150 : (Jvm.Cond.instanceMethod ({ cls := "java/lang/NullPointerException", name := "getExtendedNPEMessage", desc := "()Ljava/lang/String;" } : Jvm.MethodName)) ∈ lw_all := lw_g (lw_at lw_m1 76 rfl) rfl
theorem q151 : (Jvm.Cond.instantiable "java/lang/NullPointerException" (8 : Nat)) ∈ lw_all := lw_g (lw_at lw_m1 77 rfl) rfl
theorem q152 : (Jvm.Cond.native ({ cls := "java/lang/NullPointerException", name := "getExtendedNPEMessage", desc := "()Ljava/lang/String;" } : Jvm.MethodName)) ∈ lw_all := lw_g (lw_at lw_m1 78 rfl) rfl
theorem q153 : (Jvm.Cond.methodLink "java/lang/NullPointerException" (24 : Nat) ({ cls := "java/lang/RuntimeException", name := "fillInStackTrace", desc := "()Ljava/lang/Throwable;" } : Jvm.MethodName)) ∈ lw_all := lw_g (lw_at lw_m1 79 rfl) rfl
theorem q156 : (Jvm.Cond.superclass "java/lang/NullPointerException" "java/lang/RuntimeException") ∈ lw_all := lw_g (lw_at lw_m1 82 rfl) rfl
theorem q788 : (Jvm.Cond.instanceMethod ({ cls := "java/lang/NullPointerException", name := "<init>", desc := "()V" } : Jvm.MethodName)) ∈ lw_all := lw_g (lw_at lw_m3 234 rfl) rfl
theorem q789 : (Jvm.Cond.code ({ cls := "java/lang/NullPointerException", name := "<init>", desc := "()V" } : Jvm.MethodName) prog_20_method_1_code (1 : Nat) (Option.none : Option Jvm.ClassFile.FieldType)) ∈ lw_all := lw_g (lw_at lw_m3 235 rfl) rfl
theorem q790 : (Jvm.Cond.methodLink "java/lang/NullPointerException" (1 : Nat) ({ cls := "java/lang/RuntimeException", name := "<init>", desc := "()V" } : Jvm.MethodName)) ∈ lw_all := lw_g (lw_at lw_m3 236 rfl) rfl
theorem q797 : (Jvm.Cond.fieldLink "java/lang/NullPointerException" (10 : Nat) "java/lang/NullPointerException" "extendedMessageState" "I") ∈ lw_all := lw_g (lw_at lw_m4 3 rfl) rfl
theorem q798 : (Jvm.Cond.fieldLink "java/lang/NullPointerException" (20 : Nat) "java/lang/NullPointerException" "extendedMessage" "Ljava/lang/String;") ∈ lw_all := lw_g (lw_at lw_m4 4 rfl) rfl
theorem q799 : (Jvm.Cond.lays "java/lang/NullPointerException" "java/lang/NullPointerException" "extendedMessageState" "I") ∈ lw_all := lw_g (lw_at lw_m4 5 rfl) rfl
theorem q800 : (Jvm.Cond.soleField "java/lang/NullPointerException" "extendedMessageState") ∈ lw_all := lw_g (lw_at lw_m4 6 rfl) rfl
theorem q801 : (Jvm.Cond.lays "java/lang/NullPointerException" "java/lang/NullPointerException" "extendedMessage" "Ljava/lang/String;") ∈ lw_all := lw_g (lw_at lw_m4 7 rfl) rfl
theorem q802 : (Jvm.Cond.soleField "java/lang/NullPointerException" "extendedMessage") ∈ lw_all := lw_g (lw_at lw_m4 8 rfl) rfl
theorem q803 : (Jvm.Cond.lays "java/lang/NullPointerException" "java/lang/Throwable" "backtrace" "Ljava/lang/Object;") ∈ lw_all := lw_g (lw_at lw_m4 9 rfl) rfl
theorem q804 : (Jvm.Cond.lays "java/lang/NullPointerException" "java/lang/Throwable" "detailMessage" "Ljava/lang/String;") ∈ lw_all := lw_g (lw_at lw_m4 10 rfl) rfl
theorem q805 : (Jvm.Cond.lays "java/lang/NullPointerException" "java/lang/Throwable" "cause" "Ljava/lang/Throwable;") ∈ lw_all := lw_g (lw_at lw_m4 11 rfl) rfl
theorem q806 : (Jvm.Cond.lays "java/lang/NullPointerException" "java/lang/Throwable" "stackTrace" "[Ljava/lang/StackTraceElement;") ∈ lw_all := lw_g (lw_at lw_m4 12 rfl) rfl
theorem q807 : (Jvm.Cond.lays "java/lang/NullPointerException" "java/lang/Throwable" "depth" "I") ∈ lw_all := lw_g (lw_at lw_m4 13 rfl) rfl
theorem q808 : (Jvm.Cond.lays "java/lang/NullPointerException" "java/lang/Throwable" "suppressedExceptions" "Ljava/util/List;") ∈ lw_all := lw_g (lw_at lw_m4 14 rfl) rfl
theorem q809 : (Jvm.Cond.castable "java/lang/NullPointerException" "java/lang/NullPointerException") ∈ lw_tbl := lw_at lw_m4 15 rfl
theorem q810 : (Jvm.Cond.selects "java/lang/NullPointerException" ({ cls := "java/lang/Throwable", name := "fillInStackTrace", desc := "(I)Ljava/lang/Throwable;" } : Jvm.MethodName) ({ cls := "java/lang/Throwable", name := "fillInStackTrace", desc := "(I)Ljava/lang/Throwable;" } : Jvm.MethodName)) ∈ lw_all := lw_g (lw_at lw_m4 16 rfl) rfl
theorem in_J7 : ∀ w ∈ wsJ70, w ∈ lw_all := lw_in wsJ70 [803, 804, 805, 806, 807, 808, 799, 801] (by decide +kernel) (by decide +kernel)
/-! java/lang/IllegalStateException -/
def RJ8 : String := "java/lang/IllegalStateException"
def TJ8 : u_T := fun k => match k with
  | 0 => ("java/lang/Throwable", "cause", "Ljava/lang/Throwable;", false)
  | 1 => ("java/lang/Throwable", "stackTrace", "[Ljava/lang/StackTraceElement;", false)
  | 2 => ("java/lang/Throwable", "suppressedExceptions", "Ljava/util/List;", false)
  | 3 => ("java/lang/Throwable", "detailMessage", "Ljava/lang/String;", false)
  | 4 => ("java/lang/Throwable", "backtrace", "Ljava/lang/Object;", false)
  | _ => ("java/lang/Throwable", "depth", "I", false)
def tyJ8 : Nat → FieldType := fun k => match k with
  | 0 => .object "java/lang/Throwable"
  | 1 => .array (.object "java/lang/StackTraceElement")
  | 2 => .object "java/util/List"
  | 3 => .object "java/lang/String"
  | 4 => .object "java/lang/Object"
  | _ => .int
abbrev wsJ80 : List Cond := u_ws RJ8 TJ8 6
theorem nmJ8 : ∀ a, a < 6 → ∀ b, b < 6 → a ≠ b → (TJ8 a).2.1 ≠ (TJ8 b).2.1 := by decide +kernel
theorem tyJ8_ok : ∀ k, k < 6 → parseFieldDescriptor (TJ8 k).2.2.1 = some (tyJ8 k) := by decide +kernel
abbrev cJ8_init : ByteArray := prog_17_method_1_code
def yJ8_init : MethodName := ⟨RJ8, "<init>", "()V"⟩
theorem q95 : (Jvm.Cond.initialized "java/lang/IllegalStateException") ∈ lw_all := lw_g (lw_at lw_m1 21 rfl) rfl
theorem q143 : (Jvm.Cond.selects "java/lang/IllegalStateException" ({ cls := "java/lang/Throwable", name := "fillInStackTrace", desc := "()Ljava/lang/Throwable;" } : Jvm.MethodName) ({ cls := "java/lang/Throwable", name := "fillInStackTrace", desc := "()Ljava/lang/Throwable;" } : Jvm.MethodName)) ∈ lw_all := lw_g (lw_at lw_m1 69 rfl) rfl
theorem q878 : (Jvm.Cond.instantiable "java/lang/IllegalStateException" (6 : Nat)) ∈ lw_all := lw_g (lw_at lw_m4 84 rfl) rfl
theorem q879 : (Jvm.Cond.castable "java/lang/IllegalStateException" "java/lang/IllegalStateException") ∈ lw_tbl := lw_at lw_m4 85 rfl
theorem q880 : (Jvm.Cond.selects "java/lang/IllegalStateException" ({ cls := "java/lang/Throwable", name := "fillInStackTrace", desc := "(I)Ljava/lang/Throwable;" } : Jvm.MethodName) ({ cls := "java/lang/Throwable", name := "fillInStackTrace", desc := "(I)Ljava/lang/Throwable;" } : Jvm.MethodName)) ∈ lw_all := lw_g (lw_at lw_m4 86 rfl) rfl
theorem q881 : (Jvm.Cond.lays "java/lang/IllegalStateException" "java/lang/Throwable" "cause" "Ljava/lang/Throwable;") ∈ lw_all := lw_g (lw_at lw_m4 87 rfl) rfl
theorem q882 : (Jvm.Cond.lays "java/lang/IllegalStateException" "java/lang/Throwable" "stackTrace" "[Ljava/lang/StackTraceElement;") ∈ lw_all := lw_g (lw_at lw_m4 88 rfl) rfl
theorem q883 : (Jvm.Cond.lays "java/lang/IllegalStateException" "java/lang/Throwable" "suppressedExceptions" "Ljava/util/List;") ∈ lw_all := lw_g (lw_at lw_m4 89 rfl) rfl
theorem q884 : (Jvm.Cond.lays "java/lang/IllegalStateException" "java/lang/Throwable" "detailMessage" "Ljava/lang/String;") ∈ lw_all := lw_g (lw_at lw_m4 90 rfl) rfl
theorem q885 : (Jvm.Cond.lays "java/lang/IllegalStateException" "java/lang/Throwable" "backtrace" "Ljava/lang/Object;") ∈ lw_all := lw_g (lw_at lw_m4 91 rfl) rfl
theorem q887 : (Jvm.Cond.instanceMethod ({ cls := "java/lang/IllegalStateException", name := "<init>", desc := "()V" } : Jvm.MethodName)) ∈ lw_all := lw_g (lw_at lw_m4 93 rfl) rfl
theorem q888 : (Jvm.Cond.code ({ cls := "java/lang/IllegalStateException", name := "<init>", desc := "()V" } : Jvm.MethodName) prog_17_method_1_code (1 : Nat) (Option.none : Option Jvm.ClassFile.FieldType)) ∈ lw_all := lw_g (lw_at lw_m4 94 rfl) rfl
theorem q889 : (Jvm.Cond.methodLink "java/lang/IllegalStateException" (1 : Nat) ({ cls := "java/lang/RuntimeException", name := "<init>", desc := "()V" } : Jvm.MethodName)) ∈ lw_all := lw_g (lw_at lw_m4 95 rfl) rfl
theorem q890 : (Jvm.Cond.lays "java/lang/IllegalStateException" "java/lang/Throwable" "depth" "I") ∈ lw_all := lw_g (lw_at lw_m4 96 rfl) rfl
theorem q891 : (Jvm.Cond.superclass "java/lang/IllegalStateException" "java/lang/RuntimeException") ∈ lw_all := lw_g (lw_at lw_m4 97 rfl) rfl
theorem in_J8 : ∀ w ∈ wsJ80, w ∈ lw_all := lw_in wsJ80 [881, 882, 883, 884, 885, 890] (by decide +kernel) (by decide +kernel)
/-! java/util/NoSuchElementException -/
def RJ9 : String := "java/util/NoSuchElementException"
def TJ9 : u_T := fun k => match k with
  | 0 => ("java/lang/Throwable", "cause", "Ljava/lang/Throwable;", false)
  | 1 => ("java/lang/Throwable", "stackTrace", "[Ljava/lang/StackTraceElement;", false)
  | 2 => ("java/lang/Throwable", "suppressedExceptions", "Ljava/util/List;", false)
  | 3 => ("java/lang/Throwable", "detailMessage", "Ljava/lang/String;", false)
  | 4 => ("java/lang/Throwable", "backtrace", "Ljava/lang/Object;", false)
  | _ => ("java/lang/Throwable", "depth", "I", false)
def tyJ9 : Nat → FieldType := fun k => match k with
  | 0 => .object "java/lang/Throwable"
  | 1 => .array (.object "java/lang/StackTraceElement")
  | 2 => .object "java/util/List"
  | 3 => .object "java/lang/String"
  | 4 => .object "java/lang/Object"
  | _ => .int
abbrev wsJ90 : List Cond := u_ws RJ9 TJ9 6
theorem nmJ9 : ∀ a, a < 6 → ∀ b, b < 6 → a ≠ b → (TJ9 a).2.1 ≠ (TJ9 b).2.1 := by decide +kernel
theorem tyJ9_ok : ∀ k, k < 6 → parseFieldDescriptor (TJ9 k).2.2.1 = some (tyJ9 k) := by decide +kernel
abbrev cJ9_init : ByteArray := prog_24_method_1_code
def yJ9_init : MethodName := ⟨RJ9, "<init>", "()V"⟩
theorem q96 : (Jvm.Cond.initialized "java/util/NoSuchElementException") ∈ lw_all := lw_g (lw_at lw_m1 22 rfl) rfl
theorem q159 : (Jvm.Cond.selects "java/util/NoSuchElementException" ({ cls := "java/lang/Throwable", name := "fillInStackTrace", desc := "()Ljava/lang/Throwable;" } : Jvm.MethodName) ({ cls := "java/lang/Throwable", name := "fillInStackTrace", desc := "()Ljava/lang/Throwable;" } : Jvm.MethodName)) ∈ lw_all := lw_g (lw_at lw_m1 85 rfl) rfl
theorem q934 : (Jvm.Cond.instantiable "java/util/NoSuchElementException" (6 : Nat)) ∈ lw_all := lw_g (lw_at lw_m4 140 rfl) rfl
theorem q935 : (Jvm.Cond.castable "java/util/NoSuchElementException" "java/util/NoSuchElementException") ∈ lw_tbl := lw_at lw_m4 141 rfl
theorem q936 : (Jvm.Cond.selects "java/util/NoSuchElementException" ({ cls := "java/lang/Throwable", name := "fillInStackTrace", desc := "(I)Ljava/lang/Throwable;" } : Jvm.MethodName) ({ cls := "java/lang/Throwable", name := "fillInStackTrace", desc := "(I)Ljava/lang/Throwable;" } : Jvm.MethodName)) ∈ lw_all := lw_g (lw_at lw_m4 142 rfl) rfl
theorem q937 : (Jvm.Cond.lays "java/util/NoSuchElementException" "java/lang/Throwable" "cause" "Ljava/lang/Throwable;") ∈ lw_all := lw_g (lw_at lw_m4 143 rfl) rfl
theorem q938 : (Jvm.Cond.lays "java/util/NoSuchElementException" "java/lang/Throwable" "stackTrace" "[Ljava/lang/StackTraceElement;") ∈ lw_all := lw_g (lw_at lw_m4 144 rfl) rfl
theorem q939 : (Jvm.Cond.lays "java/util/NoSuchElementException" "java/lang/Throwable" "suppressedExceptions" "Ljava/util/List;") ∈ lw_all := lw_g (lw_at lw_m4 145 rfl) rfl
theorem q940 : (Jvm.Cond.lays "java/util/NoSuchElementException" "java/lang/Throwable" "detailMessage" "Ljava/lang/String;") ∈ lw_all := lw_g (lw_at lw_m4 146 rfl) rfl
theorem q941 : (Jvm.Cond.lays "java/util/NoSuchElementException" "java/lang/Throwable" "backtrace" "Ljava/lang/Object;") ∈ lw_all := lw_g (lw_at lw_m4 147 rfl) rfl
theorem q943 : (Jvm.Cond.instanceMethod ({ cls := "java/util/NoSuchElementException", name := "<init>", desc := "()V" } : Jvm.MethodName)) ∈ lw_all := lw_g (lw_at lw_m4 149 rfl) rfl
theorem q944 : (Jvm.Cond.code ({ cls := "java/util/NoSuchElementException", name := "<init>", desc := "()V" } : Jvm.MethodName) prog_24_method_1_code (1 : Nat) (Option.none : Option Jvm.ClassFile.FieldType)) ∈ lw_all := lw_g (lw_at lw_m4 150 rfl) rfl
theorem q945 : (Jvm.Cond.methodLink "java/util/NoSuchElementException" (1 : Nat) ({ cls := "java/lang/RuntimeException", name := "<init>", desc := "()V" } : Jvm.MethodName)) ∈ lw_all := lw_g (lw_at lw_m4 151 rfl) rfl
theorem q946 : (Jvm.Cond.lays "java/util/NoSuchElementException" "java/lang/Throwable" "depth" "I") ∈ lw_all := lw_g (lw_at lw_m4 152 rfl) rfl
theorem q947 : (Jvm.Cond.superclass "java/util/NoSuchElementException" "java/lang/RuntimeException") ∈ lw_all := lw_g (lw_at lw_m4 153 rfl) rfl
theorem in_J9 : ∀ w ∈ wsJ90, w ∈ lw_all := lw_in wsJ90 [937, 938, 939, 940, 941, 946] (by decide +kernel) (by decide +kernel)
/-! java/lang/Object -/
def RJ10 : String := "java/lang/Object"
abbrev cJ10_init : ByteArray := object_method_1_code
def yJ10_init : MethodName := ⟨RJ10, "<init>", "()V"⟩
theorem q103 : (Jvm.Cond.instanceMethod ({ cls := "java/lang/Object", name := "<init>", desc := "()V" } : Jvm.MethodName)) ∈ lw_all := lw_g (lw_at lw_m1 29 rfl) rfl
theorem q104 : (Jvm.Cond.code ({ cls := "java/lang/Object", name := "<init>", desc := "()V" } : Jvm.MethodName) object_method_1_code (1 : Nat) (Option.none : Option Jvm.ClassFile.FieldType)) ∈ lw_all := lw_g (lw_at lw_m1 30 rfl) rfl
/-! the law's own entry -/
abbrev cL_law : ByteArray := code
theorem q188 : (Jvm.Cond.arrayClass Jvm.ClassFile.FieldType.int) ∈ lw_all := lw_g (lw_at lw_m1 114 rfl) rfl
theorem q325 : (Jvm.Cond.arrayClass Jvm.ClassFile.FieldType.short) ∈ lw_all := lw_g (lw_at lw_m2 11 rfl) rfl
theorem q326 : (Jvm.Cond.arrayClass Jvm.ClassFile.FieldType.long) ∈ lw_all := lw_g (lw_at lw_m2 12 rfl) rfl
theorem q359 : (Jvm.Cond.arrayClass Jvm.ClassFile.FieldType.byte) ∈ lw_all := lw_g (lw_at lw_m2 45 rfl) rfl
theorem q360 : (Jvm.Cond.arrayClass Jvm.ClassFile.FieldType.char) ∈ lw_all := lw_g (lw_at lw_m2 46 rfl) rfl
theorem q402 : (Jvm.Cond.arrayClass Jvm.ClassFile.FieldType.boolean) ∈ lw_all := lw_g (lw_at lw_m2 88 rfl) rfl
theorem q436 : (Jvm.Cond.arrayOver (Jvm.ClassFile.FieldType.object "PointLedger$Head")) ∈ lw_tbl := lw_at lw_m2 122 rfl
