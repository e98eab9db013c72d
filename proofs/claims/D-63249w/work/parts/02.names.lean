set_option maxRecDepth 100000
/-! KeyHallLaw -/
def RX0 : String := "KeyHallLaw"
abbrev cX0_view : ByteArray := method_3_code
def yX0_view : MethodName := ⟨RX0, "view", "(LKeyHall;II[J)I"⟩
abbrev cX0_put : ByteArray := method_4_code
def yX0_put : MethodName := ⟨RX0, "put", "(LKeyHall;II[J)I"⟩
abbrev cX0_get : ByteArray := method_5_code
def yX0_get : MethodName := ⟨RX0, "get", "(LKeyHall;I[J)I"⟩
abbrev cX0_remove : ByteArray := method_6_code
def yX0_remove : MethodName := ⟨RX0, "remove", "(LKeyHall;I[J)I"⟩
abbrev cX0_find : ByteArray := method_7_code
def yX0_find : MethodName := ⟨RX0, "find", "(LKeyHall;II[J)I"⟩
abbrev cX0_at : ByteArray := method_8_code
def yX0_at : MethodName := ⟨RX0, "at", "(LKeyHall;II[J)I"⟩
abbrev cX0_poll : ByteArray := method_9_code
def yX0_poll : MethodName := ⟨RX0, "poll", "(LKeyHall;IZ[J)I"⟩
abbrev cX0_next : ByteArray := method_10_code
def yX0_next : MethodName := ⟨RX0, "next", "(LKeyHall;I[J)I"⟩
abbrev cX0_drop : ByteArray := method_11_code
def yX0_drop : MethodName := ⟨RX0, "drop", "(LKeyHall;I[J)I"⟩
abbrev cX0_match : ByteArray := method_12_code
def yX0_match : MethodName := ⟨RX0, "match", "(LKeyHall;II[J)I"⟩
abbrev cX0_edges : ByteArray := method_13_code
def yX0_edges : MethodName := ⟨RX0, "edges", "(LKeyHall;I[J)I"⟩
abbrev cX0_freeze : ByteArray := method_14_code
def yX0_freeze : MethodName := ⟨RX0, "freeze", "(LKeyHall;I[J)I"⟩
abbrev cX0_insert : ByteArray := method_15_code
def yX0_insert : MethodName := ⟨RX0, "insert", "(LKeyHall;I[J)I"⟩
abbrev cX0_delete : ByteArray := method_16_code
def yX0_delete : MethodName := ⟨RX0, "delete", "(LKeyHall;II[J)I"⟩
theorem q57 : (Jvm.Cond.initialized "KeyHallLaw") ∈ lw_all := lw_g (lw_at lw_m1 0 rfl) rfl
theorem q87 : (Jvm.Cond.classLink "KeyHallLaw" (8 : Nat) "KeyHall") ∈ lw_all := lw_g (lw_at lw_m1 30 rfl) rfl
theorem q89 : (Jvm.Cond.methodLink "KeyHallLaw" (62 : Nat) ({ cls := "KeyHall", name := "<init>", desc := "()V" } : Jvm.MethodName)) ∈ lw_all := lw_g (lw_at lw_m1 32 rfl) rfl
theorem q378 : (Jvm.Cond.methodLink "KeyHallLaw" (68 : Nat) ({ cls := "KeyHall", name := "type", desc := "(JI)Z" } : Jvm.MethodName)) ∈ lw_all := lw_g (lw_at lw_m2 81 rfl) rfl
theorem q382 : (Jvm.Cond.methodLink "KeyHallLaw" (93 : Nat) ({ cls := "KeyHall", name := "size", desc := "(I)I" } : Jvm.MethodName)) ∈ lw_all := lw_g (lw_at lw_m2 85 rfl) rfl
theorem q519 : (Jvm.Cond.methodLink "KeyHallLaw" (107 : Nat) ({ cls := "KeyHall", name := "found", desc := "(I)I" } : Jvm.MethodName)) ∈ lw_all := lw_g (lw_at lw_m2 222 rfl) rfl
theorem q523 : (Jvm.Cond.methodLink "KeyHallLaw" (111 : Nat) ({ cls := "KeyHall", name := "iterate", desc := "(I)Z" } : Jvm.MethodName)) ∈ lw_all := lw_g (lw_at lw_m2 226 rfl) rfl
theorem q531 : (Jvm.Cond.methodLink "KeyHallLaw" (131 : Nat) ({ cls := "KeyHall", name := "automaton", desc := "(I)I" } : Jvm.MethodName)) ∈ lw_all := lw_g (lw_at lw_m2 234 rfl) rfl
theorem q557 : (Jvm.Cond.methodLink "KeyHallLaw" (141 : Nat) ({ cls := "KeyHall", name := "undo", desc := "()I" } : Jvm.MethodName)) ∈ lw_all := lw_g (lw_at lw_m3 20 rfl) rfl
theorem q569 : (Jvm.Cond.methodLink "KeyHallLaw" (145 : Nat) ({ cls := "KeyHall", name := "letter", desc := "(I)I" } : Jvm.MethodName)) ∈ lw_all := lw_g (lw_at lw_m3 32 rfl) rfl
theorem q583 : (Jvm.Cond.methodLink "KeyHallLaw" (149 : Nat) ({ cls := "KeyHall", name := "suffix", desc := "(II)I" } : Jvm.MethodName)) ∈ lw_all := lw_g (lw_at lw_m3 46 rfl) rfl
theorem q607 : (Jvm.Cond.methodLink "KeyHallLaw" (153 : Nat) ({ cls := "KeyHall", name := "locate", desc := "(I)I" } : Jvm.MethodName)) ∈ lw_all := lw_g (lw_at lw_m3 70 rfl) rfl
theorem q620 : (Jvm.Cond.methodLink "KeyHallLaw" (73 : Nat) ({ cls := "KeyHallLaw", name := "view", desc := "(LKeyHall;II[J)I" } : Jvm.MethodName)) ∈ lw_all := lw_g (lw_at lw_m3 83 rfl) rfl
theorem q621 : (Jvm.Cond.static ({ cls := "KeyHallLaw", name := "view", desc := "(LKeyHall;II[J)I" } : Jvm.MethodName)) ∈ lw_all := lw_g (lw_at lw_m3 84 rfl) rfl
theorem q622 : (Jvm.Cond.codeWith ({ cls := "KeyHallLaw", name := "view", desc := "(LKeyHall;II[J)I" } : Jvm.MethodName) method_3_code (5 : Nat) (Option.some Jvm.ClassFile.FieldType.int) [((0 : Nat), (10 : Nat), (13 : Nat), (13 : Nat))]) ∈ lw_all := lw_g (lw_at lw_m3 85 rfl) rfl
theorem q623 : (Jvm.Cond.classLink "KeyHallLaw" (13 : Nat) "java/lang/IndexOutOfBoundsException") ∈ lw_all := lw_g (lw_at lw_m3 86 rfl) rfl
theorem q701 : (Jvm.Cond.methodLink "KeyHallLaw" (7 : Nat) ({ cls := "KeyHall", name := "view", desc := "(II)I" } : Jvm.MethodName)) ∈ lw_all := lw_g (lw_at lw_m3 164 rfl) rfl
theorem q749 : (Jvm.Cond.methodLink "KeyHallLaw" (83 : Nat) ({ cls := "KeyHallLaw", name := "put", desc := "(LKeyHall;II[J)I" } : Jvm.MethodName)) ∈ lw_all := lw_g (lw_at lw_m3 212 rfl) rfl
theorem q750 : (Jvm.Cond.static ({ cls := "KeyHallLaw", name := "put", desc := "(LKeyHall;II[J)I" } : Jvm.MethodName)) ∈ lw_all := lw_g (lw_at lw_m3 213 rfl) rfl
theorem q751 : (Jvm.Cond.codeWith ({ cls := "KeyHallLaw", name := "put", desc := "(LKeyHall;II[J)I" } : Jvm.MethodName) method_4_code (5 : Nat) (Option.some Jvm.ClassFile.FieldType.int) [((0 : Nat), (10 : Nat), (13 : Nat), (13 : Nat)), ((0 : Nat), (10 : Nat), (17 : Nat), (18 : Nat)), ((0 : Nat), (10 : Nat), (21 : Nat), (20 : Nat))]) ∈ lw_all := lw_g (lw_at lw_m3 214 rfl) rfl
theorem q752 : (Jvm.Cond.classLink "KeyHallLaw" (18 : Nat) "java/lang/IllegalArgumentException") ∈ lw_all := lw_g (lw_at lw_m3 215 rfl) rfl
theorem q753 : (Jvm.Cond.classLink "KeyHallLaw" (20 : Nat) "java/lang/IllegalStateException") ∈ lw_all := lw_g (lw_at lw_m3 216 rfl) rfl
theorem q754 : (Jvm.Cond.methodLink "KeyHallLaw" (15 : Nat) ({ cls := "KeyHall", name := "put", desc := "(II)I" } : Jvm.MethodName)) ∈ lw_all := lw_g (lw_at lw_m3 217 rfl) rfl
theorem q961 : (Jvm.Cond.methodLink "KeyHallLaw" (86 : Nat) ({ cls := "KeyHallLaw", name := "get", desc := "(LKeyHall;I[J)I" } : Jvm.MethodName)) ∈ lw_all := lw_g (lw_at lw_m4 184 rfl) rfl
theorem q962 : (Jvm.Cond.static ({ cls := "KeyHallLaw", name := "get", desc := "(LKeyHall;I[J)I" } : Jvm.MethodName)) ∈ lw_all := lw_g (lw_at lw_m4 185 rfl) rfl
theorem q963 : (Jvm.Cond.codeWith ({ cls := "KeyHallLaw", name := "get", desc := "(LKeyHall;I[J)I" } : Jvm.MethodName) method_5_code (4 : Nat) (Option.some Jvm.ClassFile.FieldType.int) [((0 : Nat), (9 : Nat), (12 : Nat), (13 : Nat))]) ∈ lw_all := lw_g (lw_at lw_m4 186 rfl) rfl
theorem q964 : (Jvm.Cond.methodLink "KeyHallLaw" (22 : Nat) ({ cls := "KeyHall", name := "get", desc := "(I)I" } : Jvm.MethodName)) ∈ lw_all := lw_g (lw_at lw_m4 187 rfl) rfl
theorem q972 : (Jvm.Cond.methodLink "KeyHallLaw" (90 : Nat) ({ cls := "KeyHallLaw", name := "remove", desc := "(LKeyHall;I[J)I" } : Jvm.MethodName)) ∈ lw_all := lw_g (lw_at lw_m4 195 rfl) rfl
theorem q973 : (Jvm.Cond.static ({ cls := "KeyHallLaw", name := "remove", desc := "(LKeyHall;I[J)I" } : Jvm.MethodName)) ∈ lw_all := lw_g (lw_at lw_m4 196 rfl) rfl
theorem q974 : (Jvm.Cond.codeWith ({ cls := "KeyHallLaw", name := "remove", desc := "(LKeyHall;I[J)I" } : Jvm.MethodName) method_6_code (4 : Nat) (Option.some Jvm.ClassFile.FieldType.int) [((0 : Nat), (9 : Nat), (12 : Nat), (13 : Nat))]) ∈ lw_all := lw_g (lw_at lw_m4 197 rfl) rfl
theorem q975 : (Jvm.Cond.methodLink "KeyHallLaw" (26 : Nat) ({ cls := "KeyHall", name := "remove", desc := "(I)I" } : Jvm.MethodName)) ∈ lw_all := lw_g (lw_at lw_m4 198 rfl) rfl
theorem q1025 : (Jvm.Cond.methodLink "KeyHallLaw" (97 : Nat) ({ cls := "KeyHallLaw", name := "find", desc := "(LKeyHall;II[J)I" } : Jvm.MethodName)) ∈ lw_all := lw_g (lw_at lw_m5 8 rfl) rfl
theorem q1026 : (Jvm.Cond.static ({ cls := "KeyHallLaw", name := "find", desc := "(LKeyHall;II[J)I" } : Jvm.MethodName)) ∈ lw_all := lw_g (lw_at lw_m5 9 rfl) rfl
theorem q1027 : (Jvm.Cond.codeWith ({ cls := "KeyHallLaw", name := "find", desc := "(LKeyHall;II[J)I" } : Jvm.MethodName) method_7_code (5 : Nat) (Option.some Jvm.ClassFile.FieldType.int) [((0 : Nat), (10 : Nat), (13 : Nat), (13 : Nat)), ((0 : Nat), (10 : Nat), (17 : Nat), (32 : Nat))]) ∈ lw_all := lw_g (lw_at lw_m5 10 rfl) rfl
theorem q1028 : (Jvm.Cond.classLink "KeyHallLaw" (32 : Nat) "java/util/NoSuchElementException") ∈ lw_all := lw_g (lw_at lw_m5 11 rfl) rfl
theorem q1029 : (Jvm.Cond.methodLink "KeyHallLaw" (29 : Nat) ({ cls := "KeyHall", name := "find", desc := "(II)I" } : Jvm.MethodName)) ∈ lw_all := lw_g (lw_at lw_m5 12 rfl) rfl
theorem q1103 : (Jvm.Cond.methodLink "KeyHallLaw" (100 : Nat) ({ cls := "KeyHallLaw", name := "at", desc := "(LKeyHall;II[J)I" } : Jvm.MethodName)) ∈ lw_all := lw_g (lw_at lw_m5 86 rfl) rfl
theorem q1104 : (Jvm.Cond.static ({ cls := "KeyHallLaw", name := "at", desc := "(LKeyHall;II[J)I" } : Jvm.MethodName)) ∈ lw_all := lw_g (lw_at lw_m5 87 rfl) rfl
theorem q1105 : (Jvm.Cond.codeWith ({ cls := "KeyHallLaw", name := "at", desc := "(LKeyHall;II[J)I" } : Jvm.MethodName) method_8_code (5 : Nat) (Option.some Jvm.ClassFile.FieldType.int) [((0 : Nat), (10 : Nat), (13 : Nat), (13 : Nat)), ((0 : Nat), (10 : Nat), (17 : Nat), (32 : Nat))]) ∈ lw_all := lw_g (lw_at lw_m5 88 rfl) rfl
theorem q1106 : (Jvm.Cond.methodLink "KeyHallLaw" (34 : Nat) ({ cls := "KeyHall", name := "at", desc := "(II)I" } : Jvm.MethodName)) ∈ lw_all := lw_g (lw_at lw_m5 89 rfl) rfl
theorem q1110 : (Jvm.Cond.methodLink "KeyHallLaw" (103 : Nat) ({ cls := "KeyHallLaw", name := "poll", desc := "(LKeyHall;IZ[J)I" } : Jvm.MethodName)) ∈ lw_all := lw_g (lw_at lw_m5 93 rfl) rfl
theorem q1111 : (Jvm.Cond.static ({ cls := "KeyHallLaw", name := "poll", desc := "(LKeyHall;IZ[J)I" } : Jvm.MethodName)) ∈ lw_all := lw_g (lw_at lw_m5 94 rfl) rfl
theorem q1112 : (Jvm.Cond.codeWith ({ cls := "KeyHallLaw", name := "poll", desc := "(LKeyHall;IZ[J)I" } : Jvm.MethodName) method_9_code (5 : Nat) (Option.some Jvm.ClassFile.FieldType.int) [((0 : Nat), (10 : Nat), (13 : Nat), (13 : Nat)), ((0 : Nat), (10 : Nat), (17 : Nat), (32 : Nat))]) ∈ lw_all := lw_g (lw_at lw_m5 95 rfl) rfl
theorem q1113 : (Jvm.Cond.methodLink "KeyHallLaw" (37 : Nat) ({ cls := "KeyHall", name := "poll", desc := "(IZ)I" } : Jvm.MethodName)) ∈ lw_all := lw_g (lw_at lw_m5 96 rfl) rfl
theorem q1117 : (Jvm.Cond.methodLink "KeyHallLaw" (116 : Nat) ({ cls := "KeyHallLaw", name := "next", desc := "(LKeyHall;I[J)I" } : Jvm.MethodName)) ∈ lw_all := lw_g (lw_at lw_m5 100 rfl) rfl
theorem q1118 : (Jvm.Cond.static ({ cls := "KeyHallLaw", name := "next", desc := "(LKeyHall;I[J)I" } : Jvm.MethodName)) ∈ lw_all := lw_g (lw_at lw_m5 101 rfl) rfl
theorem q1119 : (Jvm.Cond.codeWith ({ cls := "KeyHallLaw", name := "next", desc := "(LKeyHall;I[J)I" } : Jvm.MethodName) method_10_code (4 : Nat) (Option.some Jvm.ClassFile.FieldType.int) [((0 : Nat), (9 : Nat), (12 : Nat), (13 : Nat)), ((0 : Nat), (9 : Nat), (15 : Nat), (20 : Nat)), ((0 : Nat), (9 : Nat), (18 : Nat), (32 : Nat))]) ∈ lw_all := lw_g (lw_at lw_m5 102 rfl) rfl
theorem q1120 : (Jvm.Cond.methodLink "KeyHallLaw" (41 : Nat) ({ cls := "KeyHall", name := "next", desc := "(I)I" } : Jvm.MethodName)) ∈ lw_all := lw_g (lw_at lw_m5 103 rfl) rfl
theorem q1129 : (Jvm.Cond.methodLink "KeyHallLaw" (119 : Nat) ({ cls := "KeyHallLaw", name := "drop", desc := "(LKeyHall;I[J)I" } : Jvm.MethodName)) ∈ lw_all := lw_g (lw_at lw_m5 112 rfl) rfl
theorem q1130 : (Jvm.Cond.static ({ cls := "KeyHallLaw", name := "drop", desc := "(LKeyHall;I[J)I" } : Jvm.MethodName)) ∈ lw_all := lw_g (lw_at lw_m5 113 rfl) rfl
theorem q1131 : (Jvm.Cond.codeWith ({ cls := "KeyHallLaw", name := "drop", desc := "(LKeyHall;I[J)I" } : Jvm.MethodName) method_11_code (4 : Nat) (Option.some Jvm.ClassFile.FieldType.int) [((0 : Nat), (9 : Nat), (12 : Nat), (13 : Nat)), ((0 : Nat), (9 : Nat), (15 : Nat), (20 : Nat))]) ∈ lw_all := lw_g (lw_at lw_m5 114 rfl) rfl
theorem q1132 : (Jvm.Cond.methodLink "KeyHallLaw" (44 : Nat) ({ cls := "KeyHall", name := "drop", desc := "(I)I" } : Jvm.MethodName)) ∈ lw_all := lw_g (lw_at lw_m5 115 rfl) rfl
theorem q1137 : (Jvm.Cond.methodLink "KeyHallLaw" (122 : Nat) ({ cls := "KeyHallLaw", name := "match", desc := "(LKeyHall;II[J)I" } : Jvm.MethodName)) ∈ lw_all := lw_g (lw_at lw_m5 120 rfl) rfl
theorem q1138 : (Jvm.Cond.static ({ cls := "KeyHallLaw", name := "match", desc := "(LKeyHall;II[J)I" } : Jvm.MethodName)) ∈ lw_all := lw_g (lw_at lw_m5 121 rfl) rfl
theorem q1139 : (Jvm.Cond.codeWith ({ cls := "KeyHallLaw", name := "match", desc := "(LKeyHall;II[J)I" } : Jvm.MethodName) method_12_code (5 : Nat) (Option.some Jvm.ClassFile.FieldType.int) [((0 : Nat), (10 : Nat), (13 : Nat), (13 : Nat)), ((0 : Nat), (10 : Nat), (17 : Nat), (18 : Nat))]) ∈ lw_all := lw_g (lw_at lw_m5 122 rfl) rfl
theorem q1140 : (Jvm.Cond.methodLink "KeyHallLaw" (47 : Nat) ({ cls := "KeyHall", name := "match", desc := "(II)I" } : Jvm.MethodName)) ∈ lw_all := lw_g (lw_at lw_m5 123 rfl) rfl
theorem q1149 : (Jvm.Cond.methodLink "KeyHallLaw" (125 : Nat) ({ cls := "KeyHallLaw", name := "edges", desc := "(LKeyHall;I[J)I" } : Jvm.MethodName)) ∈ lw_all := lw_g (lw_at lw_m5 132 rfl) rfl
theorem q1150 : (Jvm.Cond.static ({ cls := "KeyHallLaw", name := "edges", desc := "(LKeyHall;I[J)I" } : Jvm.MethodName)) ∈ lw_all := lw_g (lw_at lw_m5 133 rfl) rfl
theorem q1151 : (Jvm.Cond.codeWith ({ cls := "KeyHallLaw", name := "edges", desc := "(LKeyHall;I[J)I" } : Jvm.MethodName) method_13_code (4 : Nat) (Option.some Jvm.ClassFile.FieldType.int) [((0 : Nat), (9 : Nat), (12 : Nat), (13 : Nat))]) ∈ lw_all := lw_g (lw_at lw_m5 134 rfl) rfl
theorem q1152 : (Jvm.Cond.methodLink "KeyHallLaw" (50 : Nat) ({ cls := "KeyHall", name := "edges", desc := "(I)I" } : Jvm.MethodName)) ∈ lw_all := lw_g (lw_at lw_m5 135 rfl) rfl
theorem q1172 : (Jvm.Cond.methodLink "KeyHallLaw" (128 : Nat) ({ cls := "KeyHallLaw", name := "freeze", desc := "(LKeyHall;I[J)I" } : Jvm.MethodName)) ∈ lw_all := lw_g (lw_at lw_m5 155 rfl) rfl
theorem q1173 : (Jvm.Cond.static ({ cls := "KeyHallLaw", name := "freeze", desc := "(LKeyHall;I[J)I" } : Jvm.MethodName)) ∈ lw_all := lw_g (lw_at lw_m5 156 rfl) rfl
theorem q1174 : (Jvm.Cond.codeWith ({ cls := "KeyHallLaw", name := "freeze", desc := "(LKeyHall;I[J)I" } : Jvm.MethodName) method_14_code (4 : Nat) (Option.some Jvm.ClassFile.FieldType.int) [((0 : Nat), (9 : Nat), (12 : Nat), (13 : Nat))]) ∈ lw_all := lw_g (lw_at lw_m5 157 rfl) rfl
theorem q1175 : (Jvm.Cond.methodLink "KeyHallLaw" (53 : Nat) ({ cls := "KeyHall", name := "freeze", desc := "(I)I" } : Jvm.MethodName)) ∈ lw_all := lw_g (lw_at lw_m5 158 rfl) rfl
theorem q1198 : (Jvm.Cond.methodLink "KeyHallLaw" (135 : Nat) ({ cls := "KeyHallLaw", name := "insert", desc := "(LKeyHall;I[J)I" } : Jvm.MethodName)) ∈ lw_all := lw_g (lw_at lw_m5 181 rfl) rfl
theorem q1199 : (Jvm.Cond.static ({ cls := "KeyHallLaw", name := "insert", desc := "(LKeyHall;I[J)I" } : Jvm.MethodName)) ∈ lw_all := lw_g (lw_at lw_m5 182 rfl) rfl
theorem q1200 : (Jvm.Cond.codeWith ({ cls := "KeyHallLaw", name := "insert", desc := "(LKeyHall;I[J)I" } : Jvm.MethodName) method_15_code (4 : Nat) (Option.some Jvm.ClassFile.FieldType.int) [((0 : Nat), (9 : Nat), (12 : Nat), (13 : Nat)), ((0 : Nat), (9 : Nat), (15 : Nat), (20 : Nat))]) ∈ lw_all := lw_g (lw_at lw_m5 183 rfl) rfl
theorem q1201 : (Jvm.Cond.methodLink "KeyHallLaw" (56 : Nat) ({ cls := "KeyHall", name := "insert", desc := "(I)I" } : Jvm.MethodName)) ∈ lw_all := lw_g (lw_at lw_m5 184 rfl) rfl
theorem q1261 : (Jvm.Cond.methodLink "KeyHallLaw" (138 : Nat) ({ cls := "KeyHallLaw", name := "delete", desc := "(LKeyHall;II[J)I" } : Jvm.MethodName)) ∈ lw_all := lw_g (lw_at lw_m6 4 rfl) rfl
theorem q1262 : (Jvm.Cond.static ({ cls := "KeyHallLaw", name := "delete", desc := "(LKeyHall;II[J)I" } : Jvm.MethodName)) ∈ lw_all := lw_g (lw_at lw_m6 5 rfl) rfl
theorem q1263 : (Jvm.Cond.codeWith ({ cls := "KeyHallLaw", name := "delete", desc := "(LKeyHall;II[J)I" } : Jvm.MethodName) method_16_code (5 : Nat) (Option.some Jvm.ClassFile.FieldType.int) [((0 : Nat), (10 : Nat), (13 : Nat), (13 : Nat))]) ∈ lw_all := lw_g (lw_at lw_m6 6 rfl) rfl
theorem q1264 : (Jvm.Cond.methodLink "KeyHallLaw" (59 : Nat) ({ cls := "KeyHall", name := "delete", desc := "(II)I" } : Jvm.MethodName)) ∈ lw_all := lw_g (lw_at lw_m6 7 rfl) rfl
theorem q1272 : (Jvm.Cond.classLink "KeyHallLaw" (63 : Nat) "KeyHallModel") ∈ lw_all := lw_g (lw_at lw_m6 15 rfl) rfl
theorem q1274 : (Jvm.Cond.methodLink "KeyHallLaw" (65 : Nat) ({ cls := "KeyHallModel", name := "<init>", desc := "()V" } : Jvm.MethodName)) ∈ lw_all := lw_g (lw_at lw_m6 17 rfl) rfl
theorem q1396 : (Jvm.Cond.methodLink "KeyHallLaw" (79 : Nat) ({ cls := "KeyHallModel", name := "thrown", desc := "()I" } : Jvm.MethodName)) ∈ lw_all := lw_g (lw_at lw_m6 139 rfl) rfl
theorem q1400 : (Jvm.Cond.methodLink "KeyHallLaw" (72 : Nat) ({ cls := "KeyHallModel", name := "type", desc := "(JI)Z" } : Jvm.MethodName)) ∈ lw_all := lw_g (lw_at lw_m6 143 rfl) rfl
theorem q1405 : (Jvm.Cond.methodLink "KeyHallLaw" (78 : Nat) ({ cls := "KeyHallModel", name := "view", desc := "(II)I" } : Jvm.MethodName)) ∈ lw_all := lw_g (lw_at lw_m6 148 rfl) rfl
theorem q1417 : (Jvm.Cond.methodLink "KeyHallLaw" (85 : Nat) ({ cls := "KeyHallModel", name := "put", desc := "(II)I" } : Jvm.MethodName)) ∈ lw_all := lw_g (lw_at lw_m6 160 rfl) rfl
theorem q1443 : (Jvm.Cond.methodLink "KeyHallLaw" (89 : Nat) ({ cls := "KeyHallModel", name := "get", desc := "(I)I" } : Jvm.MethodName)) ∈ lw_all := lw_g (lw_at lw_m6 186 rfl) rfl
theorem q1451 : (Jvm.Cond.methodLink "KeyHallLaw" (92 : Nat) ({ cls := "KeyHallModel", name := "remove", desc := "(I)I" } : Jvm.MethodName)) ∈ lw_all := lw_g (lw_at lw_m6 194 rfl) rfl
theorem q1459 : (Jvm.Cond.methodLink "KeyHallLaw" (96 : Nat) ({ cls := "KeyHallModel", name := "size", desc := "(I)I" } : Jvm.MethodName)) ∈ lw_all := lw_g (lw_at lw_m6 202 rfl) rfl
theorem q1467 : (Jvm.Cond.methodLink "KeyHallLaw" (99 : Nat) ({ cls := "KeyHallModel", name := "find", desc := "(II)I" } : Jvm.MethodName)) ∈ lw_all := lw_g (lw_at lw_m6 210 rfl) rfl
theorem q1491 : (Jvm.Cond.methodLink "KeyHallLaw" (102 : Nat) ({ cls := "KeyHallModel", name := "at", desc := "(II)I" } : Jvm.MethodName)) ∈ lw_all := lw_g (lw_at lw_m6 234 rfl) rfl
theorem q1496 : (Jvm.Cond.methodLink "KeyHallLaw" (106 : Nat) ({ cls := "KeyHallModel", name := "poll", desc := "(IZ)I" } : Jvm.MethodName)) ∈ lw_all := lw_g (lw_at lw_m6 239 rfl) rfl
theorem q1500 : (Jvm.Cond.methodLink "KeyHallLaw" (110 : Nat) ({ cls := "KeyHallModel", name := "found", desc := "(I)I" } : Jvm.MethodName)) ∈ lw_all := lw_g (lw_at lw_m7 3 rfl) rfl
theorem q1504 : (Jvm.Cond.methodLink "KeyHallLaw" (115 : Nat) ({ cls := "KeyHallModel", name := "iterate", desc := "(I)Z" } : Jvm.MethodName)) ∈ lw_all := lw_g (lw_at lw_m7 7 rfl) rfl
theorem q1508 : (Jvm.Cond.methodLink "KeyHallLaw" (118 : Nat) ({ cls := "KeyHallModel", name := "next", desc := "(I)I" } : Jvm.MethodName)) ∈ lw_all := lw_g (lw_at lw_m7 11 rfl) rfl
theorem q1516 : (Jvm.Cond.methodLink "KeyHallLaw" (121 : Nat) ({ cls := "KeyHallModel", name := "drop", desc := "(I)I" } : Jvm.MethodName)) ∈ lw_all := lw_g (lw_at lw_m7 19 rfl) rfl
theorem q1520 : (Jvm.Cond.methodLink "KeyHallLaw" (124 : Nat) ({ cls := "KeyHallModel", name := "match", desc := "(II)I" } : Jvm.MethodName)) ∈ lw_all := lw_g (lw_at lw_m7 23 rfl) rfl
theorem q1524 : (Jvm.Cond.methodLink "KeyHallLaw" (127 : Nat) ({ cls := "KeyHallModel", name := "edges", desc := "(I)I" } : Jvm.MethodName)) ∈ lw_all := lw_g (lw_at lw_m7 27 rfl) rfl
theorem q1552 : (Jvm.Cond.methodLink "KeyHallLaw" (130 : Nat) ({ cls := "KeyHallModel", name := "freeze", desc := "(I)I" } : Jvm.MethodName)) ∈ lw_all := lw_g (lw_at lw_m7 55 rfl) rfl
theorem q1588 : (Jvm.Cond.methodLink "KeyHallLaw" (134 : Nat) ({ cls := "KeyHallModel", name := "automaton", desc := "(I)I" } : Jvm.MethodName)) ∈ lw_all := lw_g (lw_at lw_m7 91 rfl) rfl
theorem q1592 : (Jvm.Cond.methodLink "KeyHallLaw" (137 : Nat) ({ cls := "KeyHallModel", name := "insert", desc := "(I)I" } : Jvm.MethodName)) ∈ lw_all := lw_g (lw_at lw_m7 95 rfl) rfl
theorem q1600 : (Jvm.Cond.methodLink "KeyHallLaw" (140 : Nat) ({ cls := "KeyHallModel", name := "delete", desc := "(II)I" } : Jvm.MethodName)) ∈ lw_all := lw_g (lw_at lw_m7 103 rfl) rfl
theorem q1604 : (Jvm.Cond.methodLink "KeyHallLaw" (144 : Nat) ({ cls := "KeyHallModel", name := "undo", desc := "()I" } : Jvm.MethodName)) ∈ lw_all := lw_g (lw_at lw_m7 107 rfl) rfl
theorem q1608 : (Jvm.Cond.methodLink "KeyHallLaw" (148 : Nat) ({ cls := "KeyHallModel", name := "letter", desc := "(I)I" } : Jvm.MethodName)) ∈ lw_all := lw_g (lw_at lw_m7 111 rfl) rfl
theorem q1612 : (Jvm.Cond.methodLink "KeyHallLaw" (152 : Nat) ({ cls := "KeyHallModel", name := "suffix", desc := "(II)I" } : Jvm.MethodName)) ∈ lw_all := lw_g (lw_at lw_m7 115 rfl) rfl
theorem q1620 : (Jvm.Cond.methodLink "KeyHallLaw" (156 : Nat) ({ cls := "KeyHallModel", name := "locate", desc := "(I)I" } : Jvm.MethodName)) ∈ lw_all := lw_g (lw_at lw_m7 123 rfl) rfl
theorem q1624 : (Jvm.Cond.constantLong "KeyHallLaw" (66 : Nat) (4294967295 : Int64)) ∈ lw_all := lw_g (lw_at lw_m7 127 rfl) rfl
/-! KeyHall -/
def RX1 : String := "KeyHall"
def TX1 : u_T := fun k => match k with
  | 0 => ("KeyHall", "tape", "LKeyHall$Key;", true)
  | 1 => ("KeyHall", "views", "[LKeyHall$View;", true)
  | 2 => ("KeyHall", "viewCount", "I", false)
  | 3 => ("KeyHall", "bits", "LKeyHall$BitTree;", true)
  | 4 => ("KeyHall", "bytes", "LKeyHall$ByteTree;", true)
  | 5 => ("KeyHall", "found", "LKeyHall$Key;", true)
  | 6 => ("KeyHall", "automaton", "LKeyHall$Automaton;", true)
  | 7 => ("KeyHall", "scroll", "LKeyHall$Scroll;", true)
  | _ => ("KeyHall", "hand", "LKeyHall$Key;", true)
def tyX1 : Nat → FieldType := fun k => match k with
  | 0 => .object "KeyHall$Key"
  | 1 => .array (.object "KeyHall$View")
  | 2 => .int
  | 3 => .object "KeyHall$BitTree"
  | 4 => .object "KeyHall$ByteTree"
  | 5 => .object "KeyHall$Key"
  | 6 => .object "KeyHall$Automaton"
  | 7 => .object "KeyHall$Scroll"
  | _ => .object "KeyHall$Key"
abbrev wsX10 : List Cond := u_ws RX1 TX1 9
theorem nmX1 : ∀ a, a < 9 → ∀ b, b < 9 → a ≠ b → (TX1 a).2.1 ≠ (TX1 b).2.1 := by decide +kernel
theorem tyX1_ok : ∀ k, k < 9 → parseFieldDescriptor (TX1 k).2.2.1 = some (tyX1 k) := by decide +kernel
abbrev cX1_init : ByteArray := prog_1_method_1_code
def yX1_init : MethodName := ⟨RX1, "<init>", "()V"⟩
abbrev cX1_type : ByteArray := prog_1_method_5_code
def yX1_type : MethodName := ⟨RX1, "type", "(JI)Z"⟩
abbrev cX1_size : ByteArray := prog_1_method_11_code
def yX1_size : MethodName := ⟨RX1, "size", "(I)I"⟩
abbrev cX1_found : ByteArray := prog_1_method_17_code
def yX1_found : MethodName := ⟨RX1, "found", "(I)I"⟩
abbrev cX1_iterate : ByteArray := prog_1_method_18_code
def yX1_iterate : MethodName := ⟨RX1, "iterate", "(I)Z"⟩
abbrev cX1_automaton : ByteArray := prog_1_method_25_code
def yX1_automaton : MethodName := ⟨RX1, "automaton", "(I)I"⟩
abbrev cX1_use : ByteArray := prog_1_method_4_code
def yX1_use : MethodName := ⟨RX1, "use", "()LKeyHall$Key;"⟩
abbrev cX1_undo : ByteArray := prog_1_method_28_code
def yX1_undo : MethodName := ⟨RX1, "undo", "()I"⟩
abbrev cX1_letter : ByteArray := prog_1_method_29_code
def yX1_letter : MethodName := ⟨RX1, "letter", "(I)I"⟩
abbrev cX1_suffix : ByteArray := prog_1_method_30_code
def yX1_suffix : MethodName := ⟨RX1, "suffix", "(II)I"⟩
abbrev cX1_locate : ByteArray := prog_1_method_31_code
def yX1_locate : MethodName := ⟨RX1, "locate", "(I)I"⟩
abbrev cX1_view : ByteArray := prog_1_method_6_code
def yX1_view : MethodName := ⟨RX1, "view", "(II)I"⟩
abbrev cX1_of : ByteArray := prog_1_method_3_code
def yX1_of : MethodName := ⟨RX1, "of", "(I)LKeyHall$View;"⟩
abbrev cX1_need : ByteArray := prog_1_method_2_code
def yX1_need : MethodName := ⟨RX1, "need", "(Z)V"⟩
abbrev cX1_put : ByteArray := prog_1_method_7_code
def yX1_put : MethodName := ⟨RX1, "put", "(II)I"⟩
abbrev cX1_get : ByteArray := prog_1_method_9_code
def yX1_get : MethodName := ⟨RX1, "get", "(I)I"⟩
abbrev cX1_entry : ByteArray := prog_1_method_8_code
def yX1_entry : MethodName := ⟨RX1, "entry", "(LKeyHall$View;)LKeyHall$Entry;"⟩
abbrev cX1_remove : ByteArray := prog_1_method_10_code
def yX1_remove : MethodName := ⟨RX1, "remove", "(I)I"⟩
abbrev cX1_find : ByteArray := prog_1_method_14_code
def yX1_find : MethodName := ⟨RX1, "find", "(II)I"⟩
abbrev cX1_tell : ByteArray := prog_1_method_12_code
def yX1_tell : MethodName := ⟨RX1, "tell", "(LKeyHall$Entry;)I"⟩
abbrev cX1_beginning : ByteArray := prog_1_method_13_code
def yX1_beginning : MethodName := ⟨RX1, "beginning", "(LKeyHall$View;LKeyHall$Key;)LKeyHall$Entry;"⟩
abbrev cX1_at : ByteArray := prog_1_method_15_code
def yX1_at : MethodName := ⟨RX1, "at", "(II)I"⟩
abbrev cX1_poll : ByteArray := prog_1_method_16_code
def yX1_poll : MethodName := ⟨RX1, "poll", "(IZ)I"⟩
abbrev cX1_next : ByteArray := prog_1_method_19_code
def yX1_next : MethodName := ⟨RX1, "next", "(I)I"⟩
abbrev cX1_drop : ByteArray := prog_1_method_20_code
def yX1_drop : MethodName := ⟨RX1, "drop", "(I)I"⟩
abbrev cX1_match : ByteArray := prog_1_method_22_code
def yX1_match : MethodName := ⟨RX1, "match", "(II)I"⟩
abbrev cX1_differences : ByteArray := prog_1_method_21_code
def yX1_differences : MethodName := ⟨RX1, "differences", "(LKeyHall$Key;LKeyHall$Key;)I"⟩
abbrev cX1_edges : ByteArray := prog_1_method_23_code
def yX1_edges : MethodName := ⟨RX1, "edges", "(I)I"⟩
abbrev cX1_freeze : ByteArray := prog_1_method_24_code
def yX1_freeze : MethodName := ⟨RX1, "freeze", "(I)I"⟩
abbrev cX1_insert : ByteArray := prog_1_method_26_code
def yX1_insert : MethodName := ⟨RX1, "insert", "(I)I"⟩
abbrev cX1_delete : ByteArray := prog_1_method_27_code
def yX1_delete : MethodName := ⟨RX1, "delete", "(II)I"⟩
theorem q58 : (Jvm.Cond.initialized "KeyHall") ∈ lw_all := lw_g (lw_at lw_m1 1 rfl) rfl
theorem q88 : (Jvm.Cond.instantiable "KeyHall" (9 : Nat)) ∈ lw_all := lw_g (lw_at lw_m1 31 rfl) rfl
theorem q90 : (Jvm.Cond.instanceMethod ({ cls := "KeyHall", name := "<init>", desc := "()V" } : Jvm.MethodName)) ∈ lw_all := lw_g (lw_at lw_m1 33 rfl) rfl
theorem q91 : (Jvm.Cond.code ({ cls := "KeyHall", name := "<init>", desc := "()V" } : Jvm.MethodName) prog_1_method_1_code (1 : Nat) (Option.none : Option Jvm.ClassFile.FieldType)) ∈ lw_all := lw_g (lw_at lw_m1 34 rfl) rfl
theorem q92 : (Jvm.Cond.methodLink "KeyHall" (1 : Nat) ({ cls := "java/lang/Object", name := "<init>", desc := "()V" } : Jvm.MethodName)) ∈ lw_all := lw_g (lw_at lw_m1 35 rfl) rfl
theorem q95 : (Jvm.Cond.classLink "KeyHall" (7 : Nat) "KeyHall$Key") ∈ lw_all := lw_g (lw_at lw_m1 38 rfl) rfl
theorem q97 : (Jvm.Cond.methodLinkNest "KeyHall" (9 : Nat) ({ cls := "KeyHall$Key", name := "<init>", desc := "()V" } : Jvm.MethodName) "KeyHall") ∈ lw_tbl := lw_at lw_m1 40 rfl
theorem q108 : (Jvm.Cond.fieldLink "KeyHall" (87 : Nat) "KeyHall$Key" "c" "[C") ∈ lw_all := lw_g (lw_at lw_m1 51 rfl) rfl
theorem q114 : (Jvm.Cond.fieldLink "KeyHall" (84 : Nat) "KeyHall$Key" "n" "I") ∈ lw_all := lw_g (lw_at lw_m1 57 rfl) rfl
theorem q117 : (Jvm.Cond.fieldLink "KeyHall" (212 : Nat) "KeyHall$Entry" "n" "I") ∈ lw_all := lw_g (lw_at lw_m1 60 rfl) rfl
theorem q124 : (Jvm.Cond.classLink "KeyHall" (16 : Nat) "KeyHall$View") ∈ lw_all := lw_g (lw_at lw_m1 67 rfl) rfl
theorem q126 : (Jvm.Cond.classLink "KeyHall" (26 : Nat) "KeyHall$BitTree") ∈ lw_all := lw_g (lw_at lw_m1 69 rfl) rfl
theorem q128 : (Jvm.Cond.methodLinkNest "KeyHall" (28 : Nat) ({ cls := "KeyHall$BitTree", name := "<init>", desc := "()V" } : Jvm.MethodName) "KeyHall") ∈ lw_tbl := lw_at lw_m1 71 rfl
theorem q137 : (Jvm.Cond.fieldLink "KeyHall" (139 : Nat) "KeyHall$Tree" "count" "I") ∈ lw_all := lw_g (lw_at lw_m1 80 rfl) rfl
theorem q142 : (Jvm.Cond.fieldLink "KeyHall" (203 : Nat) "KeyHall$Tree" "changes" "I") ∈ lw_all := lw_g (lw_at lw_m1 85 rfl) rfl
theorem q150 : (Jvm.Cond.classLink "KeyHall" (33 : Nat) "KeyHall$ByteTree") ∈ lw_all := lw_g (lw_at lw_m1 93 rfl) rfl
theorem q152 : (Jvm.Cond.methodLinkNest "KeyHall" (35 : Nat) ({ cls := "KeyHall$ByteTree", name := "<init>", desc := "()V" } : Jvm.MethodName) "KeyHall") ∈ lw_tbl := lw_at lw_m1 95 rfl
theorem q221 : (Jvm.Cond.classLink "KeyHall" (43 : Nat) "KeyHall$Automaton") ∈ lw_all := lw_g (lw_at lw_m1 164 rfl) rfl
theorem q223 : (Jvm.Cond.methodLinkNest "KeyHall" (45 : Nat) ({ cls := "KeyHall$Automaton", name := "<init>", desc := "()V" } : Jvm.MethodName) "KeyHall") ∈ lw_tbl := lw_at lw_m1 166 rfl
theorem q235 : (Jvm.Cond.fieldLinkNest "KeyHall" (233 : Nat) "KeyHall$Automaton" "start" "I" "KeyHall") ∈ lw_tbl := lw_at lw_m1 178 rfl
theorem q260 : (Jvm.Cond.classLink "KeyHall" (50 : Nat) "KeyHall$Scroll") ∈ lw_all := lw_g (lw_at lw_m1 203 rfl) rfl
theorem q262 : (Jvm.Cond.methodLinkNest "KeyHall" (52 : Nat) ({ cls := "KeyHall$Scroll", name := "<init>", desc := "()V" } : Jvm.MethodName) "KeyHall") ∈ lw_tbl := lw_at lw_m1 205 rfl
theorem q269 : (Jvm.Cond.fieldLinkNest "KeyHall" (258 : Nat) "KeyHall$Scroll" "rope" "LKeyHall$Rope;" "KeyHall") ∈ lw_tbl := lw_at lw_m1 212 rfl
theorem q273 : (Jvm.Cond.fieldLinkNest "KeyHall" (271 : Nat) "KeyHall$Scroll" "suffixes" "[I" "KeyHall") ∈ lw_tbl := lw_at lw_m1 216 rfl
theorem q277 : (Jvm.Cond.fieldLinkNest "KeyHall" (275 : Nat) "KeyHall$Scroll" "common" "[I" "KeyHall") ∈ lw_tbl := lw_at lw_m1 220 rfl
theorem q297 : (Jvm.Cond.methodLink "KeyHall" (60 : Nat) ({ cls := "KeyHall$View", name := "<init>", desc := "(LKeyHall$Tree;)V" } : Jvm.MethodName)) ∈ lw_all := lw_g (lw_at lw_m2 0 rfl) rfl
theorem q302 : (Jvm.Cond.fieldLinkNest "KeyHall" (124 : Nat) "KeyHall$View" "tree" "LKeyHall$Tree;" "KeyHall") ∈ lw_tbl := lw_at lw_m2 5 rfl
theorem q306 : (Jvm.Cond.fieldLinkNest "KeyHall" (111 : Nat) "KeyHall$View" "turned" "Z" "KeyHall") ∈ lw_tbl := lw_at lw_m2 9 rfl
theorem q309 : (Jvm.Cond.fieldLinkNest "KeyHall" (206 : Nat) "KeyHall$View" "changes" "I" "KeyHall") ∈ lw_tbl := lw_at lw_m2 12 rfl
theorem q311 : (Jvm.Cond.fieldLinkNest "KeyHall" (194 : Nat) "KeyHall$View" "told" "LKeyHall$Entry;" "KeyHall") ∈ lw_tbl := lw_at lw_m2 14 rfl
theorem q313 : (Jvm.Cond.fieldLinkNest "KeyHall" (198 : Nat) "KeyHall$View" "canDrop" "Z" "KeyHall") ∈ lw_tbl := lw_at lw_m2 16 rfl
theorem q331 : (Jvm.Cond.classLink "KeyHall" (63 : Nat) "KeyHall$CharTree") ∈ lw_all := lw_g (lw_at lw_m2 34 rfl) rfl
theorem q333 : (Jvm.Cond.methodLinkNest "KeyHall" (65 : Nat) ({ cls := "KeyHall$CharTree", name := "<init>", desc := "()V" } : Jvm.MethodName) "KeyHall") ∈ lw_tbl := lw_at lw_m2 36 rfl
theorem q346 : (Jvm.Cond.methodLink "KeyHall" (66 : Nat) ({ cls := "KeyHall$Automaton", name := "begin", desc := "()V" } : Jvm.MethodName)) ∈ lw_all := lw_g (lw_at lw_m2 49 rfl) rfl
theorem q350 : (Jvm.Cond.fieldLink "KeyHall" (10 : Nat) "KeyHall" "tape" "LKeyHall$Key;") ∈ lw_all := lw_g (lw_at lw_m2 53 rfl) rfl
theorem q351 : (Jvm.Cond.fieldLink "KeyHall" (18 : Nat) "KeyHall" "views" "[LKeyHall$View;") ∈ lw_all := lw_g (lw_at lw_m2 54 rfl) rfl
theorem q352 : (Jvm.Cond.fieldLink "KeyHall" (22 : Nat) "KeyHall" "viewCount" "I") ∈ lw_all := lw_g (lw_at lw_m2 55 rfl) rfl
theorem q353 : (Jvm.Cond.fieldLink "KeyHall" (29 : Nat) "KeyHall" "bits" "LKeyHall$BitTree;") ∈ lw_all := lw_g (lw_at lw_m2 56 rfl) rfl
theorem q354 : (Jvm.Cond.fieldLink "KeyHall" (36 : Nat) "KeyHall" "bytes" "LKeyHall$ByteTree;") ∈ lw_all := lw_g (lw_at lw_m2 57 rfl) rfl
theorem q355 : (Jvm.Cond.fieldLink "KeyHall" (40 : Nat) "KeyHall" "found" "LKeyHall$Key;") ∈ lw_all := lw_g (lw_at lw_m2 58 rfl) rfl
theorem q356 : (Jvm.Cond.fieldLink "KeyHall" (46 : Nat) "KeyHall" "automaton" "LKeyHall$Automaton;") ∈ lw_all := lw_g (lw_at lw_m2 59 rfl) rfl
theorem q357 : (Jvm.Cond.fieldLink "KeyHall" (53 : Nat) "KeyHall" "scroll" "LKeyHall$Scroll;") ∈ lw_all := lw_g (lw_at lw_m2 60 rfl) rfl
theorem q358 : (Jvm.Cond.fieldLink "KeyHall" (57 : Nat) "KeyHall" "hand" "LKeyHall$Key;") ∈ lw_all := lw_g (lw_at lw_m2 61 rfl) rfl
theorem q359 : (Jvm.Cond.laysFinal "KeyHall" "KeyHall" "tape" "LKeyHall$Key;") ∈ lw_all := lw_g (lw_at lw_m2 62 rfl) rfl
theorem q360 : (Jvm.Cond.soleField "KeyHall" "tape") ∈ lw_all := lw_g (lw_at lw_m2 63 rfl) rfl
theorem q361 : (Jvm.Cond.laysFinal "KeyHall" "KeyHall" "views" "[LKeyHall$View;") ∈ lw_all := lw_g (lw_at lw_m2 64 rfl) rfl
theorem q362 : (Jvm.Cond.soleField "KeyHall" "views") ∈ lw_all := lw_g (lw_at lw_m2 65 rfl) rfl
theorem q363 : (Jvm.Cond.lays "KeyHall" "KeyHall" "viewCount" "I") ∈ lw_all := lw_g (lw_at lw_m2 66 rfl) rfl
theorem q364 : (Jvm.Cond.soleField "KeyHall" "viewCount") ∈ lw_all := lw_g (lw_at lw_m2 67 rfl) rfl
theorem q365 : (Jvm.Cond.laysFinal "KeyHall" "KeyHall" "bits" "LKeyHall$BitTree;") ∈ lw_all := lw_g (lw_at lw_m2 68 rfl) rfl
theorem q366 : (Jvm.Cond.soleField "KeyHall" "bits") ∈ lw_all := lw_g (lw_at lw_m2 69 rfl) rfl
theorem q367 : (Jvm.Cond.laysFinal "KeyHall" "KeyHall" "bytes" "LKeyHall$ByteTree;") ∈ lw_all := lw_g (lw_at lw_m2 70 rfl) rfl
theorem q368 : (Jvm.Cond.soleField "KeyHall" "bytes") ∈ lw_all := lw_g (lw_at lw_m2 71 rfl) rfl
theorem q369 : (Jvm.Cond.laysFinal "KeyHall" "KeyHall" "found" "LKeyHall$Key;") ∈ lw_all := lw_g (lw_at lw_m2 72 rfl) rfl
theorem q370 : (Jvm.Cond.soleField "KeyHall" "found") ∈ lw_all := lw_g (lw_at lw_m2 73 rfl) rfl
theorem q371 : (Jvm.Cond.laysFinal "KeyHall" "KeyHall" "automaton" "LKeyHall$Automaton;") ∈ lw_all := lw_g (lw_at lw_m2 74 rfl) rfl
theorem q372 : (Jvm.Cond.soleField "KeyHall" "automaton") ∈ lw_all := lw_g (lw_at lw_m2 75 rfl) rfl
theorem q373 : (Jvm.Cond.laysFinal "KeyHall" "KeyHall" "scroll" "LKeyHall$Scroll;") ∈ lw_all := lw_g (lw_at lw_m2 76 rfl) rfl
theorem q374 : (Jvm.Cond.soleField "KeyHall" "scroll") ∈ lw_all := lw_g (lw_at lw_m2 77 rfl) rfl
theorem q375 : (Jvm.Cond.laysFinal "KeyHall" "KeyHall" "hand" "LKeyHall$Key;") ∈ lw_all := lw_g (lw_at lw_m2 78 rfl) rfl
theorem q376 : (Jvm.Cond.soleField "KeyHall" "hand") ∈ lw_all := lw_g (lw_at lw_m2 79 rfl) rfl
theorem q377 : (Jvm.Cond.superclass "KeyHall" "java/lang/Object") ∈ lw_all := lw_g (lw_at lw_m2 80 rfl) rfl
theorem q379 : (Jvm.Cond.instanceMethod ({ cls := "KeyHall", name := "type", desc := "(JI)Z" } : Jvm.MethodName)) ∈ lw_all := lw_g (lw_at lw_m2 82 rfl) rfl
theorem q380 : (Jvm.Cond.selects "KeyHall" ({ cls := "KeyHall", name := "type", desc := "(JI)Z" } : Jvm.MethodName) ({ cls := "KeyHall", name := "type", desc := "(JI)Z" } : Jvm.MethodName)) ∈ lw_all := lw_g (lw_at lw_m2 83 rfl) rfl
theorem q381 : (Jvm.Cond.code ({ cls := "KeyHall", name := "type", desc := "(JI)Z" } : Jvm.MethodName) prog_1_method_5_code (5 : Nat) (Option.some Jvm.ClassFile.FieldType.boolean)) ∈ lw_all := lw_g (lw_at lw_m2 84 rfl) rfl
theorem q383 : (Jvm.Cond.instanceMethod ({ cls := "KeyHall", name := "size", desc := "(I)I" } : Jvm.MethodName)) ∈ lw_all := lw_g (lw_at lw_m2 86 rfl) rfl
theorem q384 : (Jvm.Cond.selects "KeyHall" ({ cls := "KeyHall", name := "size", desc := "(I)I" } : Jvm.MethodName) ({ cls := "KeyHall", name := "size", desc := "(I)I" } : Jvm.MethodName)) ∈ lw_all := lw_g (lw_at lw_m2 87 rfl) rfl
theorem q385 : (Jvm.Cond.code ({ cls := "KeyHall", name := "size", desc := "(I)I" } : Jvm.MethodName) prog_1_method_11_code (2 : Nat) (Option.some Jvm.ClassFile.FieldType.int)) ∈ lw_all := lw_g (lw_at lw_m2 88 rfl) rfl
theorem q386 : (Jvm.Cond.methodLink "KeyHall" (161 : Nat) ({ cls := "KeyHall$View", name := "size", desc := "()I" } : Jvm.MethodName)) ∈ lw_all := lw_g (lw_at lw_m2 89 rfl) rfl
theorem q520 : (Jvm.Cond.instanceMethod ({ cls := "KeyHall", name := "found", desc := "(I)I" } : Jvm.MethodName)) ∈ lw_all := lw_g (lw_at lw_m2 223 rfl) rfl
theorem q521 : (Jvm.Cond.selects "KeyHall" ({ cls := "KeyHall", name := "found", desc := "(I)I" } : Jvm.MethodName) ({ cls := "KeyHall", name := "found", desc := "(I)I" } : Jvm.MethodName)) ∈ lw_all := lw_g (lw_at lw_m2 224 rfl) rfl
theorem q522 : (Jvm.Cond.code ({ cls := "KeyHall", name := "found", desc := "(I)I" } : Jvm.MethodName) prog_1_method_17_code (2 : Nat) (Option.some Jvm.ClassFile.FieldType.int)) ∈ lw_all := lw_g (lw_at lw_m2 225 rfl) rfl
theorem q524 : (Jvm.Cond.instanceMethod ({ cls := "KeyHall", name := "iterate", desc := "(I)Z" } : Jvm.MethodName)) ∈ lw_all := lw_g (lw_at lw_m2 227 rfl) rfl
theorem q525 : (Jvm.Cond.selects "KeyHall" ({ cls := "KeyHall", name := "iterate", desc := "(I)Z" } : Jvm.MethodName) ({ cls := "KeyHall", name := "iterate", desc := "(I)Z" } : Jvm.MethodName)) ∈ lw_all := lw_g (lw_at lw_m2 228 rfl) rfl
theorem q526 : (Jvm.Cond.code ({ cls := "KeyHall", name := "iterate", desc := "(I)Z" } : Jvm.MethodName) prog_1_method_18_code (2 : Nat) (Option.some Jvm.ClassFile.FieldType.boolean)) ∈ lw_all := lw_g (lw_at lw_m2 229 rfl) rfl
theorem q527 : (Jvm.Cond.methodLink "KeyHall" (185 : Nat) ({ cls := "KeyHall$View", name := "iterate", desc := "()V" } : Jvm.MethodName)) ∈ lw_all := lw_g (lw_at lw_m2 230 rfl) rfl
theorem q532 : (Jvm.Cond.instanceMethod ({ cls := "KeyHall", name := "automaton", desc := "(I)I" } : Jvm.MethodName)) ∈ lw_all := lw_g (lw_at lw_m2 235 rfl) rfl
theorem q533 : (Jvm.Cond.selects "KeyHall" ({ cls := "KeyHall", name := "automaton", desc := "(I)I" } : Jvm.MethodName) ({ cls := "KeyHall", name := "automaton", desc := "(I)I" } : Jvm.MethodName)) ∈ lw_all := lw_g (lw_at lw_m2 236 rfl) rfl
theorem q534 : (Jvm.Cond.code ({ cls := "KeyHall", name := "automaton", desc := "(I)I" } : Jvm.MethodName) prog_1_method_25_code (4 : Nat) (Option.some Jvm.ClassFile.FieldType.int)) ∈ lw_all := lw_g (lw_at lw_m2 237 rfl) rfl
theorem q535 : (Jvm.Cond.methodLink "KeyHall" (231 : Nat) ({ cls := "KeyHall$Automaton", name := "count", desc := "(I)I" } : Jvm.MethodName)) ∈ lw_all := lw_g (lw_at lw_m2 238 rfl) rfl
theorem q539 : (Jvm.Cond.methodLink "KeyHall" (95 : Nat) ({ cls := "KeyHall", name := "use", desc := "()LKeyHall$Key;" } : Jvm.MethodName)) ∈ lw_all := lw_g (lw_at lw_m3 2 rfl) rfl
theorem q540 : (Jvm.Cond.privateMethod ({ cls := "KeyHall", name := "use", desc := "()LKeyHall$Key;" } : Jvm.MethodName)) ∈ lw_tbl := lw_at lw_m3 3 rfl
theorem q541 : (Jvm.Cond.instanceMethod ({ cls := "KeyHall", name := "use", desc := "()LKeyHall$Key;" } : Jvm.MethodName)) ∈ lw_all := lw_g (lw_at lw_m3 4 rfl) rfl
theorem q542 : (Jvm.Cond.code ({ cls := "KeyHall", name := "use", desc := "()LKeyHall$Key;" } : Jvm.MethodName) prog_1_method_4_code (1 : Nat) (Option.some (Jvm.ClassFile.FieldType.object "KeyHall$Key"))) ∈ lw_all := lw_g (lw_at lw_m3 5 rfl) rfl
theorem q543 : (Jvm.Cond.methodLink "KeyHall" (80 : Nat) ({ cls := "KeyHall$Key", name := "copy", desc := "(LKeyHall$Key;)LKeyHall$Key;" } : Jvm.MethodName)) ∈ lw_all := lw_g (lw_at lw_m3 6 rfl) rfl
theorem q549 : (Jvm.Cond.methodLink "KeyHall" (236 : Nat) ({ cls := "KeyHall$Automaton", name := "goes", desc := "(LKeyHall$Key;)I" } : Jvm.MethodName)) ∈ lw_all := lw_g (lw_at lw_m3 12 rfl) rfl
theorem q558 : (Jvm.Cond.instanceMethod ({ cls := "KeyHall", name := "undo", desc := "()I" } : Jvm.MethodName)) ∈ lw_all := lw_g (lw_at lw_m3 21 rfl) rfl
theorem q559 : (Jvm.Cond.selects "KeyHall" ({ cls := "KeyHall", name := "undo", desc := "()I" } : Jvm.MethodName) ({ cls := "KeyHall", name := "undo", desc := "()I" } : Jvm.MethodName)) ∈ lw_all := lw_g (lw_at lw_m3 22 rfl) rfl
theorem q560 : (Jvm.Cond.code ({ cls := "KeyHall", name := "undo", desc := "()I" } : Jvm.MethodName) prog_1_method_28_code (1 : Nat) (Option.some Jvm.ClassFile.FieldType.int)) ∈ lw_all := lw_g (lw_at lw_m3 23 rfl) rfl
theorem q561 : (Jvm.Cond.methodLink "KeyHall" (252 : Nat) ({ cls := "KeyHall$Scroll", name := "undo", desc := "()I" } : Jvm.MethodName)) ∈ lw_all := lw_g (lw_at lw_m3 24 rfl) rfl
theorem q570 : (Jvm.Cond.instanceMethod ({ cls := "KeyHall", name := "letter", desc := "(I)I" } : Jvm.MethodName)) ∈ lw_all := lw_g (lw_at lw_m3 33 rfl) rfl
theorem q571 : (Jvm.Cond.selects "KeyHall" ({ cls := "KeyHall", name := "letter", desc := "(I)I" } : Jvm.MethodName) ({ cls := "KeyHall", name := "letter", desc := "(I)I" } : Jvm.MethodName)) ∈ lw_all := lw_g (lw_at lw_m3 34 rfl) rfl
theorem q572 : (Jvm.Cond.code ({ cls := "KeyHall", name := "letter", desc := "(I)I" } : Jvm.MethodName) prog_1_method_29_code (2 : Nat) (Option.some Jvm.ClassFile.FieldType.int)) ∈ lw_all := lw_g (lw_at lw_m3 35 rfl) rfl
theorem q573 : (Jvm.Cond.methodLink "KeyHall" (239 : Nat) ({ cls := "KeyHall$Scroll", name := "length", desc := "()I" } : Jvm.MethodName)) ∈ lw_all := lw_g (lw_at lw_m3 36 rfl) rfl
theorem q574 : (Jvm.Cond.methodLink "KeyHall" (255 : Nat) ({ cls := "KeyHall$Scroll", name := "sum", desc := "()I" } : Jvm.MethodName)) ∈ lw_all := lw_g (lw_at lw_m3 37 rfl) rfl
theorem q582 : (Jvm.Cond.methodLink "KeyHall" (262 : Nat) ({ cls := "KeyHall$Rope", name := "at", desc := "(I)C" } : Jvm.MethodName)) ∈ lw_all := lw_g (lw_at lw_m3 45 rfl) rfl
theorem q584 : (Jvm.Cond.instanceMethod ({ cls := "KeyHall", name := "suffix", desc := "(II)I" } : Jvm.MethodName)) ∈ lw_all := lw_g (lw_at lw_m3 47 rfl) rfl
theorem q585 : (Jvm.Cond.selects "KeyHall" ({ cls := "KeyHall", name := "suffix", desc := "(II)I" } : Jvm.MethodName) ({ cls := "KeyHall", name := "suffix", desc := "(II)I" } : Jvm.MethodName)) ∈ lw_all := lw_g (lw_at lw_m3 48 rfl) rfl
theorem q586 : (Jvm.Cond.code ({ cls := "KeyHall", name := "suffix", desc := "(II)I" } : Jvm.MethodName) prog_1_method_30_code (3 : Nat) (Option.some Jvm.ClassFile.FieldType.int)) ∈ lw_all := lw_g (lw_at lw_m3 49 rfl) rfl
theorem q587 : (Jvm.Cond.methodLinkNest "KeyHall" (268 : Nat) ({ cls := "KeyHall$Scroll", name := "sort", desc := "()V" } : Jvm.MethodName) "KeyHall") ∈ lw_tbl := lw_at lw_m3 50 rfl
theorem q608 : (Jvm.Cond.instanceMethod ({ cls := "KeyHall", name := "locate", desc := "(I)I" } : Jvm.MethodName)) ∈ lw_all := lw_g (lw_at lw_m3 71 rfl) rfl
theorem q609 : (Jvm.Cond.selects "KeyHall" ({ cls := "KeyHall", name := "locate", desc := "(I)I" } : Jvm.MethodName) ({ cls := "KeyHall", name := "locate", desc := "(I)I" } : Jvm.MethodName)) ∈ lw_all := lw_g (lw_at lw_m3 72 rfl) rfl
theorem q610 : (Jvm.Cond.code ({ cls := "KeyHall", name := "locate", desc := "(I)I" } : Jvm.MethodName) prog_1_method_31_code (5 : Nat) (Option.some Jvm.ClassFile.FieldType.int)) ∈ lw_all := lw_g (lw_at lw_m3 73 rfl) rfl
theorem q611 : (Jvm.Cond.methodLink "KeyHall" (278 : Nat) ({ cls := "KeyHall$Scroll", name := "bound", desc := "(LKeyHall$Key;Z)I" } : Jvm.MethodName)) ∈ lw_all := lw_g (lw_at lw_m3 74 rfl) rfl
theorem q702 : (Jvm.Cond.instanceMethod ({ cls := "KeyHall", name := "view", desc := "(II)I" } : Jvm.MethodName)) ∈ lw_all := lw_g (lw_at lw_m3 165 rfl) rfl
theorem q703 : (Jvm.Cond.selects "KeyHall" ({ cls := "KeyHall", name := "view", desc := "(II)I" } : Jvm.MethodName) ({ cls := "KeyHall", name := "view", desc := "(II)I" } : Jvm.MethodName)) ∈ lw_all := lw_g (lw_at lw_m3 166 rfl) rfl
theorem q704 : (Jvm.Cond.code ({ cls := "KeyHall", name := "view", desc := "(II)I" } : Jvm.MethodName) prog_1_method_6_code (6 : Nat) (Option.some Jvm.ClassFile.FieldType.int)) ∈ lw_all := lw_g (lw_at lw_m3 167 rfl) rfl
theorem q705 : (Jvm.Cond.methodLink "KeyHall" (91 : Nat) ({ cls := "KeyHall", name := "of", desc := "(I)LKeyHall$View;" } : Jvm.MethodName)) ∈ lw_all := lw_g (lw_at lw_m3 168 rfl) rfl
theorem q706 : (Jvm.Cond.privateMethod ({ cls := "KeyHall", name := "of", desc := "(I)LKeyHall$View;" } : Jvm.MethodName)) ∈ lw_tbl := lw_at lw_m3 169 rfl
theorem q707 : (Jvm.Cond.instanceMethod ({ cls := "KeyHall", name := "of", desc := "(I)LKeyHall$View;" } : Jvm.MethodName)) ∈ lw_all := lw_g (lw_at lw_m3 170 rfl) rfl
theorem q708 : (Jvm.Cond.code ({ cls := "KeyHall", name := "of", desc := "(I)LKeyHall$View;" } : Jvm.MethodName) prog_1_method_3_code (2 : Nat) (Option.some (Jvm.ClassFile.FieldType.object "KeyHall$View"))) ∈ lw_all := lw_g (lw_at lw_m3 171 rfl) rfl
theorem q709 : (Jvm.Cond.methodLink "KeyHall" (76 : Nat) ({ cls := "KeyHall", name := "need", desc := "(Z)V" } : Jvm.MethodName)) ∈ lw_all := lw_g (lw_at lw_m3 172 rfl) rfl
theorem q710 : (Jvm.Cond.static ({ cls := "KeyHall", name := "need", desc := "(Z)V" } : Jvm.MethodName)) ∈ lw_all := lw_g (lw_at lw_m3 173 rfl) rfl
theorem q711 : (Jvm.Cond.code ({ cls := "KeyHall", name := "need", desc := "(Z)V" } : Jvm.MethodName) prog_1_method_2_code (1 : Nat) (Option.none : Option Jvm.ClassFile.FieldType)) ∈ lw_all := lw_g (lw_at lw_m3 174 rfl) rfl
theorem q712 : (Jvm.Cond.classLink "KeyHall" (69 : Nat) "java/lang/IndexOutOfBoundsException") ∈ lw_all := lw_g (lw_at lw_m3 175 rfl) rfl
theorem q721 : (Jvm.Cond.stringRef "KeyHall" (71 : Nat) "no such number") ∈ lw_tbl := lw_at lw_m3 184 rfl
theorem q722 : (Jvm.Cond.methodLink "KeyHall" (73 : Nat) ({ cls := "java/lang/IndexOutOfBoundsException", name := "<init>", desc := "(Ljava/lang/String;)V" } : Jvm.MethodName)) ∈ lw_all := lw_g (lw_at lw_m3 185 rfl) rfl
theorem q725 : (Jvm.Cond.methodLink "KeyHall" (99 : Nat) ({ cls := "KeyHall$View", name := "copy", desc := "()LKeyHall$View;" } : Jvm.MethodName)) ∈ lw_all := lw_g (lw_at lw_m3 188 rfl) rfl
theorem q731 : (Jvm.Cond.methodLink "KeyHall" (102 : Nat) ({ cls := "KeyHall$View", name := "begin", desc := "(LKeyHall$Key;)V" } : Jvm.MethodName)) ∈ lw_all := lw_g (lw_at lw_m3 194 rfl) rfl
theorem q747 : (Jvm.Cond.methodLink "KeyHall" (105 : Nat) ({ cls := "KeyHall$View", name := "to", desc := "(LKeyHall$Key;)V" } : Jvm.MethodName)) ∈ lw_all := lw_g (lw_at lw_m3 210 rfl) rfl
theorem q748 : (Jvm.Cond.methodLink "KeyHall" (108 : Nat) ({ cls := "KeyHall$View", name := "from", desc := "(LKeyHall$Key;)V" } : Jvm.MethodName)) ∈ lw_all := lw_g (lw_at lw_m3 211 rfl) rfl
theorem q755 : (Jvm.Cond.instanceMethod ({ cls := "KeyHall", name := "put", desc := "(II)I" } : Jvm.MethodName)) ∈ lw_all := lw_g (lw_at lw_m3 218 rfl) rfl
theorem q756 : (Jvm.Cond.selects "KeyHall" ({ cls := "KeyHall", name := "put", desc := "(II)I" } : Jvm.MethodName) ({ cls := "KeyHall", name := "put", desc := "(II)I" } : Jvm.MethodName)) ∈ lw_all := lw_g (lw_at lw_m3 219 rfl) rfl
theorem q757 : (Jvm.Cond.code ({ cls := "KeyHall", name := "put", desc := "(II)I" } : Jvm.MethodName) prog_1_method_7_code (7 : Nat) (Option.some Jvm.ClassFile.FieldType.int)) ∈ lw_all := lw_g (lw_at lw_m3 220 rfl) rfl
theorem q758 : (Jvm.Cond.methodLink "KeyHall" (115 : Nat) ({ cls := "KeyHall$View", name := "has", desc := "(LKeyHall$Key;)Z" } : Jvm.MethodName)) ∈ lw_all := lw_g (lw_at lw_m3 221 rfl) rfl
theorem q762 : (Jvm.Cond.classLink "KeyHall" (119 : Nat) "java/lang/IllegalArgumentException") ∈ lw_all := lw_g (lw_at lw_m3 225 rfl) rfl
theorem q771 : (Jvm.Cond.stringRef "KeyHall" (121 : Nat) "not to be put") ∈ lw_tbl := lw_at lw_m3 234 rfl
theorem q772 : (Jvm.Cond.methodLink "KeyHall" (123 : Nat) ({ cls := "java/lang/IllegalArgumentException", name := "<init>", desc := "(Ljava/lang/String;)V" } : Jvm.MethodName)) ∈ lw_all := lw_g (lw_at lw_m3 235 rfl) rfl
theorem q778 : (Jvm.Cond.methodLink "KeyHall" (128 : Nat) ({ cls := "KeyHall$Tree", name := "get", desc := "(LKeyHall$Key;)LKeyHall$Entry;" } : Jvm.MethodName)) ∈ lw_all := lw_g (lw_at lw_m4 1 rfl) rfl
theorem q794 : (Jvm.Cond.classLink "KeyHall" (142 : Nat) "java/lang/IllegalStateException") ∈ lw_all := lw_g (lw_at lw_m4 17 rfl) rfl
theorem q803 : (Jvm.Cond.stringRef "KeyHall" (144 : Nat) "full") ∈ lw_tbl := lw_at lw_m4 26 rfl
theorem q804 : (Jvm.Cond.methodLink "KeyHall" (146 : Nat) ({ cls := "java/lang/IllegalStateException", name := "<init>", desc := "(Ljava/lang/String;)V" } : Jvm.MethodName)) ∈ lw_all := lw_g (lw_at lw_m4 27 rfl) rfl
theorem q810 : (Jvm.Cond.classLink "KeyHall" (135 : Nat) "KeyHall$Entry") ∈ lw_all := lw_g (lw_at lw_m4 33 rfl) rfl
theorem q812 : (Jvm.Cond.methodLink "KeyHall" (147 : Nat) ({ cls := "KeyHall$Entry", name := "<init>", desc := "(LKeyHall$Key;I)V" } : Jvm.MethodName)) ∈ lw_all := lw_g (lw_at lw_m4 35 rfl) rfl
theorem q821 : (Jvm.Cond.fieldLinkNest "KeyHall" (134 : Nat) "KeyHall$Entry" "value" "I" "KeyHall") ∈ lw_tbl := lw_at lw_m4 44 rfl
theorem q827 : (Jvm.Cond.methodLink "KeyHall" (150 : Nat) ({ cls := "KeyHall$Tree", name := "add", desc := "(LKeyHall$Entry;)V" } : Jvm.MethodName)) ∈ lw_all := lw_g (lw_at lw_m4 50 rfl) rfl
theorem q965 : (Jvm.Cond.instanceMethod ({ cls := "KeyHall", name := "get", desc := "(I)I" } : Jvm.MethodName)) ∈ lw_all := lw_g (lw_at lw_m4 188 rfl) rfl
theorem q966 : (Jvm.Cond.selects "KeyHall" ({ cls := "KeyHall", name := "get", desc := "(I)I" } : Jvm.MethodName) ({ cls := "KeyHall", name := "get", desc := "(I)I" } : Jvm.MethodName)) ∈ lw_all := lw_g (lw_at lw_m4 189 rfl) rfl
theorem q967 : (Jvm.Cond.code ({ cls := "KeyHall", name := "get", desc := "(I)I" } : Jvm.MethodName) prog_1_method_9_code (3 : Nat) (Option.some Jvm.ClassFile.FieldType.int)) ∈ lw_all := lw_g (lw_at lw_m4 190 rfl) rfl
theorem q968 : (Jvm.Cond.methodLink "KeyHall" (154 : Nat) ({ cls := "KeyHall", name := "entry", desc := "(LKeyHall$View;)LKeyHall$Entry;" } : Jvm.MethodName)) ∈ lw_all := lw_g (lw_at lw_m4 191 rfl) rfl
theorem q969 : (Jvm.Cond.privateMethod ({ cls := "KeyHall", name := "entry", desc := "(LKeyHall$View;)LKeyHall$Entry;" } : Jvm.MethodName)) ∈ lw_tbl := lw_at lw_m4 192 rfl
theorem q970 : (Jvm.Cond.instanceMethod ({ cls := "KeyHall", name := "entry", desc := "(LKeyHall$View;)LKeyHall$Entry;" } : Jvm.MethodName)) ∈ lw_all := lw_g (lw_at lw_m4 193 rfl) rfl
theorem q971 : (Jvm.Cond.code ({ cls := "KeyHall", name := "entry", desc := "(LKeyHall$View;)LKeyHall$Entry;" } : Jvm.MethodName) prog_1_method_8_code (3 : Nat) (Option.some (Jvm.ClassFile.FieldType.object "KeyHall$Entry"))) ∈ lw_all := lw_g (lw_at lw_m4 194 rfl) rfl
theorem q976 : (Jvm.Cond.instanceMethod ({ cls := "KeyHall", name := "remove", desc := "(I)I" } : Jvm.MethodName)) ∈ lw_all := lw_g (lw_at lw_m4 199 rfl) rfl
theorem q977 : (Jvm.Cond.selects "KeyHall" ({ cls := "KeyHall", name := "remove", desc := "(I)I" } : Jvm.MethodName) ({ cls := "KeyHall", name := "remove", desc := "(I)I" } : Jvm.MethodName)) ∈ lw_all := lw_g (lw_at lw_m4 200 rfl) rfl
theorem q978 : (Jvm.Cond.code ({ cls := "KeyHall", name := "remove", desc := "(I)I" } : Jvm.MethodName) prog_1_method_10_code (4 : Nat) (Option.some Jvm.ClassFile.FieldType.int)) ∈ lw_all := lw_g (lw_at lw_m4 201 rfl) rfl
theorem q979 : (Jvm.Cond.methodLink "KeyHall" (158 : Nat) ({ cls := "KeyHall$Tree", name := "remove", desc := "(LKeyHall$Entry;)V" } : Jvm.MethodName)) ∈ lw_all := lw_g (lw_at lw_m4 202 rfl) rfl
theorem q1030 : (Jvm.Cond.instanceMethod ({ cls := "KeyHall", name := "find", desc := "(II)I" } : Jvm.MethodName)) ∈ lw_all := lw_g (lw_at lw_m5 13 rfl) rfl
theorem q1031 : (Jvm.Cond.selects "KeyHall" ({ cls := "KeyHall", name := "find", desc := "(II)I" } : Jvm.MethodName) ({ cls := "KeyHall", name := "find", desc := "(II)I" } : Jvm.MethodName)) ∈ lw_all := lw_g (lw_at lw_m5 14 rfl) rfl
theorem q1032 : (Jvm.Cond.code ({ cls := "KeyHall", name := "find", desc := "(II)I" } : Jvm.MethodName) prog_1_method_14_code (5 : Nat) (Option.some Jvm.ClassFile.FieldType.int)) ∈ lw_all := lw_g (lw_at lw_m5 15 rfl) rfl
theorem q1033 : (Jvm.Cond.methodLink "KeyHall" (170 : Nat) ({ cls := "KeyHall$View", name := "before", desc := "(LKeyHall$Key;Z)LKeyHall$Entry;" } : Jvm.MethodName)) ∈ lw_all := lw_g (lw_at lw_m5 16 rfl) rfl
theorem q1076 : (Jvm.Cond.methodLink "KeyHall" (174 : Nat) ({ cls := "KeyHall", name := "tell", desc := "(LKeyHall$Entry;)I" } : Jvm.MethodName)) ∈ lw_all := lw_g (lw_at lw_m5 59 rfl) rfl
theorem q1077 : (Jvm.Cond.privateMethod ({ cls := "KeyHall", name := "tell", desc := "(LKeyHall$Entry;)I" } : Jvm.MethodName)) ∈ lw_tbl := lw_at lw_m5 60 rfl
theorem q1078 : (Jvm.Cond.instanceMethod ({ cls := "KeyHall", name := "tell", desc := "(LKeyHall$Entry;)I" } : Jvm.MethodName)) ∈ lw_all := lw_g (lw_at lw_m5 61 rfl) rfl
theorem q1079 : (Jvm.Cond.code ({ cls := "KeyHall", name := "tell", desc := "(LKeyHall$Entry;)I" } : Jvm.MethodName) prog_1_method_12_code (2 : Nat) (Option.some Jvm.ClassFile.FieldType.int)) ∈ lw_all := lw_g (lw_at lw_m5 62 rfl) rfl
theorem q1080 : (Jvm.Cond.classLink "KeyHall" (165 : Nat) "java/util/NoSuchElementException") ∈ lw_all := lw_g (lw_at lw_m5 63 rfl) rfl
theorem q1089 : (Jvm.Cond.stringRef "KeyHall" (167 : Nat) "no key") ∈ lw_tbl := lw_at lw_m5 72 rfl
theorem q1090 : (Jvm.Cond.methodLink "KeyHall" (169 : Nat) ({ cls := "java/util/NoSuchElementException", name := "<init>", desc := "(Ljava/lang/String;)V" } : Jvm.MethodName)) ∈ lw_all := lw_g (lw_at lw_m5 73 rfl) rfl
theorem q1096 : (Jvm.Cond.methodLink "KeyHall" (178 : Nat) ({ cls := "KeyHall$View", name := "after", desc := "(LKeyHall$Key;Z)LKeyHall$Entry;" } : Jvm.MethodName)) ∈ lw_all := lw_g (lw_at lw_m5 79 rfl) rfl
theorem q1100 : (Jvm.Cond.methodLink "KeyHall" (181 : Nat) ({ cls := "KeyHall", name := "beginning", desc := "(LKeyHall$View;LKeyHall$Key;)LKeyHall$Entry;" } : Jvm.MethodName)) ∈ lw_all := lw_g (lw_at lw_m5 83 rfl) rfl
theorem q1101 : (Jvm.Cond.static ({ cls := "KeyHall", name := "beginning", desc := "(LKeyHall$View;LKeyHall$Key;)LKeyHall$Entry;" } : Jvm.MethodName)) ∈ lw_all := lw_g (lw_at lw_m5 84 rfl) rfl
theorem q1102 : (Jvm.Cond.code ({ cls := "KeyHall", name := "beginning", desc := "(LKeyHall$View;LKeyHall$Key;)LKeyHall$Entry;" } : Jvm.MethodName) prog_1_method_13_code (4 : Nat) (Option.some (Jvm.ClassFile.FieldType.object "KeyHall$Entry"))) ∈ lw_all := lw_g (lw_at lw_m5 85 rfl) rfl
theorem q1107 : (Jvm.Cond.instanceMethod ({ cls := "KeyHall", name := "at", desc := "(II)I" } : Jvm.MethodName)) ∈ lw_all := lw_g (lw_at lw_m5 90 rfl) rfl
theorem q1108 : (Jvm.Cond.selects "KeyHall" ({ cls := "KeyHall", name := "at", desc := "(II)I" } : Jvm.MethodName) ({ cls := "KeyHall", name := "at", desc := "(II)I" } : Jvm.MethodName)) ∈ lw_all := lw_g (lw_at lw_m5 91 rfl) rfl
theorem q1109 : (Jvm.Cond.code ({ cls := "KeyHall", name := "at", desc := "(II)I" } : Jvm.MethodName) prog_1_method_15_code (6 : Nat) (Option.some Jvm.ClassFile.FieldType.int)) ∈ lw_all := lw_g (lw_at lw_m5 92 rfl) rfl
theorem q1114 : (Jvm.Cond.instanceMethod ({ cls := "KeyHall", name := "poll", desc := "(IZ)I" } : Jvm.MethodName)) ∈ lw_all := lw_g (lw_at lw_m5 97 rfl) rfl
theorem q1115 : (Jvm.Cond.selects "KeyHall" ({ cls := "KeyHall", name := "poll", desc := "(IZ)I" } : Jvm.MethodName) ({ cls := "KeyHall", name := "poll", desc := "(IZ)I" } : Jvm.MethodName)) ∈ lw_all := lw_g (lw_at lw_m5 98 rfl) rfl
theorem q1116 : (Jvm.Cond.code ({ cls := "KeyHall", name := "poll", desc := "(IZ)I" } : Jvm.MethodName) prog_1_method_16_code (6 : Nat) (Option.some Jvm.ClassFile.FieldType.int)) ∈ lw_all := lw_g (lw_at lw_m5 99 rfl) rfl
theorem q1121 : (Jvm.Cond.instanceMethod ({ cls := "KeyHall", name := "next", desc := "(I)I" } : Jvm.MethodName)) ∈ lw_all := lw_g (lw_at lw_m5 104 rfl) rfl
theorem q1122 : (Jvm.Cond.selects "KeyHall" ({ cls := "KeyHall", name := "next", desc := "(I)I" } : Jvm.MethodName) ({ cls := "KeyHall", name := "next", desc := "(I)I" } : Jvm.MethodName)) ∈ lw_all := lw_g (lw_at lw_m5 105 rfl) rfl
theorem q1123 : (Jvm.Cond.code ({ cls := "KeyHall", name := "next", desc := "(I)I" } : Jvm.MethodName) prog_1_method_19_code (5 : Nat) (Option.some Jvm.ClassFile.FieldType.int)) ∈ lw_all := lw_g (lw_at lw_m5 106 rfl) rfl
theorem q1124 : (Jvm.Cond.methodLink "KeyHall" (188 : Nat) ({ cls := "KeyHall$View", name := "isCurrent", desc := "()Z" } : Jvm.MethodName)) ∈ lw_all := lw_g (lw_at lw_m5 107 rfl) rfl
theorem q1128 : (Jvm.Cond.stringRef "KeyHall" (192 : Nat) "changed") ∈ lw_tbl := lw_at lw_m5 111 rfl
theorem q1133 : (Jvm.Cond.instanceMethod ({ cls := "KeyHall", name := "drop", desc := "(I)I" } : Jvm.MethodName)) ∈ lw_all := lw_g (lw_at lw_m5 116 rfl) rfl
theorem q1134 : (Jvm.Cond.selects "KeyHall" ({ cls := "KeyHall", name := "drop", desc := "(I)I" } : Jvm.MethodName) ({ cls := "KeyHall", name := "drop", desc := "(I)I" } : Jvm.MethodName)) ∈ lw_all := lw_g (lw_at lw_m5 117 rfl) rfl
theorem q1135 : (Jvm.Cond.code ({ cls := "KeyHall", name := "drop", desc := "(I)I" } : Jvm.MethodName) prog_1_method_20_code (3 : Nat) (Option.some Jvm.ClassFile.FieldType.int)) ∈ lw_all := lw_g (lw_at lw_m5 118 rfl) rfl
theorem q1136 : (Jvm.Cond.stringRef "KeyHall" (201 : Nat) "not to be dropped") ∈ lw_tbl := lw_at lw_m5 119 rfl
theorem q1141 : (Jvm.Cond.instanceMethod ({ cls := "KeyHall", name := "match", desc := "(II)I" } : Jvm.MethodName)) ∈ lw_all := lw_g (lw_at lw_m5 124 rfl) rfl
theorem q1142 : (Jvm.Cond.selects "KeyHall" ({ cls := "KeyHall", name := "match", desc := "(II)I" } : Jvm.MethodName) ({ cls := "KeyHall", name := "match", desc := "(II)I" } : Jvm.MethodName)) ∈ lw_all := lw_g (lw_at lw_m5 125 rfl) rfl
theorem q1143 : (Jvm.Cond.code ({ cls := "KeyHall", name := "match", desc := "(II)I" } : Jvm.MethodName) prog_1_method_22_code (7 : Nat) (Option.some Jvm.ClassFile.FieldType.int)) ∈ lw_all := lw_g (lw_at lw_m5 126 rfl) rfl
theorem q1144 : (Jvm.Cond.stringRef "KeyHall" (207 : Nat) "no such distance") ∈ lw_tbl := lw_at lw_m5 127 rfl
theorem q1145 : (Jvm.Cond.methodLinkNest "KeyHall" (209 : Nat) ({ cls := "KeyHall$View", name := "up", desc := "(LKeyHall$Key;Z)LKeyHall$Entry;" } : Jvm.MethodName) "KeyHall") ∈ lw_tbl := lw_at lw_m5 128 rfl
theorem q1146 : (Jvm.Cond.methodLink "KeyHall" (213 : Nat) ({ cls := "KeyHall", name := "differences", desc := "(LKeyHall$Key;LKeyHall$Key;)I" } : Jvm.MethodName)) ∈ lw_all := lw_g (lw_at lw_m5 129 rfl) rfl
theorem q1147 : (Jvm.Cond.static ({ cls := "KeyHall", name := "differences", desc := "(LKeyHall$Key;LKeyHall$Key;)I" } : Jvm.MethodName)) ∈ lw_all := lw_g (lw_at lw_m5 130 rfl) rfl
theorem q1148 : (Jvm.Cond.code ({ cls := "KeyHall", name := "differences", desc := "(LKeyHall$Key;LKeyHall$Key;)I" } : Jvm.MethodName) prog_1_method_21_code (4 : Nat) (Option.some Jvm.ClassFile.FieldType.int)) ∈ lw_all := lw_g (lw_at lw_m5 131 rfl) rfl
theorem q1153 : (Jvm.Cond.instanceMethod ({ cls := "KeyHall", name := "edges", desc := "(I)I" } : Jvm.MethodName)) ∈ lw_all := lw_g (lw_at lw_m5 136 rfl) rfl
theorem q1154 : (Jvm.Cond.selects "KeyHall" ({ cls := "KeyHall", name := "edges", desc := "(I)I" } : Jvm.MethodName) ({ cls := "KeyHall", name := "edges", desc := "(I)I" } : Jvm.MethodName)) ∈ lw_all := lw_g (lw_at lw_m5 137 rfl) rfl
theorem q1155 : (Jvm.Cond.code ({ cls := "KeyHall", name := "edges", desc := "(I)I" } : Jvm.MethodName) prog_1_method_23_code (3 : Nat) (Option.some Jvm.ClassFile.FieldType.int)) ∈ lw_all := lw_g (lw_at lw_m5 138 rfl) rfl
theorem q1156 : (Jvm.Cond.methodLink "KeyHall" (217 : Nat) ({ cls := "KeyHall$ByteTree", name := "inner", desc := "(I)I" } : Jvm.MethodName)) ∈ lw_all := lw_g (lw_at lw_m5 139 rfl) rfl
theorem q1167 : (Jvm.Cond.methodLink "KeyHall" (221 : Nat) ({ cls := "KeyHall$BitTree", name := "get", desc := "(LKeyHall$Key;)LKeyHall$Entry;" } : Jvm.MethodName)) ∈ lw_all := lw_g (lw_at lw_m5 150 rfl) rfl
theorem q1168 : (Jvm.Cond.methodLink "KeyHall" (222 : Nat) ({ cls := "KeyHall$BitTree", name := "depth", desc := "(LKeyHall$Key;)I" } : Jvm.MethodName)) ∈ lw_all := lw_g (lw_at lw_m5 151 rfl) rfl
theorem q1176 : (Jvm.Cond.instanceMethod ({ cls := "KeyHall", name := "freeze", desc := "(I)I" } : Jvm.MethodName)) ∈ lw_all := lw_g (lw_at lw_m5 159 rfl) rfl
theorem q1177 : (Jvm.Cond.selects "KeyHall" ({ cls := "KeyHall", name := "freeze", desc := "(I)I" } : Jvm.MethodName) ({ cls := "KeyHall", name := "freeze", desc := "(I)I" } : Jvm.MethodName)) ∈ lw_all := lw_g (lw_at lw_m5 160 rfl) rfl
theorem q1178 : (Jvm.Cond.code ({ cls := "KeyHall", name := "freeze", desc := "(I)I" } : Jvm.MethodName) prog_1_method_24_code (4 : Nat) (Option.some Jvm.ClassFile.FieldType.int)) ∈ lw_all := lw_g (lw_at lw_m5 161 rfl) rfl
theorem q1179 : (Jvm.Cond.methodLink "KeyHall" (226 : Nat) ({ cls := "KeyHall$Automaton", name := "add", desc := "(LKeyHall$Key;)V" } : Jvm.MethodName)) ∈ lw_all := lw_g (lw_at lw_m5 162 rfl) rfl
theorem q1187 : (Jvm.Cond.methodLink "KeyHall" (228 : Nat) ({ cls := "KeyHall$Automaton", name := "end", desc := "()V" } : Jvm.MethodName)) ∈ lw_all := lw_g (lw_at lw_m5 170 rfl) rfl
theorem q1202 : (Jvm.Cond.instanceMethod ({ cls := "KeyHall", name := "insert", desc := "(I)I" } : Jvm.MethodName)) ∈ lw_all := lw_g (lw_at lw_m5 185 rfl) rfl
theorem q1203 : (Jvm.Cond.selects "KeyHall" ({ cls := "KeyHall", name := "insert", desc := "(I)I" } : Jvm.MethodName) ({ cls := "KeyHall", name := "insert", desc := "(I)I" } : Jvm.MethodName)) ∈ lw_all := lw_g (lw_at lw_m5 186 rfl) rfl
theorem q1204 : (Jvm.Cond.code ({ cls := "KeyHall", name := "insert", desc := "(I)I" } : Jvm.MethodName) prog_1_method_26_code (3 : Nat) (Option.some Jvm.ClassFile.FieldType.int)) ∈ lw_all := lw_g (lw_at lw_m5 187 rfl) rfl
theorem q1205 : (Jvm.Cond.stringRef "KeyHall" (242 : Nat) "too long") ∈ lw_tbl := lw_at lw_m5 188 rfl
theorem q1206 : (Jvm.Cond.methodLink "KeyHall" (244 : Nat) ({ cls := "KeyHall$Scroll", name := "insert", desc := "(ILKeyHall$Key;)I" } : Jvm.MethodName)) ∈ lw_all := lw_g (lw_at lw_m5 189 rfl) rfl
theorem q1265 : (Jvm.Cond.instanceMethod ({ cls := "KeyHall", name := "delete", desc := "(II)I" } : Jvm.MethodName)) ∈ lw_all := lw_g (lw_at lw_m6 8 rfl) rfl
theorem q1266 : (Jvm.Cond.selects "KeyHall" ({ cls := "KeyHall", name := "delete", desc := "(II)I" } : Jvm.MethodName) ({ cls := "KeyHall", name := "delete", desc := "(II)I" } : Jvm.MethodName)) ∈ lw_all := lw_g (lw_at lw_m6 9 rfl) rfl
theorem q1267 : (Jvm.Cond.code ({ cls := "KeyHall", name := "delete", desc := "(II)I" } : Jvm.MethodName) prog_1_method_27_code (3 : Nat) (Option.some Jvm.ClassFile.FieldType.int)) ∈ lw_all := lw_g (lw_at lw_m6 10 rfl) rfl
theorem q1268 : (Jvm.Cond.methodLink "KeyHall" (248 : Nat) ({ cls := "KeyHall$Scroll", name := "delete", desc := "(II)I" } : Jvm.MethodName)) ∈ lw_all := lw_g (lw_at lw_m6 11 rfl) rfl
theorem in_X1 : ∀ w ∈ wsX10, w ∈ lw_all := lw_in wsX10 [359, 361, 363, 365, 367, 369, 371, 373, 375] (by decide +kernel) (by decide +kernel)
/-! KeyHall$Key -/
def RX2 : String := "KeyHall$Key"
def TX2 : u_T := fun k => match k with
  | 0 => ("KeyHall$Key", "c", "[C", true)
  | _ => ("KeyHall$Key", "n", "I", false)
def tyX2 : Nat → FieldType := fun k => match k with
  | 0 => .array .char
  | _ => .int
abbrev wsX20 : List Cond := u_ws RX2 TX2 2
theorem nmX2 : ∀ a, a < 2 → ∀ b, b < 2 → a ≠ b → (TX2 a).2.1 ≠ (TX2 b).2.1 := by decide +kernel
theorem tyX2_ok : ∀ k, k < 2 → parseFieldDescriptor (TX2 k).2.2.1 = some (tyX2 k) := by decide +kernel
abbrev cX2_init : ByteArray := prog_9_method_1_code
def yX2_init : MethodName := ⟨RX2, "<init>", "()V"⟩
abbrev cX2_compareTo : ByteArray := prog_9_method_3_code
def yX2_compareTo : MethodName := ⟨RX2, "compareTo", "(LKeyHall$Key;)I"⟩
abbrev cX2_bit : ByteArray := prog_9_method_4_code
def yX2_bit : MethodName := ⟨RX2, "bit", "(I)I"⟩
abbrev cX2_difference : ByteArray := prog_9_method_7_code
def yX2_difference : MethodName := ⟨RX2, "difference", "(LKeyHall$Key;)I"⟩
abbrev cX2_bytes : ByteArray := prog_9_method_5_code
def yX2_bytes : MethodName := ⟨RX2, "bytes", "()I"⟩
abbrev cX2_octet : ByteArray := prog_9_method_6_code
def yX2_octet : MethodName := ⟨RX2, "octet", "(I)I"⟩
abbrev cX2_copy : ByteArray := prog_9_method_2_code
def yX2_copy : MethodName := ⟨RX2, "copy", "(LKeyHall$Key;)LKeyHall$Key;"⟩
theorem q59 : (Jvm.Cond.initialized "KeyHall$Key") ∈ lw_all := lw_g (lw_at lw_m1 2 rfl) rfl
theorem q96 : (Jvm.Cond.instantiable "KeyHall$Key" (2 : Nat)) ∈ lw_all := lw_g (lw_at lw_m1 39 rfl) rfl
theorem q98 : (Jvm.Cond.instanceMethod ({ cls := "KeyHall$Key", name := "<init>", desc := "()V" } : Jvm.MethodName)) ∈ lw_all := lw_g (lw_at lw_m1 41 rfl) rfl
theorem q99 : (Jvm.Cond.code ({ cls := "KeyHall$Key", name := "<init>", desc := "()V" } : Jvm.MethodName) prog_9_method_1_code (1 : Nat) (Option.none : Option Jvm.ClassFile.FieldType)) ∈ lw_all := lw_g (lw_at lw_m1 42 rfl) rfl
theorem q100 : (Jvm.Cond.methodLink "KeyHall$Key" (3 : Nat) ({ cls := "java/lang/Object", name := "<init>", desc := "()V" } : Jvm.MethodName)) ∈ lw_all := lw_g (lw_at lw_m1 43 rfl) rfl
theorem q101 : (Jvm.Cond.fieldLink "KeyHall$Key" (9 : Nat) "KeyHall$Key" "c" "[C") ∈ lw_all := lw_g (lw_at lw_m1 44 rfl) rfl
theorem q110 : (Jvm.Cond.fieldLink "KeyHall$Key" (15 : Nat) "KeyHall$Key" "n" "I") ∈ lw_all := lw_g (lw_at lw_m1 53 rfl) rfl
theorem q118 : (Jvm.Cond.laysFinal "KeyHall$Key" "KeyHall$Key" "c" "[C") ∈ lw_all := lw_g (lw_at lw_m1 61 rfl) rfl
theorem q119 : (Jvm.Cond.soleField "KeyHall$Key" "c") ∈ lw_all := lw_g (lw_at lw_m1 62 rfl) rfl
theorem q120 : (Jvm.Cond.lays "KeyHall$Key" "KeyHall$Key" "n" "I") ∈ lw_all := lw_g (lw_at lw_m1 63 rfl) rfl
theorem q121 : (Jvm.Cond.soleField "KeyHall$Key" "n") ∈ lw_all := lw_g (lw_at lw_m1 64 rfl) rfl
theorem q122 : (Jvm.Cond.superclass "KeyHall$Key" "java/lang/Object") ∈ lw_all := lw_g (lw_at lw_m1 65 rfl) rfl
theorem q395 : (Jvm.Cond.instanceMethod ({ cls := "KeyHall$Key", name := "compareTo", desc := "(LKeyHall$Key;)I" } : Jvm.MethodName)) ∈ lw_all := lw_g (lw_at lw_m2 98 rfl) rfl
theorem q396 : (Jvm.Cond.selects "KeyHall$Key" ({ cls := "KeyHall$Key", name := "compareTo", desc := "(LKeyHall$Key;)I" } : Jvm.MethodName) ({ cls := "KeyHall$Key", name := "compareTo", desc := "(LKeyHall$Key;)I" } : Jvm.MethodName)) ∈ lw_all := lw_g (lw_at lw_m2 99 rfl) rfl
theorem q397 : (Jvm.Cond.sameMethod "KeyHall$Key" "KeyHall$Key" "compareTo" "(LKeyHall$Key;)I") ∈ lw_all := lw_g (lw_at lw_m2 100 rfl) rfl
theorem q399 : (Jvm.Cond.code ({ cls := "KeyHall$Key", name := "compareTo", desc := "(LKeyHall$Key;)I" } : Jvm.MethodName) prog_9_method_3_code (4 : Nat) (Option.some Jvm.ClassFile.FieldType.int)) ∈ lw_all := lw_g (lw_at lw_m2 102 rfl) rfl
theorem q400 : (Jvm.Cond.methodLink "KeyHall$Key" (19 : Nat) ({ cls := "java/lang/Math", name := "min", desc := "(II)I" } : Jvm.MethodName)) ∈ lw_all := lw_g (lw_at lw_m2 103 rfl) rfl
theorem q403 : (Jvm.Cond.methodLink "KeyHall$Key" (25 : Nat) ({ cls := "java/lang/Integer", name := "compare", desc := "(II)I" } : Jvm.MethodName)) ∈ lw_all := lw_g (lw_at lw_m2 106 rfl) rfl
theorem q429 : (Jvm.Cond.instanceMethod ({ cls := "KeyHall$Key", name := "bit", desc := "(I)I" } : Jvm.MethodName)) ∈ lw_all := lw_g (lw_at lw_m2 132 rfl) rfl
theorem q430 : (Jvm.Cond.selects "KeyHall$Key" ({ cls := "KeyHall$Key", name := "bit", desc := "(I)I" } : Jvm.MethodName) ({ cls := "KeyHall$Key", name := "bit", desc := "(I)I" } : Jvm.MethodName)) ∈ lw_all := lw_g (lw_at lw_m2 133 rfl) rfl
theorem q431 : (Jvm.Cond.sameMethod "KeyHall$Key" "KeyHall$Key" "bit" "(I)I") ∈ lw_all := lw_g (lw_at lw_m2 134 rfl) rfl
theorem q433 : (Jvm.Cond.code ({ cls := "KeyHall$Key", name := "bit", desc := "(I)I" } : Jvm.MethodName) prog_9_method_4_code (4 : Nat) (Option.some Jvm.ClassFile.FieldType.int)) ∈ lw_all := lw_g (lw_at lw_m2 136 rfl) rfl
theorem q437 : (Jvm.Cond.declares ({ cls := "KeyHall$Key", name := "compareTo", desc := "(LKeyHall$Key;)I" } : Jvm.MethodName)) ∈ lw_tbl := lw_at lw_m2 140 rfl
theorem q446 : (Jvm.Cond.declares ({ cls := "KeyHall$Key", name := "difference", desc := "(LKeyHall$Key;)I" } : Jvm.MethodName)) ∈ lw_tbl := lw_at lw_m2 149 rfl
theorem q448 : (Jvm.Cond.instanceMethod ({ cls := "KeyHall$Key", name := "difference", desc := "(LKeyHall$Key;)I" } : Jvm.MethodName)) ∈ lw_all := lw_g (lw_at lw_m2 151 rfl) rfl
theorem q449 : (Jvm.Cond.code ({ cls := "KeyHall$Key", name := "difference", desc := "(LKeyHall$Key;)I" } : Jvm.MethodName) prog_9_method_7_code (3 : Nat) (Option.some Jvm.ClassFile.FieldType.int)) ∈ lw_all := lw_g (lw_at lw_m2 152 rfl) rfl
theorem q450 : (Jvm.Cond.methodLink "KeyHall$Key" (30 : Nat) ({ cls := "KeyHall$Key", name := "bit", desc := "(I)I" } : Jvm.MethodName)) ∈ lw_all := lw_g (lw_at lw_m2 153 rfl) rfl
theorem q491 : (Jvm.Cond.instanceMethod ({ cls := "KeyHall$Key", name := "bytes", desc := "()I" } : Jvm.MethodName)) ∈ lw_all := lw_g (lw_at lw_m2 194 rfl) rfl
theorem q492 : (Jvm.Cond.selects "KeyHall$Key" ({ cls := "KeyHall$Key", name := "bytes", desc := "()I" } : Jvm.MethodName) ({ cls := "KeyHall$Key", name := "bytes", desc := "()I" } : Jvm.MethodName)) ∈ lw_all := lw_g (lw_at lw_m2 195 rfl) rfl
theorem q493 : (Jvm.Cond.sameMethod "KeyHall$Key" "KeyHall$Key" "bytes" "()I") ∈ lw_all := lw_g (lw_at lw_m2 196 rfl) rfl
theorem q495 : (Jvm.Cond.code ({ cls := "KeyHall$Key", name := "bytes", desc := "()I" } : Jvm.MethodName) prog_9_method_5_code (1 : Nat) (Option.some Jvm.ClassFile.FieldType.int)) ∈ lw_all := lw_g (lw_at lw_m2 198 rfl) rfl
theorem q497 : (Jvm.Cond.instanceMethod ({ cls := "KeyHall$Key", name := "octet", desc := "(I)I" } : Jvm.MethodName)) ∈ lw_all := lw_g (lw_at lw_m2 200 rfl) rfl
theorem q498 : (Jvm.Cond.selects "KeyHall$Key" ({ cls := "KeyHall$Key", name := "octet", desc := "(I)I" } : Jvm.MethodName) ({ cls := "KeyHall$Key", name := "octet", desc := "(I)I" } : Jvm.MethodName)) ∈ lw_all := lw_g (lw_at lw_m2 201 rfl) rfl
theorem q499 : (Jvm.Cond.sameMethod "KeyHall$Key" "KeyHall$Key" "octet" "(I)I") ∈ lw_all := lw_g (lw_at lw_m2 202 rfl) rfl
theorem q501 : (Jvm.Cond.code ({ cls := "KeyHall$Key", name := "octet", desc := "(I)I" } : Jvm.MethodName) prog_9_method_6_code (2 : Nat) (Option.some Jvm.ClassFile.FieldType.int)) ∈ lw_all := lw_g (lw_at lw_m2 204 rfl) rfl
theorem q544 : (Jvm.Cond.instanceMethod ({ cls := "KeyHall$Key", name := "copy", desc := "(LKeyHall$Key;)LKeyHall$Key;" } : Jvm.MethodName)) ∈ lw_all := lw_g (lw_at lw_m3 7 rfl) rfl
theorem q545 : (Jvm.Cond.selects "KeyHall$Key" ({ cls := "KeyHall$Key", name := "copy", desc := "(LKeyHall$Key;)LKeyHall$Key;" } : Jvm.MethodName) ({ cls := "KeyHall$Key", name := "copy", desc := "(LKeyHall$Key;)LKeyHall$Key;" } : Jvm.MethodName)) ∈ lw_all := lw_g (lw_at lw_m3 8 rfl) rfl
theorem q546 : (Jvm.Cond.sameMethod "KeyHall$Key" "KeyHall$Key" "copy" "(LKeyHall$Key;)LKeyHall$Key;") ∈ lw_all := lw_g (lw_at lw_m3 9 rfl) rfl
theorem q548 : (Jvm.Cond.code ({ cls := "KeyHall$Key", name := "copy", desc := "(LKeyHall$Key;)LKeyHall$Key;" } : Jvm.MethodName) prog_9_method_2_code (3 : Nat) (Option.some (Jvm.ClassFile.FieldType.object "KeyHall$Key"))) ∈ lw_all := lw_g (lw_at lw_m3 11 rfl) rfl
theorem q818 : (Jvm.Cond.declares ({ cls := "KeyHall$Key", name := "copy", desc := "(LKeyHall$Key;)LKeyHall$Key;" } : Jvm.MethodName)) ∈ lw_tbl := lw_at lw_m4 41 rfl
theorem q865 : (Jvm.Cond.declares ({ cls := "KeyHall$Key", name := "bit", desc := "(I)I" } : Jvm.MethodName)) ∈ lw_tbl := lw_at lw_m4 88 rfl
theorem q920 : (Jvm.Cond.declares ({ cls := "KeyHall$Key", name := "bytes", desc := "()I" } : Jvm.MethodName)) ∈ lw_tbl := lw_at lw_m4 143 rfl
theorem q924 : (Jvm.Cond.declares ({ cls := "KeyHall$Key", name := "octet", desc := "(I)I" } : Jvm.MethodName)) ∈ lw_tbl := lw_at lw_m4 147 rfl
theorem in_X2 : ∀ w ∈ wsX20, w ∈ lw_all := lw_in wsX20 [118, 120] (by decide +kernel) (by decide +kernel)
/-! KeyHall$Tree -/
def RX3 : String := "KeyHall$Tree"
abbrev cX3_init : ByteArray := prog_14_method_1_code
def yX3_init : MethodName := ⟨RX3, "<init>", "()V"⟩
abbrev cX3_add : ByteArray := prog_14_method_7_code
def yX3_add : MethodName := ⟨RX3, "add", "(LKeyHall$Entry;)V"⟩
abbrev cX3_remove : ByteArray := prog_14_method_8_code
def yX3_remove : MethodName := ⟨RX3, "remove", "(LKeyHall$Entry;)V"⟩
theorem q60 : (Jvm.Cond.initialized "KeyHall$Tree") ∈ lw_all := lw_g (lw_at lw_m1 3 rfl) rfl
theorem q132 : (Jvm.Cond.instanceMethod ({ cls := "KeyHall$Tree", name := "<init>", desc := "()V" } : Jvm.MethodName)) ∈ lw_all := lw_g (lw_at lw_m1 75 rfl) rfl
theorem q133 : (Jvm.Cond.code ({ cls := "KeyHall$Tree", name := "<init>", desc := "()V" } : Jvm.MethodName) prog_14_method_1_code (1 : Nat) (Option.none : Option Jvm.ClassFile.FieldType)) ∈ lw_all := lw_g (lw_at lw_m1 76 rfl) rfl
theorem q134 : (Jvm.Cond.methodLink "KeyHall$Tree" (1 : Nat) ({ cls := "java/lang/Object", name := "<init>", desc := "()V" } : Jvm.MethodName)) ∈ lw_all := lw_g (lw_at lw_m1 77 rfl) rfl
theorem q136 : (Jvm.Cond.fieldLink "KeyHall$Tree" (13 : Nat) "KeyHall$Tree" "count" "I") ∈ lw_all := lw_g (lw_at lw_m1 79 rfl) rfl
theorem q140 : (Jvm.Cond.fieldLink "KeyHall$Tree" (17 : Nat) "KeyHall$Tree" "changes" "I") ∈ lw_all := lw_g (lw_at lw_m1 83 rfl) rfl
theorem q146 : (Jvm.Cond.soleField "KeyHall$Tree" "count") ∈ lw_all := lw_g (lw_at lw_m1 89 rfl) rfl
theorem q148 : (Jvm.Cond.soleField "KeyHall$Tree" "changes") ∈ lw_all := lw_g (lw_at lw_m1 91 rfl) rfl
theorem q407 : (Jvm.Cond.declares ({ cls := "KeyHall$Tree", name := "above", desc := "(LKeyHall$Key;Z)LKeyHall$Entry;" } : Jvm.MethodName)) ∈ lw_tbl := lw_at lw_m2 110 rfl
theorem q408 : (Jvm.Cond.sameMethod "KeyHall$Tree" "KeyHall$Tree" "above" "(LKeyHall$Key;Z)LKeyHall$Entry;") ∈ lw_all := lw_g (lw_at lw_m2 111 rfl) rfl
theorem q779 : (Jvm.Cond.declares ({ cls := "KeyHall$Tree", name := "get", desc := "(LKeyHall$Key;)LKeyHall$Entry;" } : Jvm.MethodName)) ∈ lw_tbl := lw_at lw_m4 2 rfl
theorem q780 : (Jvm.Cond.sameMethod "KeyHall$Tree" "KeyHall$Tree" "get" "(LKeyHall$Key;)LKeyHall$Entry;") ∈ lw_all := lw_g (lw_at lw_m4 3 rfl) rfl
theorem q828 : (Jvm.Cond.instanceMethod ({ cls := "KeyHall$Tree", name := "add", desc := "(LKeyHall$Entry;)V" } : Jvm.MethodName)) ∈ lw_all := lw_g (lw_at lw_m4 51 rfl) rfl
theorem q829 : (Jvm.Cond.sameMethod "KeyHall$Tree" "KeyHall$Tree" "add" "(LKeyHall$Entry;)V") ∈ lw_all := lw_g (lw_at lw_m4 52 rfl) rfl
theorem q833 : (Jvm.Cond.code ({ cls := "KeyHall$Tree", name := "add", desc := "(LKeyHall$Entry;)V" } : Jvm.MethodName) prog_14_method_7_code (2 : Nat) (Option.none : Option Jvm.ClassFile.FieldType)) ∈ lw_all := lw_g (lw_at lw_m4 56 rfl) rfl
theorem q834 : (Jvm.Cond.methodLink "KeyHall$Tree" (7 : Nat) ({ cls := "KeyHall$Tree", name := "put", desc := "(LKeyHall$Entry;)V" } : Jvm.MethodName)) ∈ lw_all := lw_g (lw_at lw_m4 57 rfl) rfl
theorem q835 : (Jvm.Cond.declares ({ cls := "KeyHall$Tree", name := "put", desc := "(LKeyHall$Entry;)V" } : Jvm.MethodName)) ∈ lw_tbl := lw_at lw_m4 58 rfl
theorem q836 : (Jvm.Cond.sameMethod "KeyHall$Tree" "KeyHall$Tree" "put" "(LKeyHall$Entry;)V") ∈ lw_all := lw_g (lw_at lw_m4 59 rfl) rfl
theorem q980 : (Jvm.Cond.instanceMethod ({ cls := "KeyHall$Tree", name := "remove", desc := "(LKeyHall$Entry;)V" } : Jvm.MethodName)) ∈ lw_all := lw_g (lw_at lw_m4 203 rfl) rfl
theorem q981 : (Jvm.Cond.sameMethod "KeyHall$Tree" "KeyHall$Tree" "remove" "(LKeyHall$Entry;)V") ∈ lw_all := lw_g (lw_at lw_m4 204 rfl) rfl
theorem q985 : (Jvm.Cond.code ({ cls := "KeyHall$Tree", name := "remove", desc := "(LKeyHall$Entry;)V" } : Jvm.MethodName) prog_14_method_8_code (2 : Nat) (Option.none : Option Jvm.ClassFile.FieldType)) ∈ lw_all := lw_g (lw_at lw_m4 208 rfl) rfl
theorem q986 : (Jvm.Cond.methodLink "KeyHall$Tree" (20 : Nat) ({ cls := "KeyHall$Tree", name := "take", desc := "(LKeyHall$Entry;)V" } : Jvm.MethodName)) ∈ lw_all := lw_g (lw_at lw_m4 209 rfl) rfl
theorem q987 : (Jvm.Cond.declares ({ cls := "KeyHall$Tree", name := "take", desc := "(LKeyHall$Entry;)V" } : Jvm.MethodName)) ∈ lw_tbl := lw_at lw_m4 210 rfl
theorem q988 : (Jvm.Cond.sameMethod "KeyHall$Tree" "KeyHall$Tree" "take" "(LKeyHall$Entry;)V") ∈ lw_all := lw_g (lw_at lw_m4 211 rfl) rfl
theorem q1042 : (Jvm.Cond.declares ({ cls := "KeyHall$Tree", name := "below", desc := "(LKeyHall$Key;Z)LKeyHall$Entry;" } : Jvm.MethodName)) ∈ lw_tbl := lw_at lw_m5 25 rfl
theorem q1043 : (Jvm.Cond.sameMethod "KeyHall$Tree" "KeyHall$Tree" "below" "(LKeyHall$Key;Z)LKeyHall$Entry;") ∈ lw_all := lw_g (lw_at lw_m5 26 rfl) rfl
/-! KeyHall$BitTree -/
def RX4 : String := "KeyHall$BitTree"
def TX4 : u_T := fun k => match k with
  | 0 => ("KeyHall$Tree", "count", "I", false)
  | 1 => ("KeyHall$Tree", "changes", "I", false)
  | _ => ("KeyHall$BitTree", "root", "LKeyHall$Fork;", false)
def tyX4 : Nat → FieldType := fun k => match k with
  | 0 => .int
  | 1 => .int
  | _ => .object "KeyHall$Fork"
abbrev wsX40 : List Cond := u_ws RX4 TX4 3
theorem nmX4 : ∀ a, a < 3 → ∀ b, b < 3 → a ≠ b → (TX4 a).2.1 ≠ (TX4 b).2.1 := by decide +kernel
theorem tyX4_ok : ∀ k, k < 3 → parseFieldDescriptor (TX4 k).2.2.1 = some (tyX4 k) := by decide +kernel
abbrev cX4_init : ByteArray := prog_3_method_1_code
def yX4_init : MethodName := ⟨RX4, "<init>", "()V"⟩
abbrev cX4_above : ByteArray := prog_3_method_9_code
def yX4_above : MethodName := ⟨RX4, "above", "(LKeyHall$Key;Z)LKeyHall$Entry;"⟩
abbrev cX4_nearest : ByteArray := prog_3_method_8_code
def yX4_nearest : MethodName := ⟨RX4, "nearest", "(LKeyHall$Key;ZI)LKeyHall$Entry;"⟩
abbrev cX4_near : ByteArray := prog_3_method_2_code
def yX4_near : MethodName := ⟨RX4, "near", "(LKeyHall$Key;)LKeyHall$Entry;"⟩
abbrev cX4_aside : ByteArray := prog_3_method_7_code
def yX4_aside : MethodName := ⟨RX4, "aside", "(LKeyHall$Key;II)LKeyHall$Entry;"⟩
abbrev cX4_get : ByteArray := prog_3_method_3_code
def yX4_get : MethodName := ⟨RX4, "get", "(LKeyHall$Key;)LKeyHall$Entry;"⟩
abbrev cX4_put : ByteArray := prog_3_method_4_code
def yX4_put : MethodName := ⟨RX4, "put", "(LKeyHall$Entry;)V"⟩
abbrev cX4_join : ByteArray := prog_3_method_5_code
def yX4_join : MethodName := ⟨RX4, "join", "(LKeyHall$Fork;LKeyHall$Key;LKeyHall$Fork;)V"⟩
abbrev cX4_take : ByteArray := prog_3_method_6_code
def yX4_take : MethodName := ⟨RX4, "take", "(LKeyHall$Entry;)V"⟩
abbrev cX4_below : ByteArray := prog_3_method_10_code
def yX4_below : MethodName := ⟨RX4, "below", "(LKeyHall$Key;Z)LKeyHall$Entry;"⟩
abbrev cX4_depth : ByteArray := prog_3_method_11_code
def yX4_depth : MethodName := ⟨RX4, "depth", "(LKeyHall$Key;)I"⟩
theorem q61 : (Jvm.Cond.initialized "KeyHall$BitTree") ∈ lw_all := lw_g (lw_at lw_m1 4 rfl) rfl
theorem q127 : (Jvm.Cond.instantiable "KeyHall$BitTree" (3 : Nat)) ∈ lw_all := lw_g (lw_at lw_m1 70 rfl) rfl
theorem q129 : (Jvm.Cond.instanceMethod ({ cls := "KeyHall$BitTree", name := "<init>", desc := "()V" } : Jvm.MethodName)) ∈ lw_all := lw_g (lw_at lw_m1 72 rfl) rfl
theorem q130 : (Jvm.Cond.code ({ cls := "KeyHall$BitTree", name := "<init>", desc := "()V" } : Jvm.MethodName) prog_3_method_1_code (1 : Nat) (Option.none : Option Jvm.ClassFile.FieldType)) ∈ lw_all := lw_g (lw_at lw_m1 73 rfl) rfl
theorem q131 : (Jvm.Cond.methodLinkNest "KeyHall$BitTree" (1 : Nat) ({ cls := "KeyHall$Tree", name := "<init>", desc := "()V" } : Jvm.MethodName) "KeyHall") ∈ lw_tbl := lw_at lw_m1 74 rfl
theorem q135 : (Jvm.Cond.fieldLink "KeyHall$BitTree" (7 : Nat) "KeyHall$BitTree" "root" "LKeyHall$Fork;") ∈ lw_all := lw_g (lw_at lw_m1 78 rfl) rfl
theorem q143 : (Jvm.Cond.lays "KeyHall$BitTree" "KeyHall$BitTree" "root" "LKeyHall$Fork;") ∈ lw_all := lw_g (lw_at lw_m1 86 rfl) rfl
theorem q144 : (Jvm.Cond.soleField "KeyHall$BitTree" "root") ∈ lw_all := lw_g (lw_at lw_m1 87 rfl) rfl
theorem q145 : (Jvm.Cond.lays "KeyHall$BitTree" "KeyHall$Tree" "count" "I") ∈ lw_all := lw_g (lw_at lw_m1 88 rfl) rfl
theorem q147 : (Jvm.Cond.lays "KeyHall$BitTree" "KeyHall$Tree" "changes" "I") ∈ lw_all := lw_g (lw_at lw_m1 90 rfl) rfl
theorem q149 : (Jvm.Cond.superclass "KeyHall$BitTree" "KeyHall$Tree") ∈ lw_all := lw_g (lw_at lw_m1 92 rfl) rfl
theorem q409 : (Jvm.Cond.selects "KeyHall$BitTree" ({ cls := "KeyHall$Tree", name := "above", desc := "(LKeyHall$Key;Z)LKeyHall$Entry;" } : Jvm.MethodName) ({ cls := "KeyHall$BitTree", name := "above", desc := "(LKeyHall$Key;Z)LKeyHall$Entry;" } : Jvm.MethodName)) ∈ lw_all := lw_g (lw_at lw_m2 112 rfl) rfl
theorem q410 : (Jvm.Cond.instanceMethod ({ cls := "KeyHall$BitTree", name := "above", desc := "(LKeyHall$Key;Z)LKeyHall$Entry;" } : Jvm.MethodName)) ∈ lw_all := lw_g (lw_at lw_m2 113 rfl) rfl
theorem q411 : (Jvm.Cond.code ({ cls := "KeyHall$BitTree", name := "above", desc := "(LKeyHall$Key;Z)LKeyHall$Entry;" } : Jvm.MethodName) prog_3_method_9_code (3 : Nat) (Option.some (Jvm.ClassFile.FieldType.object "KeyHall$Entry"))) ∈ lw_all := lw_g (lw_at lw_m2 114 rfl) rfl
theorem q412 : (Jvm.Cond.methodLink "KeyHall$BitTree" (73 : Nat) ({ cls := "KeyHall$BitTree", name := "nearest", desc := "(LKeyHall$Key;ZI)LKeyHall$Entry;" } : Jvm.MethodName)) ∈ lw_all := lw_g (lw_at lw_m2 115 rfl) rfl
theorem q413 : (Jvm.Cond.privateMethod ({ cls := "KeyHall$BitTree", name := "nearest", desc := "(LKeyHall$Key;ZI)LKeyHall$Entry;" } : Jvm.MethodName)) ∈ lw_tbl := lw_at lw_m2 116 rfl
theorem q414 : (Jvm.Cond.instanceMethod ({ cls := "KeyHall$BitTree", name := "nearest", desc := "(LKeyHall$Key;ZI)LKeyHall$Entry;" } : Jvm.MethodName)) ∈ lw_all := lw_g (lw_at lw_m2 117 rfl) rfl
theorem q415 : (Jvm.Cond.code ({ cls := "KeyHall$BitTree", name := "nearest", desc := "(LKeyHall$Key;ZI)LKeyHall$Entry;" } : Jvm.MethodName) prog_3_method_8_code (7 : Nat) (Option.some (Jvm.ClassFile.FieldType.object "KeyHall$Entry"))) ∈ lw_all := lw_g (lw_at lw_m2 118 rfl) rfl
theorem q416 : (Jvm.Cond.methodLink "KeyHall$BitTree" (62 : Nat) ({ cls := "KeyHall$Fork", name := "end", desc := "(I)LKeyHall$Entry;" } : Jvm.MethodName)) ∈ lw_all := lw_g (lw_at lw_m2 119 rfl) rfl
theorem q424 : (Jvm.Cond.methodLink "KeyHall$BitTree" (32 : Nat) ({ cls := "KeyHall$BitTree", name := "near", desc := "(LKeyHall$Key;)LKeyHall$Entry;" } : Jvm.MethodName)) ∈ lw_all := lw_g (lw_at lw_m2 127 rfl) rfl
theorem q425 : (Jvm.Cond.privateMethod ({ cls := "KeyHall$BitTree", name := "near", desc := "(LKeyHall$Key;)LKeyHall$Entry;" } : Jvm.MethodName)) ∈ lw_tbl := lw_at lw_m2 128 rfl
theorem q426 : (Jvm.Cond.instanceMethod ({ cls := "KeyHall$BitTree", name := "near", desc := "(LKeyHall$Key;)LKeyHall$Entry;" } : Jvm.MethodName)) ∈ lw_all := lw_g (lw_at lw_m2 129 rfl) rfl
theorem q427 : (Jvm.Cond.code ({ cls := "KeyHall$BitTree", name := "near", desc := "(LKeyHall$Key;)LKeyHall$Entry;" } : Jvm.MethodName) prog_3_method_2_code (3 : Nat) (Option.some (Jvm.ClassFile.FieldType.object "KeyHall$Entry"))) ∈ lw_all := lw_g (lw_at lw_m2 130 rfl) rfl
theorem q428 : (Jvm.Cond.methodLink "KeyHall$BitTree" (23 : Nat) ({ cls := "KeyHall$Key", name := "bit", desc := "(I)I" } : Jvm.MethodName)) ∈ lw_all := lw_g (lw_at lw_m2 131 rfl) rfl
theorem q434 : (Jvm.Cond.methodLink "KeyHall$BitTree" (28 : Nat) ({ cls := "KeyHall$Fork", name := "to", desc := "(I)LKeyHall$Fork;" } : Jvm.MethodName)) ∈ lw_all := lw_g (lw_at lw_m2 137 rfl) rfl
theorem q435 : (Jvm.Cond.methodLink "KeyHall$BitTree" (36 : Nat) ({ cls := "KeyHall$Entry", name := "compareTo", desc := "(LKeyHall$Key;)I" } : Jvm.MethodName)) ∈ lw_all := lw_g (lw_at lw_m2 138 rfl) rfl
theorem q439 : (Jvm.Cond.constant "KeyHall$BitTree" (68 : Nat) (2147483647 : Int32)) ∈ lw_all := lw_g (lw_at lw_m2 142 rfl) rfl
theorem q440 : (Jvm.Cond.methodLink "KeyHall$BitTree" (69 : Nat) ({ cls := "KeyHall$BitTree", name := "aside", desc := "(LKeyHall$Key;II)LKeyHall$Entry;" } : Jvm.MethodName)) ∈ lw_all := lw_g (lw_at lw_m2 143 rfl) rfl
theorem q441 : (Jvm.Cond.privateMethod ({ cls := "KeyHall$BitTree", name := "aside", desc := "(LKeyHall$Key;II)LKeyHall$Entry;" } : Jvm.MethodName)) ∈ lw_tbl := lw_at lw_m2 144 rfl
theorem q442 : (Jvm.Cond.instanceMethod ({ cls := "KeyHall$BitTree", name := "aside", desc := "(LKeyHall$Key;II)LKeyHall$Entry;" } : Jvm.MethodName)) ∈ lw_all := lw_g (lw_at lw_m2 145 rfl) rfl
theorem q443 : (Jvm.Cond.code ({ cls := "KeyHall$BitTree", name := "aside", desc := "(LKeyHall$Key;II)LKeyHall$Entry;" } : Jvm.MethodName) prog_3_method_7_code (6 : Nat) (Option.some (Jvm.ClassFile.FieldType.object "KeyHall$Entry"))) ∈ lw_all := lw_g (lw_at lw_m2 146 rfl) rfl
theorem q444 : (Jvm.Cond.methodLink "KeyHall$BitTree" (45 : Nat) ({ cls := "KeyHall$Entry", name := "difference", desc := "(LKeyHall$Key;)I" } : Jvm.MethodName)) ∈ lw_all := lw_g (lw_at lw_m2 147 rfl) rfl
theorem q781 : (Jvm.Cond.selects "KeyHall$BitTree" ({ cls := "KeyHall$Tree", name := "get", desc := "(LKeyHall$Key;)LKeyHall$Entry;" } : Jvm.MethodName) ({ cls := "KeyHall$BitTree", name := "get", desc := "(LKeyHall$Key;)LKeyHall$Entry;" } : Jvm.MethodName)) ∈ lw_all := lw_g (lw_at lw_m4 4 rfl) rfl
theorem q782 : (Jvm.Cond.instanceMethod ({ cls := "KeyHall$BitTree", name := "get", desc := "(LKeyHall$Key;)LKeyHall$Entry;" } : Jvm.MethodName)) ∈ lw_all := lw_g (lw_at lw_m4 5 rfl) rfl
theorem q783 : (Jvm.Cond.code ({ cls := "KeyHall$BitTree", name := "get", desc := "(LKeyHall$Key;)LKeyHall$Entry;" } : Jvm.MethodName) prog_3_method_3_code (3 : Nat) (Option.some (Jvm.ClassFile.FieldType.object "KeyHall$Entry"))) ∈ lw_all := lw_g (lw_at lw_m4 6 rfl) rfl
theorem q830 : (Jvm.Cond.selects "KeyHall$BitTree" ({ cls := "KeyHall$Tree", name := "add", desc := "(LKeyHall$Entry;)V" } : Jvm.MethodName) ({ cls := "KeyHall$Tree", name := "add", desc := "(LKeyHall$Entry;)V" } : Jvm.MethodName)) ∈ lw_all := lw_g (lw_at lw_m4 53 rfl) rfl
theorem q837 : (Jvm.Cond.selects "KeyHall$BitTree" ({ cls := "KeyHall$Tree", name := "put", desc := "(LKeyHall$Entry;)V" } : Jvm.MethodName) ({ cls := "KeyHall$BitTree", name := "put", desc := "(LKeyHall$Entry;)V" } : Jvm.MethodName)) ∈ lw_all := lw_g (lw_at lw_m4 60 rfl) rfl
theorem q838 : (Jvm.Cond.instanceMethod ({ cls := "KeyHall$BitTree", name := "put", desc := "(LKeyHall$Entry;)V" } : Jvm.MethodName)) ∈ lw_all := lw_g (lw_at lw_m4 61 rfl) rfl
theorem q839 : (Jvm.Cond.code ({ cls := "KeyHall$BitTree", name := "put", desc := "(LKeyHall$Entry;)V" } : Jvm.MethodName) prog_3_method_4_code (7 : Nat) (Option.none : Option Jvm.ClassFile.FieldType)) ∈ lw_all := lw_g (lw_at lw_m4 62 rfl) rfl
theorem q840 : (Jvm.Cond.classLink "KeyHall$BitTree" (14 : Nat) "KeyHall$Fork") ∈ lw_all := lw_g (lw_at lw_m4 63 rfl) rfl
theorem q842 : (Jvm.Cond.methodLink "KeyHall$BitTree" (42 : Nat) ({ cls := "KeyHall$Fork", name := "<init>", desc := "(LKeyHall$Entry;)V" } : Jvm.MethodName)) ∈ lw_all := lw_g (lw_at lw_m4 65 rfl) rfl
theorem q847 : (Jvm.Cond.fieldLinkNest "KeyHall$BitTree" (19 : Nat) "KeyHall$Fork" "bit" "I" "KeyHall") ∈ lw_tbl := lw_at lw_m4 70 rfl
theorem q849 : (Jvm.Cond.fieldLinkNest "KeyHall$BitTree" (56 : Nat) "KeyHall$Fork" "zero" "LKeyHall$Fork;" "KeyHall") ∈ lw_tbl := lw_at lw_m4 72 rfl
theorem q851 : (Jvm.Cond.fieldLinkNest "KeyHall$BitTree" (59 : Nat) "KeyHall$Fork" "one" "LKeyHall$Fork;" "KeyHall") ∈ lw_tbl := lw_at lw_m4 74 rfl
theorem q853 : (Jvm.Cond.fieldLinkNest "KeyHall$BitTree" (13 : Nat) "KeyHall$Fork" "entry" "LKeyHall$Entry;" "KeyHall") ∈ lw_tbl := lw_at lw_m4 76 rfl
theorem q863 : (Jvm.Cond.methodLink "KeyHall$BitTree" (48 : Nat) ({ cls := "KeyHall$Entry", name := "bit", desc := "(I)I" } : Jvm.MethodName)) ∈ lw_all := lw_g (lw_at lw_m4 86 rfl) rfl
theorem q867 : (Jvm.Cond.methodLink "KeyHall$BitTree" (49 : Nat) ({ cls := "KeyHall$Fork", name := "<init>", desc := "(ILKeyHall$Fork;LKeyHall$Fork;)V" } : Jvm.MethodName)) ∈ lw_all := lw_g (lw_at lw_m4 90 rfl) rfl
theorem q870 : (Jvm.Cond.methodLink "KeyHall$BitTree" (52 : Nat) ({ cls := "KeyHall$BitTree", name := "join", desc := "(LKeyHall$Fork;LKeyHall$Key;LKeyHall$Fork;)V" } : Jvm.MethodName)) ∈ lw_all := lw_g (lw_at lw_m4 93 rfl) rfl
theorem q871 : (Jvm.Cond.privateMethod ({ cls := "KeyHall$BitTree", name := "join", desc := "(LKeyHall$Fork;LKeyHall$Key;LKeyHall$Fork;)V" } : Jvm.MethodName)) ∈ lw_tbl := lw_at lw_m4 94 rfl
theorem q872 : (Jvm.Cond.instanceMethod ({ cls := "KeyHall$BitTree", name := "join", desc := "(LKeyHall$Fork;LKeyHall$Key;LKeyHall$Fork;)V" } : Jvm.MethodName)) ∈ lw_all := lw_g (lw_at lw_m4 95 rfl) rfl
theorem q873 : (Jvm.Cond.code ({ cls := "KeyHall$BitTree", name := "join", desc := "(LKeyHall$Fork;LKeyHall$Key;LKeyHall$Fork;)V" } : Jvm.MethodName) prog_3_method_5_code (4 : Nat) (Option.none : Option Jvm.ClassFile.FieldType)) ∈ lw_all := lw_g (lw_at lw_m4 96 rfl) rfl
theorem q982 : (Jvm.Cond.selects "KeyHall$BitTree" ({ cls := "KeyHall$Tree", name := "remove", desc := "(LKeyHall$Entry;)V" } : Jvm.MethodName) ({ cls := "KeyHall$Tree", name := "remove", desc := "(LKeyHall$Entry;)V" } : Jvm.MethodName)) ∈ lw_all := lw_g (lw_at lw_m4 205 rfl) rfl
theorem q989 : (Jvm.Cond.selects "KeyHall$BitTree" ({ cls := "KeyHall$Tree", name := "take", desc := "(LKeyHall$Entry;)V" } : Jvm.MethodName) ({ cls := "KeyHall$BitTree", name := "take", desc := "(LKeyHall$Entry;)V" } : Jvm.MethodName)) ∈ lw_all := lw_g (lw_at lw_m4 212 rfl) rfl
theorem q990 : (Jvm.Cond.instanceMethod ({ cls := "KeyHall$BitTree", name := "take", desc := "(LKeyHall$Entry;)V" } : Jvm.MethodName)) ∈ lw_all := lw_g (lw_at lw_m4 213 rfl) rfl
theorem q991 : (Jvm.Cond.code ({ cls := "KeyHall$BitTree", name := "take", desc := "(LKeyHall$Entry;)V" } : Jvm.MethodName) prog_3_method_6_code (5 : Nat) (Option.none : Option Jvm.ClassFile.FieldType)) ∈ lw_all := lw_g (lw_at lw_m4 214 rfl) rfl
theorem q1044 : (Jvm.Cond.selects "KeyHall$BitTree" ({ cls := "KeyHall$Tree", name := "below", desc := "(LKeyHall$Key;Z)LKeyHall$Entry;" } : Jvm.MethodName) ({ cls := "KeyHall$BitTree", name := "below", desc := "(LKeyHall$Key;Z)LKeyHall$Entry;" } : Jvm.MethodName)) ∈ lw_all := lw_g (lw_at lw_m5 27 rfl) rfl
theorem q1045 : (Jvm.Cond.instanceMethod ({ cls := "KeyHall$BitTree", name := "below", desc := "(LKeyHall$Key;Z)LKeyHall$Entry;" } : Jvm.MethodName)) ∈ lw_all := lw_g (lw_at lw_m5 28 rfl) rfl
theorem q1046 : (Jvm.Cond.code ({ cls := "KeyHall$BitTree", name := "below", desc := "(LKeyHall$Key;Z)LKeyHall$Entry;" } : Jvm.MethodName) prog_3_method_10_code (3 : Nat) (Option.some (Jvm.ClassFile.FieldType.object "KeyHall$Entry"))) ∈ lw_all := lw_g (lw_at lw_m5 29 rfl) rfl
theorem q1169 : (Jvm.Cond.instanceMethod ({ cls := "KeyHall$BitTree", name := "depth", desc := "(LKeyHall$Key;)I" } : Jvm.MethodName)) ∈ lw_all := lw_g (lw_at lw_m5 152 rfl) rfl
theorem q1170 : (Jvm.Cond.selects "KeyHall$BitTree" ({ cls := "KeyHall$BitTree", name := "depth", desc := "(LKeyHall$Key;)I" } : Jvm.MethodName) ({ cls := "KeyHall$BitTree", name := "depth", desc := "(LKeyHall$Key;)I" } : Jvm.MethodName)) ∈ lw_all := lw_g (lw_at lw_m5 153 rfl) rfl
theorem q1171 : (Jvm.Cond.code ({ cls := "KeyHall$BitTree", name := "depth", desc := "(LKeyHall$Key;)I" } : Jvm.MethodName) prog_3_method_11_code (4 : Nat) (Option.some Jvm.ClassFile.FieldType.int)) ∈ lw_all := lw_g (lw_at lw_m5 154 rfl) rfl
theorem q1628 : (Jvm.Cond.selects "KeyHall$BitTree" ({ cls := "KeyHall$BitTree", name := "get", desc := "(LKeyHall$Key;)LKeyHall$Entry;" } : Jvm.MethodName) ({ cls := "KeyHall$BitTree", name := "get", desc := "(LKeyHall$Key;)LKeyHall$Entry;" } : Jvm.MethodName)) ∈ lw_all := lw_g (lw_at lw_m7 131 rfl) rfl
theorem in_X4 : ∀ w ∈ wsX40, w ∈ lw_all := lw_in wsX40 [145, 147, 143] (by decide +kernel) (by decide +kernel)
/-! KeyHall$ByteTree -/
def RX5 : String := "KeyHall$ByteTree"
def TX5 : u_T := fun k => match k with
  | 0 => ("KeyHall$Tree", "count", "I", false)
  | 1 => ("KeyHall$Tree", "changes", "I", false)
  | 2 => ("KeyHall$ByteTree", "root", "LKeyHall$Twig;", true)
  | 3 => ("KeyHall$ByteTree", "way", "[LKeyHall$Twig;", true)
  | 4 => ("KeyHall$ByteTree", "wayByte", "[I", true)
  | _ => ("KeyHall$ByteTree", "ways", "I", false)
def tyX5 : Nat → FieldType := fun k => match k with
  | 0 => .int
  | 1 => .int
  | 2 => .object "KeyHall$Twig"
  | 3 => .array (.object "KeyHall$Twig")
  | 4 => .array .int
  | _ => .int
abbrev wsX50 : List Cond := u_ws RX5 TX5 6
theorem nmX5 : ∀ a, a < 6 → ∀ b, b < 6 → a ≠ b → (TX5 a).2.1 ≠ (TX5 b).2.1 := by decide +kernel
theorem tyX5_ok : ∀ k, k < 6 → parseFieldDescriptor (TX5 k).2.2.1 = some (tyX5 k) := by decide +kernel
abbrev cX5_init : ByteArray := prog_4_method_1_code
def yX5_init : MethodName := ⟨RX5, "<init>", "()V"⟩
abbrev cX5_above : ByteArray := prog_4_method_8_code
def yX5_above : MethodName := ⟨RX5, "above", "(LKeyHall$Key;Z)LKeyHall$Entry;"⟩
abbrev cX5_above_2 : ByteArray := prog_4_method_6_code
def yX5_above_2 : MethodName := ⟨RX5, "above", "(LKeyHall$Twig;LKeyHall$Key;IZ)LKeyHall$Entry;"⟩
abbrev cX5_get : ByteArray := prog_4_method_3_code
def yX5_get : MethodName := ⟨RX5, "get", "(LKeyHall$Key;)LKeyHall$Entry;"⟩
abbrev cX5_descend : ByteArray := prog_4_method_2_code
def yX5_descend : MethodName := ⟨RX5, "descend", "(LKeyHall$Key;)LKeyHall$Twig;"⟩
abbrev cX5_put : ByteArray := prog_4_method_4_code
def yX5_put : MethodName := ⟨RX5, "put", "(LKeyHall$Entry;)V"⟩
abbrev cX5_take : ByteArray := prog_4_method_5_code
def yX5_take : MethodName := ⟨RX5, "take", "(LKeyHall$Entry;)V"⟩
abbrev cX5_below : ByteArray := prog_4_method_9_code
def yX5_below : MethodName := ⟨RX5, "below", "(LKeyHall$Key;Z)LKeyHall$Entry;"⟩
abbrev cX5_below_2 : ByteArray := prog_4_method_7_code
def yX5_below_2 : MethodName := ⟨RX5, "below", "(LKeyHall$Twig;LKeyHall$Key;IZ)LKeyHall$Entry;"⟩
abbrev cX5_inner : ByteArray := prog_4_method_11_code
def yX5_inner : MethodName := ⟨RX5, "inner", "(I)I"⟩
abbrev cX5_tell : ByteArray := prog_4_method_10_code
def yX5_tell : MethodName := ⟨RX5, "tell", "(LKeyHall$Twig;[I)V"⟩
theorem q62 : (Jvm.Cond.initialized "KeyHall$ByteTree") ∈ lw_all := lw_g (lw_at lw_m1 5 rfl) rfl
theorem q138 : (Jvm.Cond.fieldLink "KeyHall$ByteTree" (114 : Nat) "KeyHall$ByteTree" "count" "I") ∈ lw_all := lw_g (lw_at lw_m1 81 rfl) rfl
theorem q139 : (Jvm.Cond.sameField "KeyHall$ByteTree" "KeyHall$Tree" "count" "I") ∈ lw_all := lw_g (lw_at lw_m1 82 rfl) rfl
theorem q151 : (Jvm.Cond.instantiable "KeyHall$ByteTree" (6 : Nat)) ∈ lw_all := lw_g (lw_at lw_m1 94 rfl) rfl
theorem q153 : (Jvm.Cond.instanceMethod ({ cls := "KeyHall$ByteTree", name := "<init>", desc := "()V" } : Jvm.MethodName)) ∈ lw_all := lw_g (lw_at lw_m1 96 rfl) rfl
theorem q154 : (Jvm.Cond.code ({ cls := "KeyHall$ByteTree", name := "<init>", desc := "()V" } : Jvm.MethodName) prog_4_method_1_code (1 : Nat) (Option.none : Option Jvm.ClassFile.FieldType)) ∈ lw_all := lw_g (lw_at lw_m1 97 rfl) rfl
theorem q155 : (Jvm.Cond.methodLinkNest "KeyHall$ByteTree" (3 : Nat) ({ cls := "KeyHall$Tree", name := "<init>", desc := "()V" } : Jvm.MethodName) "KeyHall") ∈ lw_tbl := lw_at lw_m1 98 rfl
theorem q156 : (Jvm.Cond.classLink "KeyHall$ByteTree" (9 : Nat) "KeyHall$Twig") ∈ lw_all := lw_g (lw_at lw_m1 99 rfl) rfl
theorem q158 : (Jvm.Cond.methodLinkNest "KeyHall$ByteTree" (11 : Nat) ({ cls := "KeyHall$Twig", name := "<init>", desc := "()V" } : Jvm.MethodName) "KeyHall") ∈ lw_tbl := lw_at lw_m1 101 rfl
theorem q179 : (Jvm.Cond.fieldLink "KeyHall$ByteTree" (81 : Nat) "KeyHall$Fan" "size" "I") ∈ lw_all := lw_g (lw_at lw_m1 122 rfl) rfl
theorem q190 : (Jvm.Cond.fieldLinkNest "KeyHall$ByteTree" (91 : Nat) "KeyHall$Twig" "path" "[I" "KeyHall") ∈ lw_tbl := lw_at lw_m1 133 rfl
theorem q192 : (Jvm.Cond.fieldLinkNest "KeyHall$ByteTree" (34 : Nat) "KeyHall$Twig" "length" "I" "KeyHall") ∈ lw_tbl := lw_at lw_m1 135 rfl
theorem q194 : (Jvm.Cond.fieldLinkNest "KeyHall$ByteTree" (61 : Nat) "KeyHall$Twig" "entry" "LKeyHall$Entry;" "KeyHall") ∈ lw_tbl := lw_at lw_m1 137 rfl
theorem q196 : (Jvm.Cond.fieldLinkNest "KeyHall$ByteTree" (47 : Nat) "KeyHall$Twig" "fan" "LKeyHall$Fan;" "KeyHall") ∈ lw_tbl := lw_at lw_m1 139 rfl
theorem q206 : (Jvm.Cond.fieldLink "KeyHall$ByteTree" (12 : Nat) "KeyHall$ByteTree" "root" "LKeyHall$Twig;") ∈ lw_all := lw_g (lw_at lw_m1 149 rfl) rfl
theorem q207 : (Jvm.Cond.fieldLink "KeyHall$ByteTree" (18 : Nat) "KeyHall$ByteTree" "way" "[LKeyHall$Twig;") ∈ lw_all := lw_g (lw_at lw_m1 150 rfl) rfl
theorem q208 : (Jvm.Cond.fieldLink "KeyHall$ByteTree" (22 : Nat) "KeyHall$ByteTree" "wayByte" "[I") ∈ lw_all := lw_g (lw_at lw_m1 151 rfl) rfl
theorem q209 : (Jvm.Cond.fieldLink "KeyHall$ByteTree" (26 : Nat) "KeyHall$ByteTree" "ways" "I") ∈ lw_all := lw_g (lw_at lw_m1 152 rfl) rfl
theorem q210 : (Jvm.Cond.laysFinal "KeyHall$ByteTree" "KeyHall$ByteTree" "root" "LKeyHall$Twig;") ∈ lw_all := lw_g (lw_at lw_m1 153 rfl) rfl
theorem q211 : (Jvm.Cond.soleField "KeyHall$ByteTree" "root") ∈ lw_all := lw_g (lw_at lw_m1 154 rfl) rfl
theorem q212 : (Jvm.Cond.laysFinal "KeyHall$ByteTree" "KeyHall$ByteTree" "way" "[LKeyHall$Twig;") ∈ lw_all := lw_g (lw_at lw_m1 155 rfl) rfl
theorem q213 : (Jvm.Cond.soleField "KeyHall$ByteTree" "way") ∈ lw_all := lw_g (lw_at lw_m1 156 rfl) rfl
theorem q214 : (Jvm.Cond.laysFinal "KeyHall$ByteTree" "KeyHall$ByteTree" "wayByte" "[I") ∈ lw_all := lw_g (lw_at lw_m1 157 rfl) rfl
theorem q215 : (Jvm.Cond.soleField "KeyHall$ByteTree" "wayByte") ∈ lw_all := lw_g (lw_at lw_m1 158 rfl) rfl
theorem q216 : (Jvm.Cond.lays "KeyHall$ByteTree" "KeyHall$ByteTree" "ways" "I") ∈ lw_all := lw_g (lw_at lw_m1 159 rfl) rfl
theorem q217 : (Jvm.Cond.soleField "KeyHall$ByteTree" "ways") ∈ lw_all := lw_g (lw_at lw_m1 160 rfl) rfl
theorem q218 : (Jvm.Cond.lays "KeyHall$ByteTree" "KeyHall$Tree" "count" "I") ∈ lw_all := lw_g (lw_at lw_m1 161 rfl) rfl
theorem q219 : (Jvm.Cond.lays "KeyHall$ByteTree" "KeyHall$Tree" "changes" "I") ∈ lw_all := lw_g (lw_at lw_m1 162 rfl) rfl
theorem q220 : (Jvm.Cond.superclass "KeyHall$ByteTree" "KeyHall$Tree") ∈ lw_all := lw_g (lw_at lw_m1 163 rfl) rfl
theorem q451 : (Jvm.Cond.selects "KeyHall$ByteTree" ({ cls := "KeyHall$Tree", name := "above", desc := "(LKeyHall$Key;Z)LKeyHall$Entry;" } : Jvm.MethodName) ({ cls := "KeyHall$ByteTree", name := "above", desc := "(LKeyHall$Key;Z)LKeyHall$Entry;" } : Jvm.MethodName)) ∈ lw_all := lw_g (lw_at lw_m2 154 rfl) rfl
theorem q452 : (Jvm.Cond.instanceMethod ({ cls := "KeyHall$ByteTree", name := "above", desc := "(LKeyHall$Key;Z)LKeyHall$Entry;" } : Jvm.MethodName)) ∈ lw_all := lw_g (lw_at lw_m2 155 rfl) rfl
theorem q453 : (Jvm.Cond.code ({ cls := "KeyHall$ByteTree", name := "above", desc := "(LKeyHall$Key;Z)LKeyHall$Entry;" } : Jvm.MethodName) prog_4_method_8_code (3 : Nat) (Option.some (Jvm.ClassFile.FieldType.object "KeyHall$Entry"))) ∈ lw_all := lw_g (lw_at lw_m2 156 rfl) rfl
theorem q454 : (Jvm.Cond.methodLink "KeyHall$ByteTree" (94 : Nat) ({ cls := "KeyHall$Twig", name := "first", desc := "()LKeyHall$Entry;" } : Jvm.MethodName)) ∈ lw_all := lw_g (lw_at lw_m2 157 rfl) rfl
theorem q483 : (Jvm.Cond.methodLink "KeyHall$ByteTree" (101 : Nat) ({ cls := "KeyHall$ByteTree", name := "above", desc := "(LKeyHall$Twig;LKeyHall$Key;IZ)LKeyHall$Entry;" } : Jvm.MethodName)) ∈ lw_all := lw_g (lw_at lw_m2 186 rfl) rfl
theorem q484 : (Jvm.Cond.static ({ cls := "KeyHall$ByteTree", name := "above", desc := "(LKeyHall$Twig;LKeyHall$Key;IZ)LKeyHall$Entry;" } : Jvm.MethodName)) ∈ lw_all := lw_g (lw_at lw_m2 187 rfl) rfl
theorem q485 : (Jvm.Cond.code ({ cls := "KeyHall$ByteTree", name := "above", desc := "(LKeyHall$Twig;LKeyHall$Key;IZ)LKeyHall$Entry;" } : Jvm.MethodName) prog_4_method_6_code (10 : Nat) (Option.some (Jvm.ClassFile.FieldType.object "KeyHall$Entry"))) ∈ lw_all := lw_g (lw_at lw_m2 188 rfl) rfl
theorem q486 : (Jvm.Cond.methodLink "KeyHall$ByteTree" (30 : Nat) ({ cls := "KeyHall$Twig", name := "common", desc := "(LKeyHall$Key;I)I" } : Jvm.MethodName)) ∈ lw_all := lw_g (lw_at lw_m2 189 rfl) rfl
theorem q502 : (Jvm.Cond.methodLink "KeyHall$ByteTree" (37 : Nat) ({ cls := "KeyHall$Key", name := "bytes", desc := "()I" } : Jvm.MethodName)) ∈ lw_all := lw_g (lw_at lw_m2 205 rfl) rfl
theorem q503 : (Jvm.Cond.methodLink "KeyHall$ByteTree" (43 : Nat) ({ cls := "KeyHall$Key", name := "octet", desc := "(I)I" } : Jvm.MethodName)) ∈ lw_all := lw_g (lw_at lw_m2 206 rfl) rfl
theorem q504 : (Jvm.Cond.methodLink "KeyHall$ByteTree" (98 : Nat) ({ cls := "KeyHall$Fan", name := "from", desc := "(I)I" } : Jvm.MethodName)) ∈ lw_all := lw_g (lw_at lw_m2 207 rfl) rfl
theorem q505 : (Jvm.Cond.methodLink "KeyHall$ByteTree" (51 : Nat) ({ cls := "KeyHall$Fan", name := "get", desc := "(I)LKeyHall$Twig;" } : Jvm.MethodName)) ∈ lw_all := lw_g (lw_at lw_m2 208 rfl) rfl
theorem q784 : (Jvm.Cond.selects "KeyHall$ByteTree" ({ cls := "KeyHall$Tree", name := "get", desc := "(LKeyHall$Key;)LKeyHall$Entry;" } : Jvm.MethodName) ({ cls := "KeyHall$ByteTree", name := "get", desc := "(LKeyHall$Key;)LKeyHall$Entry;" } : Jvm.MethodName)) ∈ lw_all := lw_g (lw_at lw_m4 7 rfl) rfl
theorem q785 : (Jvm.Cond.instanceMethod ({ cls := "KeyHall$ByteTree", name := "get", desc := "(LKeyHall$Key;)LKeyHall$Entry;" } : Jvm.MethodName)) ∈ lw_all := lw_g (lw_at lw_m4 8 rfl) rfl
theorem q786 : (Jvm.Cond.code ({ cls := "KeyHall$ByteTree", name := "get", desc := "(LKeyHall$Key;)LKeyHall$Entry;" } : Jvm.MethodName) prog_4_method_3_code (3 : Nat) (Option.some (Jvm.ClassFile.FieldType.object "KeyHall$Entry"))) ∈ lw_all := lw_g (lw_at lw_m4 9 rfl) rfl
theorem q787 : (Jvm.Cond.methodLink "KeyHall$ByteTree" (57 : Nat) ({ cls := "KeyHall$ByteTree", name := "descend", desc := "(LKeyHall$Key;)LKeyHall$Twig;" } : Jvm.MethodName)) ∈ lw_all := lw_g (lw_at lw_m4 10 rfl) rfl
theorem q788 : (Jvm.Cond.privateMethod ({ cls := "KeyHall$ByteTree", name := "descend", desc := "(LKeyHall$Key;)LKeyHall$Twig;" } : Jvm.MethodName)) ∈ lw_tbl := lw_at lw_m4 11 rfl
theorem q789 : (Jvm.Cond.instanceMethod ({ cls := "KeyHall$ByteTree", name := "descend", desc := "(LKeyHall$Key;)LKeyHall$Twig;" } : Jvm.MethodName)) ∈ lw_all := lw_g (lw_at lw_m4 12 rfl) rfl
theorem q790 : (Jvm.Cond.code ({ cls := "KeyHall$ByteTree", name := "descend", desc := "(LKeyHall$Key;)LKeyHall$Twig;" } : Jvm.MethodName) prog_4_method_2_code (5 : Nat) (Option.some (Jvm.ClassFile.FieldType.object "KeyHall$Twig"))) ∈ lw_all := lw_g (lw_at lw_m4 13 rfl) rfl
theorem q831 : (Jvm.Cond.selects "KeyHall$ByteTree" ({ cls := "KeyHall$Tree", name := "add", desc := "(LKeyHall$Entry;)V" } : Jvm.MethodName) ({ cls := "KeyHall$Tree", name := "add", desc := "(LKeyHall$Entry;)V" } : Jvm.MethodName)) ∈ lw_all := lw_g (lw_at lw_m4 54 rfl) rfl
theorem q874 : (Jvm.Cond.selects "KeyHall$ByteTree" ({ cls := "KeyHall$Tree", name := "put", desc := "(LKeyHall$Entry;)V" } : Jvm.MethodName) ({ cls := "KeyHall$ByteTree", name := "put", desc := "(LKeyHall$Entry;)V" } : Jvm.MethodName)) ∈ lw_all := lw_g (lw_at lw_m4 97 rfl) rfl
theorem q875 : (Jvm.Cond.instanceMethod ({ cls := "KeyHall$ByteTree", name := "put", desc := "(LKeyHall$Entry;)V" } : Jvm.MethodName)) ∈ lw_all := lw_g (lw_at lw_m4 98 rfl) rfl
theorem q876 : (Jvm.Cond.code ({ cls := "KeyHall$ByteTree", name := "put", desc := "(LKeyHall$Entry;)V" } : Jvm.MethodName) prog_4_method_4_code (7 : Nat) (Option.none : Option Jvm.ClassFile.FieldType)) ∈ lw_all := lw_g (lw_at lw_m4 99 rfl) rfl
theorem q877 : (Jvm.Cond.methodLink "KeyHall$ByteTree" (65 : Nat) ({ cls := "KeyHall$Twig", name := "split", desc := "(I)V" } : Jvm.MethodName)) ∈ lw_all := lw_g (lw_at lw_m4 100 rfl) rfl
theorem q918 : (Jvm.Cond.methodLink "KeyHall$ByteTree" (69 : Nat) ({ cls := "KeyHall$Entry", name := "bytes", desc := "()I" } : Jvm.MethodName)) ∈ lw_all := lw_g (lw_at lw_m4 141 rfl) rfl
theorem q922 : (Jvm.Cond.methodLink "KeyHall$ByteTree" (72 : Nat) ({ cls := "KeyHall$Entry", name := "octet", desc := "(I)I" } : Jvm.MethodName)) ∈ lw_all := lw_g (lw_at lw_m4 145 rfl) rfl
theorem q926 : (Jvm.Cond.methodLink "KeyHall$ByteTree" (73 : Nat) ({ cls := "KeyHall$Twig", name := "leaf", desc := "(LKeyHall$Entry;I)LKeyHall$Twig;" } : Jvm.MethodName)) ∈ lw_all := lw_g (lw_at lw_m4 149 rfl) rfl
theorem q931 : (Jvm.Cond.methodLink "KeyHall$ByteTree" (77 : Nat) ({ cls := "KeyHall$Fan", name := "put", desc := "(ILKeyHall$Twig;)LKeyHall$Fan;" } : Jvm.MethodName)) ∈ lw_all := lw_g (lw_at lw_m4 154 rfl) rfl
theorem q983 : (Jvm.Cond.selects "KeyHall$ByteTree" ({ cls := "KeyHall$Tree", name := "remove", desc := "(LKeyHall$Entry;)V" } : Jvm.MethodName) ({ cls := "KeyHall$Tree", name := "remove", desc := "(LKeyHall$Entry;)V" } : Jvm.MethodName)) ∈ lw_all := lw_g (lw_at lw_m4 206 rfl) rfl
theorem q992 : (Jvm.Cond.selects "KeyHall$ByteTree" ({ cls := "KeyHall$Tree", name := "take", desc := "(LKeyHall$Entry;)V" } : Jvm.MethodName) ({ cls := "KeyHall$ByteTree", name := "take", desc := "(LKeyHall$Entry;)V" } : Jvm.MethodName)) ∈ lw_all := lw_g (lw_at lw_m4 215 rfl) rfl
theorem q993 : (Jvm.Cond.instanceMethod ({ cls := "KeyHall$ByteTree", name := "take", desc := "(LKeyHall$Entry;)V" } : Jvm.MethodName)) ∈ lw_all := lw_g (lw_at lw_m4 216 rfl) rfl
theorem q994 : (Jvm.Cond.code ({ cls := "KeyHall$ByteTree", name := "take", desc := "(LKeyHall$Entry;)V" } : Jvm.MethodName) prog_4_method_5_code (3 : Nat) (Option.none : Option Jvm.ClassFile.FieldType)) ∈ lw_all := lw_g (lw_at lw_m4 217 rfl) rfl
theorem q995 : (Jvm.Cond.methodLink "KeyHall$ByteTree" (84 : Nat) ({ cls := "KeyHall$Fan", name := "take", desc := "(I)LKeyHall$Fan;" } : Jvm.MethodName)) ∈ lw_all := lw_g (lw_at lw_m4 218 rfl) rfl
theorem q1012 : (Jvm.Cond.methodLink "KeyHall$ByteTree" (88 : Nat) ({ cls := "KeyHall$Twig", name := "merge", desc := "()V" } : Jvm.MethodName)) ∈ lw_all := lw_g (lw_at lw_m4 235 rfl) rfl
theorem q1047 : (Jvm.Cond.selects "KeyHall$ByteTree" ({ cls := "KeyHall$Tree", name := "below", desc := "(LKeyHall$Key;Z)LKeyHall$Entry;" } : Jvm.MethodName) ({ cls := "KeyHall$ByteTree", name := "below", desc := "(LKeyHall$Key;Z)LKeyHall$Entry;" } : Jvm.MethodName)) ∈ lw_all := lw_g (lw_at lw_m5 30 rfl) rfl
theorem q1048 : (Jvm.Cond.instanceMethod ({ cls := "KeyHall$ByteTree", name := "below", desc := "(LKeyHall$Key;Z)LKeyHall$Entry;" } : Jvm.MethodName)) ∈ lw_all := lw_g (lw_at lw_m5 31 rfl) rfl
theorem q1049 : (Jvm.Cond.code ({ cls := "KeyHall$ByteTree", name := "below", desc := "(LKeyHall$Key;Z)LKeyHall$Entry;" } : Jvm.MethodName) prog_4_method_9_code (3 : Nat) (Option.some (Jvm.ClassFile.FieldType.object "KeyHall$Entry"))) ∈ lw_all := lw_g (lw_at lw_m5 32 rfl) rfl
theorem q1050 : (Jvm.Cond.methodLink "KeyHall$ByteTree" (105 : Nat) ({ cls := "KeyHall$Twig", name := "last", desc := "()LKeyHall$Entry;" } : Jvm.MethodName)) ∈ lw_all := lw_g (lw_at lw_m5 33 rfl) rfl
theorem q1063 : (Jvm.Cond.methodLink "KeyHall$ByteTree" (108 : Nat) ({ cls := "KeyHall$ByteTree", name := "below", desc := "(LKeyHall$Twig;LKeyHall$Key;IZ)LKeyHall$Entry;" } : Jvm.MethodName)) ∈ lw_all := lw_g (lw_at lw_m5 46 rfl) rfl
theorem q1064 : (Jvm.Cond.static ({ cls := "KeyHall$ByteTree", name := "below", desc := "(LKeyHall$Twig;LKeyHall$Key;IZ)LKeyHall$Entry;" } : Jvm.MethodName)) ∈ lw_all := lw_g (lw_at lw_m5 47 rfl) rfl
theorem q1065 : (Jvm.Cond.code ({ cls := "KeyHall$ByteTree", name := "below", desc := "(LKeyHall$Twig;LKeyHall$Key;IZ)LKeyHall$Entry;" } : Jvm.MethodName) prog_4_method_7_code (10 : Nat) (Option.some (Jvm.ClassFile.FieldType.object "KeyHall$Entry"))) ∈ lw_all := lw_g (lw_at lw_m5 48 rfl) rfl
theorem q1066 : (Jvm.Cond.methodLink "KeyHall$ByteTree" (111 : Nat) ({ cls := "KeyHall$Fan", name := "upTo", desc := "(I)I" } : Jvm.MethodName)) ∈ lw_all := lw_g (lw_at lw_m5 49 rfl) rfl
theorem q1157 : (Jvm.Cond.instanceMethod ({ cls := "KeyHall$ByteTree", name := "inner", desc := "(I)I" } : Jvm.MethodName)) ∈ lw_all := lw_g (lw_at lw_m5 140 rfl) rfl
theorem q1158 : (Jvm.Cond.selects "KeyHall$ByteTree" ({ cls := "KeyHall$ByteTree", name := "inner", desc := "(I)I" } : Jvm.MethodName) ({ cls := "KeyHall$ByteTree", name := "inner", desc := "(I)I" } : Jvm.MethodName)) ∈ lw_all := lw_g (lw_at lw_m5 141 rfl) rfl
theorem q1159 : (Jvm.Cond.code ({ cls := "KeyHall$ByteTree", name := "inner", desc := "(I)I" } : Jvm.MethodName) prog_4_method_11_code (3 : Nat) (Option.some Jvm.ClassFile.FieldType.int)) ∈ lw_all := lw_g (lw_at lw_m5 142 rfl) rfl
theorem q1160 : (Jvm.Cond.methodLink "KeyHall$ByteTree" (125 : Nat) ({ cls := "KeyHall$ByteTree", name := "tell", desc := "(LKeyHall$Twig;[I)V" } : Jvm.MethodName)) ∈ lw_all := lw_g (lw_at lw_m5 143 rfl) rfl
theorem q1161 : (Jvm.Cond.static ({ cls := "KeyHall$ByteTree", name := "tell", desc := "(LKeyHall$Twig;[I)V" } : Jvm.MethodName)) ∈ lw_all := lw_g (lw_at lw_m5 144 rfl) rfl
theorem q1162 : (Jvm.Cond.code ({ cls := "KeyHall$ByteTree", name := "tell", desc := "(LKeyHall$Twig;[I)V" } : Jvm.MethodName) prog_4_method_10_code (3 : Nat) (Option.none : Option Jvm.ClassFile.FieldType)) ∈ lw_all := lw_g (lw_at lw_m5 145 rfl) rfl
theorem q1163 : (Jvm.Cond.methodLink "KeyHall$ByteTree" (117 : Nat) ({ cls := "KeyHall$Twig", name := "isInner", desc := "()Z" } : Jvm.MethodName)) ∈ lw_all := lw_g (lw_at lw_m5 146 rfl) rfl
theorem in_X5 : ∀ w ∈ wsX50, w ∈ lw_all := lw_in wsX50 [218, 219, 210, 212, 214, 216] (by decide +kernel) (by decide +kernel)
/-! KeyHall$Twig -/
def RX6 : String := "KeyHall$Twig"
def TX6 : u_T := fun k => match k with
  | 0 => ("KeyHall$Twig", "path", "[I", true)
  | 1 => ("KeyHall$Twig", "length", "I", false)
  | 2 => ("KeyHall$Twig", "entry", "LKeyHall$Entry;", false)
  | _ => ("KeyHall$Twig", "fan", "LKeyHall$Fan;", false)
def tyX6 : Nat → FieldType := fun k => match k with
  | 0 => .array .int
  | 1 => .int
  | 2 => .object "KeyHall$Entry"
  | _ => .object "KeyHall$Fan"
abbrev wsX60 : List Cond := u_ws RX6 TX6 4
theorem nmX6 : ∀ a, a < 4 → ∀ b, b < 4 → a ≠ b → (TX6 a).2.1 ≠ (TX6 b).2.1 := by decide +kernel
theorem tyX6_ok : ∀ k, k < 4 → parseFieldDescriptor (TX6 k).2.2.1 = some (tyX6 k) := by decide +kernel
abbrev cX6_init : ByteArray := prog_15_method_1_code
def yX6_init : MethodName := ⟨RX6, "<init>", "()V"⟩
abbrev cX6_first : ByteArray := prog_15_method_6_code
def yX6_first : MethodName := ⟨RX6, "first", "()LKeyHall$Entry;"⟩
abbrev cX6_common : ByteArray := prog_15_method_3_code
def yX6_common : MethodName := ⟨RX6, "common", "(LKeyHall$Key;I)I"⟩
abbrev cX6_split : ByteArray := prog_15_method_4_code
def yX6_split : MethodName := ⟨RX6, "split", "(I)V"⟩
abbrev cX6_leaf : ByteArray := prog_15_method_2_code
def yX6_leaf : MethodName := ⟨RX6, "leaf", "(LKeyHall$Entry;I)LKeyHall$Twig;"⟩
abbrev cX6_merge : ByteArray := prog_15_method_5_code
def yX6_merge : MethodName := ⟨RX6, "merge", "()V"⟩
abbrev cX6_last : ByteArray := prog_15_method_7_code
def yX6_last : MethodName := ⟨RX6, "last", "()LKeyHall$Entry;"⟩
abbrev cX6_isInner : ByteArray := prog_15_method_8_code
def yX6_isInner : MethodName := ⟨RX6, "isInner", "()Z"⟩
theorem q63 : (Jvm.Cond.initialized "KeyHall$Twig") ∈ lw_all := lw_g (lw_at lw_m1 6 rfl) rfl
theorem q157 : (Jvm.Cond.instantiable "KeyHall$Twig" (4 : Nat)) ∈ lw_all := lw_g (lw_at lw_m1 100 rfl) rfl
theorem q159 : (Jvm.Cond.instanceMethod ({ cls := "KeyHall$Twig", name := "<init>", desc := "()V" } : Jvm.MethodName)) ∈ lw_all := lw_g (lw_at lw_m1 102 rfl) rfl
theorem q160 : (Jvm.Cond.code ({ cls := "KeyHall$Twig", name := "<init>", desc := "()V" } : Jvm.MethodName) prog_15_method_1_code (1 : Nat) (Option.none : Option Jvm.ClassFile.FieldType)) ∈ lw_all := lw_g (lw_at lw_m1 103 rfl) rfl
theorem q161 : (Jvm.Cond.methodLink "KeyHall$Twig" (1 : Nat) ({ cls := "java/lang/Object", name := "<init>", desc := "()V" } : Jvm.MethodName)) ∈ lw_all := lw_g (lw_at lw_m1 104 rfl) rfl
theorem q162 : (Jvm.Cond.classLink "KeyHall$Twig" (13 : Nat) "KeyHall$RowFan") ∈ lw_all := lw_g (lw_at lw_m1 105 rfl) rfl
theorem q164 : (Jvm.Cond.methodLink "KeyHall$Twig" (15 : Nat) ({ cls := "KeyHall$RowFan", name := "<init>", desc := "(I)V" } : Jvm.MethodName)) ∈ lw_all := lw_g (lw_at lw_m1 107 rfl) rfl
theorem q180 : (Jvm.Cond.fieldLink "KeyHall$Twig" (58 : Nat) "KeyHall$Fan" "size" "I") ∈ lw_all := lw_g (lw_at lw_m1 123 rfl) rfl
theorem q189 : (Jvm.Cond.fieldLink "KeyHall$Twig" (9 : Nat) "KeyHall$Twig" "path" "[I") ∈ lw_all := lw_g (lw_at lw_m1 132 rfl) rfl
theorem q191 : (Jvm.Cond.fieldLink "KeyHall$Twig" (29 : Nat) "KeyHall$Twig" "length" "I") ∈ lw_all := lw_g (lw_at lw_m1 134 rfl) rfl
theorem q193 : (Jvm.Cond.fieldLink "KeyHall$Twig" (37 : Nat) "KeyHall$Twig" "entry" "LKeyHall$Entry;") ∈ lw_all := lw_g (lw_at lw_m1 136 rfl) rfl
theorem q195 : (Jvm.Cond.fieldLink "KeyHall$Twig" (18 : Nat) "KeyHall$Twig" "fan" "LKeyHall$Fan;") ∈ lw_all := lw_g (lw_at lw_m1 138 rfl) rfl
theorem q197 : (Jvm.Cond.laysFinal "KeyHall$Twig" "KeyHall$Twig" "path" "[I") ∈ lw_all := lw_g (lw_at lw_m1 140 rfl) rfl
theorem q198 : (Jvm.Cond.soleField "KeyHall$Twig" "path") ∈ lw_all := lw_g (lw_at lw_m1 141 rfl) rfl
theorem q199 : (Jvm.Cond.lays "KeyHall$Twig" "KeyHall$Twig" "length" "I") ∈ lw_all := lw_g (lw_at lw_m1 142 rfl) rfl
theorem q200 : (Jvm.Cond.soleField "KeyHall$Twig" "length") ∈ lw_all := lw_g (lw_at lw_m1 143 rfl) rfl
theorem q201 : (Jvm.Cond.lays "KeyHall$Twig" "KeyHall$Twig" "entry" "LKeyHall$Entry;") ∈ lw_all := lw_g (lw_at lw_m1 144 rfl) rfl
theorem q202 : (Jvm.Cond.soleField "KeyHall$Twig" "entry") ∈ lw_all := lw_g (lw_at lw_m1 145 rfl) rfl
theorem q203 : (Jvm.Cond.lays "KeyHall$Twig" "KeyHall$Twig" "fan" "LKeyHall$Fan;") ∈ lw_all := lw_g (lw_at lw_m1 146 rfl) rfl
theorem q204 : (Jvm.Cond.soleField "KeyHall$Twig" "fan") ∈ lw_all := lw_g (lw_at lw_m1 147 rfl) rfl
theorem q205 : (Jvm.Cond.superclass "KeyHall$Twig" "java/lang/Object") ∈ lw_all := lw_g (lw_at lw_m1 148 rfl) rfl
theorem q455 : (Jvm.Cond.instanceMethod ({ cls := "KeyHall$Twig", name := "first", desc := "()LKeyHall$Entry;" } : Jvm.MethodName)) ∈ lw_all := lw_g (lw_at lw_m2 158 rfl) rfl
theorem q456 : (Jvm.Cond.selects "KeyHall$Twig" ({ cls := "KeyHall$Twig", name := "first", desc := "()LKeyHall$Entry;" } : Jvm.MethodName) ({ cls := "KeyHall$Twig", name := "first", desc := "()LKeyHall$Entry;" } : Jvm.MethodName)) ∈ lw_all := lw_g (lw_at lw_m2 159 rfl) rfl
theorem q457 : (Jvm.Cond.code ({ cls := "KeyHall$Twig", name := "first", desc := "()LKeyHall$Entry;" } : Jvm.MethodName) prog_15_method_6_code (2 : Nat) (Option.some (Jvm.ClassFile.FieldType.object "KeyHall$Entry"))) ∈ lw_all := lw_g (lw_at lw_m2 160 rfl) rfl
theorem q458 : (Jvm.Cond.methodLink "KeyHall$Twig" (49 : Nat) ({ cls := "KeyHall$Fan", name := "from", desc := "(I)I" } : Jvm.MethodName)) ∈ lw_all := lw_g (lw_at lw_m2 161 rfl) rfl
theorem q476 : (Jvm.Cond.methodLink "KeyHall$Twig" (54 : Nat) ({ cls := "KeyHall$Fan", name := "get", desc := "(I)LKeyHall$Twig;" } : Jvm.MethodName)) ∈ lw_all := lw_g (lw_at lw_m2 179 rfl) rfl
theorem q487 : (Jvm.Cond.instanceMethod ({ cls := "KeyHall$Twig", name := "common", desc := "(LKeyHall$Key;I)I" } : Jvm.MethodName)) ∈ lw_all := lw_g (lw_at lw_m2 190 rfl) rfl
theorem q488 : (Jvm.Cond.selects "KeyHall$Twig" ({ cls := "KeyHall$Twig", name := "common", desc := "(LKeyHall$Key;I)I" } : Jvm.MethodName) ({ cls := "KeyHall$Twig", name := "common", desc := "(LKeyHall$Key;I)I" } : Jvm.MethodName)) ∈ lw_all := lw_g (lw_at lw_m2 191 rfl) rfl
theorem q489 : (Jvm.Cond.code ({ cls := "KeyHall$Twig", name := "common", desc := "(LKeyHall$Key;I)I" } : Jvm.MethodName) prog_15_method_3_code (4 : Nat) (Option.some Jvm.ClassFile.FieldType.int)) ∈ lw_all := lw_g (lw_at lw_m2 192 rfl) rfl
theorem q490 : (Jvm.Cond.methodLink "KeyHall$Twig" (41 : Nat) ({ cls := "KeyHall$Key", name := "bytes", desc := "()I" } : Jvm.MethodName)) ∈ lw_all := lw_g (lw_at lw_m2 193 rfl) rfl
theorem q496 : (Jvm.Cond.methodLink "KeyHall$Twig" (44 : Nat) ({ cls := "KeyHall$Key", name := "octet", desc := "(I)I" } : Jvm.MethodName)) ∈ lw_all := lw_g (lw_at lw_m2 199 rfl) rfl
theorem q878 : (Jvm.Cond.instanceMethod ({ cls := "KeyHall$Twig", name := "split", desc := "(I)V" } : Jvm.MethodName)) ∈ lw_all := lw_g (lw_at lw_m4 101 rfl) rfl
theorem q879 : (Jvm.Cond.selects "KeyHall$Twig" ({ cls := "KeyHall$Twig", name := "split", desc := "(I)V" } : Jvm.MethodName) ({ cls := "KeyHall$Twig", name := "split", desc := "(I)V" } : Jvm.MethodName)) ∈ lw_all := lw_g (lw_at lw_m4 102 rfl) rfl
theorem q880 : (Jvm.Cond.code ({ cls := "KeyHall$Twig", name := "split", desc := "(I)V" } : Jvm.MethodName) prog_15_method_4_code (4 : Nat) (Option.none : Option Jvm.ClassFile.FieldType)) ∈ lw_all := lw_g (lw_at lw_m4 103 rfl) rfl
theorem q881 : (Jvm.Cond.classLink "KeyHall$Twig" (7 : Nat) "KeyHall$Twig") ∈ lw_all := lw_g (lw_at lw_m4 104 rfl) rfl
theorem q882 : (Jvm.Cond.methodLink "KeyHall$Twig" (22 : Nat) ({ cls := "KeyHall$Twig", name := "<init>", desc := "()V" } : Jvm.MethodName)) ∈ lw_all := lw_g (lw_at lw_m4 105 rfl) rfl
theorem q883 : (Jvm.Cond.methodLink "KeyHall$Twig" (45 : Nat) ({ cls := "KeyHall$RowFan", name := "put", desc := "(ILKeyHall$Twig;)LKeyHall$Fan;" } : Jvm.MethodName)) ∈ lw_all := lw_g (lw_at lw_m4 106 rfl) rfl
theorem q927 : (Jvm.Cond.static ({ cls := "KeyHall$Twig", name := "leaf", desc := "(LKeyHall$Entry;I)LKeyHall$Twig;" } : Jvm.MethodName)) ∈ lw_all := lw_g (lw_at lw_m4 150 rfl) rfl
theorem q928 : (Jvm.Cond.code ({ cls := "KeyHall$Twig", name := "leaf", desc := "(LKeyHall$Entry;I)LKeyHall$Twig;" } : Jvm.MethodName) prog_15_method_2_code (4 : Nat) (Option.some (Jvm.ClassFile.FieldType.object "KeyHall$Twig"))) ∈ lw_all := lw_g (lw_at lw_m4 151 rfl) rfl
theorem q929 : (Jvm.Cond.methodLink "KeyHall$Twig" (23 : Nat) ({ cls := "KeyHall$Entry", name := "bytes", desc := "()I" } : Jvm.MethodName)) ∈ lw_all := lw_g (lw_at lw_m4 152 rfl) rfl
theorem q930 : (Jvm.Cond.methodLink "KeyHall$Twig" (33 : Nat) ({ cls := "KeyHall$Entry", name := "octet", desc := "(I)I" } : Jvm.MethodName)) ∈ lw_all := lw_g (lw_at lw_m4 153 rfl) rfl
theorem q1013 : (Jvm.Cond.instanceMethod ({ cls := "KeyHall$Twig", name := "merge", desc := "()V" } : Jvm.MethodName)) ∈ lw_all := lw_g (lw_at lw_m4 236 rfl) rfl
theorem q1014 : (Jvm.Cond.selects "KeyHall$Twig" ({ cls := "KeyHall$Twig", name := "merge", desc := "()V" } : Jvm.MethodName) ({ cls := "KeyHall$Twig", name := "merge", desc := "()V" } : Jvm.MethodName)) ∈ lw_all := lw_g (lw_at lw_m4 237 rfl) rfl
theorem q1015 : (Jvm.Cond.code ({ cls := "KeyHall$Twig", name := "merge", desc := "()V" } : Jvm.MethodName) prog_15_method_5_code (4 : Nat) (Option.none : Option Jvm.ClassFile.FieldType)) ∈ lw_all := lw_g (lw_at lw_m4 238 rfl) rfl
theorem q1051 : (Jvm.Cond.instanceMethod ({ cls := "KeyHall$Twig", name := "last", desc := "()LKeyHall$Entry;" } : Jvm.MethodName)) ∈ lw_all := lw_g (lw_at lw_m5 34 rfl) rfl
theorem q1052 : (Jvm.Cond.selects "KeyHall$Twig" ({ cls := "KeyHall$Twig", name := "last", desc := "()LKeyHall$Entry;" } : Jvm.MethodName) ({ cls := "KeyHall$Twig", name := "last", desc := "()LKeyHall$Entry;" } : Jvm.MethodName)) ∈ lw_all := lw_g (lw_at lw_m5 35 rfl) rfl
theorem q1053 : (Jvm.Cond.code ({ cls := "KeyHall$Twig", name := "last", desc := "()LKeyHall$Entry;" } : Jvm.MethodName) prog_15_method_7_code (2 : Nat) (Option.some (Jvm.ClassFile.FieldType.object "KeyHall$Entry"))) ∈ lw_all := lw_g (lw_at lw_m5 36 rfl) rfl
theorem q1054 : (Jvm.Cond.methodLink "KeyHall$Twig" (61 : Nat) ({ cls := "KeyHall$Fan", name := "upTo", desc := "(I)I" } : Jvm.MethodName)) ∈ lw_all := lw_g (lw_at lw_m5 37 rfl) rfl
theorem q1164 : (Jvm.Cond.instanceMethod ({ cls := "KeyHall$Twig", name := "isInner", desc := "()Z" } : Jvm.MethodName)) ∈ lw_all := lw_g (lw_at lw_m5 147 rfl) rfl
theorem q1165 : (Jvm.Cond.selects "KeyHall$Twig" ({ cls := "KeyHall$Twig", name := "isInner", desc := "()Z" } : Jvm.MethodName) ({ cls := "KeyHall$Twig", name := "isInner", desc := "()Z" } : Jvm.MethodName)) ∈ lw_all := lw_g (lw_at lw_m5 148 rfl) rfl
theorem q1166 : (Jvm.Cond.code ({ cls := "KeyHall$Twig", name := "isInner", desc := "()Z" } : Jvm.MethodName) prog_15_method_8_code (1 : Nat) (Option.some Jvm.ClassFile.FieldType.boolean)) ∈ lw_all := lw_g (lw_at lw_m5 149 rfl) rfl
theorem in_X6 : ∀ w ∈ wsX60, w ∈ lw_all := lw_in wsX60 [197, 199, 201, 203] (by decide +kernel) (by decide +kernel)
/-! KeyHall$Fan -/
def RX7 : String := "KeyHall$Fan"
abbrev cX7_init : ByteArray := prog_7_method_1_code
def yX7_init : MethodName := ⟨RX7, "<init>", "()V"⟩
theorem q64 : (Jvm.Cond.initialized "KeyHall$Fan") ∈ lw_all := lw_g (lw_at lw_m1 7 rfl) rfl
theorem q168 : (Jvm.Cond.instanceMethod ({ cls := "KeyHall$Fan", name := "<init>", desc := "()V" } : Jvm.MethodName)) ∈ lw_all := lw_g (lw_at lw_m1 111 rfl) rfl
theorem q169 : (Jvm.Cond.code ({ cls := "KeyHall$Fan", name := "<init>", desc := "()V" } : Jvm.MethodName) prog_7_method_1_code (1 : Nat) (Option.none : Option Jvm.ClassFile.FieldType)) ∈ lw_all := lw_g (lw_at lw_m1 112 rfl) rfl
theorem q170 : (Jvm.Cond.methodLink "KeyHall$Fan" (1 : Nat) ({ cls := "java/lang/Object", name := "<init>", desc := "()V" } : Jvm.MethodName)) ∈ lw_all := lw_g (lw_at lw_m1 113 rfl) rfl
theorem q186 : (Jvm.Cond.soleField "KeyHall$Fan" "size") ∈ lw_all := lw_g (lw_at lw_m1 129 rfl) rfl
theorem q459 : (Jvm.Cond.declares ({ cls := "KeyHall$Fan", name := "from", desc := "(I)I" } : Jvm.MethodName)) ∈ lw_tbl := lw_at lw_m2 162 rfl
theorem q460 : (Jvm.Cond.sameMethod "KeyHall$Fan" "KeyHall$Fan" "from" "(I)I") ∈ lw_all := lw_g (lw_at lw_m2 163 rfl) rfl
theorem q477 : (Jvm.Cond.declares ({ cls := "KeyHall$Fan", name := "get", desc := "(I)LKeyHall$Twig;" } : Jvm.MethodName)) ∈ lw_tbl := lw_at lw_m2 180 rfl
theorem q478 : (Jvm.Cond.sameMethod "KeyHall$Fan" "KeyHall$Fan" "get" "(I)LKeyHall$Twig;") ∈ lw_all := lw_g (lw_at lw_m2 181 rfl) rfl
theorem q908 : (Jvm.Cond.declares ({ cls := "KeyHall$Fan", name := "put", desc := "(ILKeyHall$Twig;)LKeyHall$Fan;" } : Jvm.MethodName)) ∈ lw_tbl := lw_at lw_m4 131 rfl
theorem q909 : (Jvm.Cond.sameMethod "KeyHall$Fan" "KeyHall$Fan" "put" "(ILKeyHall$Twig;)LKeyHall$Fan;") ∈ lw_all := lw_g (lw_at lw_m4 132 rfl) rfl
theorem q996 : (Jvm.Cond.declares ({ cls := "KeyHall$Fan", name := "take", desc := "(I)LKeyHall$Fan;" } : Jvm.MethodName)) ∈ lw_tbl := lw_at lw_m4 219 rfl
theorem q997 : (Jvm.Cond.sameMethod "KeyHall$Fan" "KeyHall$Fan" "take" "(I)LKeyHall$Fan;") ∈ lw_all := lw_g (lw_at lw_m4 220 rfl) rfl
theorem q1055 : (Jvm.Cond.declares ({ cls := "KeyHall$Fan", name := "upTo", desc := "(I)I" } : Jvm.MethodName)) ∈ lw_tbl := lw_at lw_m5 38 rfl
theorem q1056 : (Jvm.Cond.sameMethod "KeyHall$Fan" "KeyHall$Fan" "upTo" "(I)I") ∈ lw_all := lw_g (lw_at lw_m5 39 rfl) rfl
/-! KeyHall$RowFan -/
def RX8 : String := "KeyHall$RowFan"
def TX8 : u_T := fun k => match k with
  | 0 => ("KeyHall$Fan", "size", "I", false)
  | 1 => ("KeyHall$RowFan", "bytes", "[I", true)
  | _ => ("KeyHall$RowFan", "twigs", "[LKeyHall$Twig;", true)
def tyX8 : Nat → FieldType := fun k => match k with
  | 0 => .int
  | 1 => .array .int
  | _ => .array (.object "KeyHall$Twig")
abbrev wsX80 : List Cond := u_ws RX8 TX8 3
theorem nmX8 : ∀ a, a < 3 → ∀ b, b < 3 → a ≠ b → (TX8 a).2.1 ≠ (TX8 b).2.1 := by decide +kernel
theorem tyX8_ok : ∀ k, k < 3 → parseFieldDescriptor (TX8 k).2.2.1 = some (tyX8 k) := by decide +kernel
abbrev cX8_init : ByteArray := prog_12_method_1_code
def yX8_init : MethodName := ⟨RX8, "<init>", "(I)V"⟩
abbrev cX8_from : ByteArray := prog_12_method_6_code
def yX8_from : MethodName := ⟨RX8, "from", "(I)I"⟩
abbrev cX8_get : ByteArray := prog_12_method_2_code
def yX8_get : MethodName := ⟨RX8, "get", "(I)LKeyHall$Twig;"⟩
abbrev cX8_put : ByteArray := prog_12_method_4_code
def yX8_put : MethodName := ⟨RX8, "put", "(ILKeyHall$Twig;)LKeyHall$Fan;"⟩
abbrev cX8_all : ByteArray := prog_12_method_3_code
def yX8_all : MethodName := ⟨RX8, "all", "(LKeyHall$Fan;)V"⟩
abbrev cX8_take : ByteArray := prog_12_method_5_code
def yX8_take : MethodName := ⟨RX8, "take", "(I)LKeyHall$Fan;"⟩
abbrev cX8_upTo : ByteArray := prog_12_method_7_code
def yX8_upTo : MethodName := ⟨RX8, "upTo", "(I)I"⟩
theorem q65 : (Jvm.Cond.initialized "KeyHall$RowFan") ∈ lw_all := lw_g (lw_at lw_m1 8 rfl) rfl
theorem q163 : (Jvm.Cond.instantiable "KeyHall$RowFan" (3 : Nat)) ∈ lw_all := lw_g (lw_at lw_m1 106 rfl) rfl
theorem q165 : (Jvm.Cond.instanceMethod ({ cls := "KeyHall$RowFan", name := "<init>", desc := "(I)V" } : Jvm.MethodName)) ∈ lw_all := lw_g (lw_at lw_m1 108 rfl) rfl
theorem q166 : (Jvm.Cond.code ({ cls := "KeyHall$RowFan", name := "<init>", desc := "(I)V" } : Jvm.MethodName) prog_12_method_1_code (2 : Nat) (Option.none : Option Jvm.ClassFile.FieldType)) ∈ lw_all := lw_g (lw_at lw_m1 109 rfl) rfl
theorem q167 : (Jvm.Cond.methodLinkNest "KeyHall$RowFan" (3 : Nat) ({ cls := "KeyHall$Fan", name := "<init>", desc := "()V" } : Jvm.MethodName) "KeyHall") ∈ lw_tbl := lw_at lw_m1 110 rfl
theorem q171 : (Jvm.Cond.classLink "KeyHall$RowFan" (15 : Nat) "KeyHall$Twig") ∈ lw_all := lw_g (lw_at lw_m1 114 rfl) rfl
theorem q173 : (Jvm.Cond.fieldLink "KeyHall$RowFan" (9 : Nat) "KeyHall$RowFan" "bytes" "[I") ∈ lw_all := lw_g (lw_at lw_m1 116 rfl) rfl
theorem q174 : (Jvm.Cond.fieldLink "KeyHall$RowFan" (17 : Nat) "KeyHall$RowFan" "twigs" "[LKeyHall$Twig;") ∈ lw_all := lw_g (lw_at lw_m1 117 rfl) rfl
theorem q175 : (Jvm.Cond.fieldLink "KeyHall$RowFan" (21 : Nat) "KeyHall$RowFan" "size" "I") ∈ lw_all := lw_g (lw_at lw_m1 118 rfl) rfl
theorem q176 : (Jvm.Cond.sameField "KeyHall$RowFan" "KeyHall$Fan" "size" "I") ∈ lw_all := lw_g (lw_at lw_m1 119 rfl) rfl
theorem q181 : (Jvm.Cond.laysFinal "KeyHall$RowFan" "KeyHall$RowFan" "bytes" "[I") ∈ lw_all := lw_g (lw_at lw_m1 124 rfl) rfl
theorem q182 : (Jvm.Cond.soleField "KeyHall$RowFan" "bytes") ∈ lw_all := lw_g (lw_at lw_m1 125 rfl) rfl
theorem q183 : (Jvm.Cond.laysFinal "KeyHall$RowFan" "KeyHall$RowFan" "twigs" "[LKeyHall$Twig;") ∈ lw_all := lw_g (lw_at lw_m1 126 rfl) rfl
theorem q184 : (Jvm.Cond.soleField "KeyHall$RowFan" "twigs") ∈ lw_all := lw_g (lw_at lw_m1 127 rfl) rfl
theorem q185 : (Jvm.Cond.lays "KeyHall$RowFan" "KeyHall$Fan" "size" "I") ∈ lw_all := lw_g (lw_at lw_m1 128 rfl) rfl
theorem q187 : (Jvm.Cond.superclass "KeyHall$RowFan" "KeyHall$Fan") ∈ lw_all := lw_g (lw_at lw_m1 130 rfl) rfl
theorem q473 : (Jvm.Cond.selects "KeyHall$RowFan" ({ cls := "KeyHall$Fan", name := "from", desc := "(I)I" } : Jvm.MethodName) ({ cls := "KeyHall$RowFan", name := "from", desc := "(I)I" } : Jvm.MethodName)) ∈ lw_all := lw_g (lw_at lw_m2 176 rfl) rfl
theorem q474 : (Jvm.Cond.instanceMethod ({ cls := "KeyHall$RowFan", name := "from", desc := "(I)I" } : Jvm.MethodName)) ∈ lw_all := lw_g (lw_at lw_m2 177 rfl) rfl
theorem q475 : (Jvm.Cond.code ({ cls := "KeyHall$RowFan", name := "from", desc := "(I)I" } : Jvm.MethodName) prog_12_method_6_code (3 : Nat) (Option.some Jvm.ClassFile.FieldType.int)) ∈ lw_all := lw_g (lw_at lw_m2 178 rfl) rfl
theorem q480 : (Jvm.Cond.selects "KeyHall$RowFan" ({ cls := "KeyHall$Fan", name := "get", desc := "(I)LKeyHall$Twig;" } : Jvm.MethodName) ({ cls := "KeyHall$RowFan", name := "get", desc := "(I)LKeyHall$Twig;" } : Jvm.MethodName)) ∈ lw_all := lw_g (lw_at lw_m2 183 rfl) rfl
theorem q481 : (Jvm.Cond.instanceMethod ({ cls := "KeyHall$RowFan", name := "get", desc := "(I)LKeyHall$Twig;" } : Jvm.MethodName)) ∈ lw_all := lw_g (lw_at lw_m2 184 rfl) rfl
theorem q482 : (Jvm.Cond.code ({ cls := "KeyHall$RowFan", name := "get", desc := "(I)LKeyHall$Twig;" } : Jvm.MethodName) prog_12_method_2_code (3 : Nat) (Option.some (Jvm.ClassFile.FieldType.object "KeyHall$Twig"))) ∈ lw_all := lw_g (lw_at lw_m2 185 rfl) rfl
theorem q884 : (Jvm.Cond.instanceMethod ({ cls := "KeyHall$RowFan", name := "put", desc := "(ILKeyHall$Twig;)LKeyHall$Fan;" } : Jvm.MethodName)) ∈ lw_all := lw_g (lw_at lw_m4 107 rfl) rfl
theorem q885 : (Jvm.Cond.selects "KeyHall$RowFan" ({ cls := "KeyHall$RowFan", name := "put", desc := "(ILKeyHall$Twig;)LKeyHall$Fan;" } : Jvm.MethodName) ({ cls := "KeyHall$RowFan", name := "put", desc := "(ILKeyHall$Twig;)LKeyHall$Fan;" } : Jvm.MethodName)) ∈ lw_all := lw_g (lw_at lw_m4 108 rfl) rfl
theorem q886 : (Jvm.Cond.code ({ cls := "KeyHall$RowFan", name := "put", desc := "(ILKeyHall$Twig;)LKeyHall$Fan;" } : Jvm.MethodName) prog_12_method_4_code (4 : Nat) (Option.some (Jvm.ClassFile.FieldType.object "KeyHall$Fan"))) ∈ lw_all := lw_g (lw_at lw_m4 109 rfl) rfl
theorem q887 : (Jvm.Cond.classLink "KeyHall$RowFan" (10 : Nat) "KeyHall$RowFan") ∈ lw_all := lw_g (lw_at lw_m4 110 rfl) rfl
theorem q888 : (Jvm.Cond.methodLink "KeyHall$RowFan" (29 : Nat) ({ cls := "KeyHall$RowFan", name := "<init>", desc := "(I)V" } : Jvm.MethodName)) ∈ lw_all := lw_g (lw_at lw_m4 111 rfl) rfl
theorem q889 : (Jvm.Cond.classLink "KeyHall$RowFan" (32 : Nat) "KeyHall$ListFan") ∈ lw_all := lw_g (lw_at lw_m4 112 rfl) rfl
theorem q890 : (Jvm.Cond.methodLinkNest "KeyHall$RowFan" (34 : Nat) ({ cls := "KeyHall$ListFan", name := "<init>", desc := "()V" } : Jvm.MethodName) "KeyHall") ∈ lw_tbl := lw_at lw_m4 113 rfl
theorem q903 : (Jvm.Cond.methodLink "KeyHall$RowFan" (35 : Nat) ({ cls := "KeyHall$RowFan", name := "all", desc := "(LKeyHall$Fan;)V" } : Jvm.MethodName)) ∈ lw_all := lw_g (lw_at lw_m4 126 rfl) rfl
theorem q904 : (Jvm.Cond.privateMethod ({ cls := "KeyHall$RowFan", name := "all", desc := "(LKeyHall$Fan;)V" } : Jvm.MethodName)) ∈ lw_tbl := lw_at lw_m4 127 rfl
theorem q905 : (Jvm.Cond.instanceMethod ({ cls := "KeyHall$RowFan", name := "all", desc := "(LKeyHall$Fan;)V" } : Jvm.MethodName)) ∈ lw_all := lw_g (lw_at lw_m4 128 rfl) rfl
theorem q906 : (Jvm.Cond.code ({ cls := "KeyHall$RowFan", name := "all", desc := "(LKeyHall$Fan;)V" } : Jvm.MethodName) prog_12_method_3_code (3 : Nat) (Option.none : Option Jvm.ClassFile.FieldType)) ∈ lw_all := lw_g (lw_at lw_m4 129 rfl) rfl
theorem q907 : (Jvm.Cond.methodLink "KeyHall$RowFan" (25 : Nat) ({ cls := "KeyHall$Fan", name := "put", desc := "(ILKeyHall$Twig;)LKeyHall$Fan;" } : Jvm.MethodName)) ∈ lw_all := lw_g (lw_at lw_m4 130 rfl) rfl
theorem q917 : (Jvm.Cond.selects "KeyHall$RowFan" ({ cls := "KeyHall$Fan", name := "put", desc := "(ILKeyHall$Twig;)LKeyHall$Fan;" } : Jvm.MethodName) ({ cls := "KeyHall$RowFan", name := "put", desc := "(ILKeyHall$Twig;)LKeyHall$Fan;" } : Jvm.MethodName)) ∈ lw_all := lw_g (lw_at lw_m4 140 rfl) rfl
theorem q1009 : (Jvm.Cond.selects "KeyHall$RowFan" ({ cls := "KeyHall$Fan", name := "take", desc := "(I)LKeyHall$Fan;" } : Jvm.MethodName) ({ cls := "KeyHall$RowFan", name := "take", desc := "(I)LKeyHall$Fan;" } : Jvm.MethodName)) ∈ lw_all := lw_g (lw_at lw_m4 232 rfl) rfl
theorem q1010 : (Jvm.Cond.instanceMethod ({ cls := "KeyHall$RowFan", name := "take", desc := "(I)LKeyHall$Fan;" } : Jvm.MethodName)) ∈ lw_all := lw_g (lw_at lw_m4 233 rfl) rfl
theorem q1011 : (Jvm.Cond.code ({ cls := "KeyHall$RowFan", name := "take", desc := "(I)LKeyHall$Fan;" } : Jvm.MethodName) prog_12_method_5_code (4 : Nat) (Option.some (Jvm.ClassFile.FieldType.object "KeyHall$Fan"))) ∈ lw_all := lw_g (lw_at lw_m4 234 rfl) rfl
theorem q1060 : (Jvm.Cond.selects "KeyHall$RowFan" ({ cls := "KeyHall$Fan", name := "upTo", desc := "(I)I" } : Jvm.MethodName) ({ cls := "KeyHall$RowFan", name := "upTo", desc := "(I)I" } : Jvm.MethodName)) ∈ lw_all := lw_g (lw_at lw_m5 43 rfl) rfl
theorem q1061 : (Jvm.Cond.instanceMethod ({ cls := "KeyHall$RowFan", name := "upTo", desc := "(I)I" } : Jvm.MethodName)) ∈ lw_all := lw_g (lw_at lw_m5 44 rfl) rfl
theorem q1062 : (Jvm.Cond.code ({ cls := "KeyHall$RowFan", name := "upTo", desc := "(I)I" } : Jvm.MethodName) prog_12_method_7_code (3 : Nat) (Option.some Jvm.ClassFile.FieldType.int)) ∈ lw_all := lw_g (lw_at lw_m5 45 rfl) rfl
theorem in_X8 : ∀ w ∈ wsX80, w ∈ lw_all := lw_in wsX80 [185, 181, 183] (by decide +kernel) (by decide +kernel)
/-! KeyHall$Automaton -/
def RX9 : String := "KeyHall$Automaton"
def TX9 : u_T := fun k => match k with
  | 0 => ("KeyHall$Automaton", "isFinal", "[Z", true)
  | 1 => ("KeyHall$Automaton", "first", "[I", true)
  | 2 => ("KeyHall$Automaton", "letters", "[C", true)
  | 3 => ("KeyHall$Automaton", "targets", "[I", true)
  | 4 => ("KeyHall$Automaton", "next", "[I", true)
  | 5 => ("KeyHall$Automaton", "states", "I", false)
  | 6 => ("KeyHall$Automaton", "steps", "I", false)
  | 7 => ("KeyHall$Automaton", "start", "I", false)
  | 8 => ("KeyHall$Automaton", "kept", "[I", true)
  | _ => ("KeyHall$Automaton", "keptCount", "I", false)
def tyX9 : Nat → FieldType := fun k => match k with
  | 0 => .array .boolean
  | 1 => .array .int
  | 2 => .array .char
  | 3 => .array .int
  | 4 => .array .int
  | 5 => .int
  | 6 => .int
  | 7 => .int
  | 8 => .array .int
  | _ => .int
abbrev wsX90 : List Cond := u_ws RX9 TX9 10
theorem nmX9 : ∀ a, a < 10 → ∀ b, b < 10 → a ≠ b → (TX9 a).2.1 ≠ (TX9 b).2.1 := by decide +kernel
theorem tyX9_ok : ∀ k, k < 10 → parseFieldDescriptor (TX9 k).2.2.1 = some (tyX9 k) := by decide +kernel
abbrev cX9_init : ByteArray := prog_2_method_1_code
def yX9_init : MethodName := ⟨RX9, "<init>", "()V"⟩
abbrev cX9_begin : ByteArray := prog_2_method_3_code
def yX9_begin : MethodName := ⟨RX9, "begin", "()V"⟩
abbrev cX9_count : ByteArray := prog_2_method_9_code
def yX9_count : MethodName := ⟨RX9, "count", "(I)I"⟩
abbrev cX9_goes : ByteArray := prog_2_method_10_code
def yX9_goes : MethodName := ⟨RX9, "goes", "(LKeyHall$Key;)I"⟩
abbrev cX9_step : ByteArray := prog_2_method_4_code
def yX9_step : MethodName := ⟨RX9, "step", "(IC)I"⟩
abbrev cX9_add : ByteArray := prog_2_method_5_code
def yX9_add : MethodName := ⟨RX9, "add", "(LKeyHall$Key;)V"⟩
abbrev cX9_state : ByteArray := prog_2_method_2_code
def yX9_state : MethodName := ⟨RX9, "state", "()I"⟩
abbrev cX9_end : ByteArray := prog_2_method_6_code
def yX9_end : MethodName := ⟨RX9, "end", "()V"⟩
abbrev cX9_least : ByteArray := prog_2_method_8_code
def yX9_least : MethodName := ⟨RX9, "least", "(LKeyHall$Automaton;I)I"⟩
abbrev cX9_isLike : ByteArray := prog_2_method_7_code
def yX9_isLike : MethodName := ⟨RX9, "isLike", "(II)Z"⟩
theorem q66 : (Jvm.Cond.initialized "KeyHall$Automaton") ∈ lw_all := lw_g (lw_at lw_m1 9 rfl) rfl
theorem q107 : (Jvm.Cond.fieldLink "KeyHall$Automaton" (54 : Nat) "KeyHall$Key" "c" "[C") ∈ lw_all := lw_g (lw_at lw_m1 50 rfl) rfl
theorem q116 : (Jvm.Cond.fieldLink "KeyHall$Automaton" (49 : Nat) "KeyHall$Key" "n" "I") ∈ lw_all := lw_g (lw_at lw_m1 59 rfl) rfl
theorem q222 : (Jvm.Cond.instantiable "KeyHall$Automaton" (10 : Nat)) ∈ lw_all := lw_g (lw_at lw_m1 165 rfl) rfl
theorem q224 : (Jvm.Cond.instanceMethod ({ cls := "KeyHall$Automaton", name := "<init>", desc := "()V" } : Jvm.MethodName)) ∈ lw_all := lw_g (lw_at lw_m1 167 rfl) rfl
theorem q225 : (Jvm.Cond.code ({ cls := "KeyHall$Automaton", name := "<init>", desc := "()V" } : Jvm.MethodName) prog_2_method_1_code (1 : Nat) (Option.none : Option Jvm.ClassFile.FieldType)) ∈ lw_all := lw_g (lw_at lw_m1 168 rfl) rfl
theorem q226 : (Jvm.Cond.methodLink "KeyHall$Automaton" (3 : Nat) ({ cls := "java/lang/Object", name := "<init>", desc := "()V" } : Jvm.MethodName)) ∈ lw_all := lw_g (lw_at lw_m1 169 rfl) rfl
theorem q227 : (Jvm.Cond.fieldLink "KeyHall$Automaton" (11 : Nat) "KeyHall$Automaton" "isFinal" "[Z") ∈ lw_all := lw_g (lw_at lw_m1 170 rfl) rfl
theorem q228 : (Jvm.Cond.fieldLink "KeyHall$Automaton" (15 : Nat) "KeyHall$Automaton" "first" "[I") ∈ lw_all := lw_g (lw_at lw_m1 171 rfl) rfl
theorem q229 : (Jvm.Cond.fieldLink "KeyHall$Automaton" (19 : Nat) "KeyHall$Automaton" "letters" "[C") ∈ lw_all := lw_g (lw_at lw_m1 172 rfl) rfl
theorem q230 : (Jvm.Cond.fieldLink "KeyHall$Automaton" (23 : Nat) "KeyHall$Automaton" "targets" "[I") ∈ lw_all := lw_g (lw_at lw_m1 173 rfl) rfl
theorem q231 : (Jvm.Cond.fieldLink "KeyHall$Automaton" (26 : Nat) "KeyHall$Automaton" "next" "[I") ∈ lw_all := lw_g (lw_at lw_m1 174 rfl) rfl
theorem q232 : (Jvm.Cond.fieldLink "KeyHall$Automaton" (32 : Nat) "KeyHall$Automaton" "states" "I") ∈ lw_all := lw_g (lw_at lw_m1 175 rfl) rfl
theorem q233 : (Jvm.Cond.fieldLink "KeyHall$Automaton" (36 : Nat) "KeyHall$Automaton" "steps" "I") ∈ lw_all := lw_g (lw_at lw_m1 176 rfl) rfl
theorem q234 : (Jvm.Cond.fieldLink "KeyHall$Automaton" (42 : Nat) "KeyHall$Automaton" "start" "I") ∈ lw_all := lw_g (lw_at lw_m1 177 rfl) rfl
theorem q236 : (Jvm.Cond.fieldLink "KeyHall$Automaton" (29 : Nat) "KeyHall$Automaton" "kept" "[I") ∈ lw_all := lw_g (lw_at lw_m1 179 rfl) rfl
theorem q237 : (Jvm.Cond.fieldLink "KeyHall$Automaton" (39 : Nat) "KeyHall$Automaton" "keptCount" "I") ∈ lw_all := lw_g (lw_at lw_m1 180 rfl) rfl
theorem q238 : (Jvm.Cond.laysFinal "KeyHall$Automaton" "KeyHall$Automaton" "isFinal" "[Z") ∈ lw_all := lw_g (lw_at lw_m1 181 rfl) rfl
theorem q239 : (Jvm.Cond.soleField "KeyHall$Automaton" "isFinal") ∈ lw_all := lw_g (lw_at lw_m1 182 rfl) rfl
theorem q240 : (Jvm.Cond.laysFinal "KeyHall$Automaton" "KeyHall$Automaton" "first" "[I") ∈ lw_all := lw_g (lw_at lw_m1 183 rfl) rfl
theorem q241 : (Jvm.Cond.soleField "KeyHall$Automaton" "first") ∈ lw_all := lw_g (lw_at lw_m1 184 rfl) rfl
theorem q242 : (Jvm.Cond.laysFinal "KeyHall$Automaton" "KeyHall$Automaton" "letters" "[C") ∈ lw_all := lw_g (lw_at lw_m1 185 rfl) rfl
theorem q243 : (Jvm.Cond.soleField "KeyHall$Automaton" "letters") ∈ lw_all := lw_g (lw_at lw_m1 186 rfl) rfl
theorem q244 : (Jvm.Cond.laysFinal "KeyHall$Automaton" "KeyHall$Automaton" "targets" "[I") ∈ lw_all := lw_g (lw_at lw_m1 187 rfl) rfl
theorem q245 : (Jvm.Cond.soleField "KeyHall$Automaton" "targets") ∈ lw_all := lw_g (lw_at lw_m1 188 rfl) rfl
theorem q246 : (Jvm.Cond.laysFinal "KeyHall$Automaton" "KeyHall$Automaton" "next" "[I") ∈ lw_all := lw_g (lw_at lw_m1 189 rfl) rfl
theorem q247 : (Jvm.Cond.soleField "KeyHall$Automaton" "next") ∈ lw_all := lw_g (lw_at lw_m1 190 rfl) rfl
theorem q248 : (Jvm.Cond.lays "KeyHall$Automaton" "KeyHall$Automaton" "states" "I") ∈ lw_all := lw_g (lw_at lw_m1 191 rfl) rfl
theorem q249 : (Jvm.Cond.soleField "KeyHall$Automaton" "states") ∈ lw_all := lw_g (lw_at lw_m1 192 rfl) rfl
theorem q250 : (Jvm.Cond.lays "KeyHall$Automaton" "KeyHall$Automaton" "steps" "I") ∈ lw_all := lw_g (lw_at lw_m1 193 rfl) rfl
theorem q251 : (Jvm.Cond.soleField "KeyHall$Automaton" "steps") ∈ lw_all := lw_g (lw_at lw_m1 194 rfl) rfl
theorem q252 : (Jvm.Cond.lays "KeyHall$Automaton" "KeyHall$Automaton" "start" "I") ∈ lw_all := lw_g (lw_at lw_m1 195 rfl) rfl
theorem q253 : (Jvm.Cond.soleField "KeyHall$Automaton" "start") ∈ lw_all := lw_g (lw_at lw_m1 196 rfl) rfl
theorem q254 : (Jvm.Cond.laysFinal "KeyHall$Automaton" "KeyHall$Automaton" "kept" "[I") ∈ lw_all := lw_g (lw_at lw_m1 197 rfl) rfl
theorem q255 : (Jvm.Cond.soleField "KeyHall$Automaton" "kept") ∈ lw_all := lw_g (lw_at lw_m1 198 rfl) rfl
theorem q256 : (Jvm.Cond.lays "KeyHall$Automaton" "KeyHall$Automaton" "keptCount" "I") ∈ lw_all := lw_g (lw_at lw_m1 199 rfl) rfl
theorem q257 : (Jvm.Cond.soleField "KeyHall$Automaton" "keptCount") ∈ lw_all := lw_g (lw_at lw_m1 200 rfl) rfl
theorem q258 : (Jvm.Cond.superclass "KeyHall$Automaton" "java/lang/Object") ∈ lw_all := lw_g (lw_at lw_m1 201 rfl) rfl
theorem q347 : (Jvm.Cond.instanceMethod ({ cls := "KeyHall$Automaton", name := "begin", desc := "()V" } : Jvm.MethodName)) ∈ lw_all := lw_g (lw_at lw_m2 50 rfl) rfl
theorem q348 : (Jvm.Cond.selects "KeyHall$Automaton" ({ cls := "KeyHall$Automaton", name := "begin", desc := "()V" } : Jvm.MethodName) ({ cls := "KeyHall$Automaton", name := "begin", desc := "()V" } : Jvm.MethodName)) ∈ lw_all := lw_g (lw_at lw_m2 51 rfl) rfl
theorem q349 : (Jvm.Cond.code ({ cls := "KeyHall$Automaton", name := "begin", desc := "()V" } : Jvm.MethodName) prog_2_method_3_code (1 : Nat) (Option.none : Option Jvm.ClassFile.FieldType)) ∈ lw_all := lw_g (lw_at lw_m2 52 rfl) rfl
theorem q536 : (Jvm.Cond.instanceMethod ({ cls := "KeyHall$Automaton", name := "count", desc := "(I)I" } : Jvm.MethodName)) ∈ lw_all := lw_g (lw_at lw_m2 239 rfl) rfl
theorem q537 : (Jvm.Cond.selects "KeyHall$Automaton" ({ cls := "KeyHall$Automaton", name := "count", desc := "(I)I" } : Jvm.MethodName) ({ cls := "KeyHall$Automaton", name := "count", desc := "(I)I" } : Jvm.MethodName)) ∈ lw_all := lw_g (lw_at lw_m3 0 rfl) rfl
theorem q538 : (Jvm.Cond.code ({ cls := "KeyHall$Automaton", name := "count", desc := "(I)I" } : Jvm.MethodName) prog_2_method_9_code (5 : Nat) (Option.some Jvm.ClassFile.FieldType.int)) ∈ lw_all := lw_g (lw_at lw_m3 1 rfl) rfl
theorem q550 : (Jvm.Cond.instanceMethod ({ cls := "KeyHall$Automaton", name := "goes", desc := "(LKeyHall$Key;)I" } : Jvm.MethodName)) ∈ lw_all := lw_g (lw_at lw_m3 13 rfl) rfl
theorem q551 : (Jvm.Cond.selects "KeyHall$Automaton" ({ cls := "KeyHall$Automaton", name := "goes", desc := "(LKeyHall$Key;)I" } : Jvm.MethodName) ({ cls := "KeyHall$Automaton", name := "goes", desc := "(LKeyHall$Key;)I" } : Jvm.MethodName)) ∈ lw_all := lw_g (lw_at lw_m3 14 rfl) rfl
theorem q552 : (Jvm.Cond.code ({ cls := "KeyHall$Automaton", name := "goes", desc := "(LKeyHall$Key;)I" } : Jvm.MethodName) prog_2_method_10_code (5 : Nat) (Option.some Jvm.ClassFile.FieldType.int)) ∈ lw_all := lw_g (lw_at lw_m3 15 rfl) rfl
theorem q553 : (Jvm.Cond.methodLink "KeyHall$Automaton" (57 : Nat) ({ cls := "KeyHall$Automaton", name := "step", desc := "(IC)I" } : Jvm.MethodName)) ∈ lw_all := lw_g (lw_at lw_m3 16 rfl) rfl
theorem q554 : (Jvm.Cond.privateMethod ({ cls := "KeyHall$Automaton", name := "step", desc := "(IC)I" } : Jvm.MethodName)) ∈ lw_tbl := lw_at lw_m3 17 rfl
theorem q555 : (Jvm.Cond.instanceMethod ({ cls := "KeyHall$Automaton", name := "step", desc := "(IC)I" } : Jvm.MethodName)) ∈ lw_all := lw_g (lw_at lw_m3 18 rfl) rfl
theorem q556 : (Jvm.Cond.code ({ cls := "KeyHall$Automaton", name := "step", desc := "(IC)I" } : Jvm.MethodName) prog_2_method_4_code (4 : Nat) (Option.some Jvm.ClassFile.FieldType.int)) ∈ lw_all := lw_g (lw_at lw_m3 19 rfl) rfl
theorem q1180 : (Jvm.Cond.instanceMethod ({ cls := "KeyHall$Automaton", name := "add", desc := "(LKeyHall$Key;)V" } : Jvm.MethodName)) ∈ lw_all := lw_g (lw_at lw_m5 163 rfl) rfl
theorem q1181 : (Jvm.Cond.selects "KeyHall$Automaton" ({ cls := "KeyHall$Automaton", name := "add", desc := "(LKeyHall$Key;)V" } : Jvm.MethodName) ({ cls := "KeyHall$Automaton", name := "add", desc := "(LKeyHall$Key;)V" } : Jvm.MethodName)) ∈ lw_all := lw_g (lw_at lw_m5 164 rfl) rfl
theorem q1182 : (Jvm.Cond.code ({ cls := "KeyHall$Automaton", name := "add", desc := "(LKeyHall$Key;)V" } : Jvm.MethodName) prog_2_method_5_code (5 : Nat) (Option.none : Option Jvm.ClassFile.FieldType)) ∈ lw_all := lw_g (lw_at lw_m5 165 rfl) rfl
theorem q1183 : (Jvm.Cond.methodLink "KeyHall$Automaton" (45 : Nat) ({ cls := "KeyHall$Automaton", name := "state", desc := "()I" } : Jvm.MethodName)) ∈ lw_all := lw_g (lw_at lw_m5 166 rfl) rfl
theorem q1184 : (Jvm.Cond.privateMethod ({ cls := "KeyHall$Automaton", name := "state", desc := "()I" } : Jvm.MethodName)) ∈ lw_tbl := lw_at lw_m5 167 rfl
theorem q1185 : (Jvm.Cond.instanceMethod ({ cls := "KeyHall$Automaton", name := "state", desc := "()I" } : Jvm.MethodName)) ∈ lw_all := lw_g (lw_at lw_m5 168 rfl) rfl
theorem q1186 : (Jvm.Cond.code ({ cls := "KeyHall$Automaton", name := "state", desc := "()I" } : Jvm.MethodName) prog_2_method_2_code (1 : Nat) (Option.some Jvm.ClassFile.FieldType.int)) ∈ lw_all := lw_g (lw_at lw_m5 169 rfl) rfl
theorem q1188 : (Jvm.Cond.instanceMethod ({ cls := "KeyHall$Automaton", name := "end", desc := "()V" } : Jvm.MethodName)) ∈ lw_all := lw_g (lw_at lw_m5 171 rfl) rfl
theorem q1189 : (Jvm.Cond.selects "KeyHall$Automaton" ({ cls := "KeyHall$Automaton", name := "end", desc := "()V" } : Jvm.MethodName) ({ cls := "KeyHall$Automaton", name := "end", desc := "()V" } : Jvm.MethodName)) ∈ lw_all := lw_g (lw_at lw_m5 172 rfl) rfl
theorem q1190 : (Jvm.Cond.code ({ cls := "KeyHall$Automaton", name := "end", desc := "()V" } : Jvm.MethodName) prog_2_method_6_code (1 : Nat) (Option.none : Option Jvm.ClassFile.FieldType)) ∈ lw_all := lw_g (lw_at lw_m5 173 rfl) rfl
theorem q1191 : (Jvm.Cond.methodLink "KeyHall$Automaton" (61 : Nat) ({ cls := "KeyHall$Automaton", name := "least", desc := "(LKeyHall$Automaton;I)I" } : Jvm.MethodName)) ∈ lw_all := lw_g (lw_at lw_m5 174 rfl) rfl
theorem q1192 : (Jvm.Cond.static ({ cls := "KeyHall$Automaton", name := "least", desc := "(LKeyHall$Automaton;I)I" } : Jvm.MethodName)) ∈ lw_all := lw_g (lw_at lw_m5 175 rfl) rfl
theorem q1193 : (Jvm.Cond.code ({ cls := "KeyHall$Automaton", name := "least", desc := "(LKeyHall$Automaton;I)I" } : Jvm.MethodName) prog_2_method_8_code (3 : Nat) (Option.some Jvm.ClassFile.FieldType.int)) ∈ lw_all := lw_g (lw_at lw_m5 176 rfl) rfl
theorem q1194 : (Jvm.Cond.methodLink "KeyHall$Automaton" (65 : Nat) ({ cls := "KeyHall$Automaton", name := "isLike", desc := "(II)Z" } : Jvm.MethodName)) ∈ lw_all := lw_g (lw_at lw_m5 177 rfl) rfl
theorem q1195 : (Jvm.Cond.privateMethod ({ cls := "KeyHall$Automaton", name := "isLike", desc := "(II)Z" } : Jvm.MethodName)) ∈ lw_tbl := lw_at lw_m5 178 rfl
theorem q1196 : (Jvm.Cond.instanceMethod ({ cls := "KeyHall$Automaton", name := "isLike", desc := "(II)Z" } : Jvm.MethodName)) ∈ lw_all := lw_g (lw_at lw_m5 179 rfl) rfl
theorem q1197 : (Jvm.Cond.code ({ cls := "KeyHall$Automaton", name := "isLike", desc := "(II)Z" } : Jvm.MethodName) prog_2_method_7_code (6 : Nat) (Option.some Jvm.ClassFile.FieldType.boolean)) ∈ lw_all := lw_g (lw_at lw_m5 180 rfl) rfl
theorem in_X9 : ∀ w ∈ wsX90, w ∈ lw_all := lw_in wsX90 [238, 240, 242, 244, 246, 248, 250, 252, 254, 256] (by decide +kernel) (by decide +kernel)
/-! KeyHall$Scroll -/
def RX10 : String := "KeyHall$Scroll"
def TX10 : u_T := fun k => match k with
  | 0 => ("KeyHall$Scroll", "rope", "LKeyHall$Rope;", false)
  | 1 => ("KeyHall$Scroll", "old", "[LKeyHall$Rope;", true)
  | 2 => ("KeyHall$Scroll", "olds", "I", false)
  | 3 => ("KeyHall$Scroll", "suffixes", "[I", true)
  | 4 => ("KeyHall$Scroll", "ranks", "[I", true)
  | 5 => ("KeyHall$Scroll", "fresh", "[I", true)
  | 6 => ("KeyHall$Scroll", "common", "[I", true)
  | _ => ("KeyHall$Scroll", "sorted", "Z", false)
def tyX10 : Nat → FieldType := fun k => match k with
  | 0 => .object "KeyHall$Rope"
  | 1 => .array (.object "KeyHall$Rope")
  | 2 => .int
  | 3 => .array .int
  | 4 => .array .int
  | 5 => .array .int
  | 6 => .array .int
  | _ => .boolean
abbrev wsX100 : List Cond := u_ws RX10 TX10 8
theorem nmX10 : ∀ a, a < 8 → ∀ b, b < 8 → a ≠ b → (TX10 a).2.1 ≠ (TX10 b).2.1 := by decide +kernel
theorem tyX10_ok : ∀ k, k < 8 → parseFieldDescriptor (TX10 k).2.2.1 = some (tyX10 k) := by decide +kernel
abbrev cX10_init : ByteArray := prog_13_method_1_code
def yX10_init : MethodName := ⟨RX10, "<init>", "()V"⟩
abbrev cX10_undo : ByteArray := prog_13_method_6_code
def yX10_undo : MethodName := ⟨RX10, "undo", "()I"⟩
abbrev cX10_length : ByteArray := prog_13_method_2_code
def yX10_length : MethodName := ⟨RX10, "length", "()I"⟩
abbrev cX10_sum : ByteArray := prog_13_method_7_code
def yX10_sum : MethodName := ⟨RX10, "sum", "()I"⟩
abbrev cX10_sort : ByteArray := prog_13_method_10_code
def yX10_sort : MethodName := ⟨RX10, "sort", "()V"⟩
abbrev cX10_compare : ByteArray := prog_13_method_9_code
def yX10_compare : MethodName := ⟨RX10, "compare", "(III)I"⟩
abbrev cX10_rank : ByteArray := prog_13_method_8_code
def yX10_rank : MethodName := ⟨RX10, "rank", "(I)I"⟩
abbrev cX10_share : ByteArray := prog_13_method_11_code
def yX10_share : MethodName := ⟨RX10, "share", "(I)V"⟩
abbrev cX10_bound : ByteArray := prog_13_method_13_code
def yX10_bound : MethodName := ⟨RX10, "bound", "(LKeyHall$Key;Z)I"⟩
abbrev cX10_isBefore : ByteArray := prog_13_method_12_code
def yX10_isBefore : MethodName := ⟨RX10, "isBefore", "(ILKeyHall$Key;Z)Z"⟩
abbrev cX10_insert : ByteArray := prog_13_method_4_code
def yX10_insert : MethodName := ⟨RX10, "insert", "(ILKeyHall$Key;)I"⟩
abbrev cX10_become : ByteArray := prog_13_method_3_code
def yX10_become : MethodName := ⟨RX10, "become", "(LKeyHall$Rope;)I"⟩
abbrev cX10_delete : ByteArray := prog_13_method_5_code
def yX10_delete : MethodName := ⟨RX10, "delete", "(II)I"⟩
theorem q67 : (Jvm.Cond.initialized "KeyHall$Scroll") ∈ lw_all := lw_g (lw_at lw_m1 10 rfl) rfl
theorem q105 : (Jvm.Cond.fieldLink "KeyHall$Scroll" (52 : Nat) "KeyHall$Key" "c" "[C") ∈ lw_all := lw_g (lw_at lw_m1 48 rfl) rfl
theorem q113 : (Jvm.Cond.fieldLink "KeyHall$Scroll" (58 : Nat) "KeyHall$Key" "n" "I") ∈ lw_all := lw_g (lw_at lw_m1 56 rfl) rfl
theorem q261 : (Jvm.Cond.instantiable "KeyHall$Scroll" (8 : Nat)) ∈ lw_all := lw_g (lw_at lw_m1 204 rfl) rfl
theorem q263 : (Jvm.Cond.instanceMethod ({ cls := "KeyHall$Scroll", name := "<init>", desc := "()V" } : Jvm.MethodName)) ∈ lw_all := lw_g (lw_at lw_m1 206 rfl) rfl
theorem q264 : (Jvm.Cond.code ({ cls := "KeyHall$Scroll", name := "<init>", desc := "()V" } : Jvm.MethodName) prog_13_method_1_code (1 : Nat) (Option.none : Option Jvm.ClassFile.FieldType)) ∈ lw_all := lw_g (lw_at lw_m1 207 rfl) rfl
theorem q265 : (Jvm.Cond.methodLink "KeyHall$Scroll" (3 : Nat) ({ cls := "java/lang/Object", name := "<init>", desc := "()V" } : Jvm.MethodName)) ∈ lw_all := lw_g (lw_at lw_m1 208 rfl) rfl
theorem q266 : (Jvm.Cond.classLink "KeyHall$Scroll" (9 : Nat) "KeyHall$Rope") ∈ lw_all := lw_g (lw_at lw_m1 209 rfl) rfl
theorem q268 : (Jvm.Cond.fieldLink "KeyHall$Scroll" (30 : Nat) "KeyHall$Scroll" "rope" "LKeyHall$Rope;") ∈ lw_all := lw_g (lw_at lw_m1 211 rfl) rfl
theorem q270 : (Jvm.Cond.fieldLink "KeyHall$Scroll" (11 : Nat) "KeyHall$Scroll" "old" "[LKeyHall$Rope;") ∈ lw_all := lw_g (lw_at lw_m1 213 rfl) rfl
theorem q271 : (Jvm.Cond.fieldLink "KeyHall$Scroll" (38 : Nat) "KeyHall$Scroll" "olds" "I") ∈ lw_all := lw_g (lw_at lw_m1 214 rfl) rfl
theorem q272 : (Jvm.Cond.fieldLink "KeyHall$Scroll" (17 : Nat) "KeyHall$Scroll" "suffixes" "[I") ∈ lw_all := lw_g (lw_at lw_m1 215 rfl) rfl
theorem q274 : (Jvm.Cond.fieldLink "KeyHall$Scroll" (21 : Nat) "KeyHall$Scroll" "ranks" "[I") ∈ lw_all := lw_g (lw_at lw_m1 217 rfl) rfl
theorem q275 : (Jvm.Cond.fieldLink "KeyHall$Scroll" (24 : Nat) "KeyHall$Scroll" "fresh" "[I") ∈ lw_all := lw_g (lw_at lw_m1 218 rfl) rfl
theorem q276 : (Jvm.Cond.fieldLink "KeyHall$Scroll" (27 : Nat) "KeyHall$Scroll" "common" "[I") ∈ lw_all := lw_g (lw_at lw_m1 219 rfl) rfl
theorem q278 : (Jvm.Cond.fieldLink "KeyHall$Scroll" (41 : Nat) "KeyHall$Scroll" "sorted" "Z") ∈ lw_all := lw_g (lw_at lw_m1 221 rfl) rfl
theorem q279 : (Jvm.Cond.lays "KeyHall$Scroll" "KeyHall$Scroll" "rope" "LKeyHall$Rope;") ∈ lw_all := lw_g (lw_at lw_m1 222 rfl) rfl
theorem q280 : (Jvm.Cond.soleField "KeyHall$Scroll" "rope") ∈ lw_all := lw_g (lw_at lw_m1 223 rfl) rfl
theorem q281 : (Jvm.Cond.laysFinal "KeyHall$Scroll" "KeyHall$Scroll" "old" "[LKeyHall$Rope;") ∈ lw_all := lw_g (lw_at lw_m1 224 rfl) rfl
theorem q282 : (Jvm.Cond.soleField "KeyHall$Scroll" "old") ∈ lw_all := lw_g (lw_at lw_m1 225 rfl) rfl
theorem q283 : (Jvm.Cond.lays "KeyHall$Scroll" "KeyHall$Scroll" "olds" "I") ∈ lw_all := lw_g (lw_at lw_m1 226 rfl) rfl
theorem q284 : (Jvm.Cond.soleField "KeyHall$Scroll" "olds") ∈ lw_all := lw_g (lw_at lw_m1 227 rfl) rfl
theorem q285 : (Jvm.Cond.laysFinal "KeyHall$Scroll" "KeyHall$Scroll" "suffixes" "[I") ∈ lw_all := lw_g (lw_at lw_m1 228 rfl) rfl
theorem q286 : (Jvm.Cond.soleField "KeyHall$Scroll" "suffixes") ∈ lw_all := lw_g (lw_at lw_m1 229 rfl) rfl
theorem q287 : (Jvm.Cond.laysFinal "KeyHall$Scroll" "KeyHall$Scroll" "ranks" "[I") ∈ lw_all := lw_g (lw_at lw_m1 230 rfl) rfl
theorem q288 : (Jvm.Cond.soleField "KeyHall$Scroll" "ranks") ∈ lw_all := lw_g (lw_at lw_m1 231 rfl) rfl
theorem q289 : (Jvm.Cond.laysFinal "KeyHall$Scroll" "KeyHall$Scroll" "fresh" "[I") ∈ lw_all := lw_g (lw_at lw_m1 232 rfl) rfl
theorem q290 : (Jvm.Cond.soleField "KeyHall$Scroll" "fresh") ∈ lw_all := lw_g (lw_at lw_m1 233 rfl) rfl
theorem q291 : (Jvm.Cond.laysFinal "KeyHall$Scroll" "KeyHall$Scroll" "common" "[I") ∈ lw_all := lw_g (lw_at lw_m1 234 rfl) rfl
theorem q292 : (Jvm.Cond.soleField "KeyHall$Scroll" "common") ∈ lw_all := lw_g (lw_at lw_m1 235 rfl) rfl
theorem q293 : (Jvm.Cond.lays "KeyHall$Scroll" "KeyHall$Scroll" "sorted" "Z") ∈ lw_all := lw_g (lw_at lw_m1 236 rfl) rfl
theorem q294 : (Jvm.Cond.soleField "KeyHall$Scroll" "sorted") ∈ lw_all := lw_g (lw_at lw_m1 237 rfl) rfl
theorem q295 : (Jvm.Cond.superclass "KeyHall$Scroll" "java/lang/Object") ∈ lw_all := lw_g (lw_at lw_m1 238 rfl) rfl
theorem q562 : (Jvm.Cond.instanceMethod ({ cls := "KeyHall$Scroll", name := "undo", desc := "()I" } : Jvm.MethodName)) ∈ lw_all := lw_g (lw_at lw_m3 25 rfl) rfl
theorem q563 : (Jvm.Cond.selects "KeyHall$Scroll" ({ cls := "KeyHall$Scroll", name := "undo", desc := "()I" } : Jvm.MethodName) ({ cls := "KeyHall$Scroll", name := "undo", desc := "()I" } : Jvm.MethodName)) ∈ lw_all := lw_g (lw_at lw_m3 26 rfl) rfl
theorem q564 : (Jvm.Cond.code ({ cls := "KeyHall$Scroll", name := "undo", desc := "()I" } : Jvm.MethodName) prog_13_method_6_code (1 : Nat) (Option.some Jvm.ClassFile.FieldType.int)) ∈ lw_all := lw_g (lw_at lw_m3 27 rfl) rfl
theorem q565 : (Jvm.Cond.methodLink "KeyHall$Scroll" (45 : Nat) ({ cls := "KeyHall$Scroll", name := "length", desc := "()I" } : Jvm.MethodName)) ∈ lw_all := lw_g (lw_at lw_m3 28 rfl) rfl
theorem q566 : (Jvm.Cond.instanceMethod ({ cls := "KeyHall$Scroll", name := "length", desc := "()I" } : Jvm.MethodName)) ∈ lw_all := lw_g (lw_at lw_m3 29 rfl) rfl
theorem q567 : (Jvm.Cond.selects "KeyHall$Scroll" ({ cls := "KeyHall$Scroll", name := "length", desc := "()I" } : Jvm.MethodName) ({ cls := "KeyHall$Scroll", name := "length", desc := "()I" } : Jvm.MethodName)) ∈ lw_all := lw_g (lw_at lw_m3 30 rfl) rfl
theorem q568 : (Jvm.Cond.code ({ cls := "KeyHall$Scroll", name := "length", desc := "()I" } : Jvm.MethodName) prog_13_method_2_code (1 : Nat) (Option.some Jvm.ClassFile.FieldType.int)) ∈ lw_all := lw_g (lw_at lw_m3 31 rfl) rfl
theorem q575 : (Jvm.Cond.instanceMethod ({ cls := "KeyHall$Scroll", name := "sum", desc := "()I" } : Jvm.MethodName)) ∈ lw_all := lw_g (lw_at lw_m3 38 rfl) rfl
theorem q576 : (Jvm.Cond.selects "KeyHall$Scroll" ({ cls := "KeyHall$Scroll", name := "sum", desc := "()I" } : Jvm.MethodName) ({ cls := "KeyHall$Scroll", name := "sum", desc := "()I" } : Jvm.MethodName)) ∈ lw_all := lw_g (lw_at lw_m3 39 rfl) rfl
theorem q577 : (Jvm.Cond.code ({ cls := "KeyHall$Scroll", name := "sum", desc := "()I" } : Jvm.MethodName) prog_13_method_7_code (3 : Nat) (Option.some Jvm.ClassFile.FieldType.int)) ∈ lw_all := lw_g (lw_at lw_m3 40 rfl) rfl
theorem q578 : (Jvm.Cond.methodLink "KeyHall$Scroll" (73 : Nat) ({ cls := "KeyHall$Rope", name := "at", desc := "(I)C" } : Jvm.MethodName)) ∈ lw_all := lw_g (lw_at lw_m3 41 rfl) rfl
theorem q588 : (Jvm.Cond.privateMethod ({ cls := "KeyHall$Scroll", name := "sort", desc := "()V" } : Jvm.MethodName)) ∈ lw_tbl := lw_at lw_m3 51 rfl
theorem q589 : (Jvm.Cond.instanceMethod ({ cls := "KeyHall$Scroll", name := "sort", desc := "()V" } : Jvm.MethodName)) ∈ lw_all := lw_g (lw_at lw_m3 52 rfl) rfl
theorem q590 : (Jvm.Cond.code ({ cls := "KeyHall$Scroll", name := "sort", desc := "()V" } : Jvm.MethodName) prog_13_method_10_code (7 : Nat) (Option.none : Option Jvm.ClassFile.FieldType)) ∈ lw_all := lw_g (lw_at lw_m3 53 rfl) rfl
theorem q591 : (Jvm.Cond.methodLink "KeyHall$Scroll" (87 : Nat) ({ cls := "KeyHall$Scroll", name := "compare", desc := "(III)I" } : Jvm.MethodName)) ∈ lw_all := lw_g (lw_at lw_m3 54 rfl) rfl
theorem q592 : (Jvm.Cond.privateMethod ({ cls := "KeyHall$Scroll", name := "compare", desc := "(III)I" } : Jvm.MethodName)) ∈ lw_tbl := lw_at lw_m3 55 rfl
theorem q593 : (Jvm.Cond.instanceMethod ({ cls := "KeyHall$Scroll", name := "compare", desc := "(III)I" } : Jvm.MethodName)) ∈ lw_all := lw_g (lw_at lw_m3 56 rfl) rfl
theorem q594 : (Jvm.Cond.code ({ cls := "KeyHall$Scroll", name := "compare", desc := "(III)I" } : Jvm.MethodName) prog_13_method_9_code (4 : Nat) (Option.some Jvm.ClassFile.FieldType.int)) ∈ lw_all := lw_g (lw_at lw_m3 57 rfl) rfl
theorem q595 : (Jvm.Cond.methodLink "KeyHall$Scroll" (77 : Nat) ({ cls := "java/lang/Integer", name := "compare", desc := "(II)I" } : Jvm.MethodName)) ∈ lw_all := lw_g (lw_at lw_m3 58 rfl) rfl
theorem q596 : (Jvm.Cond.methodLink "KeyHall$Scroll" (83 : Nat) ({ cls := "KeyHall$Scroll", name := "rank", desc := "(I)I" } : Jvm.MethodName)) ∈ lw_all := lw_g (lw_at lw_m3 59 rfl) rfl
theorem q597 : (Jvm.Cond.privateMethod ({ cls := "KeyHall$Scroll", name := "rank", desc := "(I)I" } : Jvm.MethodName)) ∈ lw_tbl := lw_at lw_m3 60 rfl
theorem q598 : (Jvm.Cond.instanceMethod ({ cls := "KeyHall$Scroll", name := "rank", desc := "(I)I" } : Jvm.MethodName)) ∈ lw_all := lw_g (lw_at lw_m3 61 rfl) rfl
theorem q599 : (Jvm.Cond.code ({ cls := "KeyHall$Scroll", name := "rank", desc := "(I)I" } : Jvm.MethodName) prog_13_method_8_code (2 : Nat) (Option.some Jvm.ClassFile.FieldType.int)) ∈ lw_all := lw_g (lw_at lw_m3 62 rfl) rfl
theorem q600 : (Jvm.Cond.methodLink "KeyHall$Scroll" (90 : Nat) ({ cls := "KeyHall$Scroll", name := "share", desc := "(I)V" } : Jvm.MethodName)) ∈ lw_all := lw_g (lw_at lw_m3 63 rfl) rfl
theorem q601 : (Jvm.Cond.privateMethod ({ cls := "KeyHall$Scroll", name := "share", desc := "(I)V" } : Jvm.MethodName)) ∈ lw_tbl := lw_at lw_m3 64 rfl
theorem q602 : (Jvm.Cond.instanceMethod ({ cls := "KeyHall$Scroll", name := "share", desc := "(I)V" } : Jvm.MethodName)) ∈ lw_all := lw_g (lw_at lw_m3 65 rfl) rfl
theorem q603 : (Jvm.Cond.code ({ cls := "KeyHall$Scroll", name := "share", desc := "(I)V" } : Jvm.MethodName) prog_13_method_11_code (5 : Nat) (Option.none : Option Jvm.ClassFile.FieldType)) ∈ lw_all := lw_g (lw_at lw_m3 66 rfl) rfl
theorem q604 : (Jvm.Cond.methodLink "KeyHall$Scroll" (94 : Nat) ({ cls := "java/lang/Math", name := "max", desc := "(II)I" } : Jvm.MethodName)) ∈ lw_all := lw_g (lw_at lw_m3 67 rfl) rfl
theorem q612 : (Jvm.Cond.instanceMethod ({ cls := "KeyHall$Scroll", name := "bound", desc := "(LKeyHall$Key;Z)I" } : Jvm.MethodName)) ∈ lw_all := lw_g (lw_at lw_m3 75 rfl) rfl
theorem q613 : (Jvm.Cond.selects "KeyHall$Scroll" ({ cls := "KeyHall$Scroll", name := "bound", desc := "(LKeyHall$Key;Z)I" } : Jvm.MethodName) ({ cls := "KeyHall$Scroll", name := "bound", desc := "(LKeyHall$Key;Z)I" } : Jvm.MethodName)) ∈ lw_all := lw_g (lw_at lw_m3 76 rfl) rfl
theorem q614 : (Jvm.Cond.code ({ cls := "KeyHall$Scroll", name := "bound", desc := "(LKeyHall$Key;Z)I" } : Jvm.MethodName) prog_13_method_13_code (6 : Nat) (Option.some Jvm.ClassFile.FieldType.int)) ∈ lw_all := lw_g (lw_at lw_m3 77 rfl) rfl
theorem q615 : (Jvm.Cond.methodLink "KeyHall$Scroll" (99 : Nat) ({ cls := "KeyHall$Scroll", name := "sort", desc := "()V" } : Jvm.MethodName)) ∈ lw_all := lw_g (lw_at lw_m3 78 rfl) rfl
theorem q616 : (Jvm.Cond.methodLink "KeyHall$Scroll" (102 : Nat) ({ cls := "KeyHall$Scroll", name := "isBefore", desc := "(ILKeyHall$Key;Z)Z" } : Jvm.MethodName)) ∈ lw_all := lw_g (lw_at lw_m3 79 rfl) rfl
theorem q617 : (Jvm.Cond.privateMethod ({ cls := "KeyHall$Scroll", name := "isBefore", desc := "(ILKeyHall$Key;Z)Z" } : Jvm.MethodName)) ∈ lw_tbl := lw_at lw_m3 80 rfl
theorem q618 : (Jvm.Cond.instanceMethod ({ cls := "KeyHall$Scroll", name := "isBefore", desc := "(ILKeyHall$Key;Z)Z" } : Jvm.MethodName)) ∈ lw_all := lw_g (lw_at lw_m3 81 rfl) rfl
theorem q619 : (Jvm.Cond.code ({ cls := "KeyHall$Scroll", name := "isBefore", desc := "(ILKeyHall$Key;Z)Z" } : Jvm.MethodName) prog_13_method_12_code (6 : Nat) (Option.some Jvm.ClassFile.FieldType.boolean)) ∈ lw_all := lw_g (lw_at lw_m3 82 rfl) rfl
theorem q1207 : (Jvm.Cond.instanceMethod ({ cls := "KeyHall$Scroll", name := "insert", desc := "(ILKeyHall$Key;)I" } : Jvm.MethodName)) ∈ lw_all := lw_g (lw_at lw_m5 190 rfl) rfl
theorem q1208 : (Jvm.Cond.selects "KeyHall$Scroll" ({ cls := "KeyHall$Scroll", name := "insert", desc := "(ILKeyHall$Key;)I" } : Jvm.MethodName) ({ cls := "KeyHall$Scroll", name := "insert", desc := "(ILKeyHall$Key;)I" } : Jvm.MethodName)) ∈ lw_all := lw_g (lw_at lw_m5 191 rfl) rfl
theorem q1209 : (Jvm.Cond.code ({ cls := "KeyHall$Scroll", name := "insert", desc := "(ILKeyHall$Key;)I" } : Jvm.MethodName) prog_13_method_4_code (3 : Nat) (Option.some Jvm.ClassFile.FieldType.int)) ∈ lw_all := lw_g (lw_at lw_m5 192 rfl) rfl
theorem q1210 : (Jvm.Cond.methodLink "KeyHall$Scroll" (48 : Nat) ({ cls := "KeyHall$Rope", name := "part", desc := "(LKeyHall$Rope;II)LKeyHall$Rope;" } : Jvm.MethodName)) ∈ lw_all := lw_g (lw_at lw_m5 193 rfl) rfl
theorem q1222 : (Jvm.Cond.fieldLinkNest "KeyHall$Scroll" (34 : Nat) "KeyHall$Rope" "length" "I" "KeyHall") ∈ lw_tbl := lw_at lw_m5 205 rfl
theorem q1255 : (Jvm.Cond.methodLink "KeyHall$Scroll" (61 : Nat) ({ cls := "KeyHall$Rope", name := "of", desc := "([CII)LKeyHall$Rope;" } : Jvm.MethodName)) ∈ lw_all := lw_g (lw_at lw_m5 238 rfl) rfl
theorem q1256 : (Jvm.Cond.methodLink "KeyHall$Scroll" (65 : Nat) ({ cls := "KeyHall$Rope", name := "join", desc := "(LKeyHall$Rope;LKeyHall$Rope;)LKeyHall$Rope;" } : Jvm.MethodName)) ∈ lw_all := lw_g (lw_at lw_m5 239 rfl) rfl
theorem q1257 : (Jvm.Cond.methodLink "KeyHall$Scroll" (69 : Nat) ({ cls := "KeyHall$Scroll", name := "become", desc := "(LKeyHall$Rope;)I" } : Jvm.MethodName)) ∈ lw_all := lw_g (lw_at lw_m6 0 rfl) rfl
theorem q1258 : (Jvm.Cond.privateMethod ({ cls := "KeyHall$Scroll", name := "become", desc := "(LKeyHall$Rope;)I" } : Jvm.MethodName)) ∈ lw_tbl := lw_at lw_m6 1 rfl
theorem q1259 : (Jvm.Cond.instanceMethod ({ cls := "KeyHall$Scroll", name := "become", desc := "(LKeyHall$Rope;)I" } : Jvm.MethodName)) ∈ lw_all := lw_g (lw_at lw_m6 2 rfl) rfl
theorem q1260 : (Jvm.Cond.code ({ cls := "KeyHall$Scroll", name := "become", desc := "(LKeyHall$Rope;)I" } : Jvm.MethodName) prog_13_method_3_code (3 : Nat) (Option.some Jvm.ClassFile.FieldType.int)) ∈ lw_all := lw_g (lw_at lw_m6 3 rfl) rfl
theorem q1269 : (Jvm.Cond.instanceMethod ({ cls := "KeyHall$Scroll", name := "delete", desc := "(II)I" } : Jvm.MethodName)) ∈ lw_all := lw_g (lw_at lw_m6 12 rfl) rfl
theorem q1270 : (Jvm.Cond.selects "KeyHall$Scroll" ({ cls := "KeyHall$Scroll", name := "delete", desc := "(II)I" } : Jvm.MethodName) ({ cls := "KeyHall$Scroll", name := "delete", desc := "(II)I" } : Jvm.MethodName)) ∈ lw_all := lw_g (lw_at lw_m6 13 rfl) rfl
theorem q1271 : (Jvm.Cond.code ({ cls := "KeyHall$Scroll", name := "delete", desc := "(II)I" } : Jvm.MethodName) prog_13_method_5_code (3 : Nat) (Option.some Jvm.ClassFile.FieldType.int)) ∈ lw_all := lw_g (lw_at lw_m6 14 rfl) rfl
theorem in_X10 : ∀ w ∈ wsX100, w ∈ lw_all := lw_in wsX100 [279, 281, 283, 285, 287, 289, 291, 293] (by decide +kernel) (by decide +kernel)
/-! KeyHall$View -/
def RX11 : String := "KeyHall$View"
def TX11 : u_T := fun k => match k with
  | 0 => ("KeyHall$View", "tree", "LKeyHall$Tree;", true)
  | 1 => ("KeyHall$View", "low", "LKeyHall$Key;", false)
  | 2 => ("KeyHall$View", "high", "LKeyHall$Key;", false)
  | 3 => ("KeyHall$View", "turned", "Z", false)
  | 4 => ("KeyHall$View", "begun", "Z", false)
  | 5 => ("KeyHall$View", "changes", "I", false)
  | 6 => ("KeyHall$View", "told", "LKeyHall$Entry;", false)
  | _ => ("KeyHall$View", "canDrop", "Z", false)
def tyX11 : Nat → FieldType := fun k => match k with
  | 0 => .object "KeyHall$Tree"
  | 1 => .object "KeyHall$Key"
  | 2 => .object "KeyHall$Key"
  | 3 => .boolean
  | 4 => .boolean
  | 5 => .int
  | 6 => .object "KeyHall$Entry"
  | _ => .boolean
abbrev wsX110 : List Cond := u_ws RX11 TX11 8
theorem nmX11 : ∀ a, a < 8 → ∀ b, b < 8 → a ≠ b → (TX11 a).2.1 ≠ (TX11 b).2.1 := by decide +kernel
theorem tyX11_ok : ∀ k, k < 8 → parseFieldDescriptor (TX11 k).2.2.1 = some (tyX11 k) := by decide +kernel
abbrev cX11_init : ByteArray := prog_16_method_1_code
def yX11_init : MethodName := ⟨RX11, "<init>", "(LKeyHall$Tree;)V"⟩
abbrev cX11_size : ByteArray := prog_16_method_11_code
def yX11_size : MethodName := ⟨RX11, "size", "()I"⟩
abbrev cX11_up : ByteArray := prog_16_method_7_code
def yX11_up : MethodName := ⟨RX11, "up", "(LKeyHall$Key;Z)LKeyHall$Entry;"⟩
abbrev cX11_iterate : ByteArray := prog_16_method_12_code
def yX11_iterate : MethodName := ⟨RX11, "iterate", "()V"⟩
abbrev cX11_copy : ByteArray := prog_16_method_2_code
def yX11_copy : MethodName := ⟨RX11, "copy", "()LKeyHall$View;"⟩
abbrev cX11_begin : ByteArray := prog_16_method_5_code
def yX11_begin : MethodName := ⟨RX11, "begin", "(LKeyHall$Key;)V"⟩
abbrev cX11_from : ByteArray := prog_16_method_3_code
def yX11_from : MethodName := ⟨RX11, "from", "(LKeyHall$Key;)V"⟩
abbrev cX11_to : ByteArray := prog_16_method_4_code
def yX11_to : MethodName := ⟨RX11, "to", "(LKeyHall$Key;)V"⟩
abbrev cX11_has : ByteArray := prog_16_method_6_code
def yX11_has : MethodName := ⟨RX11, "has", "(LKeyHall$Key;)Z"⟩
abbrev cX11_before : ByteArray := prog_16_method_10_code
def yX11_before : MethodName := ⟨RX11, "before", "(LKeyHall$Key;Z)LKeyHall$Entry;"⟩
abbrev cX11_down : ByteArray := prog_16_method_8_code
def yX11_down : MethodName := ⟨RX11, "down", "(LKeyHall$Key;Z)LKeyHall$Entry;"⟩
abbrev cX11_after : ByteArray := prog_16_method_9_code
def yX11_after : MethodName := ⟨RX11, "after", "(LKeyHall$Key;Z)LKeyHall$Entry;"⟩
abbrev cX11_isCurrent : ByteArray := prog_16_method_13_code
def yX11_isCurrent : MethodName := ⟨RX11, "isCurrent", "()Z"⟩
theorem q68 : (Jvm.Cond.initialized "KeyHall$View") ∈ lw_all := lw_g (lw_at lw_m1 11 rfl) rfl
theorem q106 : (Jvm.Cond.fieldLink "KeyHall$View" (46 : Nat) "KeyHall$Key" "c" "[C") ∈ lw_all := lw_g (lw_at lw_m1 49 rfl) rfl
theorem q115 : (Jvm.Cond.fieldLink "KeyHall$View" (42 : Nat) "KeyHall$Key" "n" "I") ∈ lw_all := lw_g (lw_at lw_m1 58 rfl) rfl
theorem q141 : (Jvm.Cond.fieldLink "KeyHall$View" (77 : Nat) "KeyHall$Tree" "changes" "I") ∈ lw_all := lw_g (lw_at lw_m1 84 rfl) rfl
theorem q296 : (Jvm.Cond.instantiable "KeyHall$View" (8 : Nat)) ∈ lw_all := lw_g (lw_at lw_m1 239 rfl) rfl
theorem q298 : (Jvm.Cond.instanceMethod ({ cls := "KeyHall$View", name := "<init>", desc := "(LKeyHall$Tree;)V" } : Jvm.MethodName)) ∈ lw_all := lw_g (lw_at lw_m2 1 rfl) rfl
theorem q299 : (Jvm.Cond.code ({ cls := "KeyHall$View", name := "<init>", desc := "(LKeyHall$Tree;)V" } : Jvm.MethodName) prog_16_method_1_code (2 : Nat) (Option.none : Option Jvm.ClassFile.FieldType)) ∈ lw_all := lw_g (lw_at lw_m2 2 rfl) rfl
theorem q300 : (Jvm.Cond.methodLink "KeyHall$View" (1 : Nat) ({ cls := "java/lang/Object", name := "<init>", desc := "()V" } : Jvm.MethodName)) ∈ lw_all := lw_g (lw_at lw_m2 3 rfl) rfl
theorem q301 : (Jvm.Cond.fieldLink "KeyHall$View" (7 : Nat) "KeyHall$View" "tree" "LKeyHall$Tree;") ∈ lw_all := lw_g (lw_at lw_m2 4 rfl) rfl
theorem q303 : (Jvm.Cond.fieldLink "KeyHall$View" (16 : Nat) "KeyHall$View" "low" "LKeyHall$Key;") ∈ lw_all := lw_g (lw_at lw_m2 6 rfl) rfl
theorem q304 : (Jvm.Cond.fieldLink "KeyHall$View" (20 : Nat) "KeyHall$View" "high" "LKeyHall$Key;") ∈ lw_all := lw_g (lw_at lw_m2 7 rfl) rfl
theorem q305 : (Jvm.Cond.fieldLink "KeyHall$View" (23 : Nat) "KeyHall$View" "turned" "Z") ∈ lw_all := lw_g (lw_at lw_m2 8 rfl) rfl
theorem q307 : (Jvm.Cond.fieldLink "KeyHall$View" (74 : Nat) "KeyHall$View" "begun" "Z") ∈ lw_all := lw_g (lw_at lw_m2 10 rfl) rfl
theorem q308 : (Jvm.Cond.fieldLink "KeyHall$View" (80 : Nat) "KeyHall$View" "changes" "I") ∈ lw_all := lw_g (lw_at lw_m2 11 rfl) rfl
theorem q310 : (Jvm.Cond.fieldLink "KeyHall$View" (81 : Nat) "KeyHall$View" "told" "LKeyHall$Entry;") ∈ lw_all := lw_g (lw_at lw_m2 13 rfl) rfl
theorem q312 : (Jvm.Cond.fieldLink "KeyHall$View" (85 : Nat) "KeyHall$View" "canDrop" "Z") ∈ lw_all := lw_g (lw_at lw_m2 15 rfl) rfl
theorem q314 : (Jvm.Cond.laysFinal "KeyHall$View" "KeyHall$View" "tree" "LKeyHall$Tree;") ∈ lw_all := lw_g (lw_at lw_m2 17 rfl) rfl
theorem q315 : (Jvm.Cond.soleField "KeyHall$View" "tree") ∈ lw_all := lw_g (lw_at lw_m2 18 rfl) rfl
theorem q316 : (Jvm.Cond.lays "KeyHall$View" "KeyHall$View" "low" "LKeyHall$Key;") ∈ lw_all := lw_g (lw_at lw_m2 19 rfl) rfl
theorem q317 : (Jvm.Cond.soleField "KeyHall$View" "low") ∈ lw_all := lw_g (lw_at lw_m2 20 rfl) rfl
theorem q318 : (Jvm.Cond.lays "KeyHall$View" "KeyHall$View" "high" "LKeyHall$Key;") ∈ lw_all := lw_g (lw_at lw_m2 21 rfl) rfl
theorem q319 : (Jvm.Cond.soleField "KeyHall$View" "high") ∈ lw_all := lw_g (lw_at lw_m2 22 rfl) rfl
theorem q320 : (Jvm.Cond.lays "KeyHall$View" "KeyHall$View" "turned" "Z") ∈ lw_all := lw_g (lw_at lw_m2 23 rfl) rfl
theorem q321 : (Jvm.Cond.soleField "KeyHall$View" "turned") ∈ lw_all := lw_g (lw_at lw_m2 24 rfl) rfl
theorem q322 : (Jvm.Cond.lays "KeyHall$View" "KeyHall$View" "begun" "Z") ∈ lw_all := lw_g (lw_at lw_m2 25 rfl) rfl
theorem q323 : (Jvm.Cond.soleField "KeyHall$View" "begun") ∈ lw_all := lw_g (lw_at lw_m2 26 rfl) rfl
theorem q324 : (Jvm.Cond.lays "KeyHall$View" "KeyHall$View" "changes" "I") ∈ lw_all := lw_g (lw_at lw_m2 27 rfl) rfl
theorem q325 : (Jvm.Cond.soleField "KeyHall$View" "changes") ∈ lw_all := lw_g (lw_at lw_m2 28 rfl) rfl
theorem q326 : (Jvm.Cond.lays "KeyHall$View" "KeyHall$View" "told" "LKeyHall$Entry;") ∈ lw_all := lw_g (lw_at lw_m2 29 rfl) rfl
theorem q327 : (Jvm.Cond.soleField "KeyHall$View" "told") ∈ lw_all := lw_g (lw_at lw_m2 30 rfl) rfl
theorem q328 : (Jvm.Cond.lays "KeyHall$View" "KeyHall$View" "canDrop" "Z") ∈ lw_all := lw_g (lw_at lw_m2 31 rfl) rfl
theorem q329 : (Jvm.Cond.soleField "KeyHall$View" "canDrop") ∈ lw_all := lw_g (lw_at lw_m2 32 rfl) rfl
theorem q330 : (Jvm.Cond.superclass "KeyHall$View" "java/lang/Object") ∈ lw_all := lw_g (lw_at lw_m2 33 rfl) rfl
theorem q387 : (Jvm.Cond.instanceMethod ({ cls := "KeyHall$View", name := "size", desc := "()I" } : Jvm.MethodName)) ∈ lw_all := lw_g (lw_at lw_m2 90 rfl) rfl
theorem q388 : (Jvm.Cond.selects "KeyHall$View" ({ cls := "KeyHall$View", name := "size", desc := "()I" } : Jvm.MethodName) ({ cls := "KeyHall$View", name := "size", desc := "()I" } : Jvm.MethodName)) ∈ lw_all := lw_g (lw_at lw_m2 91 rfl) rfl
theorem q389 : (Jvm.Cond.code ({ cls := "KeyHall$View", name := "size", desc := "()I" } : Jvm.MethodName) prog_16_method_11_code (3 : Nat) (Option.some Jvm.ClassFile.FieldType.int)) ∈ lw_all := lw_g (lw_at lw_m2 92 rfl) rfl
theorem q390 : (Jvm.Cond.methodLink "KeyHall$View" (71 : Nat) ({ cls := "KeyHall$View", name := "up", desc := "(LKeyHall$Key;Z)LKeyHall$Entry;" } : Jvm.MethodName)) ∈ lw_all := lw_g (lw_at lw_m2 93 rfl) rfl
theorem q391 : (Jvm.Cond.privateMethod ({ cls := "KeyHall$View", name := "up", desc := "(LKeyHall$Key;Z)LKeyHall$Entry;" } : Jvm.MethodName)) ∈ lw_tbl := lw_at lw_m2 94 rfl
theorem q392 : (Jvm.Cond.instanceMethod ({ cls := "KeyHall$View", name := "up", desc := "(LKeyHall$Key;Z)LKeyHall$Entry;" } : Jvm.MethodName)) ∈ lw_all := lw_g (lw_at lw_m2 95 rfl) rfl
theorem q393 : (Jvm.Cond.code ({ cls := "KeyHall$View", name := "up", desc := "(LKeyHall$Key;Z)LKeyHall$Entry;" } : Jvm.MethodName) prog_16_method_7_code (5 : Nat) (Option.some (Jvm.ClassFile.FieldType.object "KeyHall$Entry"))) ∈ lw_all := lw_g (lw_at lw_m2 96 rfl) rfl
theorem q394 : (Jvm.Cond.methodLink "KeyHall$View" (27 : Nat) ({ cls := "KeyHall$Key", name := "compareTo", desc := "(LKeyHall$Key;)I" } : Jvm.MethodName)) ∈ lw_all := lw_g (lw_at lw_m2 97 rfl) rfl
theorem q406 : (Jvm.Cond.methodLink "KeyHall$View" (56 : Nat) ({ cls := "KeyHall$Tree", name := "above", desc := "(LKeyHall$Key;Z)LKeyHall$Entry;" } : Jvm.MethodName)) ∈ lw_all := lw_g (lw_at lw_m2 109 rfl) rfl
theorem q518 : (Jvm.Cond.methodLink "KeyHall$View" (62 : Nat) ({ cls := "KeyHall$Entry", name := "compareTo", desc := "(LKeyHall$Key;)I" } : Jvm.MethodName)) ∈ lw_all := lw_g (lw_at lw_m2 221 rfl) rfl
theorem q528 : (Jvm.Cond.instanceMethod ({ cls := "KeyHall$View", name := "iterate", desc := "()V" } : Jvm.MethodName)) ∈ lw_all := lw_g (lw_at lw_m2 231 rfl) rfl
theorem q529 : (Jvm.Cond.selects "KeyHall$View" ({ cls := "KeyHall$View", name := "iterate", desc := "()V" } : Jvm.MethodName) ({ cls := "KeyHall$View", name := "iterate", desc := "()V" } : Jvm.MethodName)) ∈ lw_all := lw_g (lw_at lw_m2 232 rfl) rfl
theorem q530 : (Jvm.Cond.code ({ cls := "KeyHall$View", name := "iterate", desc := "()V" } : Jvm.MethodName) prog_16_method_12_code (1 : Nat) (Option.none : Option Jvm.ClassFile.FieldType)) ∈ lw_all := lw_g (lw_at lw_m2 233 rfl) rfl
theorem q726 : (Jvm.Cond.instanceMethod ({ cls := "KeyHall$View", name := "copy", desc := "()LKeyHall$View;" } : Jvm.MethodName)) ∈ lw_all := lw_g (lw_at lw_m3 189 rfl) rfl
theorem q727 : (Jvm.Cond.selects "KeyHall$View" ({ cls := "KeyHall$View", name := "copy", desc := "()LKeyHall$View;" } : Jvm.MethodName) ({ cls := "KeyHall$View", name := "copy", desc := "()LKeyHall$View;" } : Jvm.MethodName)) ∈ lw_all := lw_g (lw_at lw_m3 190 rfl) rfl
theorem q728 : (Jvm.Cond.code ({ cls := "KeyHall$View", name := "copy", desc := "()LKeyHall$View;" } : Jvm.MethodName) prog_16_method_2_code (2 : Nat) (Option.some (Jvm.ClassFile.FieldType.object "KeyHall$View"))) ∈ lw_all := lw_g (lw_at lw_m3 191 rfl) rfl
theorem q729 : (Jvm.Cond.classLink "KeyHall$View" (8 : Nat) "KeyHall$View") ∈ lw_all := lw_g (lw_at lw_m3 192 rfl) rfl
theorem q730 : (Jvm.Cond.methodLink "KeyHall$View" (13 : Nat) ({ cls := "KeyHall$View", name := "<init>", desc := "(LKeyHall$Tree;)V" } : Jvm.MethodName)) ∈ lw_all := lw_g (lw_at lw_m3 193 rfl) rfl
theorem q732 : (Jvm.Cond.instanceMethod ({ cls := "KeyHall$View", name := "begin", desc := "(LKeyHall$Key;)V" } : Jvm.MethodName)) ∈ lw_all := lw_g (lw_at lw_m3 195 rfl) rfl
theorem q733 : (Jvm.Cond.selects "KeyHall$View" ({ cls := "KeyHall$View", name := "begin", desc := "(LKeyHall$Key;)V" } : Jvm.MethodName) ({ cls := "KeyHall$View", name := "begin", desc := "(LKeyHall$Key;)V" } : Jvm.MethodName)) ∈ lw_all := lw_g (lw_at lw_m3 196 rfl) rfl
theorem q734 : (Jvm.Cond.code ({ cls := "KeyHall$View", name := "begin", desc := "(LKeyHall$Key;)V" } : Jvm.MethodName) prog_16_method_5_code (3 : Nat) (Option.none : Option Jvm.ClassFile.FieldType)) ∈ lw_all := lw_g (lw_at lw_m3 197 rfl) rfl
theorem q735 : (Jvm.Cond.methodLink "KeyHall$View" (33 : Nat) ({ cls := "KeyHall$View", name := "from", desc := "(LKeyHall$Key;)V" } : Jvm.MethodName)) ∈ lw_all := lw_g (lw_at lw_m3 198 rfl) rfl
theorem q736 : (Jvm.Cond.instanceMethod ({ cls := "KeyHall$View", name := "from", desc := "(LKeyHall$Key;)V" } : Jvm.MethodName)) ∈ lw_all := lw_g (lw_at lw_m3 199 rfl) rfl
theorem q737 : (Jvm.Cond.selects "KeyHall$View" ({ cls := "KeyHall$View", name := "from", desc := "(LKeyHall$Key;)V" } : Jvm.MethodName) ({ cls := "KeyHall$View", name := "from", desc := "(LKeyHall$Key;)V" } : Jvm.MethodName)) ∈ lw_all := lw_g (lw_at lw_m3 200 rfl) rfl
theorem q738 : (Jvm.Cond.code ({ cls := "KeyHall$View", name := "from", desc := "(LKeyHall$Key;)V" } : Jvm.MethodName) prog_16_method_3_code (2 : Nat) (Option.none : Option Jvm.ClassFile.FieldType)) ∈ lw_all := lw_g (lw_at lw_m3 201 rfl) rfl
theorem q739 : (Jvm.Cond.classLink "KeyHall$View" (28 : Nat) "KeyHall$Key") ∈ lw_all := lw_g (lw_at lw_m3 202 rfl) rfl
theorem q740 : (Jvm.Cond.methodLinkNest "KeyHall$View" (37 : Nat) ({ cls := "KeyHall$Key", name := "<init>", desc := "()V" } : Jvm.MethodName) "KeyHall") ∈ lw_tbl := lw_at lw_m3 203 rfl
theorem q741 : (Jvm.Cond.methodLink "KeyHall$View" (38 : Nat) ({ cls := "KeyHall$Key", name := "copy", desc := "(LKeyHall$Key;)LKeyHall$Key;" } : Jvm.MethodName)) ∈ lw_all := lw_g (lw_at lw_m3 204 rfl) rfl
theorem q742 : (Jvm.Cond.constant "KeyHall$View" (52 : Nat) (65535 : Int32)) ∈ lw_all := lw_g (lw_at lw_m3 205 rfl) rfl
theorem q743 : (Jvm.Cond.methodLink "KeyHall$View" (53 : Nat) ({ cls := "KeyHall$View", name := "to", desc := "(LKeyHall$Key;)V" } : Jvm.MethodName)) ∈ lw_all := lw_g (lw_at lw_m3 206 rfl) rfl
theorem q744 : (Jvm.Cond.instanceMethod ({ cls := "KeyHall$View", name := "to", desc := "(LKeyHall$Key;)V" } : Jvm.MethodName)) ∈ lw_all := lw_g (lw_at lw_m3 207 rfl) rfl
theorem q745 : (Jvm.Cond.selects "KeyHall$View" ({ cls := "KeyHall$View", name := "to", desc := "(LKeyHall$Key;)V" } : Jvm.MethodName) ({ cls := "KeyHall$View", name := "to", desc := "(LKeyHall$Key;)V" } : Jvm.MethodName)) ∈ lw_all := lw_g (lw_at lw_m3 208 rfl) rfl
theorem q746 : (Jvm.Cond.code ({ cls := "KeyHall$View", name := "to", desc := "(LKeyHall$Key;)V" } : Jvm.MethodName) prog_16_method_4_code (2 : Nat) (Option.none : Option Jvm.ClassFile.FieldType)) ∈ lw_all := lw_g (lw_at lw_m3 209 rfl) rfl
theorem q759 : (Jvm.Cond.instanceMethod ({ cls := "KeyHall$View", name := "has", desc := "(LKeyHall$Key;)Z" } : Jvm.MethodName)) ∈ lw_all := lw_g (lw_at lw_m3 222 rfl) rfl
theorem q760 : (Jvm.Cond.selects "KeyHall$View" ({ cls := "KeyHall$View", name := "has", desc := "(LKeyHall$Key;)Z" } : Jvm.MethodName) ({ cls := "KeyHall$View", name := "has", desc := "(LKeyHall$Key;)Z" } : Jvm.MethodName)) ∈ lw_all := lw_g (lw_at lw_m3 223 rfl) rfl
theorem q761 : (Jvm.Cond.code ({ cls := "KeyHall$View", name := "has", desc := "(LKeyHall$Key;)Z" } : Jvm.MethodName) prog_16_method_6_code (2 : Nat) (Option.some Jvm.ClassFile.FieldType.boolean)) ∈ lw_all := lw_g (lw_at lw_m3 224 rfl) rfl
theorem q1034 : (Jvm.Cond.instanceMethod ({ cls := "KeyHall$View", name := "before", desc := "(LKeyHall$Key;Z)LKeyHall$Entry;" } : Jvm.MethodName)) ∈ lw_all := lw_g (lw_at lw_m5 17 rfl) rfl
theorem q1035 : (Jvm.Cond.selects "KeyHall$View" ({ cls := "KeyHall$View", name := "before", desc := "(LKeyHall$Key;Z)LKeyHall$Entry;" } : Jvm.MethodName) ({ cls := "KeyHall$View", name := "before", desc := "(LKeyHall$Key;Z)LKeyHall$Entry;" } : Jvm.MethodName)) ∈ lw_all := lw_g (lw_at lw_m5 18 rfl) rfl
theorem q1036 : (Jvm.Cond.code ({ cls := "KeyHall$View", name := "before", desc := "(LKeyHall$Key;Z)LKeyHall$Entry;" } : Jvm.MethodName) prog_16_method_10_code (3 : Nat) (Option.some (Jvm.ClassFile.FieldType.object "KeyHall$Entry"))) ∈ lw_all := lw_g (lw_at lw_m5 19 rfl) rfl
theorem q1037 : (Jvm.Cond.methodLink "KeyHall$View" (68 : Nat) ({ cls := "KeyHall$View", name := "down", desc := "(LKeyHall$Key;Z)LKeyHall$Entry;" } : Jvm.MethodName)) ∈ lw_all := lw_g (lw_at lw_m5 20 rfl) rfl
theorem q1038 : (Jvm.Cond.privateMethod ({ cls := "KeyHall$View", name := "down", desc := "(LKeyHall$Key;Z)LKeyHall$Entry;" } : Jvm.MethodName)) ∈ lw_tbl := lw_at lw_m5 21 rfl
theorem q1039 : (Jvm.Cond.instanceMethod ({ cls := "KeyHall$View", name := "down", desc := "(LKeyHall$Key;Z)LKeyHall$Entry;" } : Jvm.MethodName)) ∈ lw_all := lw_g (lw_at lw_m5 22 rfl) rfl
theorem q1040 : (Jvm.Cond.code ({ cls := "KeyHall$View", name := "down", desc := "(LKeyHall$Key;Z)LKeyHall$Entry;" } : Jvm.MethodName) prog_16_method_8_code (5 : Nat) (Option.some (Jvm.ClassFile.FieldType.object "KeyHall$Entry"))) ∈ lw_all := lw_g (lw_at lw_m5 23 rfl) rfl
theorem q1041 : (Jvm.Cond.methodLink "KeyHall$View" (65 : Nat) ({ cls := "KeyHall$Tree", name := "below", desc := "(LKeyHall$Key;Z)LKeyHall$Entry;" } : Jvm.MethodName)) ∈ lw_all := lw_g (lw_at lw_m5 24 rfl) rfl
theorem q1097 : (Jvm.Cond.instanceMethod ({ cls := "KeyHall$View", name := "after", desc := "(LKeyHall$Key;Z)LKeyHall$Entry;" } : Jvm.MethodName)) ∈ lw_all := lw_g (lw_at lw_m5 80 rfl) rfl
theorem q1098 : (Jvm.Cond.selects "KeyHall$View" ({ cls := "KeyHall$View", name := "after", desc := "(LKeyHall$Key;Z)LKeyHall$Entry;" } : Jvm.MethodName) ({ cls := "KeyHall$View", name := "after", desc := "(LKeyHall$Key;Z)LKeyHall$Entry;" } : Jvm.MethodName)) ∈ lw_all := lw_g (lw_at lw_m5 81 rfl) rfl
theorem q1099 : (Jvm.Cond.code ({ cls := "KeyHall$View", name := "after", desc := "(LKeyHall$Key;Z)LKeyHall$Entry;" } : Jvm.MethodName) prog_16_method_9_code (3 : Nat) (Option.some (Jvm.ClassFile.FieldType.object "KeyHall$Entry"))) ∈ lw_all := lw_g (lw_at lw_m5 82 rfl) rfl
theorem q1125 : (Jvm.Cond.instanceMethod ({ cls := "KeyHall$View", name := "isCurrent", desc := "()Z" } : Jvm.MethodName)) ∈ lw_all := lw_g (lw_at lw_m5 108 rfl) rfl
theorem q1126 : (Jvm.Cond.selects "KeyHall$View" ({ cls := "KeyHall$View", name := "isCurrent", desc := "()Z" } : Jvm.MethodName) ({ cls := "KeyHall$View", name := "isCurrent", desc := "()Z" } : Jvm.MethodName)) ∈ lw_all := lw_g (lw_at lw_m5 109 rfl) rfl
theorem q1127 : (Jvm.Cond.code ({ cls := "KeyHall$View", name := "isCurrent", desc := "()Z" } : Jvm.MethodName) prog_16_method_13_code (1 : Nat) (Option.some Jvm.ClassFile.FieldType.boolean)) ∈ lw_all := lw_g (lw_at lw_m5 110 rfl) rfl
theorem in_X11 : ∀ w ∈ wsX110, w ∈ lw_all := lw_in wsX110 [314, 316, 318, 320, 322, 324, 326, 328] (by decide +kernel) (by decide +kernel)
/-! KeyHall$CharTree -/
def RX12 : String := "KeyHall$CharTree"
def TX12 : u_T := fun k => match k with
  | 0 => ("KeyHall$Tree", "count", "I", false)
  | 1 => ("KeyHall$Tree", "changes", "I", false)
  | 2 => ("KeyHall$CharTree", "root", "LKeyHall$Way;", false)
  | _ => ("KeyHall$CharTree", "empty", "LKeyHall$Entry;", false)
def tyX12 : Nat → FieldType := fun k => match k with
  | 0 => .int
  | 1 => .int
  | 2 => .object "KeyHall$Way"
  | _ => .object "KeyHall$Entry"
abbrev wsX120 : List Cond := u_ws RX12 TX12 4
theorem nmX12 : ∀ a, a < 4 → ∀ b, b < 4 → a ≠ b → (TX12 a).2.1 ≠ (TX12 b).2.1 := by decide +kernel
theorem tyX12_ok : ∀ k, k < 4 → parseFieldDescriptor (TX12 k).2.2.1 = some (tyX12 k) := by decide +kernel
abbrev cX12_init : ByteArray := prog_5_method_1_code
def yX12_init : MethodName := ⟨RX12, "<init>", "()V"⟩
abbrev cX12_above : ByteArray := prog_5_method_13_code
def yX12_above : MethodName := ⟨RX12, "above", "(LKeyHall$Key;Z)LKeyHall$Entry;"⟩
abbrev cX12_first : ByteArray := prog_5_method_8_code
def yX12_first : MethodName := ⟨RX12, "first", "(LKeyHall$Way;)LKeyHall$Entry;"⟩
abbrev cX12_here : ByteArray := prog_5_method_9_code
def yX12_here : MethodName := ⟨RX12, "here", "(LKeyHall$Way;)LKeyHall$Entry;"⟩
abbrev cX12_above_2 : ByteArray := prog_5_method_11_code
def yX12_above_2 : MethodName := ⟨RX12, "above", "(LKeyHall$Way;LKeyHall$Key;IZ)LKeyHall$Entry;"⟩
abbrev cX12_get : ByteArray := prog_5_method_2_code
def yX12_get : MethodName := ⟨RX12, "get", "(LKeyHall$Key;)LKeyHall$Entry;"⟩
abbrev cX12_put : ByteArray := prog_5_method_3_code
def yX12_put : MethodName := ⟨RX12, "put", "(LKeyHall$Entry;)V"⟩
abbrev cX12_plant : ByteArray := prog_5_method_4_code
def yX12_plant : MethodName := ⟨RX12, "plant", "(LKeyHall$Way;LKeyHall$Entry;I)LKeyHall$Way;"⟩
abbrev cX12_take : ByteArray := prog_5_method_5_code
def yX12_take : MethodName := ⟨RX12, "take", "(LKeyHall$Entry;)V"⟩
abbrev cX12_take_2 : ByteArray := prog_5_method_6_code
def yX12_take_2 : MethodName := ⟨RX12, "take", "(LKeyHall$Way;LKeyHall$Entry;I)LKeyHall$Way;"⟩
abbrev cX12_join : ByteArray := prog_5_method_7_code
def yX12_join : MethodName := ⟨RX12, "join", "(LKeyHall$Way;LKeyHall$Way;)LKeyHall$Way;"⟩
abbrev cX12_below : ByteArray := prog_5_method_14_code
def yX12_below : MethodName := ⟨RX12, "below", "(LKeyHall$Key;Z)LKeyHall$Entry;"⟩
abbrev cX12_last : ByteArray := prog_5_method_10_code
def yX12_last : MethodName := ⟨RX12, "last", "(LKeyHall$Way;)LKeyHall$Entry;"⟩
abbrev cX12_below_2 : ByteArray := prog_5_method_12_code
def yX12_below_2 : MethodName := ⟨RX12, "below", "(LKeyHall$Way;LKeyHall$Key;IZ)LKeyHall$Entry;"⟩
theorem q69 : (Jvm.Cond.initialized "KeyHall$CharTree") ∈ lw_all := lw_g (lw_at lw_m1 12 rfl) rfl
theorem q102 : (Jvm.Cond.fieldLink "KeyHall$CharTree" (23 : Nat) "KeyHall$Key" "c" "[C") ∈ lw_all := lw_g (lw_at lw_m1 45 rfl) rfl
theorem q103 : (Jvm.Cond.fieldLink "KeyHall$CharTree" (51 : Nat) "KeyHall$Entry" "c" "[C") ∈ lw_all := lw_g (lw_at lw_m1 46 rfl) rfl
theorem q109 : (Jvm.Cond.fieldLink "KeyHall$CharTree" (7 : Nat) "KeyHall$Key" "n" "I") ∈ lw_all := lw_g (lw_at lw_m1 52 rfl) rfl
theorem q111 : (Jvm.Cond.fieldLink "KeyHall$CharTree" (44 : Nat) "KeyHall$Entry" "n" "I") ∈ lw_all := lw_g (lw_at lw_m1 54 rfl) rfl
theorem q332 : (Jvm.Cond.instantiable "KeyHall$CharTree" (4 : Nat)) ∈ lw_all := lw_g (lw_at lw_m2 35 rfl) rfl
theorem q334 : (Jvm.Cond.instanceMethod ({ cls := "KeyHall$CharTree", name := "<init>", desc := "()V" } : Jvm.MethodName)) ∈ lw_all := lw_g (lw_at lw_m2 37 rfl) rfl
theorem q335 : (Jvm.Cond.code ({ cls := "KeyHall$CharTree", name := "<init>", desc := "()V" } : Jvm.MethodName) prog_5_method_1_code (1 : Nat) (Option.none : Option Jvm.ClassFile.FieldType)) ∈ lw_all := lw_g (lw_at lw_m2 38 rfl) rfl
theorem q336 : (Jvm.Cond.methodLinkNest "KeyHall$CharTree" (1 : Nat) ({ cls := "KeyHall$Tree", name := "<init>", desc := "()V" } : Jvm.MethodName) "KeyHall") ∈ lw_tbl := lw_at lw_m2 39 rfl
theorem q337 : (Jvm.Cond.fieldLink "KeyHall$CharTree" (19 : Nat) "KeyHall$CharTree" "root" "LKeyHall$Way;") ∈ lw_all := lw_g (lw_at lw_m2 40 rfl) rfl
theorem q338 : (Jvm.Cond.fieldLink "KeyHall$CharTree" (13 : Nat) "KeyHall$CharTree" "empty" "LKeyHall$Entry;") ∈ lw_all := lw_g (lw_at lw_m2 41 rfl) rfl
theorem q339 : (Jvm.Cond.lays "KeyHall$CharTree" "KeyHall$CharTree" "root" "LKeyHall$Way;") ∈ lw_all := lw_g (lw_at lw_m2 42 rfl) rfl
theorem q340 : (Jvm.Cond.soleField "KeyHall$CharTree" "root") ∈ lw_all := lw_g (lw_at lw_m2 43 rfl) rfl
theorem q341 : (Jvm.Cond.lays "KeyHall$CharTree" "KeyHall$CharTree" "empty" "LKeyHall$Entry;") ∈ lw_all := lw_g (lw_at lw_m2 44 rfl) rfl
theorem q342 : (Jvm.Cond.soleField "KeyHall$CharTree" "empty") ∈ lw_all := lw_g (lw_at lw_m2 45 rfl) rfl
theorem q343 : (Jvm.Cond.lays "KeyHall$CharTree" "KeyHall$Tree" "count" "I") ∈ lw_all := lw_g (lw_at lw_m2 46 rfl) rfl
theorem q344 : (Jvm.Cond.lays "KeyHall$CharTree" "KeyHall$Tree" "changes" "I") ∈ lw_all := lw_g (lw_at lw_m2 47 rfl) rfl
theorem q345 : (Jvm.Cond.superclass "KeyHall$CharTree" "KeyHall$Tree") ∈ lw_all := lw_g (lw_at lw_m2 48 rfl) rfl
theorem q506 : (Jvm.Cond.selects "KeyHall$CharTree" ({ cls := "KeyHall$Tree", name := "above", desc := "(LKeyHall$Key;Z)LKeyHall$Entry;" } : Jvm.MethodName) ({ cls := "KeyHall$CharTree", name := "above", desc := "(LKeyHall$Key;Z)LKeyHall$Entry;" } : Jvm.MethodName)) ∈ lw_all := lw_g (lw_at lw_m2 209 rfl) rfl
theorem q507 : (Jvm.Cond.instanceMethod ({ cls := "KeyHall$CharTree", name := "above", desc := "(LKeyHall$Key;Z)LKeyHall$Entry;" } : Jvm.MethodName)) ∈ lw_all := lw_g (lw_at lw_m2 210 rfl) rfl
theorem q508 : (Jvm.Cond.code ({ cls := "KeyHall$CharTree", name := "above", desc := "(LKeyHall$Key;Z)LKeyHall$Entry;" } : Jvm.MethodName) prog_5_method_13_code (3 : Nat) (Option.some (Jvm.ClassFile.FieldType.object "KeyHall$Entry"))) ∈ lw_all := lw_g (lw_at lw_m2 211 rfl) rfl
theorem q509 : (Jvm.Cond.methodLink "KeyHall$CharTree" (66 : Nat) ({ cls := "KeyHall$CharTree", name := "first", desc := "(LKeyHall$Way;)LKeyHall$Entry;" } : Jvm.MethodName)) ∈ lw_all := lw_g (lw_at lw_m2 212 rfl) rfl
theorem q510 : (Jvm.Cond.static ({ cls := "KeyHall$CharTree", name := "first", desc := "(LKeyHall$Way;)LKeyHall$Entry;" } : Jvm.MethodName)) ∈ lw_all := lw_g (lw_at lw_m2 213 rfl) rfl
theorem q511 : (Jvm.Cond.code ({ cls := "KeyHall$CharTree", name := "first", desc := "(LKeyHall$Way;)LKeyHall$Entry;" } : Jvm.MethodName) prog_5_method_8_code (2 : Nat) (Option.some (Jvm.ClassFile.FieldType.object "KeyHall$Entry"))) ∈ lw_all := lw_g (lw_at lw_m2 214 rfl) rfl
theorem q512 : (Jvm.Cond.methodLink "KeyHall$CharTree" (62 : Nat) ({ cls := "KeyHall$CharTree", name := "here", desc := "(LKeyHall$Way;)LKeyHall$Entry;" } : Jvm.MethodName)) ∈ lw_all := lw_g (lw_at lw_m2 215 rfl) rfl
theorem q513 : (Jvm.Cond.static ({ cls := "KeyHall$CharTree", name := "here", desc := "(LKeyHall$Way;)LKeyHall$Entry;" } : Jvm.MethodName)) ∈ lw_all := lw_g (lw_at lw_m2 216 rfl) rfl
theorem q514 : (Jvm.Cond.code ({ cls := "KeyHall$CharTree", name := "here", desc := "(LKeyHall$Way;)LKeyHall$Entry;" } : Jvm.MethodName) prog_5_method_9_code (1 : Nat) (Option.some (Jvm.ClassFile.FieldType.object "KeyHall$Entry"))) ∈ lw_all := lw_g (lw_at lw_m2 217 rfl) rfl
theorem q515 : (Jvm.Cond.methodLink "KeyHall$CharTree" (72 : Nat) ({ cls := "KeyHall$CharTree", name := "above", desc := "(LKeyHall$Way;LKeyHall$Key;IZ)LKeyHall$Entry;" } : Jvm.MethodName)) ∈ lw_all := lw_g (lw_at lw_m2 218 rfl) rfl
theorem q516 : (Jvm.Cond.static ({ cls := "KeyHall$CharTree", name := "above", desc := "(LKeyHall$Way;LKeyHall$Key;IZ)LKeyHall$Entry;" } : Jvm.MethodName)) ∈ lw_all := lw_g (lw_at lw_m2 219 rfl) rfl
theorem q517 : (Jvm.Cond.code ({ cls := "KeyHall$CharTree", name := "above", desc := "(LKeyHall$Way;LKeyHall$Key;IZ)LKeyHall$Entry;" } : Jvm.MethodName) prog_5_method_11_code (5 : Nat) (Option.some (Jvm.ClassFile.FieldType.object "KeyHall$Entry"))) ∈ lw_all := lw_g (lw_at lw_m2 220 rfl) rfl
theorem q791 : (Jvm.Cond.selects "KeyHall$CharTree" ({ cls := "KeyHall$Tree", name := "get", desc := "(LKeyHall$Key;)LKeyHall$Entry;" } : Jvm.MethodName) ({ cls := "KeyHall$CharTree", name := "get", desc := "(LKeyHall$Key;)LKeyHall$Entry;" } : Jvm.MethodName)) ∈ lw_all := lw_g (lw_at lw_m4 14 rfl) rfl
theorem q792 : (Jvm.Cond.instanceMethod ({ cls := "KeyHall$CharTree", name := "get", desc := "(LKeyHall$Key;)LKeyHall$Entry;" } : Jvm.MethodName)) ∈ lw_all := lw_g (lw_at lw_m4 15 rfl) rfl
theorem q793 : (Jvm.Cond.code ({ cls := "KeyHall$CharTree", name := "get", desc := "(LKeyHall$Key;)LKeyHall$Entry;" } : Jvm.MethodName) prog_5_method_2_code (4 : Nat) (Option.some (Jvm.ClassFile.FieldType.object "KeyHall$Entry"))) ∈ lw_all := lw_g (lw_at lw_m4 16 rfl) rfl
theorem q832 : (Jvm.Cond.selects "KeyHall$CharTree" ({ cls := "KeyHall$Tree", name := "add", desc := "(LKeyHall$Entry;)V" } : Jvm.MethodName) ({ cls := "KeyHall$Tree", name := "add", desc := "(LKeyHall$Entry;)V" } : Jvm.MethodName)) ∈ lw_all := lw_g (lw_at lw_m4 55 rfl) rfl
theorem q932 : (Jvm.Cond.selects "KeyHall$CharTree" ({ cls := "KeyHall$Tree", name := "put", desc := "(LKeyHall$Entry;)V" } : Jvm.MethodName) ({ cls := "KeyHall$CharTree", name := "put", desc := "(LKeyHall$Entry;)V" } : Jvm.MethodName)) ∈ lw_all := lw_g (lw_at lw_m4 155 rfl) rfl
theorem q933 : (Jvm.Cond.instanceMethod ({ cls := "KeyHall$CharTree", name := "put", desc := "(LKeyHall$Entry;)V" } : Jvm.MethodName)) ∈ lw_all := lw_g (lw_at lw_m4 156 rfl) rfl
theorem q934 : (Jvm.Cond.code ({ cls := "KeyHall$CharTree", name := "put", desc := "(LKeyHall$Entry;)V" } : Jvm.MethodName) prog_5_method_3_code (2 : Nat) (Option.none : Option Jvm.ClassFile.FieldType)) ∈ lw_all := lw_g (lw_at lw_m4 157 rfl) rfl
theorem q935 : (Jvm.Cond.methodLink "KeyHall$CharTree" (47 : Nat) ({ cls := "KeyHall$CharTree", name := "plant", desc := "(LKeyHall$Way;LKeyHall$Entry;I)LKeyHall$Way;" } : Jvm.MethodName)) ∈ lw_all := lw_g (lw_at lw_m4 158 rfl) rfl
theorem q936 : (Jvm.Cond.static ({ cls := "KeyHall$CharTree", name := "plant", desc := "(LKeyHall$Way;LKeyHall$Entry;I)LKeyHall$Way;" } : Jvm.MethodName)) ∈ lw_all := lw_g (lw_at lw_m4 159 rfl) rfl
theorem q937 : (Jvm.Cond.code ({ cls := "KeyHall$CharTree", name := "plant", desc := "(LKeyHall$Way;LKeyHall$Entry;I)LKeyHall$Way;" } : Jvm.MethodName) prog_5_method_4_code (4 : Nat) (Option.some (Jvm.ClassFile.FieldType.object "KeyHall$Way"))) ∈ lw_all := lw_g (lw_at lw_m4 160 rfl) rfl
theorem q938 : (Jvm.Cond.classLink "KeyHall$CharTree" (28 : Nat) "KeyHall$Way") ∈ lw_all := lw_g (lw_at lw_m4 161 rfl) rfl
theorem q940 : (Jvm.Cond.methodLink "KeyHall$CharTree" (52 : Nat) ({ cls := "KeyHall$Way", name := "<init>", desc := "(C)V" } : Jvm.MethodName)) ∈ lw_all := lw_g (lw_at lw_m4 163 rfl) rfl
theorem q945 : (Jvm.Cond.fieldLinkNest "KeyHall$CharTree" (27 : Nat) "KeyHall$Way" "c" "C" "KeyHall") ∈ lw_tbl := lw_at lw_m4 168 rfl
theorem q946 : (Jvm.Cond.fieldLinkNest "KeyHall$CharTree" (32 : Nat) "KeyHall$Way" "low" "LKeyHall$Way;" "KeyHall") ∈ lw_tbl := lw_at lw_m4 169 rfl
theorem q947 : (Jvm.Cond.fieldLinkNest "KeyHall$CharTree" (41 : Nat) "KeyHall$Way" "equal" "LKeyHall$Way;" "KeyHall") ∈ lw_tbl := lw_at lw_m4 170 rfl
theorem q948 : (Jvm.Cond.fieldLinkNest "KeyHall$CharTree" (35 : Nat) "KeyHall$Way" "high" "LKeyHall$Way;" "KeyHall") ∈ lw_tbl := lw_at lw_m4 171 rfl
theorem q949 : (Jvm.Cond.fieldLinkNest "KeyHall$CharTree" (38 : Nat) "KeyHall$Way" "entry" "LKeyHall$Entry;" "KeyHall") ∈ lw_tbl := lw_at lw_m4 172 rfl
theorem q984 : (Jvm.Cond.selects "KeyHall$CharTree" ({ cls := "KeyHall$Tree", name := "remove", desc := "(LKeyHall$Entry;)V" } : Jvm.MethodName) ({ cls := "KeyHall$Tree", name := "remove", desc := "(LKeyHall$Entry;)V" } : Jvm.MethodName)) ∈ lw_all := lw_g (lw_at lw_m4 207 rfl) rfl
theorem q1016 : (Jvm.Cond.selects "KeyHall$CharTree" ({ cls := "KeyHall$Tree", name := "take", desc := "(LKeyHall$Entry;)V" } : Jvm.MethodName) ({ cls := "KeyHall$CharTree", name := "take", desc := "(LKeyHall$Entry;)V" } : Jvm.MethodName)) ∈ lw_all := lw_g (lw_at lw_m4 239 rfl) rfl
theorem q1017 : (Jvm.Cond.instanceMethod ({ cls := "KeyHall$CharTree", name := "take", desc := "(LKeyHall$Entry;)V" } : Jvm.MethodName)) ∈ lw_all := lw_g (lw_at lw_m5 0 rfl) rfl
theorem q1018 : (Jvm.Cond.code ({ cls := "KeyHall$CharTree", name := "take", desc := "(LKeyHall$Entry;)V" } : Jvm.MethodName) prog_5_method_5_code (2 : Nat) (Option.none : Option Jvm.ClassFile.FieldType)) ∈ lw_all := lw_g (lw_at lw_m5 1 rfl) rfl
theorem q1019 : (Jvm.Cond.methodLink "KeyHall$CharTree" (55 : Nat) ({ cls := "KeyHall$CharTree", name := "take", desc := "(LKeyHall$Way;LKeyHall$Entry;I)LKeyHall$Way;" } : Jvm.MethodName)) ∈ lw_all := lw_g (lw_at lw_m5 2 rfl) rfl
theorem q1020 : (Jvm.Cond.static ({ cls := "KeyHall$CharTree", name := "take", desc := "(LKeyHall$Way;LKeyHall$Entry;I)LKeyHall$Way;" } : Jvm.MethodName)) ∈ lw_all := lw_g (lw_at lw_m5 3 rfl) rfl
theorem q1021 : (Jvm.Cond.code ({ cls := "KeyHall$CharTree", name := "take", desc := "(LKeyHall$Way;LKeyHall$Entry;I)LKeyHall$Way;" } : Jvm.MethodName) prog_5_method_6_code (3 : Nat) (Option.some (Jvm.ClassFile.FieldType.object "KeyHall$Way"))) ∈ lw_all := lw_g (lw_at lw_m5 4 rfl) rfl
theorem q1022 : (Jvm.Cond.methodLink "KeyHall$CharTree" (58 : Nat) ({ cls := "KeyHall$CharTree", name := "join", desc := "(LKeyHall$Way;LKeyHall$Way;)LKeyHall$Way;" } : Jvm.MethodName)) ∈ lw_all := lw_g (lw_at lw_m5 5 rfl) rfl
theorem q1023 : (Jvm.Cond.static ({ cls := "KeyHall$CharTree", name := "join", desc := "(LKeyHall$Way;LKeyHall$Way;)LKeyHall$Way;" } : Jvm.MethodName)) ∈ lw_all := lw_g (lw_at lw_m5 6 rfl) rfl
theorem q1024 : (Jvm.Cond.code ({ cls := "KeyHall$CharTree", name := "join", desc := "(LKeyHall$Way;LKeyHall$Way;)LKeyHall$Way;" } : Jvm.MethodName) prog_5_method_7_code (3 : Nat) (Option.some (Jvm.ClassFile.FieldType.object "KeyHall$Way"))) ∈ lw_all := lw_g (lw_at lw_m5 7 rfl) rfl
theorem q1067 : (Jvm.Cond.selects "KeyHall$CharTree" ({ cls := "KeyHall$Tree", name := "below", desc := "(LKeyHall$Key;Z)LKeyHall$Entry;" } : Jvm.MethodName) ({ cls := "KeyHall$CharTree", name := "below", desc := "(LKeyHall$Key;Z)LKeyHall$Entry;" } : Jvm.MethodName)) ∈ lw_all := lw_g (lw_at lw_m5 50 rfl) rfl
theorem q1068 : (Jvm.Cond.instanceMethod ({ cls := "KeyHall$CharTree", name := "below", desc := "(LKeyHall$Key;Z)LKeyHall$Entry;" } : Jvm.MethodName)) ∈ lw_all := lw_g (lw_at lw_m5 51 rfl) rfl
theorem q1069 : (Jvm.Cond.code ({ cls := "KeyHall$CharTree", name := "below", desc := "(LKeyHall$Key;Z)LKeyHall$Entry;" } : Jvm.MethodName) prog_5_method_14_code (4 : Nat) (Option.some (Jvm.ClassFile.FieldType.object "KeyHall$Entry"))) ∈ lw_all := lw_g (lw_at lw_m5 52 rfl) rfl
theorem q1070 : (Jvm.Cond.methodLink "KeyHall$CharTree" (69 : Nat) ({ cls := "KeyHall$CharTree", name := "last", desc := "(LKeyHall$Way;)LKeyHall$Entry;" } : Jvm.MethodName)) ∈ lw_all := lw_g (lw_at lw_m5 53 rfl) rfl
theorem q1071 : (Jvm.Cond.static ({ cls := "KeyHall$CharTree", name := "last", desc := "(LKeyHall$Way;)LKeyHall$Entry;" } : Jvm.MethodName)) ∈ lw_all := lw_g (lw_at lw_m5 54 rfl) rfl
theorem q1072 : (Jvm.Cond.code ({ cls := "KeyHall$CharTree", name := "last", desc := "(LKeyHall$Way;)LKeyHall$Entry;" } : Jvm.MethodName) prog_5_method_10_code (2 : Nat) (Option.some (Jvm.ClassFile.FieldType.object "KeyHall$Entry"))) ∈ lw_all := lw_g (lw_at lw_m5 55 rfl) rfl
theorem q1073 : (Jvm.Cond.methodLink "KeyHall$CharTree" (76 : Nat) ({ cls := "KeyHall$CharTree", name := "below", desc := "(LKeyHall$Way;LKeyHall$Key;IZ)LKeyHall$Entry;" } : Jvm.MethodName)) ∈ lw_all := lw_g (lw_at lw_m5 56 rfl) rfl
theorem q1074 : (Jvm.Cond.static ({ cls := "KeyHall$CharTree", name := "below", desc := "(LKeyHall$Way;LKeyHall$Key;IZ)LKeyHall$Entry;" } : Jvm.MethodName)) ∈ lw_all := lw_g (lw_at lw_m5 57 rfl) rfl
theorem q1075 : (Jvm.Cond.code ({ cls := "KeyHall$CharTree", name := "below", desc := "(LKeyHall$Way;LKeyHall$Key;IZ)LKeyHall$Entry;" } : Jvm.MethodName) prog_5_method_12_code (5 : Nat) (Option.some (Jvm.ClassFile.FieldType.object "KeyHall$Entry"))) ∈ lw_all := lw_g (lw_at lw_m5 58 rfl) rfl
theorem in_X12 : ∀ w ∈ wsX120, w ∈ lw_all := lw_in wsX120 [343, 344, 339, 341] (by decide +kernel) (by decide +kernel)
/-! KeyHallModel -/
def RX13 : String := "KeyHallModel"
def TX13 : u_T := fun k => match k with
  | 0 => ("KeyHallModel", "code", "I", false)
  | 1 => ("KeyHallModel", "tape", "[I", true)
  | 2 => ("KeyHallModel", "typed", "I", false)
  | 3 => ("KeyHallModel", "many", "[I", true)
  | 4 => ("KeyHallModel", "turns", "[I", true)
  | 5 => ("KeyHallModel", "letters", "[I", true)
  | 6 => ("KeyHallModel", "length", "[I", true)
  | 7 => ("KeyHallModel", "value", "[I", true)
  | 8 => ("KeyHallModel", "views", "I", false)
  | 9 => ("KeyHallModel", "of", "[I", true)
  | 10 => ("KeyHallModel", "sort", "[I", true)
  | 11 => ("KeyHallModel", "textLong", "[I", true)
  | 12 => ("KeyHallModel", "text", "[I", true)
  | 13 => ("KeyHallModel", "begun", "[Z", true)
  | 14 => ("KeyHallModel", "told", "[Z", true)
  | 15 => ("KeyHallModel", "drops", "[Z", true)
  | 16 => ("KeyHallModel", "seen", "[I", true)
  | 17 => ("KeyHallModel", "lastLong", "[I", true)
  | 18 => ("KeyHallModel", "last", "[I", true)
  | 19 => ("KeyHallModel", "found", "[I", true)
  | 20 => ("KeyHallModel", "foundLong", "I", false)
  | 21 => ("KeyHallModel", "differs", "[Z", true)
  | 22 => ("KeyHallModel", "prefixes", "I", false)
  | 23 => ("KeyHallModel", "firstKey", "[I", true)
  | 24 => ("KeyHallModel", "chars", "[I", true)
  | 25 => ("KeyHallModel", "stateOf", "[I", true)
  | 26 => ("KeyHallModel", "states", "I", false)
  | 27 => ("KeyHallModel", "steps", "I", false)
  | 28 => ("KeyHallModel", "start", "I", false)
  | 29 => ("KeyHallModel", "isFinal", "[Z", true)
  | 30 => ("KeyHallModel", "stepFrom", "[I", true)
  | 31 => ("KeyHallModel", "stepChar", "[I", true)
  | 32 => ("KeyHallModel", "stepTo", "[I", true)
  | 33 => ("KeyHallModel", "page", "[I", true)
  | 34 => ("KeyHallModel", "size", "I", false)
  | 35 => ("KeyHallModel", "pages", "[I", true)
  | 36 => ("KeyHallModel", "sizes", "[I", true)
  | 37 => ("KeyHallModel", "edits", "I", false)
  | _ => ("KeyHallModel", "kept", "I", false)
def tyX13 : Nat → FieldType := fun k => match k with
  | 0 => .int
  | 1 => .array .int
  | 2 => .int
  | 3 => .array .int
  | 4 => .array .int
  | 5 => .array .int
  | 6 => .array .int
  | 7 => .array .int
  | 8 => .int
  | 9 => .array .int
  | 10 => .array .int
  | 11 => .array .int
  | 12 => .array .int
  | 13 => .array .boolean
  | 14 => .array .boolean
  | 15 => .array .boolean
  | 16 => .array .int
  | 17 => .array .int
  | 18 => .array .int
  | 19 => .array .int
  | 20 => .int
  | 21 => .array .boolean
  | 22 => .int
  | 23 => .array .int
  | 24 => .array .int
  | 25 => .array .int
  | 26 => .int
  | 27 => .int
  | 28 => .int
  | 29 => .array .boolean
  | 30 => .array .int
  | 31 => .array .int
  | 32 => .array .int
  | 33 => .array .int
  | 34 => .int
  | 35 => .array .int
  | 36 => .array .int
  | 37 => .int
  | _ => .int
abbrev wsX130 : List Cond := u_ws RX13 TX13 39
theorem nmX13 : ∀ a, a < 39 → ∀ b, b < 39 → a ≠ b → (TX13 a).2.1 ≠ (TX13 b).2.1 := by decide +kernel
theorem tyX13_ok : ∀ k, k < 39 → parseFieldDescriptor (TX13 k).2.2.1 = some (tyX13 k) := by decide +kernel
abbrev cX13_init : ByteArray := prog_19_method_1_code
def yX13_init : MethodName := ⟨RX13, "<init>", "()V"⟩
abbrev cX13_thrown : ByteArray := prog_19_method_2_code
def yX13_thrown : MethodName := ⟨RX13, "thrown", "()I"⟩
abbrev cX13_type : ByteArray := prog_19_method_4_code
def yX13_type : MethodName := ⟨RX13, "type", "(JI)Z"⟩
abbrev cX13_view : ByteArray := prog_19_method_13_code
def yX13_view : MethodName := ⟨RX13, "view", "(II)I"⟩
abbrev cX13_isView : ByteArray := prog_19_method_8_code
def yX13_isView : MethodName := ⟨RX13, "isView", "(I)Z"⟩
abbrev cX13_raise : ByteArray := prog_19_method_3_code
def yX13_raise : MethodName := ⟨RX13, "raise", "(I)I"⟩
abbrev cX13_put : ByteArray := prog_19_method_16_code
def yX13_put : MethodName := ⟨RX13, "put", "(II)I"⟩
abbrev cX13_within : ByteArray := prog_19_method_11_code
def yX13_within : MethodName := ⟨RX13, "within", "(I[III)Z"⟩
abbrev cX13_begins : ByteArray := prog_19_method_6_code
def yX13_begins : MethodName := ⟨RX13, "begins", "([III[III)Z"⟩
abbrev cX13_order : ByteArray := prog_19_method_5_code
def yX13_order : MethodName := ⟨RX13, "order", "([III[III)I"⟩
abbrev cX13_mapOf : ByteArray := prog_19_method_9_code
def yX13_mapOf : MethodName := ⟨RX13, "mapOf", "(I)I"⟩
abbrev cX13_keyOf : ByteArray := prog_19_method_14_code
def yX13_keyOf : MethodName := ⟨RX13, "keyOf", "(I[III)I"⟩
abbrev cX13_orderOf : ByteArray := prog_19_method_7_code
def yX13_orderOf : MethodName := ⟨RX13, "orderOf", "(I[III)I"⟩
abbrev cX13_get : ByteArray := prog_19_method_18_code
def yX13_get : MethodName := ⟨RX13, "get", "(I)I"⟩
abbrev cX13_used : ByteArray := prog_19_method_17_code
def yX13_used : MethodName := ⟨RX13, "used", "(I)I"⟩
abbrev cX13_remove : ByteArray := prog_19_method_19_code
def yX13_remove : MethodName := ⟨RX13, "remove", "(I)I"⟩
abbrev cX13_clear : ByteArray := prog_19_method_15_code
def yX13_clear : MethodName := ⟨RX13, "clear", "(II)V"⟩
abbrev cX13_size : ByteArray := prog_19_method_20_code
def yX13_size : MethodName := ⟨RX13, "size", "(I)I"⟩
abbrev cX13_has : ByteArray := prog_19_method_12_code
def yX13_has : MethodName := ⟨RX13, "has", "(II)Z"⟩
abbrev cX13_find : ByteArray := prog_19_method_25_code
def yX13_find : MethodName := ⟨RX13, "find", "(II)I"⟩
abbrev cX13_nearest : ByteArray := prog_19_method_22_code
def yX13_nearest : MethodName := ⟨RX13, "nearest", "(IZZ[III)I"⟩
abbrev cX13_side : ByteArray := prog_19_method_21_code
def yX13_side : MethodName := ⟨RX13, "side", "(II[III)I"⟩
abbrev cX13_isTurned : ByteArray := prog_19_method_10_code
def yX13_isTurned : MethodName := ⟨RX13, "isTurned", "(I)Z"⟩
abbrev cX13_tell : ByteArray := prog_19_method_24_code
def yX13_tell : MethodName := ⟨RX13, "tell", "(II)I"⟩
abbrev cX13_longest : ByteArray := prog_19_method_23_code
def yX13_longest : MethodName := ⟨RX13, "longest", "(II)I"⟩
abbrev cX13_at : ByteArray := prog_19_method_26_code
def yX13_at : MethodName := ⟨RX13, "at", "(II)I"⟩
abbrev cX13_poll : ByteArray := prog_19_method_27_code
def yX13_poll : MethodName := ⟨RX13, "poll", "(IZ)I"⟩
abbrev cX13_found : ByteArray := prog_19_method_28_code
def yX13_found : MethodName := ⟨RX13, "found", "(I)I"⟩
abbrev cX13_iterate : ByteArray := prog_19_method_29_code
def yX13_iterate : MethodName := ⟨RX13, "iterate", "(I)Z"⟩
abbrev cX13_next : ByteArray := prog_19_method_31_code
def yX13_next : MethodName := ⟨RX13, "next", "(I)I"⟩
abbrev cX13_stale : ByteArray := prog_19_method_30_code
def yX13_stale : MethodName := ⟨RX13, "stale", "(I)Z"⟩
abbrev cX13_drop : ByteArray := prog_19_method_32_code
def yX13_drop : MethodName := ⟨RX13, "drop", "(I)I"⟩
abbrev cX13_match : ByteArray := prog_19_method_33_code
def yX13_match : MethodName := ⟨RX13, "match", "(II)I"⟩
abbrev cX13_edges : ByteArray := prog_19_method_40_code
def yX13_edges : MethodName := ⟨RX13, "edges", "(I)I"⟩
abbrev cX13_inner : ByteArray := prog_19_method_37_code
def yX13_inner : MethodName := ⟨RX13, "inner", "(I)I"⟩
abbrev cX13_fan : ByteArray := prog_19_method_36_code
def yX13_fan : MethodName := ⟨RX13, "fan", "(II)I"⟩
abbrev cX13_sameBytes : ByteArray := prog_19_method_35_code
def yX13_sameBytes : MethodName := ⟨RX13, "sameBytes", "(III)Z"⟩
abbrev cX13_octet : ByteArray := prog_19_method_34_code
def yX13_octet : MethodName := ⟨RX13, "octet", "(II)I"⟩
abbrev cX13_depth : ByteArray := prog_19_method_39_code
def yX13_depth : MethodName := ⟨RX13, "depth", "(I)I"⟩
abbrev cX13_bit : ByteArray := prog_19_method_38_code
def yX13_bit : MethodName := ⟨RX13, "bit", "(II)I"⟩
abbrev cX13_freeze : ByteArray := prog_19_method_42_code
def yX13_freeze : MethodName := ⟨RX13, "freeze", "(I)I"⟩
abbrev cX13_prefixesOf : ByteArray := prog_19_method_43_code
def yX13_prefixesOf : MethodName := ⟨RX13, "prefixesOf", "(II)V"⟩
abbrev cX13_samePrefix : ByteArray := prog_19_method_41_code
def yX13_samePrefix : MethodName := ⟨RX13, "samePrefix", "(III)Z"⟩
abbrev cX13_state : ByteArray := prog_19_method_46_code
def yX13_state : MethodName := ⟨RX13, "state", "(II)V"⟩
abbrev cX13_endsAt : ByteArray := prog_19_method_45_code
def yX13_endsAt : MethodName := ⟨RX13, "endsAt", "(II)Z"⟩
abbrev cX13_follows : ByteArray := prog_19_method_44_code
def yX13_follows : MethodName := ⟨RX13, "follows", "(II)Z"⟩
abbrev cX13_stepsOf : ByteArray := prog_19_method_47_code
def yX13_stepsOf : MethodName := ⟨RX13, "stepsOf", "(I)I"⟩
abbrev cX13_alike : ByteArray := prog_19_method_49_code
def yX13_alike : MethodName := ⟨RX13, "alike", "(II)Z"⟩
abbrev cX13_go : ByteArray := prog_19_method_48_code
def yX13_go : MethodName := ⟨RX13, "go", "(II)I"⟩
abbrev cX13_automaton : ByteArray := prog_19_method_50_code
def yX13_automaton : MethodName := ⟨RX13, "automaton", "(I)I"⟩
abbrev cX13_insert : ByteArray := prog_19_method_52_code
def yX13_insert : MethodName := ⟨RX13, "insert", "(I)I"⟩
abbrev cX13_keep : ByteArray := prog_19_method_51_code
def yX13_keep : MethodName := ⟨RX13, "keep", "()V"⟩
abbrev cX13_delete : ByteArray := prog_19_method_53_code
def yX13_delete : MethodName := ⟨RX13, "delete", "(II)I"⟩
abbrev cX13_undo : ByteArray := prog_19_method_54_code
def yX13_undo : MethodName := ⟨RX13, "undo", "()I"⟩
abbrev cX13_letter : ByteArray := prog_19_method_55_code
def yX13_letter : MethodName := ⟨RX13, "letter", "(I)I"⟩
abbrev cX13_suffix : ByteArray := prog_19_method_57_code
def yX13_suffix : MethodName := ⟨RX13, "suffix", "(II)I"⟩
abbrev cX13_begin : ByteArray := prog_19_method_56_code
def yX13_begin : MethodName := ⟨RX13, "begin", "(I)I"⟩
abbrev cX13_locate : ByteArray := prog_19_method_58_code
def yX13_locate : MethodName := ⟨RX13, "locate", "(I)I"⟩
theorem q70 : (Jvm.Cond.initialized "KeyHallModel") ∈ lw_all := lw_g (lw_at lw_m1 13 rfl) rfl
theorem q1273 : (Jvm.Cond.instantiable "KeyHallModel" (39 : Nat)) ∈ lw_all := lw_g (lw_at lw_m6 16 rfl) rfl
theorem q1275 : (Jvm.Cond.instanceMethod ({ cls := "KeyHallModel", name := "<init>", desc := "()V" } : Jvm.MethodName)) ∈ lw_all := lw_g (lw_at lw_m6 18 rfl) rfl
theorem q1276 : (Jvm.Cond.code ({ cls := "KeyHallModel", name := "<init>", desc := "()V" } : Jvm.MethodName) prog_19_method_1_code (2 : Nat) (Option.none : Option Jvm.ClassFile.FieldType)) ∈ lw_all := lw_g (lw_at lw_m6 19 rfl) rfl
theorem q1277 : (Jvm.Cond.methodLink "KeyHallModel" (1 : Nat) ({ cls := "java/lang/Object", name := "<init>", desc := "()V" } : Jvm.MethodName)) ∈ lw_all := lw_g (lw_at lw_m6 20 rfl) rfl
theorem q1278 : (Jvm.Cond.fieldLink "KeyHallModel" (99 : Nat) "KeyHallModel" "code" "I") ∈ lw_all := lw_g (lw_at lw_m6 21 rfl) rfl
theorem q1279 : (Jvm.Cond.fieldLink "KeyHallModel" (7 : Nat) "KeyHallModel" "tape" "[I") ∈ lw_all := lw_g (lw_at lw_m6 22 rfl) rfl
theorem q1280 : (Jvm.Cond.fieldLink "KeyHallModel" (102 : Nat) "KeyHallModel" "typed" "I") ∈ lw_all := lw_g (lw_at lw_m6 23 rfl) rfl
theorem q1281 : (Jvm.Cond.fieldLink "KeyHallModel" (13 : Nat) "KeyHallModel" "many" "[I") ∈ lw_all := lw_g (lw_at lw_m6 24 rfl) rfl
theorem q1282 : (Jvm.Cond.fieldLink "KeyHallModel" (16 : Nat) "KeyHallModel" "turns" "[I") ∈ lw_all := lw_g (lw_at lw_m6 25 rfl) rfl
theorem q1283 : (Jvm.Cond.fieldLink "KeyHallModel" (19 : Nat) "KeyHallModel" "letters" "[I") ∈ lw_all := lw_g (lw_at lw_m6 26 rfl) rfl
theorem q1284 : (Jvm.Cond.fieldLink "KeyHallModel" (22 : Nat) "KeyHallModel" "length" "[I") ∈ lw_all := lw_g (lw_at lw_m6 27 rfl) rfl
theorem q1285 : (Jvm.Cond.fieldLink "KeyHallModel" (25 : Nat) "KeyHallModel" "value" "[I") ∈ lw_all := lw_g (lw_at lw_m6 28 rfl) rfl
theorem q1286 : (Jvm.Cond.fieldLink "KeyHallModel" (28 : Nat) "KeyHallModel" "views" "I") ∈ lw_all := lw_g (lw_at lw_m6 29 rfl) rfl
theorem q1287 : (Jvm.Cond.fieldLink "KeyHallModel" (32 : Nat) "KeyHallModel" "of" "[I") ∈ lw_all := lw_g (lw_at lw_m6 30 rfl) rfl
theorem q1288 : (Jvm.Cond.fieldLink "KeyHallModel" (35 : Nat) "KeyHallModel" "sort" "[I") ∈ lw_all := lw_g (lw_at lw_m6 31 rfl) rfl
theorem q1289 : (Jvm.Cond.fieldLink "KeyHallModel" (38 : Nat) "KeyHallModel" "textLong" "[I") ∈ lw_all := lw_g (lw_at lw_m6 32 rfl) rfl
theorem q1290 : (Jvm.Cond.fieldLink "KeyHallModel" (41 : Nat) "KeyHallModel" "text" "[I") ∈ lw_all := lw_g (lw_at lw_m6 33 rfl) rfl
theorem q1291 : (Jvm.Cond.fieldLink "KeyHallModel" (44 : Nat) "KeyHallModel" "begun" "[Z") ∈ lw_all := lw_g (lw_at lw_m6 34 rfl) rfl
theorem q1292 : (Jvm.Cond.fieldLink "KeyHallModel" (48 : Nat) "KeyHallModel" "told" "[Z") ∈ lw_all := lw_g (lw_at lw_m6 35 rfl) rfl
theorem q1293 : (Jvm.Cond.fieldLink "KeyHallModel" (51 : Nat) "KeyHallModel" "drops" "[Z") ∈ lw_all := lw_g (lw_at lw_m6 36 rfl) rfl
theorem q1294 : (Jvm.Cond.fieldLink "KeyHallModel" (54 : Nat) "KeyHallModel" "seen" "[I") ∈ lw_all := lw_g (lw_at lw_m6 37 rfl) rfl
theorem q1295 : (Jvm.Cond.fieldLink "KeyHallModel" (57 : Nat) "KeyHallModel" "lastLong" "[I") ∈ lw_all := lw_g (lw_at lw_m6 38 rfl) rfl
theorem q1296 : (Jvm.Cond.fieldLink "KeyHallModel" (60 : Nat) "KeyHallModel" "last" "[I") ∈ lw_all := lw_g (lw_at lw_m6 39 rfl) rfl
theorem q1297 : (Jvm.Cond.fieldLink "KeyHallModel" (63 : Nat) "KeyHallModel" "found" "[I") ∈ lw_all := lw_g (lw_at lw_m6 40 rfl) rfl
theorem q1298 : (Jvm.Cond.fieldLink "KeyHallModel" (154 : Nat) "KeyHallModel" "foundLong" "I") ∈ lw_all := lw_g (lw_at lw_m6 41 rfl) rfl
theorem q1299 : (Jvm.Cond.fieldLink "KeyHallModel" (66 : Nat) "KeyHallModel" "differs" "[Z") ∈ lw_all := lw_g (lw_at lw_m6 42 rfl) rfl
theorem q1300 : (Jvm.Cond.fieldLink "KeyHallModel" (193 : Nat) "KeyHallModel" "prefixes" "I") ∈ lw_all := lw_g (lw_at lw_m6 43 rfl) rfl
theorem q1301 : (Jvm.Cond.fieldLink "KeyHallModel" (69 : Nat) "KeyHallModel" "firstKey" "[I") ∈ lw_all := lw_g (lw_at lw_m6 44 rfl) rfl
theorem q1302 : (Jvm.Cond.fieldLink "KeyHallModel" (72 : Nat) "KeyHallModel" "chars" "[I") ∈ lw_all := lw_g (lw_at lw_m6 45 rfl) rfl
theorem q1303 : (Jvm.Cond.fieldLink "KeyHallModel" (75 : Nat) "KeyHallModel" "stateOf" "[I") ∈ lw_all := lw_g (lw_at lw_m6 46 rfl) rfl
theorem q1304 : (Jvm.Cond.fieldLink "KeyHallModel" (196 : Nat) "KeyHallModel" "states" "I") ∈ lw_all := lw_g (lw_at lw_m6 47 rfl) rfl
theorem q1305 : (Jvm.Cond.fieldLink "KeyHallModel" (199 : Nat) "KeyHallModel" "steps" "I") ∈ lw_all := lw_g (lw_at lw_m6 48 rfl) rfl
theorem q1306 : (Jvm.Cond.fieldLink "KeyHallModel" (202 : Nat) "KeyHallModel" "start" "I") ∈ lw_all := lw_g (lw_at lw_m6 49 rfl) rfl
theorem q1307 : (Jvm.Cond.fieldLink "KeyHallModel" (78 : Nat) "KeyHallModel" "isFinal" "[Z") ∈ lw_all := lw_g (lw_at lw_m6 50 rfl) rfl
theorem q1308 : (Jvm.Cond.fieldLink "KeyHallModel" (81 : Nat) "KeyHallModel" "stepFrom" "[I") ∈ lw_all := lw_g (lw_at lw_m6 51 rfl) rfl
theorem q1309 : (Jvm.Cond.fieldLink "KeyHallModel" (84 : Nat) "KeyHallModel" "stepChar" "[I") ∈ lw_all := lw_g (lw_at lw_m6 52 rfl) rfl
theorem q1310 : (Jvm.Cond.fieldLink "KeyHallModel" (87 : Nat) "KeyHallModel" "stepTo" "[I") ∈ lw_all := lw_g (lw_at lw_m6 53 rfl) rfl
theorem q1311 : (Jvm.Cond.fieldLink "KeyHallModel" (90 : Nat) "KeyHallModel" "page" "[I") ∈ lw_all := lw_g (lw_at lw_m6 54 rfl) rfl
theorem q1312 : (Jvm.Cond.fieldLink "KeyHallModel" (232 : Nat) "KeyHallModel" "size" "I") ∈ lw_all := lw_g (lw_at lw_m6 55 rfl) rfl
theorem q1313 : (Jvm.Cond.fieldLink "KeyHallModel" (93 : Nat) "KeyHallModel" "pages" "[I") ∈ lw_all := lw_g (lw_at lw_m6 56 rfl) rfl
theorem q1314 : (Jvm.Cond.fieldLink "KeyHallModel" (96 : Nat) "KeyHallModel" "sizes" "[I") ∈ lw_all := lw_g (lw_at lw_m6 57 rfl) rfl
theorem q1315 : (Jvm.Cond.fieldLink "KeyHallModel" (229 : Nat) "KeyHallModel" "edits" "I") ∈ lw_all := lw_g (lw_at lw_m6 58 rfl) rfl
theorem q1316 : (Jvm.Cond.fieldLink "KeyHallModel" (234 : Nat) "KeyHallModel" "kept" "I") ∈ lw_all := lw_g (lw_at lw_m6 59 rfl) rfl
theorem q1317 : (Jvm.Cond.lays "KeyHallModel" "KeyHallModel" "code" "I") ∈ lw_all := lw_g (lw_at lw_m6 60 rfl) rfl
theorem q1318 : (Jvm.Cond.soleField "KeyHallModel" "code") ∈ lw_all := lw_g (lw_at lw_m6 61 rfl) rfl
theorem q1319 : (Jvm.Cond.laysFinal "KeyHallModel" "KeyHallModel" "tape" "[I") ∈ lw_all := lw_g (lw_at lw_m6 62 rfl) rfl
theorem q1320 : (Jvm.Cond.soleField "KeyHallModel" "tape") ∈ lw_all := lw_g (lw_at lw_m6 63 rfl) rfl
theorem q1321 : (Jvm.Cond.lays "KeyHallModel" "KeyHallModel" "typed" "I") ∈ lw_all := lw_g (lw_at lw_m6 64 rfl) rfl
theorem q1322 : (Jvm.Cond.soleField "KeyHallModel" "typed") ∈ lw_all := lw_g (lw_at lw_m6 65 rfl) rfl
theorem q1323 : (Jvm.Cond.laysFinal "KeyHallModel" "KeyHallModel" "many" "[I") ∈ lw_all := lw_g (lw_at lw_m6 66 rfl) rfl
theorem q1324 : (Jvm.Cond.soleField "KeyHallModel" "many") ∈ lw_all := lw_g (lw_at lw_m6 67 rfl) rfl
theorem q1325 : (Jvm.Cond.laysFinal "KeyHallModel" "KeyHallModel" "turns" "[I") ∈ lw_all := lw_g (lw_at lw_m6 68 rfl) rfl
theorem q1326 : (Jvm.Cond.soleField "KeyHallModel" "turns") ∈ lw_all := lw_g (lw_at lw_m6 69 rfl) rfl
theorem q1327 : (Jvm.Cond.laysFinal "KeyHallModel" "KeyHallModel" "letters" "[I") ∈ lw_all := lw_g (lw_at lw_m6 70 rfl) rfl
theorem q1328 : (Jvm.Cond.soleField "KeyHallModel" "letters") ∈ lw_all := lw_g (lw_at lw_m6 71 rfl) rfl
theorem q1329 : (Jvm.Cond.laysFinal "KeyHallModel" "KeyHallModel" "length" "[I") ∈ lw_all := lw_g (lw_at lw_m6 72 rfl) rfl
theorem q1330 : (Jvm.Cond.soleField "KeyHallModel" "length") ∈ lw_all := lw_g (lw_at lw_m6 73 rfl) rfl
theorem q1331 : (Jvm.Cond.laysFinal "KeyHallModel" "KeyHallModel" "value" "[I") ∈ lw_all := lw_g (lw_at lw_m6 74 rfl) rfl
theorem q1332 : (Jvm.Cond.soleField "KeyHallModel" "value") ∈ lw_all := lw_g (lw_at lw_m6 75 rfl) rfl
theorem q1333 : (Jvm.Cond.lays "KeyHallModel" "KeyHallModel" "views" "I") ∈ lw_all := lw_g (lw_at lw_m6 76 rfl) rfl
theorem q1334 : (Jvm.Cond.soleField "KeyHallModel" "views") ∈ lw_all := lw_g (lw_at lw_m6 77 rfl) rfl
theorem q1335 : (Jvm.Cond.laysFinal "KeyHallModel" "KeyHallModel" "of" "[I") ∈ lw_all := lw_g (lw_at lw_m6 78 rfl) rfl
theorem q1336 : (Jvm.Cond.soleField "KeyHallModel" "of") ∈ lw_all := lw_g (lw_at lw_m6 79 rfl) rfl
theorem q1337 : (Jvm.Cond.laysFinal "KeyHallModel" "KeyHallModel" "sort" "[I") ∈ lw_all := lw_g (lw_at lw_m6 80 rfl) rfl
theorem q1338 : (Jvm.Cond.soleField "KeyHallModel" "sort") ∈ lw_all := lw_g (lw_at lw_m6 81 rfl) rfl
theorem q1339 : (Jvm.Cond.laysFinal "KeyHallModel" "KeyHallModel" "textLong" "[I") ∈ lw_all := lw_g (lw_at lw_m6 82 rfl) rfl
theorem q1340 : (Jvm.Cond.soleField "KeyHallModel" "textLong") ∈ lw_all := lw_g (lw_at lw_m6 83 rfl) rfl
theorem q1341 : (Jvm.Cond.laysFinal "KeyHallModel" "KeyHallModel" "text" "[I") ∈ lw_all := lw_g (lw_at lw_m6 84 rfl) rfl
theorem q1342 : (Jvm.Cond.soleField "KeyHallModel" "text") ∈ lw_all := lw_g (lw_at lw_m6 85 rfl) rfl
theorem q1343 : (Jvm.Cond.laysFinal "KeyHallModel" "KeyHallModel" "begun" "[Z") ∈ lw_all := lw_g (lw_at lw_m6 86 rfl) rfl
theorem q1344 : (Jvm.Cond.soleField "KeyHallModel" "begun") ∈ lw_all := lw_g (lw_at lw_m6 87 rfl) rfl
theorem q1345 : (Jvm.Cond.laysFinal "KeyHallModel" "KeyHallModel" "told" "[Z") ∈ lw_all := lw_g (lw_at lw_m6 88 rfl) rfl
theorem q1346 : (Jvm.Cond.soleField "KeyHallModel" "told") ∈ lw_all := lw_g (lw_at lw_m6 89 rfl) rfl
theorem q1347 : (Jvm.Cond.laysFinal "KeyHallModel" "KeyHallModel" "drops" "[Z") ∈ lw_all := lw_g (lw_at lw_m6 90 rfl) rfl
theorem q1348 : (Jvm.Cond.soleField "KeyHallModel" "drops") ∈ lw_all := lw_g (lw_at lw_m6 91 rfl) rfl
theorem q1349 : (Jvm.Cond.laysFinal "KeyHallModel" "KeyHallModel" "seen" "[I") ∈ lw_all := lw_g (lw_at lw_m6 92 rfl) rfl
theorem q1350 : (Jvm.Cond.soleField "KeyHallModel" "seen") ∈ lw_all := lw_g (lw_at lw_m6 93 rfl) rfl
theorem q1351 : (Jvm.Cond.laysFinal "KeyHallModel" "KeyHallModel" "lastLong" "[I") ∈ lw_all := lw_g (lw_at lw_m6 94 rfl) rfl
theorem q1352 : (Jvm.Cond.soleField "KeyHallModel" "lastLong") ∈ lw_all := lw_g (lw_at lw_m6 95 rfl) rfl
theorem q1353 : (Jvm.Cond.laysFinal "KeyHallModel" "KeyHallModel" "last" "[I") ∈ lw_all := lw_g (lw_at lw_m6 96 rfl) rfl
theorem q1354 : (Jvm.Cond.soleField "KeyHallModel" "last") ∈ lw_all := lw_g (lw_at lw_m6 97 rfl) rfl
theorem q1355 : (Jvm.Cond.laysFinal "KeyHallModel" "KeyHallModel" "found" "[I") ∈ lw_all := lw_g (lw_at lw_m6 98 rfl) rfl
theorem q1356 : (Jvm.Cond.soleField "KeyHallModel" "found") ∈ lw_all := lw_g (lw_at lw_m6 99 rfl) rfl
theorem q1357 : (Jvm.Cond.lays "KeyHallModel" "KeyHallModel" "foundLong" "I") ∈ lw_all := lw_g (lw_at lw_m6 100 rfl) rfl
theorem q1358 : (Jvm.Cond.soleField "KeyHallModel" "foundLong") ∈ lw_all := lw_g (lw_at lw_m6 101 rfl) rfl
theorem q1359 : (Jvm.Cond.laysFinal "KeyHallModel" "KeyHallModel" "differs" "[Z") ∈ lw_all := lw_g (lw_at lw_m6 102 rfl) rfl
theorem q1360 : (Jvm.Cond.soleField "KeyHallModel" "differs") ∈ lw_all := lw_g (lw_at lw_m6 103 rfl) rfl
theorem q1361 : (Jvm.Cond.lays "KeyHallModel" "KeyHallModel" "prefixes" "I") ∈ lw_all := lw_g (lw_at lw_m6 104 rfl) rfl
theorem q1362 : (Jvm.Cond.soleField "KeyHallModel" "prefixes") ∈ lw_all := lw_g (lw_at lw_m6 105 rfl) rfl
theorem q1363 : (Jvm.Cond.laysFinal "KeyHallModel" "KeyHallModel" "firstKey" "[I") ∈ lw_all := lw_g (lw_at lw_m6 106 rfl) rfl
theorem q1364 : (Jvm.Cond.soleField "KeyHallModel" "firstKey") ∈ lw_all := lw_g (lw_at lw_m6 107 rfl) rfl
theorem q1365 : (Jvm.Cond.laysFinal "KeyHallModel" "KeyHallModel" "chars" "[I") ∈ lw_all := lw_g (lw_at lw_m6 108 rfl) rfl
theorem q1366 : (Jvm.Cond.soleField "KeyHallModel" "chars") ∈ lw_all := lw_g (lw_at lw_m6 109 rfl) rfl
theorem q1367 : (Jvm.Cond.laysFinal "KeyHallModel" "KeyHallModel" "stateOf" "[I") ∈ lw_all := lw_g (lw_at lw_m6 110 rfl) rfl
theorem q1368 : (Jvm.Cond.soleField "KeyHallModel" "stateOf") ∈ lw_all := lw_g (lw_at lw_m6 111 rfl) rfl
theorem q1369 : (Jvm.Cond.lays "KeyHallModel" "KeyHallModel" "states" "I") ∈ lw_all := lw_g (lw_at lw_m6 112 rfl) rfl
theorem q1370 : (Jvm.Cond.soleField "KeyHallModel" "states") ∈ lw_all := lw_g (lw_at lw_m6 113 rfl) rfl
theorem q1371 : (Jvm.Cond.lays "KeyHallModel" "KeyHallModel" "steps" "I") ∈ lw_all := lw_g (lw_at lw_m6 114 rfl) rfl
theorem q1372 : (Jvm.Cond.soleField "KeyHallModel" "steps") ∈ lw_all := lw_g (lw_at lw_m6 115 rfl) rfl
theorem q1373 : (Jvm.Cond.lays "KeyHallModel" "KeyHallModel" "start" "I") ∈ lw_all := lw_g (lw_at lw_m6 116 rfl) rfl
theorem q1374 : (Jvm.Cond.soleField "KeyHallModel" "start") ∈ lw_all := lw_g (lw_at lw_m6 117 rfl) rfl
theorem q1375 : (Jvm.Cond.laysFinal "KeyHallModel" "KeyHallModel" "isFinal" "[Z") ∈ lw_all := lw_g (lw_at lw_m6 118 rfl) rfl
theorem q1376 : (Jvm.Cond.soleField "KeyHallModel" "isFinal") ∈ lw_all := lw_g (lw_at lw_m6 119 rfl) rfl
theorem q1377 : (Jvm.Cond.laysFinal "KeyHallModel" "KeyHallModel" "stepFrom" "[I") ∈ lw_all := lw_g (lw_at lw_m6 120 rfl) rfl
theorem q1378 : (Jvm.Cond.soleField "KeyHallModel" "stepFrom") ∈ lw_all := lw_g (lw_at lw_m6 121 rfl) rfl
theorem q1379 : (Jvm.Cond.laysFinal "KeyHallModel" "KeyHallModel" "stepChar" "[I") ∈ lw_all := lw_g (lw_at lw_m6 122 rfl) rfl
theorem q1380 : (Jvm.Cond.soleField "KeyHallModel" "stepChar") ∈ lw_all := lw_g (lw_at lw_m6 123 rfl) rfl
theorem q1381 : (Jvm.Cond.laysFinal "KeyHallModel" "KeyHallModel" "stepTo" "[I") ∈ lw_all := lw_g (lw_at lw_m6 124 rfl) rfl
theorem q1382 : (Jvm.Cond.soleField "KeyHallModel" "stepTo") ∈ lw_all := lw_g (lw_at lw_m6 125 rfl) rfl
theorem q1383 : (Jvm.Cond.laysFinal "KeyHallModel" "KeyHallModel" "page" "[I") ∈ lw_all := lw_g (lw_at lw_m6 126 rfl) rfl
theorem q1384 : (Jvm.Cond.soleField "KeyHallModel" "page") ∈ lw_all := lw_g (lw_at lw_m6 127 rfl) rfl
theorem q1385 : (Jvm.Cond.lays "KeyHallModel" "KeyHallModel" "size" "I") ∈ lw_all := lw_g (lw_at lw_m6 128 rfl) rfl
theorem q1386 : (Jvm.Cond.soleField "KeyHallModel" "size") ∈ lw_all := lw_g (lw_at lw_m6 129 rfl) rfl
theorem q1387 : (Jvm.Cond.laysFinal "KeyHallModel" "KeyHallModel" "pages" "[I") ∈ lw_all := lw_g (lw_at lw_m6 130 rfl) rfl
theorem q1388 : (Jvm.Cond.soleField "KeyHallModel" "pages") ∈ lw_all := lw_g (lw_at lw_m6 131 rfl) rfl
theorem q1389 : (Jvm.Cond.laysFinal "KeyHallModel" "KeyHallModel" "sizes" "[I") ∈ lw_all := lw_g (lw_at lw_m6 132 rfl) rfl
theorem q1390 : (Jvm.Cond.soleField "KeyHallModel" "sizes") ∈ lw_all := lw_g (lw_at lw_m6 133 rfl) rfl
theorem q1391 : (Jvm.Cond.lays "KeyHallModel" "KeyHallModel" "edits" "I") ∈ lw_all := lw_g (lw_at lw_m6 134 rfl) rfl
theorem q1392 : (Jvm.Cond.soleField "KeyHallModel" "edits") ∈ lw_all := lw_g (lw_at lw_m6 135 rfl) rfl
theorem q1393 : (Jvm.Cond.lays "KeyHallModel" "KeyHallModel" "kept" "I") ∈ lw_all := lw_g (lw_at lw_m6 136 rfl) rfl
theorem q1394 : (Jvm.Cond.soleField "KeyHallModel" "kept") ∈ lw_all := lw_g (lw_at lw_m6 137 rfl) rfl
theorem q1395 : (Jvm.Cond.superclass "KeyHallModel" "java/lang/Object") ∈ lw_all := lw_g (lw_at lw_m6 138 rfl) rfl
theorem q1397 : (Jvm.Cond.instanceMethod ({ cls := "KeyHallModel", name := "thrown", desc := "()I" } : Jvm.MethodName)) ∈ lw_all := lw_g (lw_at lw_m6 140 rfl) rfl
theorem q1398 : (Jvm.Cond.selects "KeyHallModel" ({ cls := "KeyHallModel", name := "thrown", desc := "()I" } : Jvm.MethodName) ({ cls := "KeyHallModel", name := "thrown", desc := "()I" } : Jvm.MethodName)) ∈ lw_all := lw_g (lw_at lw_m6 141 rfl) rfl
theorem q1399 : (Jvm.Cond.code ({ cls := "KeyHallModel", name := "thrown", desc := "()I" } : Jvm.MethodName) prog_19_method_2_code (1 : Nat) (Option.some Jvm.ClassFile.FieldType.int)) ∈ lw_all := lw_g (lw_at lw_m6 142 rfl) rfl
theorem q1401 : (Jvm.Cond.instanceMethod ({ cls := "KeyHallModel", name := "type", desc := "(JI)Z" } : Jvm.MethodName)) ∈ lw_all := lw_g (lw_at lw_m6 144 rfl) rfl
theorem q1402 : (Jvm.Cond.selects "KeyHallModel" ({ cls := "KeyHallModel", name := "type", desc := "(JI)Z" } : Jvm.MethodName) ({ cls := "KeyHallModel", name := "type", desc := "(JI)Z" } : Jvm.MethodName)) ∈ lw_all := lw_g (lw_at lw_m6 145 rfl) rfl
theorem q1403 : (Jvm.Cond.code ({ cls := "KeyHallModel", name := "type", desc := "(JI)Z" } : Jvm.MethodName) prog_19_method_4_code (5 : Nat) (Option.some Jvm.ClassFile.FieldType.boolean)) ∈ lw_all := lw_g (lw_at lw_m6 146 rfl) rfl
theorem q1404 : (Jvm.Cond.constant "KeyHallModel" (105 : Nat) (65535 : Int32)) ∈ lw_all := lw_g (lw_at lw_m6 147 rfl) rfl
theorem q1406 : (Jvm.Cond.instanceMethod ({ cls := "KeyHallModel", name := "view", desc := "(II)I" } : Jvm.MethodName)) ∈ lw_all := lw_g (lw_at lw_m6 149 rfl) rfl
theorem q1407 : (Jvm.Cond.selects "KeyHallModel" ({ cls := "KeyHallModel", name := "view", desc := "(II)I" } : Jvm.MethodName) ({ cls := "KeyHallModel", name := "view", desc := "(II)I" } : Jvm.MethodName)) ∈ lw_all := lw_g (lw_at lw_m6 150 rfl) rfl
theorem q1408 : (Jvm.Cond.code ({ cls := "KeyHallModel", name := "view", desc := "(II)I" } : Jvm.MethodName) prog_19_method_13_code (6 : Nat) (Option.some Jvm.ClassFile.FieldType.int)) ∈ lw_all := lw_g (lw_at lw_m6 151 rfl) rfl
theorem q1409 : (Jvm.Cond.methodLink "KeyHallModel" (122 : Nat) ({ cls := "KeyHallModel", name := "isView", desc := "(I)Z" } : Jvm.MethodName)) ∈ lw_all := lw_g (lw_at lw_m6 152 rfl) rfl
theorem q1410 : (Jvm.Cond.privateMethod ({ cls := "KeyHallModel", name := "isView", desc := "(I)Z" } : Jvm.MethodName)) ∈ lw_tbl := lw_at lw_m6 153 rfl
theorem q1411 : (Jvm.Cond.instanceMethod ({ cls := "KeyHallModel", name := "isView", desc := "(I)Z" } : Jvm.MethodName)) ∈ lw_all := lw_g (lw_at lw_m6 154 rfl) rfl
theorem q1412 : (Jvm.Cond.code ({ cls := "KeyHallModel", name := "isView", desc := "(I)Z" } : Jvm.MethodName) prog_19_method_8_code (2 : Nat) (Option.some Jvm.ClassFile.FieldType.boolean)) ∈ lw_all := lw_g (lw_at lw_m6 155 rfl) rfl
theorem q1413 : (Jvm.Cond.methodLink "KeyHallModel" (126 : Nat) ({ cls := "KeyHallModel", name := "raise", desc := "(I)I" } : Jvm.MethodName)) ∈ lw_all := lw_g (lw_at lw_m6 156 rfl) rfl
theorem q1414 : (Jvm.Cond.privateMethod ({ cls := "KeyHallModel", name := "raise", desc := "(I)I" } : Jvm.MethodName)) ∈ lw_tbl := lw_at lw_m6 157 rfl
theorem q1415 : (Jvm.Cond.instanceMethod ({ cls := "KeyHallModel", name := "raise", desc := "(I)I" } : Jvm.MethodName)) ∈ lw_all := lw_g (lw_at lw_m6 158 rfl) rfl
theorem q1416 : (Jvm.Cond.code ({ cls := "KeyHallModel", name := "raise", desc := "(I)I" } : Jvm.MethodName) prog_19_method_3_code (2 : Nat) (Option.some Jvm.ClassFile.FieldType.int)) ∈ lw_all := lw_g (lw_at lw_m6 159 rfl) rfl
theorem q1418 : (Jvm.Cond.instanceMethod ({ cls := "KeyHallModel", name := "put", desc := "(II)I" } : Jvm.MethodName)) ∈ lw_all := lw_g (lw_at lw_m6 161 rfl) rfl
theorem q1419 : (Jvm.Cond.selects "KeyHallModel" ({ cls := "KeyHallModel", name := "put", desc := "(II)I" } : Jvm.MethodName) ({ cls := "KeyHallModel", name := "put", desc := "(II)I" } : Jvm.MethodName)) ∈ lw_all := lw_g (lw_at lw_m6 162 rfl) rfl
theorem q1420 : (Jvm.Cond.code ({ cls := "KeyHallModel", name := "put", desc := "(II)I" } : Jvm.MethodName) prog_19_method_16_code (7 : Nat) (Option.some Jvm.ClassFile.FieldType.int)) ∈ lw_all := lw_g (lw_at lw_m6 163 rfl) rfl
theorem q1421 : (Jvm.Cond.methodLink "KeyHallModel" (118 : Nat) ({ cls := "KeyHallModel", name := "within", desc := "(I[III)Z" } : Jvm.MethodName)) ∈ lw_all := lw_g (lw_at lw_m6 164 rfl) rfl
theorem q1422 : (Jvm.Cond.privateMethod ({ cls := "KeyHallModel", name := "within", desc := "(I[III)Z" } : Jvm.MethodName)) ∈ lw_tbl := lw_at lw_m6 165 rfl
theorem q1423 : (Jvm.Cond.instanceMethod ({ cls := "KeyHallModel", name := "within", desc := "(I[III)Z" } : Jvm.MethodName)) ∈ lw_all := lw_g (lw_at lw_m6 166 rfl) rfl
theorem q1424 : (Jvm.Cond.code ({ cls := "KeyHallModel", name := "within", desc := "(I[III)Z" } : Jvm.MethodName) prog_19_method_11_code (7 : Nat) (Option.some Jvm.ClassFile.FieldType.boolean)) ∈ lw_all := lw_g (lw_at lw_m6 167 rfl) rfl
theorem q1425 : (Jvm.Cond.methodLink "KeyHallModel" (110 : Nat) ({ cls := "KeyHallModel", name := "begins", desc := "([III[III)Z" } : Jvm.MethodName)) ∈ lw_all := lw_g (lw_at lw_m6 168 rfl) rfl
theorem q1426 : (Jvm.Cond.static ({ cls := "KeyHallModel", name := "begins", desc := "([III[III)Z" } : Jvm.MethodName)) ∈ lw_all := lw_g (lw_at lw_m6 169 rfl) rfl
theorem q1427 : (Jvm.Cond.code ({ cls := "KeyHallModel", name := "begins", desc := "([III[III)Z" } : Jvm.MethodName) prog_19_method_6_code (6 : Nat) (Option.some Jvm.ClassFile.FieldType.boolean)) ∈ lw_all := lw_g (lw_at lw_m6 170 rfl) rfl
theorem q1428 : (Jvm.Cond.methodLink "KeyHallModel" (106 : Nat) ({ cls := "KeyHallModel", name := "order", desc := "([III[III)I" } : Jvm.MethodName)) ∈ lw_all := lw_g (lw_at lw_m6 171 rfl) rfl
theorem q1429 : (Jvm.Cond.static ({ cls := "KeyHallModel", name := "order", desc := "([III[III)I" } : Jvm.MethodName)) ∈ lw_all := lw_g (lw_at lw_m6 172 rfl) rfl
theorem q1430 : (Jvm.Cond.code ({ cls := "KeyHallModel", name := "order", desc := "([III[III)I" } : Jvm.MethodName) prog_19_method_5_code (7 : Nat) (Option.some Jvm.ClassFile.FieldType.int)) ∈ lw_all := lw_g (lw_at lw_m6 173 rfl) rfl
theorem q1431 : (Jvm.Cond.methodLink "KeyHallModel" (114 : Nat) ({ cls := "KeyHallModel", name := "mapOf", desc := "(I)I" } : Jvm.MethodName)) ∈ lw_all := lw_g (lw_at lw_m6 174 rfl) rfl
theorem q1432 : (Jvm.Cond.privateMethod ({ cls := "KeyHallModel", name := "mapOf", desc := "(I)I" } : Jvm.MethodName)) ∈ lw_tbl := lw_at lw_m6 175 rfl
theorem q1433 : (Jvm.Cond.instanceMethod ({ cls := "KeyHallModel", name := "mapOf", desc := "(I)I" } : Jvm.MethodName)) ∈ lw_all := lw_g (lw_at lw_m6 176 rfl) rfl
theorem q1434 : (Jvm.Cond.code ({ cls := "KeyHallModel", name := "mapOf", desc := "(I)I" } : Jvm.MethodName) prog_19_method_9_code (3 : Nat) (Option.some Jvm.ClassFile.FieldType.int)) ∈ lw_all := lw_g (lw_at lw_m6 177 rfl) rfl
theorem q1435 : (Jvm.Cond.methodLink "KeyHallModel" (133 : Nat) ({ cls := "KeyHallModel", name := "keyOf", desc := "(I[III)I" } : Jvm.MethodName)) ∈ lw_all := lw_g (lw_at lw_m6 178 rfl) rfl
theorem q1436 : (Jvm.Cond.privateMethod ({ cls := "KeyHallModel", name := "keyOf", desc := "(I[III)I" } : Jvm.MethodName)) ∈ lw_tbl := lw_at lw_m6 179 rfl
theorem q1437 : (Jvm.Cond.instanceMethod ({ cls := "KeyHallModel", name := "keyOf", desc := "(I[III)I" } : Jvm.MethodName)) ∈ lw_all := lw_g (lw_at lw_m6 180 rfl) rfl
theorem q1438 : (Jvm.Cond.code ({ cls := "KeyHallModel", name := "keyOf", desc := "(I[III)I" } : Jvm.MethodName) prog_19_method_14_code (6 : Nat) (Option.some Jvm.ClassFile.FieldType.int)) ∈ lw_all := lw_g (lw_at lw_m6 181 rfl) rfl
theorem q1439 : (Jvm.Cond.methodLink "KeyHallModel" (129 : Nat) ({ cls := "KeyHallModel", name := "orderOf", desc := "(I[III)I" } : Jvm.MethodName)) ∈ lw_all := lw_g (lw_at lw_m6 182 rfl) rfl
theorem q1440 : (Jvm.Cond.privateMethod ({ cls := "KeyHallModel", name := "orderOf", desc := "(I[III)I" } : Jvm.MethodName)) ∈ lw_tbl := lw_at lw_m6 183 rfl
theorem q1441 : (Jvm.Cond.instanceMethod ({ cls := "KeyHallModel", name := "orderOf", desc := "(I[III)I" } : Jvm.MethodName)) ∈ lw_all := lw_g (lw_at lw_m6 184 rfl) rfl
theorem q1442 : (Jvm.Cond.code ({ cls := "KeyHallModel", name := "orderOf", desc := "(I[III)I" } : Jvm.MethodName) prog_19_method_7_code (5 : Nat) (Option.some Jvm.ClassFile.FieldType.int)) ∈ lw_all := lw_g (lw_at lw_m6 185 rfl) rfl
theorem q1444 : (Jvm.Cond.instanceMethod ({ cls := "KeyHallModel", name := "get", desc := "(I)I" } : Jvm.MethodName)) ∈ lw_all := lw_g (lw_at lw_m6 187 rfl) rfl
theorem q1445 : (Jvm.Cond.selects "KeyHallModel" ({ cls := "KeyHallModel", name := "get", desc := "(I)I" } : Jvm.MethodName) ({ cls := "KeyHallModel", name := "get", desc := "(I)I" } : Jvm.MethodName)) ∈ lw_all := lw_g (lw_at lw_m6 188 rfl) rfl
theorem q1446 : (Jvm.Cond.code ({ cls := "KeyHallModel", name := "get", desc := "(I)I" } : Jvm.MethodName) prog_19_method_18_code (3 : Nat) (Option.some Jvm.ClassFile.FieldType.int)) ∈ lw_all := lw_g (lw_at lw_m6 189 rfl) rfl
theorem q1447 : (Jvm.Cond.methodLink "KeyHallModel" (136 : Nat) ({ cls := "KeyHallModel", name := "used", desc := "(I)I" } : Jvm.MethodName)) ∈ lw_all := lw_g (lw_at lw_m6 190 rfl) rfl
theorem q1448 : (Jvm.Cond.privateMethod ({ cls := "KeyHallModel", name := "used", desc := "(I)I" } : Jvm.MethodName)) ∈ lw_tbl := lw_at lw_m6 191 rfl
theorem q1449 : (Jvm.Cond.instanceMethod ({ cls := "KeyHallModel", name := "used", desc := "(I)I" } : Jvm.MethodName)) ∈ lw_all := lw_g (lw_at lw_m6 192 rfl) rfl
theorem q1450 : (Jvm.Cond.code ({ cls := "KeyHallModel", name := "used", desc := "(I)I" } : Jvm.MethodName) prog_19_method_17_code (3 : Nat) (Option.some Jvm.ClassFile.FieldType.int)) ∈ lw_all := lw_g (lw_at lw_m6 193 rfl) rfl
theorem q1452 : (Jvm.Cond.instanceMethod ({ cls := "KeyHallModel", name := "remove", desc := "(I)I" } : Jvm.MethodName)) ∈ lw_all := lw_g (lw_at lw_m6 195 rfl) rfl
theorem q1453 : (Jvm.Cond.selects "KeyHallModel" ({ cls := "KeyHallModel", name := "remove", desc := "(I)I" } : Jvm.MethodName) ({ cls := "KeyHallModel", name := "remove", desc := "(I)I" } : Jvm.MethodName)) ∈ lw_all := lw_g (lw_at lw_m6 196 rfl) rfl
theorem q1454 : (Jvm.Cond.code ({ cls := "KeyHallModel", name := "remove", desc := "(I)I" } : Jvm.MethodName) prog_19_method_19_code (4 : Nat) (Option.some Jvm.ClassFile.FieldType.int)) ∈ lw_all := lw_g (lw_at lw_m6 197 rfl) rfl
theorem q1455 : (Jvm.Cond.methodLink "KeyHallModel" (139 : Nat) ({ cls := "KeyHallModel", name := "clear", desc := "(II)V" } : Jvm.MethodName)) ∈ lw_all := lw_g (lw_at lw_m6 198 rfl) rfl
theorem q1456 : (Jvm.Cond.privateMethod ({ cls := "KeyHallModel", name := "clear", desc := "(II)V" } : Jvm.MethodName)) ∈ lw_tbl := lw_at lw_m6 199 rfl
theorem q1457 : (Jvm.Cond.instanceMethod ({ cls := "KeyHallModel", name := "clear", desc := "(II)V" } : Jvm.MethodName)) ∈ lw_all := lw_g (lw_at lw_m6 200 rfl) rfl
theorem q1458 : (Jvm.Cond.code ({ cls := "KeyHallModel", name := "clear", desc := "(II)V" } : Jvm.MethodName) prog_19_method_15_code (5 : Nat) (Option.none : Option Jvm.ClassFile.FieldType)) ∈ lw_all := lw_g (lw_at lw_m6 201 rfl) rfl
theorem q1460 : (Jvm.Cond.instanceMethod ({ cls := "KeyHallModel", name := "size", desc := "(I)I" } : Jvm.MethodName)) ∈ lw_all := lw_g (lw_at lw_m6 203 rfl) rfl
theorem q1461 : (Jvm.Cond.selects "KeyHallModel" ({ cls := "KeyHallModel", name := "size", desc := "(I)I" } : Jvm.MethodName) ({ cls := "KeyHallModel", name := "size", desc := "(I)I" } : Jvm.MethodName)) ∈ lw_all := lw_g (lw_at lw_m6 204 rfl) rfl
theorem q1462 : (Jvm.Cond.code ({ cls := "KeyHallModel", name := "size", desc := "(I)I" } : Jvm.MethodName) prog_19_method_20_code (4 : Nat) (Option.some Jvm.ClassFile.FieldType.int)) ∈ lw_all := lw_g (lw_at lw_m6 205 rfl) rfl
theorem q1463 : (Jvm.Cond.methodLink "KeyHallModel" (143 : Nat) ({ cls := "KeyHallModel", name := "has", desc := "(II)Z" } : Jvm.MethodName)) ∈ lw_all := lw_g (lw_at lw_m6 206 rfl) rfl
theorem q1464 : (Jvm.Cond.privateMethod ({ cls := "KeyHallModel", name := "has", desc := "(II)Z" } : Jvm.MethodName)) ∈ lw_tbl := lw_at lw_m6 207 rfl
theorem q1465 : (Jvm.Cond.instanceMethod ({ cls := "KeyHallModel", name := "has", desc := "(II)Z" } : Jvm.MethodName)) ∈ lw_all := lw_g (lw_at lw_m6 208 rfl) rfl
theorem q1466 : (Jvm.Cond.code ({ cls := "KeyHallModel", name := "has", desc := "(II)Z" } : Jvm.MethodName) prog_19_method_12_code (4 : Nat) (Option.some Jvm.ClassFile.FieldType.boolean)) ∈ lw_all := lw_g (lw_at lw_m6 209 rfl) rfl
theorem q1468 : (Jvm.Cond.instanceMethod ({ cls := "KeyHallModel", name := "find", desc := "(II)I" } : Jvm.MethodName)) ∈ lw_all := lw_g (lw_at lw_m6 211 rfl) rfl
theorem q1469 : (Jvm.Cond.selects "KeyHallModel" ({ cls := "KeyHallModel", name := "find", desc := "(II)I" } : Jvm.MethodName) ({ cls := "KeyHallModel", name := "find", desc := "(II)I" } : Jvm.MethodName)) ∈ lw_all := lw_g (lw_at lw_m6 212 rfl) rfl
theorem q1470 : (Jvm.Cond.code ({ cls := "KeyHallModel", name := "find", desc := "(II)I" } : Jvm.MethodName) prog_19_method_25_code (4 : Nat) (Option.some Jvm.ClassFile.FieldType.int)) ∈ lw_all := lw_g (lw_at lw_m6 213 rfl) rfl
theorem q1471 : (Jvm.Cond.methodLink "KeyHallModel" (157 : Nat) ({ cls := "KeyHallModel", name := "nearest", desc := "(IZZ[III)I" } : Jvm.MethodName)) ∈ lw_all := lw_g (lw_at lw_m6 214 rfl) rfl
theorem q1472 : (Jvm.Cond.privateMethod ({ cls := "KeyHallModel", name := "nearest", desc := "(IZZ[III)I" } : Jvm.MethodName)) ∈ lw_tbl := lw_at lw_m6 215 rfl
theorem q1473 : (Jvm.Cond.instanceMethod ({ cls := "KeyHallModel", name := "nearest", desc := "(IZZ[III)I" } : Jvm.MethodName)) ∈ lw_all := lw_g (lw_at lw_m6 216 rfl) rfl
theorem q1474 : (Jvm.Cond.code ({ cls := "KeyHallModel", name := "nearest", desc := "(IZZ[III)I" } : Jvm.MethodName) prog_19_method_22_code (13 : Nat) (Option.some Jvm.ClassFile.FieldType.int)) ∈ lw_all := lw_g (lw_at lw_m6 217 rfl) rfl
theorem q1475 : (Jvm.Cond.methodLink "KeyHallModel" (150 : Nat) ({ cls := "KeyHallModel", name := "side", desc := "(II[III)I" } : Jvm.MethodName)) ∈ lw_all := lw_g (lw_at lw_m6 218 rfl) rfl
theorem q1476 : (Jvm.Cond.privateMethod ({ cls := "KeyHallModel", name := "side", desc := "(II[III)I" } : Jvm.MethodName)) ∈ lw_tbl := lw_at lw_m6 219 rfl
theorem q1477 : (Jvm.Cond.instanceMethod ({ cls := "KeyHallModel", name := "side", desc := "(II[III)I" } : Jvm.MethodName)) ∈ lw_all := lw_g (lw_at lw_m6 220 rfl) rfl
theorem q1478 : (Jvm.Cond.code ({ cls := "KeyHallModel", name := "side", desc := "(II[III)I" } : Jvm.MethodName) prog_19_method_21_code (6 : Nat) (Option.some Jvm.ClassFile.FieldType.int)) ∈ lw_all := lw_g (lw_at lw_m6 221 rfl) rfl
theorem q1479 : (Jvm.Cond.methodLink "KeyHallModel" (147 : Nat) ({ cls := "KeyHallModel", name := "isTurned", desc := "(I)Z" } : Jvm.MethodName)) ∈ lw_all := lw_g (lw_at lw_m6 222 rfl) rfl
theorem q1480 : (Jvm.Cond.privateMethod ({ cls := "KeyHallModel", name := "isTurned", desc := "(I)Z" } : Jvm.MethodName)) ∈ lw_tbl := lw_at lw_m6 223 rfl
theorem q1481 : (Jvm.Cond.instanceMethod ({ cls := "KeyHallModel", name := "isTurned", desc := "(I)Z" } : Jvm.MethodName)) ∈ lw_all := lw_g (lw_at lw_m6 224 rfl) rfl
theorem q1482 : (Jvm.Cond.code ({ cls := "KeyHallModel", name := "isTurned", desc := "(I)Z" } : Jvm.MethodName) prog_19_method_10_code (4 : Nat) (Option.some Jvm.ClassFile.FieldType.boolean)) ∈ lw_all := lw_g (lw_at lw_m6 225 rfl) rfl
theorem q1483 : (Jvm.Cond.methodLink "KeyHallModel" (161 : Nat) ({ cls := "KeyHallModel", name := "tell", desc := "(II)I" } : Jvm.MethodName)) ∈ lw_all := lw_g (lw_at lw_m6 226 rfl) rfl
theorem q1484 : (Jvm.Cond.privateMethod ({ cls := "KeyHallModel", name := "tell", desc := "(II)I" } : Jvm.MethodName)) ∈ lw_tbl := lw_at lw_m6 227 rfl
theorem q1485 : (Jvm.Cond.instanceMethod ({ cls := "KeyHallModel", name := "tell", desc := "(II)I" } : Jvm.MethodName)) ∈ lw_all := lw_g (lw_at lw_m6 228 rfl) rfl
theorem q1486 : (Jvm.Cond.code ({ cls := "KeyHallModel", name := "tell", desc := "(II)I" } : Jvm.MethodName) prog_19_method_24_code (4 : Nat) (Option.some Jvm.ClassFile.FieldType.int)) ∈ lw_all := lw_g (lw_at lw_m6 229 rfl) rfl
theorem q1487 : (Jvm.Cond.methodLink "KeyHallModel" (165 : Nat) ({ cls := "KeyHallModel", name := "longest", desc := "(II)I" } : Jvm.MethodName)) ∈ lw_all := lw_g (lw_at lw_m6 230 rfl) rfl
theorem q1488 : (Jvm.Cond.privateMethod ({ cls := "KeyHallModel", name := "longest", desc := "(II)I" } : Jvm.MethodName)) ∈ lw_tbl := lw_at lw_m6 231 rfl
theorem q1489 : (Jvm.Cond.instanceMethod ({ cls := "KeyHallModel", name := "longest", desc := "(II)I" } : Jvm.MethodName)) ∈ lw_all := lw_g (lw_at lw_m6 232 rfl) rfl
theorem q1490 : (Jvm.Cond.code ({ cls := "KeyHallModel", name := "longest", desc := "(II)I" } : Jvm.MethodName) prog_19_method_23_code (8 : Nat) (Option.some Jvm.ClassFile.FieldType.int)) ∈ lw_all := lw_g (lw_at lw_m6 233 rfl) rfl
theorem q1492 : (Jvm.Cond.instanceMethod ({ cls := "KeyHallModel", name := "at", desc := "(II)I" } : Jvm.MethodName)) ∈ lw_all := lw_g (lw_at lw_m6 235 rfl) rfl
theorem q1493 : (Jvm.Cond.selects "KeyHallModel" ({ cls := "KeyHallModel", name := "at", desc := "(II)I" } : Jvm.MethodName) ({ cls := "KeyHallModel", name := "at", desc := "(II)I" } : Jvm.MethodName)) ∈ lw_all := lw_g (lw_at lw_m6 236 rfl) rfl
theorem q1494 : (Jvm.Cond.code ({ cls := "KeyHallModel", name := "at", desc := "(II)I" } : Jvm.MethodName) prog_19_method_26_code (5 : Nat) (Option.some Jvm.ClassFile.FieldType.int)) ∈ lw_all := lw_g (lw_at lw_m6 237 rfl) rfl
theorem q1495 : (Jvm.Cond.methodLink "KeyHallModel" (168 : Nat) ({ cls := "KeyHallModel", name := "size", desc := "(I)I" } : Jvm.MethodName)) ∈ lw_all := lw_g (lw_at lw_m6 238 rfl) rfl
theorem q1497 : (Jvm.Cond.instanceMethod ({ cls := "KeyHallModel", name := "poll", desc := "(IZ)I" } : Jvm.MethodName)) ∈ lw_all := lw_g (lw_at lw_m7 0 rfl) rfl
theorem q1498 : (Jvm.Cond.selects "KeyHallModel" ({ cls := "KeyHallModel", name := "poll", desc := "(IZ)I" } : Jvm.MethodName) ({ cls := "KeyHallModel", name := "poll", desc := "(IZ)I" } : Jvm.MethodName)) ∈ lw_all := lw_g (lw_at lw_m7 1 rfl) rfl
theorem q1499 : (Jvm.Cond.code ({ cls := "KeyHallModel", name := "poll", desc := "(IZ)I" } : Jvm.MethodName) prog_19_method_27_code (5 : Nat) (Option.some Jvm.ClassFile.FieldType.int)) ∈ lw_all := lw_g (lw_at lw_m7 2 rfl) rfl
theorem q1501 : (Jvm.Cond.instanceMethod ({ cls := "KeyHallModel", name := "found", desc := "(I)I" } : Jvm.MethodName)) ∈ lw_all := lw_g (lw_at lw_m7 4 rfl) rfl
theorem q1502 : (Jvm.Cond.selects "KeyHallModel" ({ cls := "KeyHallModel", name := "found", desc := "(I)I" } : Jvm.MethodName) ({ cls := "KeyHallModel", name := "found", desc := "(I)I" } : Jvm.MethodName)) ∈ lw_all := lw_g (lw_at lw_m7 5 rfl) rfl
theorem q1503 : (Jvm.Cond.code ({ cls := "KeyHallModel", name := "found", desc := "(I)I" } : Jvm.MethodName) prog_19_method_28_code (2 : Nat) (Option.some Jvm.ClassFile.FieldType.int)) ∈ lw_all := lw_g (lw_at lw_m7 6 rfl) rfl
theorem q1505 : (Jvm.Cond.instanceMethod ({ cls := "KeyHallModel", name := "iterate", desc := "(I)Z" } : Jvm.MethodName)) ∈ lw_all := lw_g (lw_at lw_m7 8 rfl) rfl
theorem q1506 : (Jvm.Cond.selects "KeyHallModel" ({ cls := "KeyHallModel", name := "iterate", desc := "(I)Z" } : Jvm.MethodName) ({ cls := "KeyHallModel", name := "iterate", desc := "(I)Z" } : Jvm.MethodName)) ∈ lw_all := lw_g (lw_at lw_m7 9 rfl) rfl
theorem q1507 : (Jvm.Cond.code ({ cls := "KeyHallModel", name := "iterate", desc := "(I)Z" } : Jvm.MethodName) prog_19_method_29_code (2 : Nat) (Option.some Jvm.ClassFile.FieldType.boolean)) ∈ lw_all := lw_g (lw_at lw_m7 10 rfl) rfl
theorem q1509 : (Jvm.Cond.instanceMethod ({ cls := "KeyHallModel", name := "next", desc := "(I)I" } : Jvm.MethodName)) ∈ lw_all := lw_g (lw_at lw_m7 12 rfl) rfl
theorem q1510 : (Jvm.Cond.selects "KeyHallModel" ({ cls := "KeyHallModel", name := "next", desc := "(I)I" } : Jvm.MethodName) ({ cls := "KeyHallModel", name := "next", desc := "(I)I" } : Jvm.MethodName)) ∈ lw_all := lw_g (lw_at lw_m7 13 rfl) rfl
theorem q1511 : (Jvm.Cond.code ({ cls := "KeyHallModel", name := "next", desc := "(I)I" } : Jvm.MethodName) prog_19_method_31_code (5 : Nat) (Option.some Jvm.ClassFile.FieldType.int)) ∈ lw_all := lw_g (lw_at lw_m7 14 rfl) rfl
theorem q1512 : (Jvm.Cond.methodLink "KeyHallModel" (171 : Nat) ({ cls := "KeyHallModel", name := "stale", desc := "(I)Z" } : Jvm.MethodName)) ∈ lw_all := lw_g (lw_at lw_m7 15 rfl) rfl
theorem q1513 : (Jvm.Cond.privateMethod ({ cls := "KeyHallModel", name := "stale", desc := "(I)Z" } : Jvm.MethodName)) ∈ lw_tbl := lw_at lw_m7 16 rfl
theorem q1514 : (Jvm.Cond.instanceMethod ({ cls := "KeyHallModel", name := "stale", desc := "(I)Z" } : Jvm.MethodName)) ∈ lw_all := lw_g (lw_at lw_m7 17 rfl) rfl
theorem q1515 : (Jvm.Cond.code ({ cls := "KeyHallModel", name := "stale", desc := "(I)Z" } : Jvm.MethodName) prog_19_method_30_code (2 : Nat) (Option.some Jvm.ClassFile.FieldType.boolean)) ∈ lw_all := lw_g (lw_at lw_m7 18 rfl) rfl
theorem q1517 : (Jvm.Cond.instanceMethod ({ cls := "KeyHallModel", name := "drop", desc := "(I)I" } : Jvm.MethodName)) ∈ lw_all := lw_g (lw_at lw_m7 20 rfl) rfl
theorem q1518 : (Jvm.Cond.selects "KeyHallModel" ({ cls := "KeyHallModel", name := "drop", desc := "(I)I" } : Jvm.MethodName) ({ cls := "KeyHallModel", name := "drop", desc := "(I)I" } : Jvm.MethodName)) ∈ lw_all := lw_g (lw_at lw_m7 21 rfl) rfl
theorem q1519 : (Jvm.Cond.code ({ cls := "KeyHallModel", name := "drop", desc := "(I)I" } : Jvm.MethodName) prog_19_method_32_code (5 : Nat) (Option.some Jvm.ClassFile.FieldType.int)) ∈ lw_all := lw_g (lw_at lw_m7 22 rfl) rfl
theorem q1521 : (Jvm.Cond.instanceMethod ({ cls := "KeyHallModel", name := "match", desc := "(II)I" } : Jvm.MethodName)) ∈ lw_all := lw_g (lw_at lw_m7 24 rfl) rfl
theorem q1522 : (Jvm.Cond.selects "KeyHallModel" ({ cls := "KeyHallModel", name := "match", desc := "(II)I" } : Jvm.MethodName) ({ cls := "KeyHallModel", name := "match", desc := "(II)I" } : Jvm.MethodName)) ∈ lw_all := lw_g (lw_at lw_m7 25 rfl) rfl
theorem q1523 : (Jvm.Cond.code ({ cls := "KeyHallModel", name := "match", desc := "(II)I" } : Jvm.MethodName) prog_19_method_33_code (9 : Nat) (Option.some Jvm.ClassFile.FieldType.int)) ∈ lw_all := lw_g (lw_at lw_m7 26 rfl) rfl
theorem q1525 : (Jvm.Cond.instanceMethod ({ cls := "KeyHallModel", name := "edges", desc := "(I)I" } : Jvm.MethodName)) ∈ lw_all := lw_g (lw_at lw_m7 28 rfl) rfl
theorem q1526 : (Jvm.Cond.selects "KeyHallModel" ({ cls := "KeyHallModel", name := "edges", desc := "(I)I" } : Jvm.MethodName) ({ cls := "KeyHallModel", name := "edges", desc := "(I)I" } : Jvm.MethodName)) ∈ lw_all := lw_g (lw_at lw_m7 29 rfl) rfl
theorem q1527 : (Jvm.Cond.code ({ cls := "KeyHallModel", name := "edges", desc := "(I)I" } : Jvm.MethodName) prog_19_method_40_code (4 : Nat) (Option.some Jvm.ClassFile.FieldType.int)) ∈ lw_all := lw_g (lw_at lw_m7 30 rfl) rfl
theorem q1528 : (Jvm.Cond.methodLink "KeyHallModel" (187 : Nat) ({ cls := "KeyHallModel", name := "inner", desc := "(I)I" } : Jvm.MethodName)) ∈ lw_all := lw_g (lw_at lw_m7 31 rfl) rfl
theorem q1529 : (Jvm.Cond.privateMethod ({ cls := "KeyHallModel", name := "inner", desc := "(I)I" } : Jvm.MethodName)) ∈ lw_tbl := lw_at lw_m7 32 rfl
theorem q1530 : (Jvm.Cond.instanceMethod ({ cls := "KeyHallModel", name := "inner", desc := "(I)I" } : Jvm.MethodName)) ∈ lw_all := lw_g (lw_at lw_m7 33 rfl) rfl
theorem q1531 : (Jvm.Cond.code ({ cls := "KeyHallModel", name := "inner", desc := "(I)I" } : Jvm.MethodName) prog_19_method_37_code (7 : Nat) (Option.some Jvm.ClassFile.FieldType.int)) ∈ lw_all := lw_g (lw_at lw_m7 34 rfl) rfl
theorem q1532 : (Jvm.Cond.methodLink "KeyHallModel" (181 : Nat) ({ cls := "KeyHallModel", name := "fan", desc := "(II)I" } : Jvm.MethodName)) ∈ lw_all := lw_g (lw_at lw_m7 35 rfl) rfl
theorem q1533 : (Jvm.Cond.privateMethod ({ cls := "KeyHallModel", name := "fan", desc := "(II)I" } : Jvm.MethodName)) ∈ lw_tbl := lw_at lw_m7 36 rfl
theorem q1534 : (Jvm.Cond.instanceMethod ({ cls := "KeyHallModel", name := "fan", desc := "(II)I" } : Jvm.MethodName)) ∈ lw_all := lw_g (lw_at lw_m7 37 rfl) rfl
theorem q1535 : (Jvm.Cond.code ({ cls := "KeyHallModel", name := "fan", desc := "(II)I" } : Jvm.MethodName) prog_19_method_36_code (8 : Nat) (Option.some Jvm.ClassFile.FieldType.int)) ∈ lw_all := lw_g (lw_at lw_m7 38 rfl) rfl
theorem q1536 : (Jvm.Cond.methodLink "KeyHallModel" (177 : Nat) ({ cls := "KeyHallModel", name := "sameBytes", desc := "(III)Z" } : Jvm.MethodName)) ∈ lw_all := lw_g (lw_at lw_m7 39 rfl) rfl
theorem q1537 : (Jvm.Cond.privateMethod ({ cls := "KeyHallModel", name := "sameBytes", desc := "(III)Z" } : Jvm.MethodName)) ∈ lw_tbl := lw_at lw_m7 40 rfl
theorem q1538 : (Jvm.Cond.instanceMethod ({ cls := "KeyHallModel", name := "sameBytes", desc := "(III)Z" } : Jvm.MethodName)) ∈ lw_all := lw_g (lw_at lw_m7 41 rfl) rfl
theorem q1539 : (Jvm.Cond.code ({ cls := "KeyHallModel", name := "sameBytes", desc := "(III)Z" } : Jvm.MethodName) prog_19_method_35_code (5 : Nat) (Option.some Jvm.ClassFile.FieldType.boolean)) ∈ lw_all := lw_g (lw_at lw_m7 42 rfl) rfl
theorem q1540 : (Jvm.Cond.methodLink "KeyHallModel" (174 : Nat) ({ cls := "KeyHallModel", name := "octet", desc := "(II)I" } : Jvm.MethodName)) ∈ lw_all := lw_g (lw_at lw_m7 43 rfl) rfl
theorem q1541 : (Jvm.Cond.privateMethod ({ cls := "KeyHallModel", name := "octet", desc := "(II)I" } : Jvm.MethodName)) ∈ lw_tbl := lw_at lw_m7 44 rfl
theorem q1542 : (Jvm.Cond.instanceMethod ({ cls := "KeyHallModel", name := "octet", desc := "(II)I" } : Jvm.MethodName)) ∈ lw_all := lw_g (lw_at lw_m7 45 rfl) rfl
theorem q1543 : (Jvm.Cond.code ({ cls := "KeyHallModel", name := "octet", desc := "(II)I" } : Jvm.MethodName) prog_19_method_34_code (3 : Nat) (Option.some Jvm.ClassFile.FieldType.int)) ∈ lw_all := lw_g (lw_at lw_m7 46 rfl) rfl
theorem q1544 : (Jvm.Cond.methodLink "KeyHallModel" (190 : Nat) ({ cls := "KeyHallModel", name := "depth", desc := "(I)I" } : Jvm.MethodName)) ∈ lw_all := lw_g (lw_at lw_m7 47 rfl) rfl
theorem q1545 : (Jvm.Cond.privateMethod ({ cls := "KeyHallModel", name := "depth", desc := "(I)I" } : Jvm.MethodName)) ∈ lw_tbl := lw_at lw_m7 48 rfl
theorem q1546 : (Jvm.Cond.instanceMethod ({ cls := "KeyHallModel", name := "depth", desc := "(I)I" } : Jvm.MethodName)) ∈ lw_all := lw_g (lw_at lw_m7 49 rfl) rfl
theorem q1547 : (Jvm.Cond.code ({ cls := "KeyHallModel", name := "depth", desc := "(I)I" } : Jvm.MethodName) prog_19_method_39_code (4 : Nat) (Option.some Jvm.ClassFile.FieldType.int)) ∈ lw_all := lw_g (lw_at lw_m7 50 rfl) rfl
theorem q1548 : (Jvm.Cond.methodLink "KeyHallModel" (184 : Nat) ({ cls := "KeyHallModel", name := "bit", desc := "(II)I" } : Jvm.MethodName)) ∈ lw_all := lw_g (lw_at lw_m7 51 rfl) rfl
theorem q1549 : (Jvm.Cond.privateMethod ({ cls := "KeyHallModel", name := "bit", desc := "(II)I" } : Jvm.MethodName)) ∈ lw_tbl := lw_at lw_m7 52 rfl
theorem q1550 : (Jvm.Cond.instanceMethod ({ cls := "KeyHallModel", name := "bit", desc := "(II)I" } : Jvm.MethodName)) ∈ lw_all := lw_g (lw_at lw_m7 53 rfl) rfl
theorem q1551 : (Jvm.Cond.code ({ cls := "KeyHallModel", name := "bit", desc := "(II)I" } : Jvm.MethodName) prog_19_method_38_code (4 : Nat) (Option.some Jvm.ClassFile.FieldType.int)) ∈ lw_all := lw_g (lw_at lw_m7 54 rfl) rfl
theorem q1553 : (Jvm.Cond.instanceMethod ({ cls := "KeyHallModel", name := "freeze", desc := "(I)I" } : Jvm.MethodName)) ∈ lw_all := lw_g (lw_at lw_m7 56 rfl) rfl
theorem q1554 : (Jvm.Cond.selects "KeyHallModel" ({ cls := "KeyHallModel", name := "freeze", desc := "(I)I" } : Jvm.MethodName) ({ cls := "KeyHallModel", name := "freeze", desc := "(I)I" } : Jvm.MethodName)) ∈ lw_all := lw_g (lw_at lw_m7 57 rfl) rfl
theorem q1555 : (Jvm.Cond.code ({ cls := "KeyHallModel", name := "freeze", desc := "(I)I" } : Jvm.MethodName) prog_19_method_42_code (5 : Nat) (Option.some Jvm.ClassFile.FieldType.int)) ∈ lw_all := lw_g (lw_at lw_m7 58 rfl) rfl
theorem q1556 : (Jvm.Cond.methodLink "KeyHallModel" (205 : Nat) ({ cls := "KeyHallModel", name := "prefixesOf", desc := "(II)V" } : Jvm.MethodName)) ∈ lw_all := lw_g (lw_at lw_m7 59 rfl) rfl
theorem q1557 : (Jvm.Cond.privateMethod ({ cls := "KeyHallModel", name := "prefixesOf", desc := "(II)V" } : Jvm.MethodName)) ∈ lw_tbl := lw_at lw_m7 60 rfl
theorem q1558 : (Jvm.Cond.instanceMethod ({ cls := "KeyHallModel", name := "prefixesOf", desc := "(II)V" } : Jvm.MethodName)) ∈ lw_all := lw_g (lw_at lw_m7 61 rfl) rfl
theorem q1559 : (Jvm.Cond.code ({ cls := "KeyHallModel", name := "prefixesOf", desc := "(II)V" } : Jvm.MethodName) prog_19_method_43_code (6 : Nat) (Option.none : Option Jvm.ClassFile.FieldType)) ∈ lw_all := lw_g (lw_at lw_m7 62 rfl) rfl
theorem q1560 : (Jvm.Cond.methodLink "KeyHallModel" (211 : Nat) ({ cls := "KeyHallModel", name := "samePrefix", desc := "(III)Z" } : Jvm.MethodName)) ∈ lw_all := lw_g (lw_at lw_m7 63 rfl) rfl
theorem q1561 : (Jvm.Cond.privateMethod ({ cls := "KeyHallModel", name := "samePrefix", desc := "(III)Z" } : Jvm.MethodName)) ∈ lw_tbl := lw_at lw_m7 64 rfl
theorem q1562 : (Jvm.Cond.instanceMethod ({ cls := "KeyHallModel", name := "samePrefix", desc := "(III)Z" } : Jvm.MethodName)) ∈ lw_all := lw_g (lw_at lw_m7 65 rfl) rfl
theorem q1563 : (Jvm.Cond.code ({ cls := "KeyHallModel", name := "samePrefix", desc := "(III)Z" } : Jvm.MethodName) prog_19_method_41_code (4 : Nat) (Option.some Jvm.ClassFile.FieldType.boolean)) ∈ lw_all := lw_g (lw_at lw_m7 66 rfl) rfl
theorem q1564 : (Jvm.Cond.methodLink "KeyHallModel" (208 : Nat) ({ cls := "KeyHallModel", name := "state", desc := "(II)V" } : Jvm.MethodName)) ∈ lw_all := lw_g (lw_at lw_m7 67 rfl) rfl
theorem q1565 : (Jvm.Cond.privateMethod ({ cls := "KeyHallModel", name := "state", desc := "(II)V" } : Jvm.MethodName)) ∈ lw_tbl := lw_at lw_m7 68 rfl
theorem q1566 : (Jvm.Cond.instanceMethod ({ cls := "KeyHallModel", name := "state", desc := "(II)V" } : Jvm.MethodName)) ∈ lw_all := lw_g (lw_at lw_m7 69 rfl) rfl
theorem q1567 : (Jvm.Cond.code ({ cls := "KeyHallModel", name := "state", desc := "(II)V" } : Jvm.MethodName) prog_19_method_46_code (7 : Nat) (Option.none : Option Jvm.ClassFile.FieldType)) ∈ lw_all := lw_g (lw_at lw_m7 70 rfl) rfl
theorem q1568 : (Jvm.Cond.methodLink "KeyHallModel" (214 : Nat) ({ cls := "KeyHallModel", name := "endsAt", desc := "(II)Z" } : Jvm.MethodName)) ∈ lw_all := lw_g (lw_at lw_m7 71 rfl) rfl
theorem q1569 : (Jvm.Cond.privateMethod ({ cls := "KeyHallModel", name := "endsAt", desc := "(II)Z" } : Jvm.MethodName)) ∈ lw_tbl := lw_at lw_m7 72 rfl
theorem q1570 : (Jvm.Cond.instanceMethod ({ cls := "KeyHallModel", name := "endsAt", desc := "(II)Z" } : Jvm.MethodName)) ∈ lw_all := lw_g (lw_at lw_m7 73 rfl) rfl
theorem q1571 : (Jvm.Cond.code ({ cls := "KeyHallModel", name := "endsAt", desc := "(II)Z" } : Jvm.MethodName) prog_19_method_45_code (5 : Nat) (Option.some Jvm.ClassFile.FieldType.boolean)) ∈ lw_all := lw_g (lw_at lw_m7 74 rfl) rfl
theorem q1572 : (Jvm.Cond.methodLink "KeyHallModel" (217 : Nat) ({ cls := "KeyHallModel", name := "follows", desc := "(II)Z" } : Jvm.MethodName)) ∈ lw_all := lw_g (lw_at lw_m7 75 rfl) rfl
theorem q1573 : (Jvm.Cond.privateMethod ({ cls := "KeyHallModel", name := "follows", desc := "(II)Z" } : Jvm.MethodName)) ∈ lw_tbl := lw_at lw_m7 76 rfl
theorem q1574 : (Jvm.Cond.instanceMethod ({ cls := "KeyHallModel", name := "follows", desc := "(II)Z" } : Jvm.MethodName)) ∈ lw_all := lw_g (lw_at lw_m7 77 rfl) rfl
theorem q1575 : (Jvm.Cond.code ({ cls := "KeyHallModel", name := "follows", desc := "(II)Z" } : Jvm.MethodName) prog_19_method_44_code (3 : Nat) (Option.some Jvm.ClassFile.FieldType.boolean)) ∈ lw_all := lw_g (lw_at lw_m7 78 rfl) rfl
theorem q1576 : (Jvm.Cond.methodLink "KeyHallModel" (220 : Nat) ({ cls := "KeyHallModel", name := "stepsOf", desc := "(I)I" } : Jvm.MethodName)) ∈ lw_all := lw_g (lw_at lw_m7 79 rfl) rfl
theorem q1577 : (Jvm.Cond.privateMethod ({ cls := "KeyHallModel", name := "stepsOf", desc := "(I)I" } : Jvm.MethodName)) ∈ lw_tbl := lw_at lw_m7 80 rfl
theorem q1578 : (Jvm.Cond.instanceMethod ({ cls := "KeyHallModel", name := "stepsOf", desc := "(I)I" } : Jvm.MethodName)) ∈ lw_all := lw_g (lw_at lw_m7 81 rfl) rfl
theorem q1579 : (Jvm.Cond.code ({ cls := "KeyHallModel", name := "stepsOf", desc := "(I)I" } : Jvm.MethodName) prog_19_method_47_code (4 : Nat) (Option.some Jvm.ClassFile.FieldType.int)) ∈ lw_all := lw_g (lw_at lw_m7 82 rfl) rfl
theorem q1580 : (Jvm.Cond.methodLink "KeyHallModel" (223 : Nat) ({ cls := "KeyHallModel", name := "alike", desc := "(II)Z" } : Jvm.MethodName)) ∈ lw_all := lw_g (lw_at lw_m7 83 rfl) rfl
theorem q1581 : (Jvm.Cond.privateMethod ({ cls := "KeyHallModel", name := "alike", desc := "(II)Z" } : Jvm.MethodName)) ∈ lw_tbl := lw_at lw_m7 84 rfl
theorem q1582 : (Jvm.Cond.instanceMethod ({ cls := "KeyHallModel", name := "alike", desc := "(II)Z" } : Jvm.MethodName)) ∈ lw_all := lw_g (lw_at lw_m7 85 rfl) rfl
theorem q1583 : (Jvm.Cond.code ({ cls := "KeyHallModel", name := "alike", desc := "(II)Z" } : Jvm.MethodName) prog_19_method_49_code (4 : Nat) (Option.some Jvm.ClassFile.FieldType.boolean)) ∈ lw_all := lw_g (lw_at lw_m7 86 rfl) rfl
theorem q1584 : (Jvm.Cond.methodLink "KeyHallModel" (226 : Nat) ({ cls := "KeyHallModel", name := "go", desc := "(II)I" } : Jvm.MethodName)) ∈ lw_all := lw_g (lw_at lw_m7 87 rfl) rfl
theorem q1585 : (Jvm.Cond.privateMethod ({ cls := "KeyHallModel", name := "go", desc := "(II)I" } : Jvm.MethodName)) ∈ lw_tbl := lw_at lw_m7 88 rfl
theorem q1586 : (Jvm.Cond.instanceMethod ({ cls := "KeyHallModel", name := "go", desc := "(II)I" } : Jvm.MethodName)) ∈ lw_all := lw_g (lw_at lw_m7 89 rfl) rfl
theorem q1587 : (Jvm.Cond.code ({ cls := "KeyHallModel", name := "go", desc := "(II)I" } : Jvm.MethodName) prog_19_method_48_code (4 : Nat) (Option.some Jvm.ClassFile.FieldType.int)) ∈ lw_all := lw_g (lw_at lw_m7 90 rfl) rfl
theorem q1589 : (Jvm.Cond.instanceMethod ({ cls := "KeyHallModel", name := "automaton", desc := "(I)I" } : Jvm.MethodName)) ∈ lw_all := lw_g (lw_at lw_m7 92 rfl) rfl
theorem q1590 : (Jvm.Cond.selects "KeyHallModel" ({ cls := "KeyHallModel", name := "automaton", desc := "(I)I" } : Jvm.MethodName) ({ cls := "KeyHallModel", name := "automaton", desc := "(I)I" } : Jvm.MethodName)) ∈ lw_all := lw_g (lw_at lw_m7 93 rfl) rfl
theorem q1591 : (Jvm.Cond.code ({ cls := "KeyHallModel", name := "automaton", desc := "(I)I" } : Jvm.MethodName) prog_19_method_50_code (5 : Nat) (Option.some Jvm.ClassFile.FieldType.int)) ∈ lw_all := lw_g (lw_at lw_m7 94 rfl) rfl
theorem q1593 : (Jvm.Cond.instanceMethod ({ cls := "KeyHallModel", name := "insert", desc := "(I)I" } : Jvm.MethodName)) ∈ lw_all := lw_g (lw_at lw_m7 96 rfl) rfl
theorem q1594 : (Jvm.Cond.selects "KeyHallModel" ({ cls := "KeyHallModel", name := "insert", desc := "(I)I" } : Jvm.MethodName) ({ cls := "KeyHallModel", name := "insert", desc := "(I)I" } : Jvm.MethodName)) ∈ lw_all := lw_g (lw_at lw_m7 97 rfl) rfl
theorem q1595 : (Jvm.Cond.code ({ cls := "KeyHallModel", name := "insert", desc := "(I)I" } : Jvm.MethodName) prog_19_method_52_code (4 : Nat) (Option.some Jvm.ClassFile.FieldType.int)) ∈ lw_all := lw_g (lw_at lw_m7 98 rfl) rfl
theorem q1596 : (Jvm.Cond.methodLink "KeyHallModel" (237 : Nat) ({ cls := "KeyHallModel", name := "keep", desc := "()V" } : Jvm.MethodName)) ∈ lw_all := lw_g (lw_at lw_m7 99 rfl) rfl
theorem q1597 : (Jvm.Cond.privateMethod ({ cls := "KeyHallModel", name := "keep", desc := "()V" } : Jvm.MethodName)) ∈ lw_tbl := lw_at lw_m7 100 rfl
theorem q1598 : (Jvm.Cond.instanceMethod ({ cls := "KeyHallModel", name := "keep", desc := "()V" } : Jvm.MethodName)) ∈ lw_all := lw_g (lw_at lw_m7 101 rfl) rfl
theorem q1599 : (Jvm.Cond.code ({ cls := "KeyHallModel", name := "keep", desc := "()V" } : Jvm.MethodName) prog_19_method_51_code (3 : Nat) (Option.none : Option Jvm.ClassFile.FieldType)) ∈ lw_all := lw_g (lw_at lw_m7 102 rfl) rfl
theorem q1601 : (Jvm.Cond.instanceMethod ({ cls := "KeyHallModel", name := "delete", desc := "(II)I" } : Jvm.MethodName)) ∈ lw_all := lw_g (lw_at lw_m7 104 rfl) rfl
theorem q1602 : (Jvm.Cond.selects "KeyHallModel" ({ cls := "KeyHallModel", name := "delete", desc := "(II)I" } : Jvm.MethodName) ({ cls := "KeyHallModel", name := "delete", desc := "(II)I" } : Jvm.MethodName)) ∈ lw_all := lw_g (lw_at lw_m7 105 rfl) rfl
theorem q1603 : (Jvm.Cond.code ({ cls := "KeyHallModel", name := "delete", desc := "(II)I" } : Jvm.MethodName) prog_19_method_53_code (4 : Nat) (Option.some Jvm.ClassFile.FieldType.int)) ∈ lw_all := lw_g (lw_at lw_m7 106 rfl) rfl
theorem q1605 : (Jvm.Cond.instanceMethod ({ cls := "KeyHallModel", name := "undo", desc := "()I" } : Jvm.MethodName)) ∈ lw_all := lw_g (lw_at lw_m7 108 rfl) rfl
theorem q1606 : (Jvm.Cond.selects "KeyHallModel" ({ cls := "KeyHallModel", name := "undo", desc := "()I" } : Jvm.MethodName) ({ cls := "KeyHallModel", name := "undo", desc := "()I" } : Jvm.MethodName)) ∈ lw_all := lw_g (lw_at lw_m7 109 rfl) rfl
theorem q1607 : (Jvm.Cond.code ({ cls := "KeyHallModel", name := "undo", desc := "()I" } : Jvm.MethodName) prog_19_method_54_code (3 : Nat) (Option.some Jvm.ClassFile.FieldType.int)) ∈ lw_all := lw_g (lw_at lw_m7 110 rfl) rfl
theorem q1609 : (Jvm.Cond.instanceMethod ({ cls := "KeyHallModel", name := "letter", desc := "(I)I" } : Jvm.MethodName)) ∈ lw_all := lw_g (lw_at lw_m7 112 rfl) rfl
theorem q1610 : (Jvm.Cond.selects "KeyHallModel" ({ cls := "KeyHallModel", name := "letter", desc := "(I)I" } : Jvm.MethodName) ({ cls := "KeyHallModel", name := "letter", desc := "(I)I" } : Jvm.MethodName)) ∈ lw_all := lw_g (lw_at lw_m7 113 rfl) rfl
theorem q1611 : (Jvm.Cond.code ({ cls := "KeyHallModel", name := "letter", desc := "(I)I" } : Jvm.MethodName) prog_19_method_55_code (4 : Nat) (Option.some Jvm.ClassFile.FieldType.int)) ∈ lw_all := lw_g (lw_at lw_m7 114 rfl) rfl
theorem q1613 : (Jvm.Cond.instanceMethod ({ cls := "KeyHallModel", name := "suffix", desc := "(II)I" } : Jvm.MethodName)) ∈ lw_all := lw_g (lw_at lw_m7 116 rfl) rfl
theorem q1614 : (Jvm.Cond.selects "KeyHallModel" ({ cls := "KeyHallModel", name := "suffix", desc := "(II)I" } : Jvm.MethodName) ({ cls := "KeyHallModel", name := "suffix", desc := "(II)I" } : Jvm.MethodName)) ∈ lw_all := lw_g (lw_at lw_m7 117 rfl) rfl
theorem q1615 : (Jvm.Cond.code ({ cls := "KeyHallModel", name := "suffix", desc := "(II)I" } : Jvm.MethodName) prog_19_method_57_code (6 : Nat) (Option.some Jvm.ClassFile.FieldType.int)) ∈ lw_all := lw_g (lw_at lw_m7 118 rfl) rfl
theorem q1616 : (Jvm.Cond.methodLink "KeyHallModel" (240 : Nat) ({ cls := "KeyHallModel", name := "begin", desc := "(I)I" } : Jvm.MethodName)) ∈ lw_all := lw_g (lw_at lw_m7 119 rfl) rfl
theorem q1617 : (Jvm.Cond.privateMethod ({ cls := "KeyHallModel", name := "begin", desc := "(I)I" } : Jvm.MethodName)) ∈ lw_tbl := lw_at lw_m7 120 rfl
theorem q1618 : (Jvm.Cond.instanceMethod ({ cls := "KeyHallModel", name := "begin", desc := "(I)I" } : Jvm.MethodName)) ∈ lw_all := lw_g (lw_at lw_m7 121 rfl) rfl
theorem q1619 : (Jvm.Cond.code ({ cls := "KeyHallModel", name := "begin", desc := "(I)I" } : Jvm.MethodName) prog_19_method_56_code (5 : Nat) (Option.some Jvm.ClassFile.FieldType.int)) ∈ lw_all := lw_g (lw_at lw_m7 122 rfl) rfl
theorem q1621 : (Jvm.Cond.instanceMethod ({ cls := "KeyHallModel", name := "locate", desc := "(I)I" } : Jvm.MethodName)) ∈ lw_all := lw_g (lw_at lw_m7 124 rfl) rfl
theorem q1622 : (Jvm.Cond.selects "KeyHallModel" ({ cls := "KeyHallModel", name := "locate", desc := "(I)I" } : Jvm.MethodName) ({ cls := "KeyHallModel", name := "locate", desc := "(I)I" } : Jvm.MethodName)) ∈ lw_all := lw_g (lw_at lw_m7 125 rfl) rfl
theorem q1623 : (Jvm.Cond.code ({ cls := "KeyHallModel", name := "locate", desc := "(I)I" } : Jvm.MethodName) prog_19_method_58_code (5 : Nat) (Option.some Jvm.ClassFile.FieldType.int)) ∈ lw_all := lw_g (lw_at lw_m7 126 rfl) rfl
theorem in_X13 : ∀ w ∈ wsX130, w ∈ lw_all := lw_in wsX130 [1317, 1319, 1321, 1323, 1325, 1327, 1329, 1331, 1333, 1335, 1337, 1339, 1341, 1343, 1345, 1347, 1349, 1351, 1353, 1355, 1357, 1359, 1361, 1363, 1365, 1367, 1369, 1371, 1373, 1375, 1377, 1379, 1381, 1383, 1385, 1387, 1389, 1391, 1393] (by decide +kernel) (by decide +kernel)
/-! java/lang/Throwable -/
def RJ0 : String := "java/lang/Throwable"
def TJ0 : u_T := fun k => match k with
  | 0 => ("java/lang/Throwable", "cause", "Ljava/lang/Throwable;", false)
  | 1 => ("java/lang/Throwable", "stackTrace", "[Ljava/lang/StackTraceElement;", false)
  | 2 => ("java/lang/Throwable", "suppressedExceptions", "Ljava/util/List;", false)
  | 3 => ("java/lang/Throwable", "detailMessage", "Ljava/lang/String;", false)
  | _ => ("java/lang/Throwable", "backtrace", "Ljava/lang/Object;", false)
def tyJ0 : Nat → FieldType := fun k => match k with
  | 0 => .object "java/lang/Throwable"
  | 1 => .array (.object "java/lang/StackTraceElement")
  | 2 => .object "java/util/List"
  | 3 => .object "java/lang/String"
  | _ => .object "java/lang/Object"
abbrev wsJ00 : List Cond := u_ws RJ0 TJ0 5
theorem nmJ0 : ∀ a, a < 5 → ∀ b, b < 5 → a ≠ b → (TJ0 a).2.1 ≠ (TJ0 b).2.1 := by decide +kernel
theorem tyJ0_ok : ∀ k, k < 5 → parseFieldDescriptor (TJ0 k).2.2.1 = some (tyJ0 k) := by decide +kernel
abbrev cJ0_init : ByteArray := prog_29_method_2_code
def yJ0_init : MethodName := ⟨RJ0, "<init>", "(Ljava/lang/String;)V"⟩
abbrev cJ0_init_2 : ByteArray := prog_29_method_1_code
def yJ0_init_2 : MethodName := ⟨RJ0, "<init>", "()V"⟩
theorem q71 : (Jvm.Cond.initialized "java/lang/Throwable") ∈ lw_all := lw_g (lw_at lw_m1 14 rfl) rfl
theorem q637 : (Jvm.Cond.instanceMethod ({ cls := "java/lang/Throwable", name := "<init>", desc := "(Ljava/lang/String;)V" } : Jvm.MethodName)) ∈ lw_all := lw_g (lw_at lw_m3 100 rfl) rfl
theorem q638 : (Jvm.Cond.code ({ cls := "java/lang/Throwable", name := "<init>", desc := "(Ljava/lang/String;)V" } : Jvm.MethodName) prog_29_method_2_code (2 : Nat) (Option.none : Option Jvm.ClassFile.FieldType)) ∈ lw_all := lw_g (lw_at lw_m3 101 rfl) rfl
theorem q639 : (Jvm.Cond.methodLink "java/lang/Throwable" (1 : Nat) ({ cls := "java/lang/Object", name := "<init>", desc := "()V" } : Jvm.MethodName)) ∈ lw_all := lw_g (lw_at lw_m3 102 rfl) rfl
theorem q640 : (Jvm.Cond.fieldLink "java/lang/Throwable" (13 : Nat) "java/lang/Throwable" "UNASSIGNED_STACK" "[Ljava/lang/StackTraceElement;") ∈ lw_all := lw_g (lw_at lw_m3 103 rfl) rfl
theorem q641 : (Jvm.Cond.laysStatic "java/lang/Throwable" "UNASSIGNED_STACK" "[Ljava/lang/StackTraceElement;") ∈ lw_tbl := lw_at lw_m3 104 rfl
theorem q642 : (Jvm.Cond.fieldLink "java/lang/Throwable" (20 : Nat) "java/lang/Throwable" "SUPPRESSED_SENTINEL" "Ljava/util/List;") ∈ lw_all := lw_g (lw_at lw_m3 105 rfl) rfl
theorem q643 : (Jvm.Cond.laysStatic "java/lang/Throwable" "SUPPRESSED_SENTINEL" "Ljava/util/List;") ∈ lw_tbl := lw_at lw_m3 106 rfl
theorem q644 : (Jvm.Cond.methodLink "java/lang/Throwable" (27 : Nat) ({ cls := "java/lang/Throwable", name := "fillInStackTrace", desc := "()Ljava/lang/Throwable;" } : Jvm.MethodName)) ∈ lw_all := lw_g (lw_at lw_m3 107 rfl) rfl
theorem q645 : (Jvm.Cond.instanceMethod ({ cls := "java/lang/Throwable", name := "fillInStackTrace", desc := "()Ljava/lang/Throwable;" } : Jvm.MethodName)) ∈ lw_all := lw_g (lw_at lw_m3 108 rfl) rfl
theorem q646 : (Jvm.Cond.sameMethod "java/lang/Throwable" "java/lang/Throwable" "fillInStackTrace" "()Ljava/lang/Throwable;") ∈ lw_all := lw_g (lw_at lw_m3 109 rfl) rfl
theorem q652 : (Jvm.Cond.codeSync ({ cls := "java/lang/Throwable", name := "fillInStackTrace", desc := "()Ljava/lang/Throwable;" } : Jvm.MethodName) prog_29_method_18_code (1 : Nat) (Option.some (Jvm.ClassFile.FieldType.object "java/lang/Throwable"))) ∈ lw_all := lw_g (lw_at lw_m3 115 rfl) rfl
theorem q653 : (Jvm.Cond.methodLink "java/lang/Throwable" (202 : Nat) ({ cls := "java/lang/Throwable", name := "fillInStackTrace", desc := "(I)Ljava/lang/Throwable;" } : Jvm.MethodName)) ∈ lw_all := lw_g (lw_at lw_m3 116 rfl) rfl
theorem q654 : (Jvm.Cond.privateMethod ({ cls := "java/lang/Throwable", name := "fillInStackTrace", desc := "(I)Ljava/lang/Throwable;" } : Jvm.MethodName)) ∈ lw_tbl := lw_at lw_m3 117 rfl
theorem q655 : (Jvm.Cond.instanceMethod ({ cls := "java/lang/Throwable", name := "fillInStackTrace", desc := "(I)Ljava/lang/Throwable;" } : Jvm.MethodName)) ∈ lw_all := lw_g (lw_at lw_m3 118 rfl) rfl
theorem q656 : (Jvm.Cond.instantiable "java/lang/Throwable" (6 : Nat)) ∈ lw_all := lw_g (lw_at lw_m3 119 rfl) rfl
theorem q657 : (Jvm.Cond.native ({ cls := "java/lang/Throwable", name := "fillInStackTrace", desc := "(I)Ljava/lang/Throwable;" } : Jvm.MethodName)) ∈ lw_all := lw_g (lw_at lw_m3 120 rfl) rfl
theorem q658 : (Jvm.Cond.fieldLink "java/lang/Throwable" (198 : Nat) "java/lang/Throwable" "backtrace" "Ljava/lang/Object;") ∈ lw_all := lw_g (lw_at lw_m3 121 rfl) rfl
theorem q659 : (Jvm.Cond.fieldLink "java/lang/Throwable" (31 : Nat) "java/lang/Throwable" "detailMessage" "Ljava/lang/String;") ∈ lw_all := lw_g (lw_at lw_m3 122 rfl) rfl
theorem q660 : (Jvm.Cond.fieldLink "java/lang/Throwable" (7 : Nat) "java/lang/Throwable" "cause" "Ljava/lang/Throwable;") ∈ lw_all := lw_g (lw_at lw_m3 123 rfl) rfl
theorem q661 : (Jvm.Cond.fieldLink "java/lang/Throwable" (17 : Nat) "java/lang/Throwable" "stackTrace" "[Ljava/lang/StackTraceElement;") ∈ lw_all := lw_g (lw_at lw_m3 124 rfl) rfl
theorem q662 : (Jvm.Cond.fieldLink "java/lang/Throwable" (24 : Nat) "java/lang/Throwable" "suppressedExceptions" "Ljava/util/List;") ∈ lw_all := lw_g (lw_at lw_m3 125 rfl) rfl
theorem q664 : (Jvm.Cond.soleField "java/lang/Throwable" "backtrace") ∈ lw_all := lw_g (lw_at lw_m3 127 rfl) rfl
theorem q666 : (Jvm.Cond.soleField "java/lang/Throwable" "detailMessage") ∈ lw_all := lw_g (lw_at lw_m3 129 rfl) rfl
theorem q668 : (Jvm.Cond.soleField "java/lang/Throwable" "cause") ∈ lw_all := lw_g (lw_at lw_m3 131 rfl) rfl
theorem q670 : (Jvm.Cond.soleField "java/lang/Throwable" "stackTrace") ∈ lw_all := lw_g (lw_at lw_m3 133 rfl) rfl
theorem q672 : (Jvm.Cond.soleField "java/lang/Throwable" "depth") ∈ lw_all := lw_g (lw_at lw_m3 135 rfl) rfl
theorem q674 : (Jvm.Cond.soleField "java/lang/Throwable" "suppressedExceptions") ∈ lw_all := lw_g (lw_at lw_m3 137 rfl) rfl
theorem q683 : (Jvm.Cond.declares ({ cls := "java/lang/Throwable", name := "<init>", desc := "()V" } : Jvm.MethodName)) ∈ lw_tbl := lw_at lw_m3 146 rfl
theorem q684 : (Jvm.Cond.declares ({ cls := "java/lang/Throwable", name := "<init>", desc := "(Ljava/lang/String;)V" } : Jvm.MethodName)) ∈ lw_tbl := lw_at lw_m3 147 rfl
theorem q686 : (Jvm.Cond.lays "java/lang/Throwable" "java/lang/Throwable" "cause" "Ljava/lang/Throwable;") ∈ lw_all := lw_g (lw_at lw_m3 149 rfl) rfl
theorem q687 : (Jvm.Cond.lays "java/lang/Throwable" "java/lang/Throwable" "stackTrace" "[Ljava/lang/StackTraceElement;") ∈ lw_all := lw_g (lw_at lw_m3 150 rfl) rfl
theorem q688 : (Jvm.Cond.lays "java/lang/Throwable" "java/lang/Throwable" "suppressedExceptions" "Ljava/util/List;") ∈ lw_all := lw_g (lw_at lw_m3 151 rfl) rfl
theorem q689 : (Jvm.Cond.lays "java/lang/Throwable" "java/lang/Throwable" "detailMessage" "Ljava/lang/String;") ∈ lw_all := lw_g (lw_at lw_m3 152 rfl) rfl
theorem q690 : (Jvm.Cond.lays "java/lang/Throwable" "java/lang/Throwable" "backtrace" "Ljava/lang/Object;") ∈ lw_all := lw_g (lw_at lw_m3 153 rfl) rfl
theorem q691 : (Jvm.Cond.fieldLink "java/lang/Throwable" (198 : Nat) "java/lang/Throwable" "backtrace" "Ljava/lang/Object;") ∈ lw_all := lw_g (lw_at lw_m3 154 rfl) rfl
theorem q692 : (Jvm.Cond.superclass "java/lang/Throwable" "java/lang/Object") ∈ lw_all := lw_g (lw_at lw_m3 155 rfl) rfl
theorem q693 : (Jvm.Cond.instanceMethod ({ cls := "java/lang/Throwable", name := "<init>", desc := "()V" } : Jvm.MethodName)) ∈ lw_all := lw_g (lw_at lw_m3 156 rfl) rfl
theorem q694 : (Jvm.Cond.code ({ cls := "java/lang/Throwable", name := "<init>", desc := "()V" } : Jvm.MethodName) prog_29_method_1_code (1 : Nat) (Option.none : Option Jvm.ClassFile.FieldType)) ∈ lw_all := lw_g (lw_at lw_m3 157 rfl) rfl
theorem q1626 : (Jvm.Cond.sameMethod "java/lang/Throwable" "java/lang/Throwable" "fillInStackTrace" "(I)Ljava/lang/Throwable;") ∈ lw_all := lw_g (lw_at lw_m7 129 rfl) rfl
theorem in_J0 : ∀ w ∈ wsJ00, w ∈ lw_all := lw_in wsJ00 [686, 687, 688, 689, 690] (by decide +kernel) (by decide +kernel)
/-! java/lang/Exception -/
def RJ1 : String := "java/lang/Exception"
abbrev cJ1_init : ByteArray := prog_21_method_2_code
def yJ1_init : MethodName := ⟨RJ1, "<init>", "(Ljava/lang/String;)V"⟩
theorem q72 : (Jvm.Cond.initialized "java/lang/Exception") ∈ lw_all := lw_g (lw_at lw_m1 15 rfl) rfl
theorem q634 : (Jvm.Cond.instanceMethod ({ cls := "java/lang/Exception", name := "<init>", desc := "(Ljava/lang/String;)V" } : Jvm.MethodName)) ∈ lw_all := lw_g (lw_at lw_m3 97 rfl) rfl
theorem q635 : (Jvm.Cond.code ({ cls := "java/lang/Exception", name := "<init>", desc := "(Ljava/lang/String;)V" } : Jvm.MethodName) prog_21_method_2_code (2 : Nat) (Option.none : Option Jvm.ClassFile.FieldType)) ∈ lw_all := lw_g (lw_at lw_m3 98 rfl) rfl
theorem q636 : (Jvm.Cond.methodLink "java/lang/Exception" (7 : Nat) ({ cls := "java/lang/Throwable", name := "<init>", desc := "(Ljava/lang/String;)V" } : Jvm.MethodName)) ∈ lw_all := lw_g (lw_at lw_m3 99 rfl) rfl
theorem q681 : (Jvm.Cond.declares ({ cls := "java/lang/Exception", name := "<init>", desc := "()V" } : Jvm.MethodName)) ∈ lw_tbl := lw_at lw_m3 144 rfl
theorem q682 : (Jvm.Cond.declares ({ cls := "java/lang/Exception", name := "<init>", desc := "(Ljava/lang/String;)V" } : Jvm.MethodName)) ∈ lw_tbl := lw_at lw_m3 145 rfl
/-! java/lang/RuntimeException -/
def RJ2 : String := "java/lang/RuntimeException"
abbrev cJ2_init : ByteArray := prog_27_method_2_code
def yJ2_init : MethodName := ⟨RJ2, "<init>", "(Ljava/lang/String;)V"⟩
theorem q73 : (Jvm.Cond.initialized "java/lang/RuntimeException") ∈ lw_all := lw_g (lw_at lw_m1 16 rfl) rfl
theorem q631 : (Jvm.Cond.instanceMethod ({ cls := "java/lang/RuntimeException", name := "<init>", desc := "(Ljava/lang/String;)V" } : Jvm.MethodName)) ∈ lw_all := lw_g (lw_at lw_m3 94 rfl) rfl
theorem q632 : (Jvm.Cond.code ({ cls := "java/lang/RuntimeException", name := "<init>", desc := "(Ljava/lang/String;)V" } : Jvm.MethodName) prog_27_method_2_code (2 : Nat) (Option.none : Option Jvm.ClassFile.FieldType)) ∈ lw_all := lw_g (lw_at lw_m3 95 rfl) rfl
theorem q633 : (Jvm.Cond.methodLink "java/lang/RuntimeException" (7 : Nat) ({ cls := "java/lang/Exception", name := "<init>", desc := "(Ljava/lang/String;)V" } : Jvm.MethodName)) ∈ lw_all := lw_g (lw_at lw_m3 96 rfl) rfl
theorem q679 : (Jvm.Cond.declares ({ cls := "java/lang/RuntimeException", name := "<init>", desc := "()V" } : Jvm.MethodName)) ∈ lw_tbl := lw_at lw_m3 142 rfl
theorem q680 : (Jvm.Cond.declares ({ cls := "java/lang/RuntimeException", name := "<init>", desc := "(Ljava/lang/String;)V" } : Jvm.MethodName)) ∈ lw_tbl := lw_at lw_m3 143 rfl
/-! java/lang/IndexOutOfBoundsException -/
def RJ3 : String := "java/lang/IndexOutOfBoundsException"
def TJ3 : u_T := fun k => match k with
  | 0 => ("java/lang/Throwable", "cause", "Ljava/lang/Throwable;", false)
  | 1 => ("java/lang/Throwable", "stackTrace", "[Ljava/lang/StackTraceElement;", false)
  | 2 => ("java/lang/Throwable", "suppressedExceptions", "Ljava/util/List;", false)
  | 3 => ("java/lang/Throwable", "detailMessage", "Ljava/lang/String;", false)
  | 4 => ("java/lang/Throwable", "backtrace", "Ljava/lang/Object;", false)
  | _ => ("java/lang/Throwable", "depth", "I", false)
def tyJ3 : Nat → FieldType := fun k => match k with
  | 0 => .object "java/lang/Throwable"
  | 1 => .array (.object "java/lang/StackTraceElement")
  | 2 => .object "java/util/List"
  | 3 => .object "java/lang/String"
  | 4 => .object "java/lang/Object"
  | _ => .int
abbrev wsJ30 : List Cond := u_ws RJ3 TJ3 6
theorem nmJ3 : ∀ a, a < 6 → ∀ b, b < 6 → a ≠ b → (TJ3 a).2.1 ≠ (TJ3 b).2.1 := by decide +kernel
theorem tyJ3_ok : ∀ k, k < 6 → parseFieldDescriptor (TJ3 k).2.2.1 = some (tyJ3 k) := by decide +kernel
abbrev cJ3_init : ByteArray := prog_24_method_2_code
def yJ3_init : MethodName := ⟨RJ3, "<init>", "(Ljava/lang/String;)V"⟩
theorem q74 : (Jvm.Cond.initialized "java/lang/IndexOutOfBoundsException") ∈ lw_all := lw_g (lw_at lw_m1 17 rfl) rfl
theorem q628 : (Jvm.Cond.instanceMethod ({ cls := "java/lang/IndexOutOfBoundsException", name := "<init>", desc := "(Ljava/lang/String;)V" } : Jvm.MethodName)) ∈ lw_all := lw_g (lw_at lw_m3 91 rfl) rfl
theorem q629 : (Jvm.Cond.code ({ cls := "java/lang/IndexOutOfBoundsException", name := "<init>", desc := "(Ljava/lang/String;)V" } : Jvm.MethodName) prog_24_method_2_code (2 : Nat) (Option.none : Option Jvm.ClassFile.FieldType)) ∈ lw_all := lw_g (lw_at lw_m3 92 rfl) rfl
theorem q630 : (Jvm.Cond.methodLink "java/lang/IndexOutOfBoundsException" (7 : Nat) ({ cls := "java/lang/RuntimeException", name := "<init>", desc := "(Ljava/lang/String;)V" } : Jvm.MethodName)) ∈ lw_all := lw_g (lw_at lw_m3 93 rfl) rfl
theorem q650 : (Jvm.Cond.selects "java/lang/IndexOutOfBoundsException" ({ cls := "java/lang/Throwable", name := "fillInStackTrace", desc := "()Ljava/lang/Throwable;" } : Jvm.MethodName) ({ cls := "java/lang/Throwable", name := "fillInStackTrace", desc := "()Ljava/lang/Throwable;" } : Jvm.MethodName)) ∈ lw_all := lw_g (lw_at lw_m3 113 rfl) rfl
theorem q677 : (Jvm.Cond.declares ({ cls := "java/lang/IndexOutOfBoundsException", name := "<init>", desc := "()V" } : Jvm.MethodName)) ∈ lw_tbl := lw_at lw_m3 140 rfl
theorem q678 : (Jvm.Cond.declares ({ cls := "java/lang/IndexOutOfBoundsException", name := "<init>", desc := "(Ljava/lang/String;)V" } : Jvm.MethodName)) ∈ lw_tbl := lw_at lw_m3 141 rfl
theorem q713 : (Jvm.Cond.instantiable "java/lang/IndexOutOfBoundsException" (6 : Nat)) ∈ lw_all := lw_g (lw_at lw_m3 176 rfl) rfl
theorem q714 : (Jvm.Cond.castable "java/lang/IndexOutOfBoundsException" "java/lang/IndexOutOfBoundsException") ∈ lw_tbl := lw_at lw_m3 177 rfl
theorem q715 : (Jvm.Cond.selects "java/lang/IndexOutOfBoundsException" ({ cls := "java/lang/Throwable", name := "fillInStackTrace", desc := "(I)Ljava/lang/Throwable;" } : Jvm.MethodName) ({ cls := "java/lang/Throwable", name := "fillInStackTrace", desc := "(I)Ljava/lang/Throwable;" } : Jvm.MethodName)) ∈ lw_all := lw_g (lw_at lw_m3 178 rfl) rfl
theorem q716 : (Jvm.Cond.lays "java/lang/IndexOutOfBoundsException" "java/lang/Throwable" "cause" "Ljava/lang/Throwable;") ∈ lw_all := lw_g (lw_at lw_m3 179 rfl) rfl
theorem q717 : (Jvm.Cond.lays "java/lang/IndexOutOfBoundsException" "java/lang/Throwable" "stackTrace" "[Ljava/lang/StackTraceElement;") ∈ lw_all := lw_g (lw_at lw_m3 180 rfl) rfl
theorem q718 : (Jvm.Cond.lays "java/lang/IndexOutOfBoundsException" "java/lang/Throwable" "suppressedExceptions" "Ljava/util/List;") ∈ lw_all := lw_g (lw_at lw_m3 181 rfl) rfl
theorem q719 : (Jvm.Cond.lays "java/lang/IndexOutOfBoundsException" "java/lang/Throwable" "detailMessage" "Ljava/lang/String;") ∈ lw_all := lw_g (lw_at lw_m3 182 rfl) rfl
theorem q720 : (Jvm.Cond.lays "java/lang/IndexOutOfBoundsException" "java/lang/Throwable" "backtrace" "Ljava/lang/Object;") ∈ lw_all := lw_g (lw_at lw_m3 183 rfl) rfl
theorem q723 : (Jvm.Cond.lays "java/lang/IndexOutOfBoundsException" "java/lang/Throwable" "depth" "I") ∈ lw_all := lw_g (lw_at lw_m3 186 rfl) rfl
theorem q724 : (Jvm.Cond.superclass "java/lang/IndexOutOfBoundsException" "java/lang/RuntimeException") ∈ lw_all := lw_g (lw_at lw_m3 187 rfl) rfl
theorem in_J3 : ∀ w ∈ wsJ30, w ∈ lw_all := lw_in wsJ30 [716, 717, 718, 719, 720, 723] (by decide +kernel) (by decide +kernel)
/-! java/lang/ArrayIndexOutOfBoundsException -/
def RJ4 : String := "java/lang/ArrayIndexOutOfBoundsException"
def TJ4 : u_T := fun k => match k with
  | 0 => ("java/lang/Throwable", "backtrace", "Ljava/lang/Object;", false)
  | 1 => ("java/lang/Throwable", "detailMessage", "Ljava/lang/String;", false)
  | 2 => ("java/lang/Throwable", "cause", "Ljava/lang/Throwable;", false)
  | 3 => ("java/lang/Throwable", "stackTrace", "[Ljava/lang/StackTraceElement;", false)
  | 4 => ("java/lang/Throwable", "depth", "I", false)
  | _ => ("java/lang/Throwable", "suppressedExceptions", "Ljava/util/List;", false)
def tyJ4 : Nat → FieldType := fun k => match k with
  | 0 => .object "java/lang/Object"
  | 1 => .object "java/lang/String"
  | 2 => .object "java/lang/Throwable"
  | 3 => .array (.object "java/lang/StackTraceElement")
  | 4 => .int
  | _ => .object "java/util/List"
abbrev wsJ40 : List Cond := u_ws RJ4 TJ4 6
theorem nmJ4 : ∀ a, a < 6 → ∀ b, b < 6 → a ≠ b → (TJ4 a).2.1 ≠ (TJ4 b).2.1 := by decide +kernel
theorem tyJ4_ok : ∀ k, k < 6 → parseFieldDescriptor (TJ4 k).2.2.1 = some (tyJ4 k) := by decide +kernel
abbrev cJ4_init : ByteArray := prog_20_method_2_code
def yJ4_init : MethodName := ⟨RJ4, "<init>", "(Ljava/lang/String;)V"⟩
theorem q75 : (Jvm.Cond.initialized "java/lang/ArrayIndexOutOfBoundsException") ∈ lw_all := lw_g (lw_at lw_m1 18 rfl) rfl
theorem q624 : (Jvm.Cond.instantiable "java/lang/ArrayIndexOutOfBoundsException" (6 : Nat)) ∈ lw_all := lw_g (lw_at lw_m3 87 rfl) rfl
theorem q625 : (Jvm.Cond.instanceMethod ({ cls := "java/lang/ArrayIndexOutOfBoundsException", name := "<init>", desc := "(Ljava/lang/String;)V" } : Jvm.MethodName)) ∈ lw_all := lw_g (lw_at lw_m3 88 rfl) rfl
theorem q626 : (Jvm.Cond.code ({ cls := "java/lang/ArrayIndexOutOfBoundsException", name := "<init>", desc := "(Ljava/lang/String;)V" } : Jvm.MethodName) prog_20_method_2_code (2 : Nat) (Option.none : Option Jvm.ClassFile.FieldType)) ∈ lw_all := lw_g (lw_at lw_m3 89 rfl) rfl
theorem q627 : (Jvm.Cond.methodLink "java/lang/ArrayIndexOutOfBoundsException" (7 : Nat) ({ cls := "java/lang/IndexOutOfBoundsException", name := "<init>", desc := "(Ljava/lang/String;)V" } : Jvm.MethodName)) ∈ lw_all := lw_g (lw_at lw_m3 90 rfl) rfl
theorem q647 : (Jvm.Cond.selects "java/lang/ArrayIndexOutOfBoundsException" ({ cls := "java/lang/Throwable", name := "fillInStackTrace", desc := "()Ljava/lang/Throwable;" } : Jvm.MethodName) ({ cls := "java/lang/Throwable", name := "fillInStackTrace", desc := "()Ljava/lang/Throwable;" } : Jvm.MethodName)) ∈ lw_all := lw_g (lw_at lw_m3 110 rfl) rfl
theorem q663 : (Jvm.Cond.lays "java/lang/ArrayIndexOutOfBoundsException" "java/lang/Throwable" "backtrace" "Ljava/lang/Object;") ∈ lw_all := lw_g (lw_at lw_m3 126 rfl) rfl
theorem q665 : (Jvm.Cond.lays "java/lang/ArrayIndexOutOfBoundsException" "java/lang/Throwable" "detailMessage" "Ljava/lang/String;") ∈ lw_all := lw_g (lw_at lw_m3 128 rfl) rfl
theorem q667 : (Jvm.Cond.lays "java/lang/ArrayIndexOutOfBoundsException" "java/lang/Throwable" "cause" "Ljava/lang/Throwable;") ∈ lw_all := lw_g (lw_at lw_m3 130 rfl) rfl
theorem q669 : (Jvm.Cond.lays "java/lang/ArrayIndexOutOfBoundsException" "java/lang/Throwable" "stackTrace" "[Ljava/lang/StackTraceElement;") ∈ lw_all := lw_g (lw_at lw_m3 132 rfl) rfl
theorem q671 : (Jvm.Cond.lays "java/lang/ArrayIndexOutOfBoundsException" "java/lang/Throwable" "depth" "I") ∈ lw_all := lw_g (lw_at lw_m3 134 rfl) rfl
theorem q673 : (Jvm.Cond.lays "java/lang/ArrayIndexOutOfBoundsException" "java/lang/Throwable" "suppressedExceptions" "Ljava/util/List;") ∈ lw_all := lw_g (lw_at lw_m3 136 rfl) rfl
theorem q675 : (Jvm.Cond.superclass "java/lang/ArrayIndexOutOfBoundsException" "java/lang/IndexOutOfBoundsException") ∈ lw_all := lw_g (lw_at lw_m3 138 rfl) rfl
theorem q676 : (Jvm.Cond.castable "java/lang/ArrayIndexOutOfBoundsException" "java/lang/ArrayIndexOutOfBoundsException") ∈ lw_tbl := lw_at lw_m3 139 rfl
theorem q685 : (Jvm.Cond.selects "java/lang/ArrayIndexOutOfBoundsException" ({ cls := "java/lang/Throwable", name := "fillInStackTrace", desc := "(I)Ljava/lang/Throwable;" } : Jvm.MethodName) ({ cls := "java/lang/Throwable", name := "fillInStackTrace", desc := "(I)Ljava/lang/Throwable;" } : Jvm.MethodName)) ∈ lw_all := lw_g (lw_at lw_m3 148 rfl) rfl
theorem q1629 : (Jvm.Cond.castable "java/lang/ArrayIndexOutOfBoundsException" "java/lang/IndexOutOfBoundsException") ∈ lw_tbl := lw_at lw_m7 132 rfl
theorem in_J4 : ∀ w ∈ wsJ40, w ∈ lw_all := lw_in wsJ40 [663, 665, 667, 669, 671, 673] (by decide +kernel) (by decide +kernel)
/-! java/lang/String -/
def RJ5 : String := "java/lang/String"
def TJ5 : u_T := fun k => match k with
  | 0 => ("java/lang/String", "value", "[B", true)
  | _ => ("java/lang/String", "coder", "B", true)
def tyJ5 : Nat → FieldType := fun k => match k with
  | 0 => .array .byte
  | _ => .byte
abbrev wsJ50 : List Cond := u_ws RJ5 TJ5 2
theorem nmJ5 : ∀ a, a < 2 → ∀ b, b < 2 → a ≠ b → (TJ5 a).2.1 ≠ (TJ5 b).2.1 := by decide +kernel
theorem tyJ5_ok : ∀ k, k < 2 → parseFieldDescriptor (TJ5 k).2.2.1 = some (tyJ5 k) := by decide +kernel
theorem q76 : (Jvm.Cond.initialized "java/lang/String") ∈ lw_all := lw_g (lw_at lw_m1 19 rfl) rfl
theorem q695 : (Jvm.Cond.instantiable "java/lang/String" (4 : Nat)) ∈ lw_all := lw_g (lw_at lw_m3 158 rfl) rfl
theorem q697 : (Jvm.Cond.laysFinal "java/lang/String" "java/lang/String" "value" "[B") ∈ lw_all := lw_g (lw_at lw_m3 160 rfl) rfl
theorem q698 : (Jvm.Cond.soleField "java/lang/String" "value") ∈ lw_all := lw_g (lw_at lw_m3 161 rfl) rfl
theorem q699 : (Jvm.Cond.laysFinal "java/lang/String" "java/lang/String" "coder" "B") ∈ lw_all := lw_g (lw_at lw_m3 162 rfl) rfl
theorem q700 : (Jvm.Cond.soleField "java/lang/String" "coder") ∈ lw_all := lw_g (lw_at lw_m3 163 rfl) rfl
theorem in_J5 : ∀ w ∈ wsJ50, w ∈ lw_all := lw_in wsJ50 [697, 699] (by decide +kernel) (by decide +kernel)
/-! java/lang/Math -/
def RJ6 : String := "java/lang/Math"
abbrev cJ6_min : ByteArray := prog_26_method_69_code
def yJ6_min : MethodName := ⟨RJ6, "min", "(II)I"⟩
abbrev cJ6_max : ByteArray := prog_26_method_65_code
def yJ6_max : MethodName := ⟨RJ6, "max", "(II)I"⟩
theorem q77 : (Jvm.Cond.initialized "java/lang/Math") ∈ lw_all := lw_g (lw_at lw_m1 20 rfl) rfl
theorem q401 : (Jvm.Cond.static ({ cls := "java/lang/Math", name := "min", desc := "(II)I" } : Jvm.MethodName)) ∈ lw_all := lw_g (lw_at lw_m2 104 rfl) rfl
theorem q402 : (Jvm.Cond.code ({ cls := "java/lang/Math", name := "min", desc := "(II)I" } : Jvm.MethodName) prog_26_method_69_code (2 : Nat) (Option.some Jvm.ClassFile.FieldType.int)) ∈ lw_all := lw_g (lw_at lw_m2 105 rfl) rfl
theorem q605 : (Jvm.Cond.static ({ cls := "java/lang/Math", name := "max", desc := "(II)I" } : Jvm.MethodName)) ∈ lw_all := lw_g (lw_at lw_m3 68 rfl) rfl
theorem q606 : (Jvm.Cond.code ({ cls := "java/lang/Math", name := "max", desc := "(II)I" } : Jvm.MethodName) prog_26_method_65_code (2 : Nat) (Option.some Jvm.ClassFile.FieldType.int)) ∈ lw_all := lw_g (lw_at lw_m3 69 rfl) rfl
/-! java/lang/Integer -/
def RJ7 : String := "java/lang/Integer"
abbrev cJ7_compare : ByteArray := prog_25_method_40_code
def yJ7_compare : MethodName := ⟨RJ7, "compare", "(II)I"⟩
theorem q78 : (Jvm.Cond.initialized "java/lang/Integer") ∈ lw_all := lw_g (lw_at lw_m1 21 rfl) rfl
theorem q404 : (Jvm.Cond.static ({ cls := "java/lang/Integer", name := "compare", desc := "(II)I" } : Jvm.MethodName)) ∈ lw_all := lw_g (lw_at lw_m2 107 rfl) rfl
theorem q405 : (Jvm.Cond.code ({ cls := "java/lang/Integer", name := "compare", desc := "(II)I" } : Jvm.MethodName) prog_25_method_40_code (2 : Nat) (Option.some Jvm.ClassFile.FieldType.int)) ∈ lw_all := lw_g (lw_at lw_m2 108 rfl) rfl
/-! java/lang/IllegalArgumentException -/
def RJ8 : String := "java/lang/IllegalArgumentException"
def TJ8 : u_T := fun k => match k with
  | 0 => ("java/lang/Throwable", "cause", "Ljava/lang/Throwable;", false)
  | 1 => ("java/lang/Throwable", "stackTrace", "[Ljava/lang/StackTraceElement;", false)
  | 2 => ("java/lang/Throwable", "suppressedExceptions", "Ljava/util/List;", false)
  | 3 => ("java/lang/Throwable", "detailMessage", "Ljava/lang/String;", false)
  | 4 => ("java/lang/Throwable", "backtrace", "Ljava/lang/Object;", false)
  | _ => ("java/lang/Throwable", "depth", "I", false)
def tyJ8 : Nat → FieldType := fun k => match k with
  | 0 => .object "java/lang/Throwable"
  | 1 => .array (.object "java/lang/StackTraceElement")
  | 2 => .object "java/util/List"
  | 3 => .object "java/lang/String"
  | 4 => .object "java/lang/Object"
  | _ => .int
abbrev wsJ80 : List Cond := u_ws RJ8 TJ8 6
theorem nmJ8 : ∀ a, a < 6 → ∀ b, b < 6 → a ≠ b → (TJ8 a).2.1 ≠ (TJ8 b).2.1 := by decide +kernel
theorem tyJ8_ok : ∀ k, k < 6 → parseFieldDescriptor (TJ8 k).2.2.1 = some (tyJ8 k) := by decide +kernel
abbrev cJ8_init : ByteArray := prog_22_method_2_code
def yJ8_init : MethodName := ⟨RJ8, "<init>", "(Ljava/lang/String;)V"⟩
theorem q79 : (Jvm.Cond.initialized "java/lang/IllegalArgumentException") ∈ lw_all := lw_g (lw_at lw_m1 22 rfl) rfl
theorem q648 : (Jvm.Cond.selects "java/lang/IllegalArgumentException" ({ cls := "java/lang/Throwable", name := "fillInStackTrace", desc := "()Ljava/lang/Throwable;" } : Jvm.MethodName) ({ cls := "java/lang/Throwable", name := "fillInStackTrace", desc := "()Ljava/lang/Throwable;" } : Jvm.MethodName)) ∈ lw_all := lw_g (lw_at lw_m3 111 rfl) rfl
theorem q763 : (Jvm.Cond.instantiable "java/lang/IllegalArgumentException" (6 : Nat)) ∈ lw_all := lw_g (lw_at lw_m3 226 rfl) rfl
theorem q764 : (Jvm.Cond.castable "java/lang/IllegalArgumentException" "java/lang/IllegalArgumentException") ∈ lw_tbl := lw_at lw_m3 227 rfl
theorem q765 : (Jvm.Cond.selects "java/lang/IllegalArgumentException" ({ cls := "java/lang/Throwable", name := "fillInStackTrace", desc := "(I)Ljava/lang/Throwable;" } : Jvm.MethodName) ({ cls := "java/lang/Throwable", name := "fillInStackTrace", desc := "(I)Ljava/lang/Throwable;" } : Jvm.MethodName)) ∈ lw_all := lw_g (lw_at lw_m3 228 rfl) rfl
theorem q766 : (Jvm.Cond.lays "java/lang/IllegalArgumentException" "java/lang/Throwable" "cause" "Ljava/lang/Throwable;") ∈ lw_all := lw_g (lw_at lw_m3 229 rfl) rfl
theorem q767 : (Jvm.Cond.lays "java/lang/IllegalArgumentException" "java/lang/Throwable" "stackTrace" "[Ljava/lang/StackTraceElement;") ∈ lw_all := lw_g (lw_at lw_m3 230 rfl) rfl
theorem q768 : (Jvm.Cond.lays "java/lang/IllegalArgumentException" "java/lang/Throwable" "suppressedExceptions" "Ljava/util/List;") ∈ lw_all := lw_g (lw_at lw_m3 231 rfl) rfl
theorem q769 : (Jvm.Cond.lays "java/lang/IllegalArgumentException" "java/lang/Throwable" "detailMessage" "Ljava/lang/String;") ∈ lw_all := lw_g (lw_at lw_m3 232 rfl) rfl
theorem q770 : (Jvm.Cond.lays "java/lang/IllegalArgumentException" "java/lang/Throwable" "backtrace" "Ljava/lang/Object;") ∈ lw_all := lw_g (lw_at lw_m3 233 rfl) rfl
theorem q773 : (Jvm.Cond.instanceMethod ({ cls := "java/lang/IllegalArgumentException", name := "<init>", desc := "(Ljava/lang/String;)V" } : Jvm.MethodName)) ∈ lw_all := lw_g (lw_at lw_m3 236 rfl) rfl
theorem q774 : (Jvm.Cond.code ({ cls := "java/lang/IllegalArgumentException", name := "<init>", desc := "(Ljava/lang/String;)V" } : Jvm.MethodName) prog_22_method_2_code (2 : Nat) (Option.none : Option Jvm.ClassFile.FieldType)) ∈ lw_all := lw_g (lw_at lw_m3 237 rfl) rfl
theorem q775 : (Jvm.Cond.methodLink "java/lang/IllegalArgumentException" (7 : Nat) ({ cls := "java/lang/RuntimeException", name := "<init>", desc := "(Ljava/lang/String;)V" } : Jvm.MethodName)) ∈ lw_all := lw_g (lw_at lw_m3 238 rfl) rfl
theorem q776 : (Jvm.Cond.lays "java/lang/IllegalArgumentException" "java/lang/Throwable" "depth" "I") ∈ lw_all := lw_g (lw_at lw_m3 239 rfl) rfl
theorem q777 : (Jvm.Cond.superclass "java/lang/IllegalArgumentException" "java/lang/RuntimeException") ∈ lw_all := lw_g (lw_at lw_m4 0 rfl) rfl
theorem in_J8 : ∀ w ∈ wsJ80, w ∈ lw_all := lw_in wsJ80 [766, 767, 768, 769, 770, 776] (by decide +kernel) (by decide +kernel)
/-! java/lang/IllegalStateException -/
def RJ9 : String := "java/lang/IllegalStateException"
def TJ9 : u_T := fun k => match k with
  | 0 => ("java/lang/Throwable", "cause", "Ljava/lang/Throwable;", false)
  | 1 => ("java/lang/Throwable", "stackTrace", "[Ljava/lang/StackTraceElement;", false)
  | 2 => ("java/lang/Throwable", "suppressedExceptions", "Ljava/util/List;", false)
  | 3 => ("java/lang/Throwable", "detailMessage", "Ljava/lang/String;", false)
  | 4 => ("java/lang/Throwable", "backtrace", "Ljava/lang/Object;", false)
  | _ => ("java/lang/Throwable", "depth", "I", false)
def tyJ9 : Nat → FieldType := fun k => match k with
  | 0 => .object "java/lang/Throwable"
  | 1 => .array (.object "java/lang/StackTraceElement")
  | 2 => .object "java/util/List"
  | 3 => .object "java/lang/String"
  | 4 => .object "java/lang/Object"
  | _ => .int
abbrev wsJ90 : List Cond := u_ws RJ9 TJ9 6
theorem nmJ9 : ∀ a, a < 6 → ∀ b, b < 6 → a ≠ b → (TJ9 a).2.1 ≠ (TJ9 b).2.1 := by decide +kernel
theorem tyJ9_ok : ∀ k, k < 6 → parseFieldDescriptor (TJ9 k).2.2.1 = some (tyJ9 k) := by decide +kernel
abbrev cJ9_init : ByteArray := prog_23_method_2_code
def yJ9_init : MethodName := ⟨RJ9, "<init>", "(Ljava/lang/String;)V"⟩
theorem q80 : (Jvm.Cond.initialized "java/lang/IllegalStateException") ∈ lw_all := lw_g (lw_at lw_m1 23 rfl) rfl
theorem q649 : (Jvm.Cond.selects "java/lang/IllegalStateException" ({ cls := "java/lang/Throwable", name := "fillInStackTrace", desc := "()Ljava/lang/Throwable;" } : Jvm.MethodName) ({ cls := "java/lang/Throwable", name := "fillInStackTrace", desc := "()Ljava/lang/Throwable;" } : Jvm.MethodName)) ∈ lw_all := lw_g (lw_at lw_m3 112 rfl) rfl
theorem q795 : (Jvm.Cond.instantiable "java/lang/IllegalStateException" (6 : Nat)) ∈ lw_all := lw_g (lw_at lw_m4 18 rfl) rfl
theorem q796 : (Jvm.Cond.castable "java/lang/IllegalStateException" "java/lang/IllegalStateException") ∈ lw_tbl := lw_at lw_m4 19 rfl
theorem q797 : (Jvm.Cond.selects "java/lang/IllegalStateException" ({ cls := "java/lang/Throwable", name := "fillInStackTrace", desc := "(I)Ljava/lang/Throwable;" } : Jvm.MethodName) ({ cls := "java/lang/Throwable", name := "fillInStackTrace", desc := "(I)Ljava/lang/Throwable;" } : Jvm.MethodName)) ∈ lw_all := lw_g (lw_at lw_m4 20 rfl) rfl
theorem q798 : (Jvm.Cond.lays "java/lang/IllegalStateException" "java/lang/Throwable" "cause" "Ljava/lang/Throwable;") ∈ lw_all := lw_g (lw_at lw_m4 21 rfl) rfl
theorem q799 : (Jvm.Cond.lays "java/lang/IllegalStateException" "java/lang/Throwable" "stackTrace" "[Ljava/lang/StackTraceElement;") ∈ lw_all := lw_g (lw_at lw_m4 22 rfl) rfl
theorem q800 : (Jvm.Cond.lays "java/lang/IllegalStateException" "java/lang/Throwable" "suppressedExceptions" "Ljava/util/List;") ∈ lw_all := lw_g (lw_at lw_m4 23 rfl) rfl
theorem q801 : (Jvm.Cond.lays "java/lang/IllegalStateException" "java/lang/Throwable" "detailMessage" "Ljava/lang/String;") ∈ lw_all := lw_g (lw_at lw_m4 24 rfl) rfl
theorem q802 : (Jvm.Cond.lays "java/lang/IllegalStateException" "java/lang/Throwable" "backtrace" "Ljava/lang/Object;") ∈ lw_all := lw_g (lw_at lw_m4 25 rfl) rfl
theorem q805 : (Jvm.Cond.instanceMethod ({ cls := "java/lang/IllegalStateException", name := "<init>", desc := "(Ljava/lang/String;)V" } : Jvm.MethodName)) ∈ lw_all := lw_g (lw_at lw_m4 28 rfl) rfl
theorem q806 : (Jvm.Cond.code ({ cls := "java/lang/IllegalStateException", name := "<init>", desc := "(Ljava/lang/String;)V" } : Jvm.MethodName) prog_23_method_2_code (2 : Nat) (Option.none : Option Jvm.ClassFile.FieldType)) ∈ lw_all := lw_g (lw_at lw_m4 29 rfl) rfl
theorem q807 : (Jvm.Cond.methodLink "java/lang/IllegalStateException" (7 : Nat) ({ cls := "java/lang/RuntimeException", name := "<init>", desc := "(Ljava/lang/String;)V" } : Jvm.MethodName)) ∈ lw_all := lw_g (lw_at lw_m4 30 rfl) rfl
theorem q808 : (Jvm.Cond.lays "java/lang/IllegalStateException" "java/lang/Throwable" "depth" "I") ∈ lw_all := lw_g (lw_at lw_m4 31 rfl) rfl
theorem q809 : (Jvm.Cond.superclass "java/lang/IllegalStateException" "java/lang/RuntimeException") ∈ lw_all := lw_g (lw_at lw_m4 32 rfl) rfl
theorem in_J9 : ∀ w ∈ wsJ90, w ∈ lw_all := lw_in wsJ90 [798, 799, 800, 801, 802, 808] (by decide +kernel) (by decide +kernel)
/-! KeyHall$Entry -/
def RX14 : String := "KeyHall$Entry"
def TX14 : u_T := fun k => match k with
  | 0 => ("KeyHall$Key", "c", "[C", true)
  | 1 => ("KeyHall$Key", "n", "I", false)
  | _ => ("KeyHall$Entry", "value", "I", false)
def tyX14 : Nat → FieldType := fun k => match k with
  | 0 => .array .char
  | 1 => .int
  | _ => .int
abbrev wsX140 : List Cond := u_ws RX14 TX14 3
theorem nmX14 : ∀ a, a < 3 → ∀ b, b < 3 → a ≠ b → (TX14 a).2.1 ≠ (TX14 b).2.1 := by decide +kernel
theorem tyX14_ok : ∀ k, k < 3 → parseFieldDescriptor (TX14 k).2.2.1 = some (tyX14 k) := by decide +kernel
abbrev cX14_init : ByteArray := prog_6_method_1_code
def yX14_init : MethodName := ⟨RX14, "<init>", "(LKeyHall$Key;I)V"⟩
theorem q81 : (Jvm.Cond.initialized "KeyHall$Entry") ∈ lw_all := lw_g (lw_at lw_m1 24 rfl) rfl
theorem q104 : (Jvm.Cond.sameField "KeyHall$Entry" "KeyHall$Key" "c" "[C") ∈ lw_all := lw_g (lw_at lw_m1 47 rfl) rfl
theorem q112 : (Jvm.Cond.sameField "KeyHall$Entry" "KeyHall$Key" "n" "I") ∈ lw_all := lw_g (lw_at lw_m1 55 rfl) rfl
theorem q398 : (Jvm.Cond.selects "KeyHall$Entry" ({ cls := "KeyHall$Key", name := "compareTo", desc := "(LKeyHall$Key;)I" } : Jvm.MethodName) ({ cls := "KeyHall$Key", name := "compareTo", desc := "(LKeyHall$Key;)I" } : Jvm.MethodName)) ∈ lw_all := lw_g (lw_at lw_m2 101 rfl) rfl
theorem q432 : (Jvm.Cond.selects "KeyHall$Entry" ({ cls := "KeyHall$Key", name := "bit", desc := "(I)I" } : Jvm.MethodName) ({ cls := "KeyHall$Key", name := "bit", desc := "(I)I" } : Jvm.MethodName)) ∈ lw_all := lw_g (lw_at lw_m2 135 rfl) rfl
theorem q436 : (Jvm.Cond.sameMethod "KeyHall$Entry" "KeyHall$Key" "compareTo" "(LKeyHall$Key;)I") ∈ lw_all := lw_g (lw_at lw_m2 139 rfl) rfl
theorem q438 : (Jvm.Cond.selects "KeyHall$Entry" ({ cls := "KeyHall$Entry", name := "compareTo", desc := "(LKeyHall$Key;)I" } : Jvm.MethodName) ({ cls := "KeyHall$Key", name := "compareTo", desc := "(LKeyHall$Key;)I" } : Jvm.MethodName)) ∈ lw_all := lw_g (lw_at lw_m2 141 rfl) rfl
theorem q445 : (Jvm.Cond.sameMethod "KeyHall$Entry" "KeyHall$Key" "difference" "(LKeyHall$Key;)I") ∈ lw_all := lw_g (lw_at lw_m2 148 rfl) rfl
theorem q447 : (Jvm.Cond.selects "KeyHall$Entry" ({ cls := "KeyHall$Entry", name := "difference", desc := "(LKeyHall$Key;)I" } : Jvm.MethodName) ({ cls := "KeyHall$Key", name := "difference", desc := "(LKeyHall$Key;)I" } : Jvm.MethodName)) ∈ lw_all := lw_g (lw_at lw_m2 150 rfl) rfl
theorem q494 : (Jvm.Cond.selects "KeyHall$Entry" ({ cls := "KeyHall$Key", name := "bytes", desc := "()I" } : Jvm.MethodName) ({ cls := "KeyHall$Key", name := "bytes", desc := "()I" } : Jvm.MethodName)) ∈ lw_all := lw_g (lw_at lw_m2 197 rfl) rfl
theorem q500 : (Jvm.Cond.selects "KeyHall$Entry" ({ cls := "KeyHall$Key", name := "octet", desc := "(I)I" } : Jvm.MethodName) ({ cls := "KeyHall$Key", name := "octet", desc := "(I)I" } : Jvm.MethodName)) ∈ lw_all := lw_g (lw_at lw_m2 203 rfl) rfl
theorem q547 : (Jvm.Cond.selects "KeyHall$Entry" ({ cls := "KeyHall$Key", name := "copy", desc := "(LKeyHall$Key;)LKeyHall$Key;" } : Jvm.MethodName) ({ cls := "KeyHall$Key", name := "copy", desc := "(LKeyHall$Key;)LKeyHall$Key;" } : Jvm.MethodName)) ∈ lw_all := lw_g (lw_at lw_m3 10 rfl) rfl
theorem q811 : (Jvm.Cond.instantiable "KeyHall$Entry" (3 : Nat)) ∈ lw_all := lw_g (lw_at lw_m4 34 rfl) rfl
theorem q813 : (Jvm.Cond.instanceMethod ({ cls := "KeyHall$Entry", name := "<init>", desc := "(LKeyHall$Key;I)V" } : Jvm.MethodName)) ∈ lw_all := lw_g (lw_at lw_m4 36 rfl) rfl
theorem q814 : (Jvm.Cond.code ({ cls := "KeyHall$Entry", name := "<init>", desc := "(LKeyHall$Key;I)V" } : Jvm.MethodName) prog_6_method_1_code (3 : Nat) (Option.none : Option Jvm.ClassFile.FieldType)) ∈ lw_all := lw_g (lw_at lw_m4 37 rfl) rfl
theorem q815 : (Jvm.Cond.methodLinkNest "KeyHall$Entry" (1 : Nat) ({ cls := "KeyHall$Key", name := "<init>", desc := "()V" } : Jvm.MethodName) "KeyHall") ∈ lw_tbl := lw_at lw_m4 38 rfl
theorem q816 : (Jvm.Cond.methodLink "KeyHall$Entry" (7 : Nat) ({ cls := "KeyHall$Entry", name := "copy", desc := "(LKeyHall$Key;)LKeyHall$Key;" } : Jvm.MethodName)) ∈ lw_all := lw_g (lw_at lw_m4 39 rfl) rfl
theorem q817 : (Jvm.Cond.sameMethod "KeyHall$Entry" "KeyHall$Key" "copy" "(LKeyHall$Key;)LKeyHall$Key;") ∈ lw_all := lw_g (lw_at lw_m4 40 rfl) rfl
theorem q819 : (Jvm.Cond.selects "KeyHall$Entry" ({ cls := "KeyHall$Entry", name := "copy", desc := "(LKeyHall$Key;)LKeyHall$Key;" } : Jvm.MethodName) ({ cls := "KeyHall$Key", name := "copy", desc := "(LKeyHall$Key;)LKeyHall$Key;" } : Jvm.MethodName)) ∈ lw_all := lw_g (lw_at lw_m4 42 rfl) rfl
theorem q820 : (Jvm.Cond.fieldLink "KeyHall$Entry" (13 : Nat) "KeyHall$Entry" "value" "I") ∈ lw_all := lw_g (lw_at lw_m4 43 rfl) rfl
theorem q822 : (Jvm.Cond.lays "KeyHall$Entry" "KeyHall$Entry" "value" "I") ∈ lw_all := lw_g (lw_at lw_m4 45 rfl) rfl
theorem q823 : (Jvm.Cond.soleField "KeyHall$Entry" "value") ∈ lw_all := lw_g (lw_at lw_m4 46 rfl) rfl
theorem q824 : (Jvm.Cond.laysFinal "KeyHall$Entry" "KeyHall$Key" "c" "[C") ∈ lw_all := lw_g (lw_at lw_m4 47 rfl) rfl
theorem q825 : (Jvm.Cond.lays "KeyHall$Entry" "KeyHall$Key" "n" "I") ∈ lw_all := lw_g (lw_at lw_m4 48 rfl) rfl
theorem q826 : (Jvm.Cond.superclass "KeyHall$Entry" "KeyHall$Key") ∈ lw_all := lw_g (lw_at lw_m4 49 rfl) rfl
theorem q864 : (Jvm.Cond.sameMethod "KeyHall$Entry" "KeyHall$Key" "bit" "(I)I") ∈ lw_all := lw_g (lw_at lw_m4 87 rfl) rfl
theorem q866 : (Jvm.Cond.selects "KeyHall$Entry" ({ cls := "KeyHall$Entry", name := "bit", desc := "(I)I" } : Jvm.MethodName) ({ cls := "KeyHall$Key", name := "bit", desc := "(I)I" } : Jvm.MethodName)) ∈ lw_all := lw_g (lw_at lw_m4 89 rfl) rfl
theorem q919 : (Jvm.Cond.sameMethod "KeyHall$Entry" "KeyHall$Key" "bytes" "()I") ∈ lw_all := lw_g (lw_at lw_m4 142 rfl) rfl
theorem q921 : (Jvm.Cond.selects "KeyHall$Entry" ({ cls := "KeyHall$Entry", name := "bytes", desc := "()I" } : Jvm.MethodName) ({ cls := "KeyHall$Key", name := "bytes", desc := "()I" } : Jvm.MethodName)) ∈ lw_all := lw_g (lw_at lw_m4 144 rfl) rfl
theorem q923 : (Jvm.Cond.sameMethod "KeyHall$Entry" "KeyHall$Key" "octet" "(I)I") ∈ lw_all := lw_g (lw_at lw_m4 146 rfl) rfl
theorem q925 : (Jvm.Cond.selects "KeyHall$Entry" ({ cls := "KeyHall$Entry", name := "octet", desc := "(I)I" } : Jvm.MethodName) ({ cls := "KeyHall$Key", name := "octet", desc := "(I)I" } : Jvm.MethodName)) ∈ lw_all := lw_g (lw_at lw_m4 148 rfl) rfl
theorem in_X14 : ∀ w ∈ wsX140, w ∈ lw_all := lw_in wsX140 [824, 825, 822] (by decide +kernel) (by decide +kernel)
/-! KeyHall$Fork -/
def RX15 : String := "KeyHall$Fork"
def TX15 : u_T := fun k => match k with
  | 0 => ("KeyHall$Fork", "bit", "I", false)
  | 1 => ("KeyHall$Fork", "zero", "LKeyHall$Fork;", false)
  | 2 => ("KeyHall$Fork", "one", "LKeyHall$Fork;", false)
  | _ => ("KeyHall$Fork", "entry", "LKeyHall$Entry;", false)
def tyX15 : Nat → FieldType := fun k => match k with
  | 0 => .int
  | 1 => .object "KeyHall$Fork"
  | 2 => .object "KeyHall$Fork"
  | _ => .object "KeyHall$Entry"
abbrev wsX150 : List Cond := u_ws RX15 TX15 4
theorem nmX15 : ∀ a, a < 4 → ∀ b, b < 4 → a ≠ b → (TX15 a).2.1 ≠ (TX15 b).2.1 := by decide +kernel
theorem tyX15_ok : ∀ k, k < 4 → parseFieldDescriptor (TX15 k).2.2.1 = some (tyX15 k) := by decide +kernel
abbrev cX15_end : ByteArray := prog_8_method_4_code
def yX15_end : MethodName := ⟨RX15, "end", "(I)LKeyHall$Entry;"⟩
abbrev cX15_to : ByteArray := prog_8_method_3_code
def yX15_to : MethodName := ⟨RX15, "to", "(I)LKeyHall$Fork;"⟩
abbrev cX15_init : ByteArray := prog_8_method_1_code
def yX15_init : MethodName := ⟨RX15, "<init>", "(LKeyHall$Entry;)V"⟩
abbrev cX15_init_2 : ByteArray := prog_8_method_2_code
def yX15_init_2 : MethodName := ⟨RX15, "<init>", "(ILKeyHall$Fork;LKeyHall$Fork;)V"⟩
theorem q82 : (Jvm.Cond.initialized "KeyHall$Fork") ∈ lw_all := lw_g (lw_at lw_m1 25 rfl) rfl
theorem q417 : (Jvm.Cond.instanceMethod ({ cls := "KeyHall$Fork", name := "end", desc := "(I)LKeyHall$Entry;" } : Jvm.MethodName)) ∈ lw_all := lw_g (lw_at lw_m2 120 rfl) rfl
theorem q418 : (Jvm.Cond.selects "KeyHall$Fork" ({ cls := "KeyHall$Fork", name := "end", desc := "(I)LKeyHall$Entry;" } : Jvm.MethodName) ({ cls := "KeyHall$Fork", name := "end", desc := "(I)LKeyHall$Entry;" } : Jvm.MethodName)) ∈ lw_all := lw_g (lw_at lw_m2 121 rfl) rfl
theorem q419 : (Jvm.Cond.code ({ cls := "KeyHall$Fork", name := "end", desc := "(I)LKeyHall$Entry;" } : Jvm.MethodName) prog_8_method_4_code (3 : Nat) (Option.some (Jvm.ClassFile.FieldType.object "KeyHall$Entry"))) ∈ lw_all := lw_g (lw_at lw_m2 122 rfl) rfl
theorem q420 : (Jvm.Cond.methodLink "KeyHall$Fork" (24 : Nat) ({ cls := "KeyHall$Fork", name := "to", desc := "(I)LKeyHall$Fork;" } : Jvm.MethodName)) ∈ lw_all := lw_g (lw_at lw_m2 123 rfl) rfl
theorem q421 : (Jvm.Cond.instanceMethod ({ cls := "KeyHall$Fork", name := "to", desc := "(I)LKeyHall$Fork;" } : Jvm.MethodName)) ∈ lw_all := lw_g (lw_at lw_m2 124 rfl) rfl
theorem q422 : (Jvm.Cond.selects "KeyHall$Fork" ({ cls := "KeyHall$Fork", name := "to", desc := "(I)LKeyHall$Fork;" } : Jvm.MethodName) ({ cls := "KeyHall$Fork", name := "to", desc := "(I)LKeyHall$Fork;" } : Jvm.MethodName)) ∈ lw_all := lw_g (lw_at lw_m2 125 rfl) rfl
theorem q423 : (Jvm.Cond.code ({ cls := "KeyHall$Fork", name := "to", desc := "(I)LKeyHall$Fork;" } : Jvm.MethodName) prog_8_method_3_code (2 : Nat) (Option.some (Jvm.ClassFile.FieldType.object "KeyHall$Fork"))) ∈ lw_all := lw_g (lw_at lw_m2 126 rfl) rfl
theorem q841 : (Jvm.Cond.instantiable "KeyHall$Fork" (4 : Nat)) ∈ lw_all := lw_g (lw_at lw_m4 64 rfl) rfl
theorem q843 : (Jvm.Cond.instanceMethod ({ cls := "KeyHall$Fork", name := "<init>", desc := "(LKeyHall$Entry;)V" } : Jvm.MethodName)) ∈ lw_all := lw_g (lw_at lw_m4 66 rfl) rfl
theorem q844 : (Jvm.Cond.code ({ cls := "KeyHall$Fork", name := "<init>", desc := "(LKeyHall$Entry;)V" } : Jvm.MethodName) prog_8_method_1_code (2 : Nat) (Option.none : Option Jvm.ClassFile.FieldType)) ∈ lw_all := lw_g (lw_at lw_m4 67 rfl) rfl
theorem q845 : (Jvm.Cond.methodLink "KeyHall$Fork" (1 : Nat) ({ cls := "java/lang/Object", name := "<init>", desc := "()V" } : Jvm.MethodName)) ∈ lw_all := lw_g (lw_at lw_m4 68 rfl) rfl
theorem q846 : (Jvm.Cond.fieldLink "KeyHall$Fork" (13 : Nat) "KeyHall$Fork" "bit" "I") ∈ lw_all := lw_g (lw_at lw_m4 69 rfl) rfl
theorem q848 : (Jvm.Cond.fieldLink "KeyHall$Fork" (17 : Nat) "KeyHall$Fork" "zero" "LKeyHall$Fork;") ∈ lw_all := lw_g (lw_at lw_m4 71 rfl) rfl
theorem q850 : (Jvm.Cond.fieldLink "KeyHall$Fork" (21 : Nat) "KeyHall$Fork" "one" "LKeyHall$Fork;") ∈ lw_all := lw_g (lw_at lw_m4 73 rfl) rfl
theorem q852 : (Jvm.Cond.fieldLink "KeyHall$Fork" (7 : Nat) "KeyHall$Fork" "entry" "LKeyHall$Entry;") ∈ lw_all := lw_g (lw_at lw_m4 75 rfl) rfl
theorem q854 : (Jvm.Cond.lays "KeyHall$Fork" "KeyHall$Fork" "bit" "I") ∈ lw_all := lw_g (lw_at lw_m4 77 rfl) rfl
theorem q855 : (Jvm.Cond.soleField "KeyHall$Fork" "bit") ∈ lw_all := lw_g (lw_at lw_m4 78 rfl) rfl
theorem q856 : (Jvm.Cond.lays "KeyHall$Fork" "KeyHall$Fork" "zero" "LKeyHall$Fork;") ∈ lw_all := lw_g (lw_at lw_m4 79 rfl) rfl
theorem q857 : (Jvm.Cond.soleField "KeyHall$Fork" "zero") ∈ lw_all := lw_g (lw_at lw_m4 80 rfl) rfl
theorem q858 : (Jvm.Cond.lays "KeyHall$Fork" "KeyHall$Fork" "one" "LKeyHall$Fork;") ∈ lw_all := lw_g (lw_at lw_m4 81 rfl) rfl
theorem q859 : (Jvm.Cond.soleField "KeyHall$Fork" "one") ∈ lw_all := lw_g (lw_at lw_m4 82 rfl) rfl
theorem q860 : (Jvm.Cond.lays "KeyHall$Fork" "KeyHall$Fork" "entry" "LKeyHall$Entry;") ∈ lw_all := lw_g (lw_at lw_m4 83 rfl) rfl
theorem q861 : (Jvm.Cond.soleField "KeyHall$Fork" "entry") ∈ lw_all := lw_g (lw_at lw_m4 84 rfl) rfl
theorem q862 : (Jvm.Cond.superclass "KeyHall$Fork" "java/lang/Object") ∈ lw_all := lw_g (lw_at lw_m4 85 rfl) rfl
theorem q868 : (Jvm.Cond.instanceMethod ({ cls := "KeyHall$Fork", name := "<init>", desc := "(ILKeyHall$Fork;LKeyHall$Fork;)V" } : Jvm.MethodName)) ∈ lw_all := lw_g (lw_at lw_m4 91 rfl) rfl
theorem q869 : (Jvm.Cond.code ({ cls := "KeyHall$Fork", name := "<init>", desc := "(ILKeyHall$Fork;LKeyHall$Fork;)V" } : Jvm.MethodName) prog_8_method_2_code (4 : Nat) (Option.none : Option Jvm.ClassFile.FieldType)) ∈ lw_all := lw_g (lw_at lw_m4 92 rfl) rfl
theorem in_X15 : ∀ w ∈ wsX150, w ∈ lw_all := lw_in wsX150 [854, 856, 858, 860] (by decide +kernel) (by decide +kernel)
/-! KeyHall$ListFan -/
def RX16 : String := "KeyHall$ListFan"
def TX16 : u_T := fun k => match k with
  | 0 => ("KeyHall$Fan", "size", "I", false)
  | 1 => ("KeyHall$ListFan", "places", "[B", true)
  | _ => ("KeyHall$ListFan", "twigs", "[LKeyHall$Twig;", false)
def tyX16 : Nat → FieldType := fun k => match k with
  | 0 => .int
  | 1 => .array .byte
  | _ => .array (.object "KeyHall$Twig")
abbrev wsX160 : List Cond := u_ws RX16 TX16 3
theorem nmX16 : ∀ a, a < 3 → ∀ b, b < 3 → a ≠ b → (TX16 a).2.1 ≠ (TX16 b).2.1 := by decide +kernel
theorem tyX16_ok : ∀ k, k < 3 → parseFieldDescriptor (TX16 k).2.2.1 = some (tyX16 k) := by decide +kernel
abbrev cX16_from : ByteArray := prog_10_method_8_code
def yX16_from : MethodName := ⟨RX16, "from", "(I)I"⟩
abbrev cX16_get : ByteArray := prog_10_method_3_code
def yX16_get : MethodName := ⟨RX16, "get", "(I)LKeyHall$Twig;"⟩
abbrev cX16_isWide : ByteArray := prog_10_method_2_code
def yX16_isWide : MethodName := ⟨RX16, "isWide", "()Z"⟩
abbrev cX16_init : ByteArray := prog_10_method_1_code
def yX16_init : MethodName := ⟨RX16, "<init>", "()V"⟩
abbrev cX16_put : ByteArray := prog_10_method_4_code
def yX16_put : MethodName := ⟨RX16, "put", "(ILKeyHall$Twig;)LKeyHall$Fan;"⟩
abbrev cX16_widen : ByteArray := prog_10_method_5_code
def yX16_widen : MethodName := ⟨RX16, "widen", "()V"⟩
abbrev cX16_take : ByteArray := prog_10_method_7_code
def yX16_take : MethodName := ⟨RX16, "take", "(I)LKeyHall$Fan;"⟩
abbrev cX16_narrow : ByteArray := prog_10_method_6_code
def yX16_narrow : MethodName := ⟨RX16, "narrow", "()V"⟩
abbrev cX16_upTo : ByteArray := prog_10_method_9_code
def yX16_upTo : MethodName := ⟨RX16, "upTo", "(I)I"⟩
theorem q83 : (Jvm.Cond.initialized "KeyHall$ListFan") ∈ lw_all := lw_g (lw_at lw_m1 26 rfl) rfl
theorem q177 : (Jvm.Cond.fieldLink "KeyHall$ListFan" (25 : Nat) "KeyHall$ListFan" "size" "I") ∈ lw_all := lw_g (lw_at lw_m1 120 rfl) rfl
theorem q178 : (Jvm.Cond.sameField "KeyHall$ListFan" "KeyHall$Fan" "size" "I") ∈ lw_all := lw_g (lw_at lw_m1 121 rfl) rfl
theorem q461 : (Jvm.Cond.selects "KeyHall$ListFan" ({ cls := "KeyHall$Fan", name := "from", desc := "(I)I" } : Jvm.MethodName) ({ cls := "KeyHall$ListFan", name := "from", desc := "(I)I" } : Jvm.MethodName)) ∈ lw_all := lw_g (lw_at lw_m2 164 rfl) rfl
theorem q462 : (Jvm.Cond.instanceMethod ({ cls := "KeyHall$ListFan", name := "from", desc := "(I)I" } : Jvm.MethodName)) ∈ lw_all := lw_g (lw_at lw_m2 165 rfl) rfl
theorem q463 : (Jvm.Cond.code ({ cls := "KeyHall$ListFan", name := "from", desc := "(I)I" } : Jvm.MethodName) prog_10_method_8_code (3 : Nat) (Option.some Jvm.ClassFile.FieldType.int)) ∈ lw_all := lw_g (lw_at lw_m2 166 rfl) rfl
theorem q464 : (Jvm.Cond.methodLink "KeyHall$ListFan" (32 : Nat) ({ cls := "KeyHall$ListFan", name := "get", desc := "(I)LKeyHall$Twig;" } : Jvm.MethodName)) ∈ lw_all := lw_g (lw_at lw_m2 167 rfl) rfl
theorem q465 : (Jvm.Cond.instanceMethod ({ cls := "KeyHall$ListFan", name := "get", desc := "(I)LKeyHall$Twig;" } : Jvm.MethodName)) ∈ lw_all := lw_g (lw_at lw_m2 168 rfl) rfl
theorem q466 : (Jvm.Cond.selects "KeyHall$ListFan" ({ cls := "KeyHall$ListFan", name := "get", desc := "(I)LKeyHall$Twig;" } : Jvm.MethodName) ({ cls := "KeyHall$ListFan", name := "get", desc := "(I)LKeyHall$Twig;" } : Jvm.MethodName)) ∈ lw_all := lw_g (lw_at lw_m2 169 rfl) rfl
theorem q467 : (Jvm.Cond.code ({ cls := "KeyHall$ListFan", name := "get", desc := "(I)LKeyHall$Twig;" } : Jvm.MethodName) prog_10_method_3_code (2 : Nat) (Option.some (Jvm.ClassFile.FieldType.object "KeyHall$Twig"))) ∈ lw_all := lw_g (lw_at lw_m2 170 rfl) rfl
theorem q468 : (Jvm.Cond.methodLink "KeyHall$ListFan" (21 : Nat) ({ cls := "KeyHall$ListFan", name := "isWide", desc := "()Z" } : Jvm.MethodName)) ∈ lw_all := lw_g (lw_at lw_m2 171 rfl) rfl
theorem q469 : (Jvm.Cond.privateMethod ({ cls := "KeyHall$ListFan", name := "isWide", desc := "()Z" } : Jvm.MethodName)) ∈ lw_tbl := lw_at lw_m2 172 rfl
theorem q470 : (Jvm.Cond.instanceMethod ({ cls := "KeyHall$ListFan", name := "isWide", desc := "()Z" } : Jvm.MethodName)) ∈ lw_all := lw_g (lw_at lw_m2 173 rfl) rfl
theorem q471 : (Jvm.Cond.instantiable "KeyHall$ListFan" (3 : Nat)) ∈ lw_all := lw_g (lw_at lw_m2 174 rfl) rfl
theorem q472 : (Jvm.Cond.code ({ cls := "KeyHall$ListFan", name := "isWide", desc := "()Z" } : Jvm.MethodName) prog_10_method_2_code (1 : Nat) (Option.some Jvm.ClassFile.FieldType.boolean)) ∈ lw_all := lw_g (lw_at lw_m2 175 rfl) rfl
theorem q479 : (Jvm.Cond.selects "KeyHall$ListFan" ({ cls := "KeyHall$Fan", name := "get", desc := "(I)LKeyHall$Twig;" } : Jvm.MethodName) ({ cls := "KeyHall$ListFan", name := "get", desc := "(I)LKeyHall$Twig;" } : Jvm.MethodName)) ∈ lw_all := lw_g (lw_at lw_m2 182 rfl) rfl
theorem q891 : (Jvm.Cond.instanceMethod ({ cls := "KeyHall$ListFan", name := "<init>", desc := "()V" } : Jvm.MethodName)) ∈ lw_all := lw_g (lw_at lw_m4 114 rfl) rfl
theorem q892 : (Jvm.Cond.code ({ cls := "KeyHall$ListFan", name := "<init>", desc := "()V" } : Jvm.MethodName) prog_10_method_1_code (1 : Nat) (Option.none : Option Jvm.ClassFile.FieldType)) ∈ lw_all := lw_g (lw_at lw_m4 115 rfl) rfl
theorem q893 : (Jvm.Cond.methodLinkNest "KeyHall$ListFan" (3 : Nat) ({ cls := "KeyHall$Fan", name := "<init>", desc := "()V" } : Jvm.MethodName) "KeyHall") ∈ lw_tbl := lw_at lw_m4 116 rfl
theorem q894 : (Jvm.Cond.classLink "KeyHall$ListFan" (15 : Nat) "KeyHall$Twig") ∈ lw_all := lw_g (lw_at lw_m4 117 rfl) rfl
theorem q895 : (Jvm.Cond.fieldLink "KeyHall$ListFan" (11 : Nat) "KeyHall$ListFan" "places" "[B") ∈ lw_all := lw_g (lw_at lw_m4 118 rfl) rfl
theorem q896 : (Jvm.Cond.fieldLink "KeyHall$ListFan" (17 : Nat) "KeyHall$ListFan" "twigs" "[LKeyHall$Twig;") ∈ lw_all := lw_g (lw_at lw_m4 119 rfl) rfl
theorem q897 : (Jvm.Cond.laysFinal "KeyHall$ListFan" "KeyHall$ListFan" "places" "[B") ∈ lw_all := lw_g (lw_at lw_m4 120 rfl) rfl
theorem q898 : (Jvm.Cond.soleField "KeyHall$ListFan" "places") ∈ lw_all := lw_g (lw_at lw_m4 121 rfl) rfl
theorem q899 : (Jvm.Cond.lays "KeyHall$ListFan" "KeyHall$ListFan" "twigs" "[LKeyHall$Twig;") ∈ lw_all := lw_g (lw_at lw_m4 122 rfl) rfl
theorem q900 : (Jvm.Cond.soleField "KeyHall$ListFan" "twigs") ∈ lw_all := lw_g (lw_at lw_m4 123 rfl) rfl
theorem q901 : (Jvm.Cond.lays "KeyHall$ListFan" "KeyHall$Fan" "size" "I") ∈ lw_all := lw_g (lw_at lw_m4 124 rfl) rfl
theorem q902 : (Jvm.Cond.superclass "KeyHall$ListFan" "KeyHall$Fan") ∈ lw_all := lw_g (lw_at lw_m4 125 rfl) rfl
theorem q910 : (Jvm.Cond.selects "KeyHall$ListFan" ({ cls := "KeyHall$Fan", name := "put", desc := "(ILKeyHall$Twig;)LKeyHall$Fan;" } : Jvm.MethodName) ({ cls := "KeyHall$ListFan", name := "put", desc := "(ILKeyHall$Twig;)LKeyHall$Fan;" } : Jvm.MethodName)) ∈ lw_all := lw_g (lw_at lw_m4 133 rfl) rfl
theorem q911 : (Jvm.Cond.instanceMethod ({ cls := "KeyHall$ListFan", name := "put", desc := "(ILKeyHall$Twig;)LKeyHall$Fan;" } : Jvm.MethodName)) ∈ lw_all := lw_g (lw_at lw_m4 134 rfl) rfl
theorem q912 : (Jvm.Cond.code ({ cls := "KeyHall$ListFan", name := "put", desc := "(ILKeyHall$Twig;)LKeyHall$Fan;" } : Jvm.MethodName) prog_10_method_4_code (4 : Nat) (Option.some (Jvm.ClassFile.FieldType.object "KeyHall$Fan"))) ∈ lw_all := lw_g (lw_at lw_m4 135 rfl) rfl
theorem q913 : (Jvm.Cond.methodLink "KeyHall$ListFan" (29 : Nat) ({ cls := "KeyHall$ListFan", name := "widen", desc := "()V" } : Jvm.MethodName)) ∈ lw_all := lw_g (lw_at lw_m4 136 rfl) rfl
theorem q914 : (Jvm.Cond.privateMethod ({ cls := "KeyHall$ListFan", name := "widen", desc := "()V" } : Jvm.MethodName)) ∈ lw_tbl := lw_at lw_m4 137 rfl
theorem q915 : (Jvm.Cond.instanceMethod ({ cls := "KeyHall$ListFan", name := "widen", desc := "()V" } : Jvm.MethodName)) ∈ lw_all := lw_g (lw_at lw_m4 138 rfl) rfl
theorem q916 : (Jvm.Cond.code ({ cls := "KeyHall$ListFan", name := "widen", desc := "()V" } : Jvm.MethodName) prog_10_method_5_code (3 : Nat) (Option.none : Option Jvm.ClassFile.FieldType)) ∈ lw_all := lw_g (lw_at lw_m4 139 rfl) rfl
theorem q998 : (Jvm.Cond.selects "KeyHall$ListFan" ({ cls := "KeyHall$Fan", name := "take", desc := "(I)LKeyHall$Fan;" } : Jvm.MethodName) ({ cls := "KeyHall$ListFan", name := "take", desc := "(I)LKeyHall$Fan;" } : Jvm.MethodName)) ∈ lw_all := lw_g (lw_at lw_m4 221 rfl) rfl
theorem q999 : (Jvm.Cond.instanceMethod ({ cls := "KeyHall$ListFan", name := "take", desc := "(I)LKeyHall$Fan;" } : Jvm.MethodName)) ∈ lw_all := lw_g (lw_at lw_m4 222 rfl) rfl
theorem q1000 : (Jvm.Cond.code ({ cls := "KeyHall$ListFan", name := "take", desc := "(I)LKeyHall$Fan;" } : Jvm.MethodName) prog_10_method_7_code (4 : Nat) (Option.some (Jvm.ClassFile.FieldType.object "KeyHall$Fan"))) ∈ lw_all := lw_g (lw_at lw_m4 223 rfl) rfl
theorem q1001 : (Jvm.Cond.methodLink "KeyHall$ListFan" (36 : Nat) ({ cls := "KeyHall$ListFan", name := "narrow", desc := "()V" } : Jvm.MethodName)) ∈ lw_all := lw_g (lw_at lw_m4 224 rfl) rfl
theorem q1002 : (Jvm.Cond.privateMethod ({ cls := "KeyHall$ListFan", name := "narrow", desc := "()V" } : Jvm.MethodName)) ∈ lw_tbl := lw_at lw_m4 225 rfl
theorem q1003 : (Jvm.Cond.instanceMethod ({ cls := "KeyHall$ListFan", name := "narrow", desc := "()V" } : Jvm.MethodName)) ∈ lw_all := lw_g (lw_at lw_m4 226 rfl) rfl
theorem q1004 : (Jvm.Cond.code ({ cls := "KeyHall$ListFan", name := "narrow", desc := "()V" } : Jvm.MethodName) prog_10_method_6_code (4 : Nat) (Option.none : Option Jvm.ClassFile.FieldType)) ∈ lw_all := lw_g (lw_at lw_m4 227 rfl) rfl
theorem q1005 : (Jvm.Cond.classLink "KeyHall$ListFan" (39 : Nat) "KeyHall$RowFan") ∈ lw_all := lw_g (lw_at lw_m4 228 rfl) rfl
theorem q1006 : (Jvm.Cond.methodLink "KeyHall$ListFan" (41 : Nat) ({ cls := "KeyHall$RowFan", name := "<init>", desc := "(I)V" } : Jvm.MethodName)) ∈ lw_all := lw_g (lw_at lw_m4 229 rfl) rfl
theorem q1007 : (Jvm.Cond.methodLink "KeyHall$ListFan" (44 : Nat) ({ cls := "KeyHall$ListFan", name := "from", desc := "(I)I" } : Jvm.MethodName)) ∈ lw_all := lw_g (lw_at lw_m4 230 rfl) rfl
theorem q1008 : (Jvm.Cond.methodLink "KeyHall$ListFan" (48 : Nat) ({ cls := "KeyHall$Fan", name := "put", desc := "(ILKeyHall$Twig;)LKeyHall$Fan;" } : Jvm.MethodName)) ∈ lw_all := lw_g (lw_at lw_m4 231 rfl) rfl
theorem q1057 : (Jvm.Cond.selects "KeyHall$ListFan" ({ cls := "KeyHall$Fan", name := "upTo", desc := "(I)I" } : Jvm.MethodName) ({ cls := "KeyHall$ListFan", name := "upTo", desc := "(I)I" } : Jvm.MethodName)) ∈ lw_all := lw_g (lw_at lw_m5 40 rfl) rfl
theorem q1058 : (Jvm.Cond.instanceMethod ({ cls := "KeyHall$ListFan", name := "upTo", desc := "(I)I" } : Jvm.MethodName)) ∈ lw_all := lw_g (lw_at lw_m5 41 rfl) rfl
theorem q1059 : (Jvm.Cond.code ({ cls := "KeyHall$ListFan", name := "upTo", desc := "(I)I" } : Jvm.MethodName) prog_10_method_9_code (3 : Nat) (Option.some Jvm.ClassFile.FieldType.int)) ∈ lw_all := lw_g (lw_at lw_m5 42 rfl) rfl
theorem q1627 : (Jvm.Cond.selects "KeyHall$ListFan" ({ cls := "KeyHall$ListFan", name := "from", desc := "(I)I" } : Jvm.MethodName) ({ cls := "KeyHall$ListFan", name := "from", desc := "(I)I" } : Jvm.MethodName)) ∈ lw_all := lw_g (lw_at lw_m7 130 rfl) rfl
theorem in_X16 : ∀ w ∈ wsX160, w ∈ lw_all := lw_in wsX160 [901, 897, 899] (by decide +kernel) (by decide +kernel)
/-! KeyHall$Way -/
def RX17 : String := "KeyHall$Way"
def TX17 : u_T := fun k => match k with
  | 0 => ("KeyHall$Way", "c", "C", true)
  | 1 => ("KeyHall$Way", "low", "LKeyHall$Way;", false)
  | 2 => ("KeyHall$Way", "equal", "LKeyHall$Way;", false)
  | 3 => ("KeyHall$Way", "high", "LKeyHall$Way;", false)
  | _ => ("KeyHall$Way", "entry", "LKeyHall$Entry;", false)
def tyX17 : Nat → FieldType := fun k => match k with
  | 0 => .char
  | 1 => .object "KeyHall$Way"
  | 2 => .object "KeyHall$Way"
  | 3 => .object "KeyHall$Way"
  | _ => .object "KeyHall$Entry"
abbrev wsX170 : List Cond := u_ws RX17 TX17 5
theorem nmX17 : ∀ a, a < 5 → ∀ b, b < 5 → a ≠ b → (TX17 a).2.1 ≠ (TX17 b).2.1 := by decide +kernel
theorem tyX17_ok : ∀ k, k < 5 → parseFieldDescriptor (TX17 k).2.2.1 = some (tyX17 k) := by decide +kernel
abbrev cX17_init : ByteArray := prog_17_method_1_code
def yX17_init : MethodName := ⟨RX17, "<init>", "(C)V"⟩
theorem q84 : (Jvm.Cond.initialized "KeyHall$Way") ∈ lw_all := lw_g (lw_at lw_m1 27 rfl) rfl
theorem q939 : (Jvm.Cond.instantiable "KeyHall$Way" (5 : Nat)) ∈ lw_all := lw_g (lw_at lw_m4 162 rfl) rfl
theorem q941 : (Jvm.Cond.instanceMethod ({ cls := "KeyHall$Way", name := "<init>", desc := "(C)V" } : Jvm.MethodName)) ∈ lw_all := lw_g (lw_at lw_m4 164 rfl) rfl
theorem q942 : (Jvm.Cond.code ({ cls := "KeyHall$Way", name := "<init>", desc := "(C)V" } : Jvm.MethodName) prog_17_method_1_code (2 : Nat) (Option.none : Option Jvm.ClassFile.FieldType)) ∈ lw_all := lw_g (lw_at lw_m4 165 rfl) rfl
theorem q943 : (Jvm.Cond.methodLink "KeyHall$Way" (1 : Nat) ({ cls := "java/lang/Object", name := "<init>", desc := "()V" } : Jvm.MethodName)) ∈ lw_all := lw_g (lw_at lw_m4 166 rfl) rfl
theorem q944 : (Jvm.Cond.fieldLink "KeyHall$Way" (7 : Nat) "KeyHall$Way" "c" "C") ∈ lw_all := lw_g (lw_at lw_m4 167 rfl) rfl
theorem q950 : (Jvm.Cond.laysFinal "KeyHall$Way" "KeyHall$Way" "c" "C") ∈ lw_all := lw_g (lw_at lw_m4 173 rfl) rfl
theorem q951 : (Jvm.Cond.soleField "KeyHall$Way" "c") ∈ lw_all := lw_g (lw_at lw_m4 174 rfl) rfl
theorem q952 : (Jvm.Cond.lays "KeyHall$Way" "KeyHall$Way" "low" "LKeyHall$Way;") ∈ lw_all := lw_g (lw_at lw_m4 175 rfl) rfl
theorem q953 : (Jvm.Cond.soleField "KeyHall$Way" "low") ∈ lw_all := lw_g (lw_at lw_m4 176 rfl) rfl
theorem q954 : (Jvm.Cond.lays "KeyHall$Way" "KeyHall$Way" "equal" "LKeyHall$Way;") ∈ lw_all := lw_g (lw_at lw_m4 177 rfl) rfl
theorem q955 : (Jvm.Cond.soleField "KeyHall$Way" "equal") ∈ lw_all := lw_g (lw_at lw_m4 178 rfl) rfl
theorem q956 : (Jvm.Cond.lays "KeyHall$Way" "KeyHall$Way" "high" "LKeyHall$Way;") ∈ lw_all := lw_g (lw_at lw_m4 179 rfl) rfl
theorem q957 : (Jvm.Cond.soleField "KeyHall$Way" "high") ∈ lw_all := lw_g (lw_at lw_m4 180 rfl) rfl
theorem q958 : (Jvm.Cond.lays "KeyHall$Way" "KeyHall$Way" "entry" "LKeyHall$Entry;") ∈ lw_all := lw_g (lw_at lw_m4 181 rfl) rfl
theorem q959 : (Jvm.Cond.soleField "KeyHall$Way" "entry") ∈ lw_all := lw_g (lw_at lw_m4 182 rfl) rfl
theorem q960 : (Jvm.Cond.superclass "KeyHall$Way" "java/lang/Object") ∈ lw_all := lw_g (lw_at lw_m4 183 rfl) rfl
theorem in_X17 : ∀ w ∈ wsX170, w ∈ lw_all := lw_in wsX170 [950, 952, 954, 956, 958] (by decide +kernel) (by decide +kernel)
/-! java/util/NoSuchElementException -/
def RJ10 : String := "java/util/NoSuchElementException"
def TJ10 : u_T := fun k => match k with
  | 0 => ("java/lang/Throwable", "cause", "Ljava/lang/Throwable;", false)
  | 1 => ("java/lang/Throwable", "stackTrace", "[Ljava/lang/StackTraceElement;", false)
  | 2 => ("java/lang/Throwable", "suppressedExceptions", "Ljava/util/List;", false)
  | 3 => ("java/lang/Throwable", "detailMessage", "Ljava/lang/String;", false)
  | 4 => ("java/lang/Throwable", "backtrace", "Ljava/lang/Object;", false)
  | _ => ("java/lang/Throwable", "depth", "I", false)
def tyJ10 : Nat → FieldType := fun k => match k with
  | 0 => .object "java/lang/Throwable"
  | 1 => .array (.object "java/lang/StackTraceElement")
  | 2 => .object "java/util/List"
  | 3 => .object "java/lang/String"
  | 4 => .object "java/lang/Object"
  | _ => .int
abbrev wsJ100 : List Cond := u_ws RJ10 TJ10 6
theorem nmJ10 : ∀ a, a < 6 → ∀ b, b < 6 → a ≠ b → (TJ10 a).2.1 ≠ (TJ10 b).2.1 := by decide +kernel
theorem tyJ10_ok : ∀ k, k < 6 → parseFieldDescriptor (TJ10 k).2.2.1 = some (tyJ10 k) := by decide +kernel
abbrev cJ10_init : ByteArray := prog_30_method_4_code
def yJ10_init : MethodName := ⟨RJ10, "<init>", "(Ljava/lang/String;)V"⟩
theorem q85 : (Jvm.Cond.initialized "java/util/NoSuchElementException") ∈ lw_all := lw_g (lw_at lw_m1 28 rfl) rfl
theorem q651 : (Jvm.Cond.selects "java/util/NoSuchElementException" ({ cls := "java/lang/Throwable", name := "fillInStackTrace", desc := "()Ljava/lang/Throwable;" } : Jvm.MethodName) ({ cls := "java/lang/Throwable", name := "fillInStackTrace", desc := "()Ljava/lang/Throwable;" } : Jvm.MethodName)) ∈ lw_all := lw_g (lw_at lw_m3 114 rfl) rfl
theorem q1081 : (Jvm.Cond.instantiable "java/util/NoSuchElementException" (6 : Nat)) ∈ lw_all := lw_g (lw_at lw_m5 64 rfl) rfl
theorem q1082 : (Jvm.Cond.castable "java/util/NoSuchElementException" "java/util/NoSuchElementException") ∈ lw_tbl := lw_at lw_m5 65 rfl
theorem q1083 : (Jvm.Cond.selects "java/util/NoSuchElementException" ({ cls := "java/lang/Throwable", name := "fillInStackTrace", desc := "(I)Ljava/lang/Throwable;" } : Jvm.MethodName) ({ cls := "java/lang/Throwable", name := "fillInStackTrace", desc := "(I)Ljava/lang/Throwable;" } : Jvm.MethodName)) ∈ lw_all := lw_g (lw_at lw_m5 66 rfl) rfl
theorem q1084 : (Jvm.Cond.lays "java/util/NoSuchElementException" "java/lang/Throwable" "cause" "Ljava/lang/Throwable;") ∈ lw_all := lw_g (lw_at lw_m5 67 rfl) rfl
theorem q1085 : (Jvm.Cond.lays "java/util/NoSuchElementException" "java/lang/Throwable" "stackTrace" "[Ljava/lang/StackTraceElement;") ∈ lw_all := lw_g (lw_at lw_m5 68 rfl) rfl
theorem q1086 : (Jvm.Cond.lays "java/util/NoSuchElementException" "java/lang/Throwable" "suppressedExceptions" "Ljava/util/List;") ∈ lw_all := lw_g (lw_at lw_m5 69 rfl) rfl
theorem q1087 : (Jvm.Cond.lays "java/util/NoSuchElementException" "java/lang/Throwable" "detailMessage" "Ljava/lang/String;") ∈ lw_all := lw_g (lw_at lw_m5 70 rfl) rfl
theorem q1088 : (Jvm.Cond.lays "java/util/NoSuchElementException" "java/lang/Throwable" "backtrace" "Ljava/lang/Object;") ∈ lw_all := lw_g (lw_at lw_m5 71 rfl) rfl
theorem q1091 : (Jvm.Cond.instanceMethod ({ cls := "java/util/NoSuchElementException", name := "<init>", desc := "(Ljava/lang/String;)V" } : Jvm.MethodName)) ∈ lw_all := lw_g (lw_at lw_m5 74 rfl) rfl
theorem q1092 : (Jvm.Cond.code ({ cls := "java/util/NoSuchElementException", name := "<init>", desc := "(Ljava/lang/String;)V" } : Jvm.MethodName) prog_30_method_4_code (2 : Nat) (Option.none : Option Jvm.ClassFile.FieldType)) ∈ lw_all := lw_g (lw_at lw_m5 75 rfl) rfl
theorem q1093 : (Jvm.Cond.methodLink "java/util/NoSuchElementException" (13 : Nat) ({ cls := "java/lang/RuntimeException", name := "<init>", desc := "(Ljava/lang/String;)V" } : Jvm.MethodName)) ∈ lw_all := lw_g (lw_at lw_m5 76 rfl) rfl
theorem q1094 : (Jvm.Cond.lays "java/util/NoSuchElementException" "java/lang/Throwable" "depth" "I") ∈ lw_all := lw_g (lw_at lw_m5 77 rfl) rfl
theorem q1095 : (Jvm.Cond.superclass "java/util/NoSuchElementException" "java/lang/RuntimeException") ∈ lw_all := lw_g (lw_at lw_m5 78 rfl) rfl
theorem in_J10 : ∀ w ∈ wsJ100, w ∈ lw_all := lw_in wsJ100 [1084, 1085, 1086, 1087, 1088, 1094] (by decide +kernel) (by decide +kernel)
/-! KeyHall$Rope -/
def RX18 : String := "KeyHall$Rope"
def TX18 : u_T := fun k => match k with
  | 0 => ("KeyHall$Rope", "length", "I", true)
  | 1 => ("KeyHall$Rope", "depth", "I", true)
  | 2 => ("KeyHall$Rope", "c", "[C", false)
  | 3 => ("KeyHall$Rope", "left", "LKeyHall$Rope;", false)
  | _ => ("KeyHall$Rope", "right", "LKeyHall$Rope;", false)
def tyX18 : Nat → FieldType := fun k => match k with
  | 0 => .int
  | 1 => .int
  | 2 => .array .char
  | 3 => .object "KeyHall$Rope"
  | _ => .object "KeyHall$Rope"
abbrev wsX180 : List Cond := u_ws RX18 TX18 5
theorem nmX18 : ∀ a, a < 5 → ∀ b, b < 5 → a ≠ b → (TX18 a).2.1 ≠ (TX18 b).2.1 := by decide +kernel
theorem tyX18_ok : ∀ k, k < 5 → parseFieldDescriptor (TX18 k).2.2.1 = some (tyX18 k) := by decide +kernel
abbrev cX18_at : ByteArray := prog_11_method_3_code
def yX18_at : MethodName := ⟨RX18, "at", "(I)C"⟩
abbrev cX18_part : ByteArray := prog_11_method_7_code
def yX18_part : MethodName := ⟨RX18, "part", "(LKeyHall$Rope;II)LKeyHall$Rope;"⟩
abbrev cX18_init : ByteArray := prog_11_method_1_code
def yX18_init : MethodName := ⟨RX18, "<init>", "([CII)V"⟩
abbrev cX18_join : ByteArray := prog_11_method_4_code
def yX18_join : MethodName := ⟨RX18, "join", "(LKeyHall$Rope;LKeyHall$Rope;)LKeyHall$Rope;"⟩
abbrev cX18_init_2 : ByteArray := prog_11_method_2_code
def yX18_init_2 : MethodName := ⟨RX18, "<init>", "(LKeyHall$Rope;LKeyHall$Rope;)V"⟩
abbrev cX18_even : ByteArray := prog_11_method_5_code
def yX18_even : MethodName := ⟨RX18, "even", "()LKeyHall$Rope;"⟩
abbrev cX18_of : ByteArray := prog_11_method_6_code
def yX18_of : MethodName := ⟨RX18, "of", "([CII)LKeyHall$Rope;"⟩
theorem q86 : (Jvm.Cond.initialized "KeyHall$Rope") ∈ lw_all := lw_g (lw_at lw_m1 29 rfl) rfl
theorem q579 : (Jvm.Cond.instanceMethod ({ cls := "KeyHall$Rope", name := "at", desc := "(I)C" } : Jvm.MethodName)) ∈ lw_all := lw_g (lw_at lw_m3 42 rfl) rfl
theorem q580 : (Jvm.Cond.selects "KeyHall$Rope" ({ cls := "KeyHall$Rope", name := "at", desc := "(I)C" } : Jvm.MethodName) ({ cls := "KeyHall$Rope", name := "at", desc := "(I)C" } : Jvm.MethodName)) ∈ lw_all := lw_g (lw_at lw_m3 43 rfl) rfl
theorem q581 : (Jvm.Cond.code ({ cls := "KeyHall$Rope", name := "at", desc := "(I)C" } : Jvm.MethodName) prog_11_method_3_code (5 : Nat) (Option.some Jvm.ClassFile.FieldType.char)) ∈ lw_all := lw_g (lw_at lw_m3 44 rfl) rfl
theorem q1211 : (Jvm.Cond.static ({ cls := "KeyHall$Rope", name := "part", desc := "(LKeyHall$Rope;II)LKeyHall$Rope;" } : Jvm.MethodName)) ∈ lw_all := lw_g (lw_at lw_m5 194 rfl) rfl
theorem q1212 : (Jvm.Cond.code ({ cls := "KeyHall$Rope", name := "part", desc := "(LKeyHall$Rope;II)LKeyHall$Rope;" } : Jvm.MethodName) prog_11_method_7_code (4 : Nat) (Option.some (Jvm.ClassFile.FieldType.object "KeyHall$Rope"))) ∈ lw_all := lw_g (lw_at lw_m5 195 rfl) rfl
theorem q1213 : (Jvm.Cond.methodLink "KeyHall$Rope" (27 : Nat) ({ cls := "java/lang/Math", name := "max", desc := "(II)I" } : Jvm.MethodName)) ∈ lw_all := lw_g (lw_at lw_m5 196 rfl) rfl
theorem q1214 : (Jvm.Cond.classLink "KeyHall$Rope" (8 : Nat) "KeyHall$Rope") ∈ lw_all := lw_g (lw_at lw_m5 197 rfl) rfl
theorem q1215 : (Jvm.Cond.instantiable "KeyHall$Rope" (5 : Nat)) ∈ lw_all := lw_g (lw_at lw_m5 198 rfl) rfl
theorem q1216 : (Jvm.Cond.methodLink "KeyHall$Rope" (55 : Nat) ({ cls := "java/lang/Math", name := "min", desc := "(II)I" } : Jvm.MethodName)) ∈ lw_all := lw_g (lw_at lw_m5 199 rfl) rfl
theorem q1217 : (Jvm.Cond.methodLink "KeyHall$Rope" (37 : Nat) ({ cls := "KeyHall$Rope", name := "<init>", desc := "([CII)V" } : Jvm.MethodName)) ∈ lw_all := lw_g (lw_at lw_m5 200 rfl) rfl
theorem q1218 : (Jvm.Cond.instanceMethod ({ cls := "KeyHall$Rope", name := "<init>", desc := "([CII)V" } : Jvm.MethodName)) ∈ lw_all := lw_g (lw_at lw_m5 201 rfl) rfl
theorem q1219 : (Jvm.Cond.code ({ cls := "KeyHall$Rope", name := "<init>", desc := "([CII)V" } : Jvm.MethodName) prog_11_method_1_code (5 : Nat) (Option.none : Option Jvm.ClassFile.FieldType)) ∈ lw_all := lw_g (lw_at lw_m5 202 rfl) rfl
theorem q1220 : (Jvm.Cond.methodLink "KeyHall$Rope" (1 : Nat) ({ cls := "java/lang/Object", name := "<init>", desc := "()V" } : Jvm.MethodName)) ∈ lw_all := lw_g (lw_at lw_m5 203 rfl) rfl
theorem q1221 : (Jvm.Cond.fieldLink "KeyHall$Rope" (13 : Nat) "KeyHall$Rope" "length" "I") ∈ lw_all := lw_g (lw_at lw_m5 204 rfl) rfl
theorem q1223 : (Jvm.Cond.fieldLink "KeyHall$Rope" (17 : Nat) "KeyHall$Rope" "depth" "I") ∈ lw_all := lw_g (lw_at lw_m5 206 rfl) rfl
theorem q1224 : (Jvm.Cond.fieldLink "KeyHall$Rope" (7 : Nat) "KeyHall$Rope" "c" "[C") ∈ lw_all := lw_g (lw_at lw_m5 207 rfl) rfl
theorem q1225 : (Jvm.Cond.fieldLink "KeyHall$Rope" (20 : Nat) "KeyHall$Rope" "left" "LKeyHall$Rope;") ∈ lw_all := lw_g (lw_at lw_m5 208 rfl) rfl
theorem q1226 : (Jvm.Cond.fieldLink "KeyHall$Rope" (24 : Nat) "KeyHall$Rope" "right" "LKeyHall$Rope;") ∈ lw_all := lw_g (lw_at lw_m5 209 rfl) rfl
theorem q1227 : (Jvm.Cond.laysFinal "KeyHall$Rope" "KeyHall$Rope" "length" "I") ∈ lw_all := lw_g (lw_at lw_m5 210 rfl) rfl
theorem q1228 : (Jvm.Cond.soleField "KeyHall$Rope" "length") ∈ lw_all := lw_g (lw_at lw_m5 211 rfl) rfl
theorem q1229 : (Jvm.Cond.laysFinal "KeyHall$Rope" "KeyHall$Rope" "depth" "I") ∈ lw_all := lw_g (lw_at lw_m5 212 rfl) rfl
theorem q1230 : (Jvm.Cond.soleField "KeyHall$Rope" "depth") ∈ lw_all := lw_g (lw_at lw_m5 213 rfl) rfl
theorem q1231 : (Jvm.Cond.lays "KeyHall$Rope" "KeyHall$Rope" "c" "[C") ∈ lw_all := lw_g (lw_at lw_m5 214 rfl) rfl
theorem q1232 : (Jvm.Cond.soleField "KeyHall$Rope" "c") ∈ lw_all := lw_g (lw_at lw_m5 215 rfl) rfl
theorem q1233 : (Jvm.Cond.lays "KeyHall$Rope" "KeyHall$Rope" "left" "LKeyHall$Rope;") ∈ lw_all := lw_g (lw_at lw_m5 216 rfl) rfl
theorem q1234 : (Jvm.Cond.soleField "KeyHall$Rope" "left") ∈ lw_all := lw_g (lw_at lw_m5 217 rfl) rfl
theorem q1235 : (Jvm.Cond.lays "KeyHall$Rope" "KeyHall$Rope" "right" "LKeyHall$Rope;") ∈ lw_all := lw_g (lw_at lw_m5 218 rfl) rfl
theorem q1236 : (Jvm.Cond.soleField "KeyHall$Rope" "right") ∈ lw_all := lw_g (lw_at lw_m5 219 rfl) rfl
theorem q1237 : (Jvm.Cond.superclass "KeyHall$Rope" "java/lang/Object") ∈ lw_all := lw_g (lw_at lw_m5 220 rfl) rfl
theorem q1238 : (Jvm.Cond.methodLink "KeyHall$Rope" (58 : Nat) ({ cls := "KeyHall$Rope", name := "part", desc := "(LKeyHall$Rope;II)LKeyHall$Rope;" } : Jvm.MethodName)) ∈ lw_all := lw_g (lw_at lw_m5 221 rfl) rfl
theorem q1239 : (Jvm.Cond.methodLink "KeyHall$Rope" (62 : Nat) ({ cls := "KeyHall$Rope", name := "join", desc := "(LKeyHall$Rope;LKeyHall$Rope;)LKeyHall$Rope;" } : Jvm.MethodName)) ∈ lw_all := lw_g (lw_at lw_m5 222 rfl) rfl
theorem q1240 : (Jvm.Cond.static ({ cls := "KeyHall$Rope", name := "join", desc := "(LKeyHall$Rope;LKeyHall$Rope;)LKeyHall$Rope;" } : Jvm.MethodName)) ∈ lw_all := lw_g (lw_at lw_m5 223 rfl) rfl
theorem q1241 : (Jvm.Cond.code ({ cls := "KeyHall$Rope", name := "join", desc := "(LKeyHall$Rope;LKeyHall$Rope;)LKeyHall$Rope;" } : Jvm.MethodName) prog_11_method_4_code (4 : Nat) (Option.some (Jvm.ClassFile.FieldType.object "KeyHall$Rope"))) ∈ lw_all := lw_g (lw_at lw_m5 224 rfl) rfl
theorem q1242 : (Jvm.Cond.methodLink "KeyHall$Rope" (33 : Nat) ({ cls := "KeyHall$Rope", name := "at", desc := "(I)C" } : Jvm.MethodName)) ∈ lw_all := lw_g (lw_at lw_m5 225 rfl) rfl
theorem q1243 : (Jvm.Cond.methodLink "KeyHall$Rope" (40 : Nat) ({ cls := "KeyHall$Rope", name := "<init>", desc := "(LKeyHall$Rope;LKeyHall$Rope;)V" } : Jvm.MethodName)) ∈ lw_all := lw_g (lw_at lw_m5 226 rfl) rfl
theorem q1244 : (Jvm.Cond.instanceMethod ({ cls := "KeyHall$Rope", name := "<init>", desc := "(LKeyHall$Rope;LKeyHall$Rope;)V" } : Jvm.MethodName)) ∈ lw_all := lw_g (lw_at lw_m5 227 rfl) rfl
theorem q1245 : (Jvm.Cond.code ({ cls := "KeyHall$Rope", name := "<init>", desc := "(LKeyHall$Rope;LKeyHall$Rope;)V" } : Jvm.MethodName) prog_11_method_2_code (3 : Nat) (Option.none : Option Jvm.ClassFile.FieldType)) ∈ lw_all := lw_g (lw_at lw_m5 228 rfl) rfl
theorem q1246 : (Jvm.Cond.fieldLink "KeyHall$Rope" (43 : Nat) "KeyHall$Rope" "LEAST" "[I") ∈ lw_all := lw_g (lw_at lw_m5 229 rfl) rfl
theorem q1247 : (Jvm.Cond.laysStatic "KeyHall$Rope" "LEAST" "[I") ∈ lw_tbl := lw_at lw_m5 230 rfl
theorem q1248 : (Jvm.Cond.methodLink "KeyHall$Rope" (47 : Nat) ({ cls := "KeyHall$Rope", name := "even", desc := "()LKeyHall$Rope;" } : Jvm.MethodName)) ∈ lw_all := lw_g (lw_at lw_m5 231 rfl) rfl
theorem q1249 : (Jvm.Cond.privateMethod ({ cls := "KeyHall$Rope", name := "even", desc := "()LKeyHall$Rope;" } : Jvm.MethodName)) ∈ lw_tbl := lw_at lw_m5 232 rfl
theorem q1250 : (Jvm.Cond.instanceMethod ({ cls := "KeyHall$Rope", name := "even", desc := "()LKeyHall$Rope;" } : Jvm.MethodName)) ∈ lw_all := lw_g (lw_at lw_m5 233 rfl) rfl
theorem q1251 : (Jvm.Cond.code ({ cls := "KeyHall$Rope", name := "even", desc := "()LKeyHall$Rope;" } : Jvm.MethodName) prog_11_method_5_code (3 : Nat) (Option.some (Jvm.ClassFile.FieldType.object "KeyHall$Rope"))) ∈ lw_all := lw_g (lw_at lw_m5 234 rfl) rfl
theorem q1252 : (Jvm.Cond.methodLink "KeyHall$Rope" (51 : Nat) ({ cls := "KeyHall$Rope", name := "of", desc := "([CII)LKeyHall$Rope;" } : Jvm.MethodName)) ∈ lw_all := lw_g (lw_at lw_m5 235 rfl) rfl
theorem q1253 : (Jvm.Cond.static ({ cls := "KeyHall$Rope", name := "of", desc := "([CII)LKeyHall$Rope;" } : Jvm.MethodName)) ∈ lw_all := lw_g (lw_at lw_m5 236 rfl) rfl
theorem q1254 : (Jvm.Cond.code ({ cls := "KeyHall$Rope", name := "of", desc := "([CII)LKeyHall$Rope;" } : Jvm.MethodName) prog_11_method_6_code (4 : Nat) (Option.some (Jvm.ClassFile.FieldType.object "KeyHall$Rope"))) ∈ lw_all := lw_g (lw_at lw_m5 237 rfl) rfl
theorem in_X18 : ∀ w ∈ wsX180, w ∈ lw_all := lw_in wsX180 [1227, 1229, 1231, 1233, 1235] (by decide +kernel) (by decide +kernel)
/-! java/lang/Object -/
def RJ11 : String := "java/lang/Object"
abbrev cJ11_init : ByteArray := object_method_1_code
def yJ11_init : MethodName := ⟨RJ11, "<init>", "()V"⟩
theorem q93 : (Jvm.Cond.instanceMethod ({ cls := "java/lang/Object", name := "<init>", desc := "()V" } : Jvm.MethodName)) ∈ lw_all := lw_g (lw_at lw_m1 36 rfl) rfl
theorem q94 : (Jvm.Cond.code ({ cls := "java/lang/Object", name := "<init>", desc := "()V" } : Jvm.MethodName) object_method_1_code (1 : Nat) (Option.none : Option Jvm.ClassFile.FieldType)) ∈ lw_all := lw_g (lw_at lw_m1 37 rfl) rfl
/-! the law's own entry -/
abbrev cL_law : ByteArray := code
theorem q123 : (Jvm.Cond.arrayClass Jvm.ClassFile.FieldType.char) ∈ lw_all := lw_g (lw_at lw_m1 66 rfl) rfl
theorem q125 : (Jvm.Cond.arrayOver (Jvm.ClassFile.FieldType.object "KeyHall$View")) ∈ lw_tbl := lw_at lw_m1 68 rfl
theorem q172 : (Jvm.Cond.arrayOver (Jvm.ClassFile.FieldType.object "KeyHall$Twig")) ∈ lw_tbl := lw_at lw_m1 115 rfl
theorem q188 : (Jvm.Cond.arrayClass Jvm.ClassFile.FieldType.int) ∈ lw_all := lw_g (lw_at lw_m1 131 rfl) rfl
theorem q259 : (Jvm.Cond.arrayClass Jvm.ClassFile.FieldType.boolean) ∈ lw_all := lw_g (lw_at lw_m1 202 rfl) rfl
theorem q267 : (Jvm.Cond.arrayOver (Jvm.ClassFile.FieldType.object "KeyHall$Rope")) ∈ lw_tbl := lw_at lw_m1 210 rfl
theorem q696 : (Jvm.Cond.arrayClass Jvm.ClassFile.FieldType.byte) ∈ lw_all := lw_g (lw_at lw_m3 159 rfl) rfl
theorem q1625 : (Jvm.Cond.arrayClass Jvm.ClassFile.FieldType.long) ∈ lw_all := lw_g (lw_at lw_m7 128 rfl) rfl
