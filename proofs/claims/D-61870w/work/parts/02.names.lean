set_option maxRecDepth 100000
/-! XactKernelLaw -/
def RX0 : String := "XactKernelLaw"
abbrev cX0_begin : ByteArray := method_3_code
def yX0_begin : MethodName := ⟨RX0, "begin", "(LXactKernel;I[J)I"⟩
abbrev cX0_end : ByteArray := method_4_code
def yX0_end : MethodName := ⟨RX0, "end", "(LXactKernel;I[J)I"⟩
abbrev cX0_abort : ByteArray := method_5_code
def yX0_abort : MethodName := ⟨RX0, "abort", "(LXactKernel;I[J)I"⟩
abbrev cX0_open : ByteArray := method_6_code
def yX0_open : MethodName := ⟨RX0, "open", "(LXactKernel;III[J)I"⟩
abbrev cX0_close : ByteArray := method_7_code
def yX0_close : MethodName := ⟨RX0, "close", "(LXactKernel;II[J)I"⟩
abbrev cX0_read : ByteArray := method_8_code
def yX0_read : MethodName := ⟨RX0, "read", "(LXactKernel;II[J)I"⟩
abbrev cX0_write : ByteArray := method_9_code
def yX0_write : MethodName := ⟨RX0, "write", "(LXactKernel;III[J)I"⟩
abbrev cX0_seek : ByteArray := method_10_code
def yX0_seek : MethodName := ⟨RX0, "seek", "(LXactKernel;III[J)I"⟩
abbrev cX0_truncate : ByteArray := method_11_code
def yX0_truncate : MethodName := ⟨RX0, "truncate", "(LXactKernel;III[J)I"⟩
abbrev cX0_directory : ByteArray := method_12_code
def yX0_directory : MethodName := ⟨RX0, "directory", "(LXactKernel;II[J)I"⟩
abbrev cX0_link : ByteArray := method_13_code
def yX0_link : MethodName := ⟨RX0, "link", "(LXactKernel;III[J)I"⟩
abbrev cX0_unlink : ByteArray := method_14_code
def yX0_unlink : MethodName := ⟨RX0, "unlink", "(LXactKernel;II[J)I"⟩
abbrev cX0_rename : ByteArray := method_15_code
def yX0_rename : MethodName := ⟨RX0, "rename", "(LXactKernel;III[J)I"⟩
abbrev cX0_size : ByteArray := method_16_code
def yX0_size : MethodName := ⟨RX0, "size", "(LXactKernel;II[J)I"⟩
abbrev cX0_pipe : ByteArray := method_17_code
def yX0_pipe : MethodName := ⟨RX0, "pipe", "(LXactKernel;I[J)I"⟩
abbrev cX0_fork : ByteArray := method_18_code
def yX0_fork : MethodName := ⟨RX0, "fork", "(LXactKernel;I[J)I"⟩
abbrev cX0_exit : ByteArray := method_19_code
def yX0_exit : MethodName := ⟨RX0, "exit", "(LXactKernel;I[J)I"⟩
abbrev cX0_signal : ByteArray := method_20_code
def yX0_signal : MethodName := ⟨RX0, "signal", "(LXactKernel;III[J)I"⟩
abbrev cX0_take : ByteArray := method_21_code
def yX0_take : MethodName := ⟨RX0, "take", "(LXactKernel;I[J)I"⟩
abbrev cX0_log : ByteArray := method_22_code
def yX0_log : MethodName := ⟨RX0, "log", "(LXactKernel;I[J)I"⟩
abbrev cX0_cut : ByteArray := method_23_code
def yX0_cut : MethodName := ⟨RX0, "cut", "(LXactKernel;I[J)I"⟩
abbrev cX0_item : ByteArray := method_24_code
def yX0_item : MethodName := ⟨RX0, "item", "(LXactKernel;II[J)I"⟩
abbrev cX0_cell : ByteArray := method_25_code
def yX0_cell : MethodName := ⟨RX0, "cell", "(LXactKernel;II[J)I"⟩
abbrev cX0_look : ByteArray := method_26_code
def yX0_look : MethodName := ⟨RX0, "look", "(LXactKernel;II[J)I"⟩
abbrev cX0_count : ByteArray := method_27_code
def yX0_count : MethodName := ⟨RX0, "count", "(LXactKernel;I[J)I"⟩
theorem q57 : (Jvm.Cond.initialized "XactKernelLaw") ∈ lw_all := lw_g (lw_at lw_m1 0 rfl) rfl
theorem q96 : (Jvm.Cond.classLink "XactKernelLaw" (8 : Nat) "XactKernel") ∈ lw_all := lw_g (lw_at lw_m1 39 rfl) rfl
theorem q98 : (Jvm.Cond.methodLink "XactKernelLaw" (97 : Nat) ({ cls := "XactKernel", name := "<init>", desc := "()V" } : Jvm.MethodName)) ∈ lw_all := lw_g (lw_at lw_m1 41 rfl) rfl
theorem q530 : (Jvm.Cond.methodLink "XactKernelLaw" (101 : Nat) ({ cls := "XactKernelLaw", name := "begin", desc := "(LXactKernel;I[J)I" } : Jvm.MethodName)) ∈ lw_all := lw_g (lw_at lw_m2 233 rfl) rfl
theorem q531 : (Jvm.Cond.static ({ cls := "XactKernelLaw", name := "begin", desc := "(LXactKernel;I[J)I" } : Jvm.MethodName)) ∈ lw_all := lw_g (lw_at lw_m2 234 rfl) rfl
theorem q532 : (Jvm.Cond.codeWith ({ cls := "XactKernelLaw", name := "begin", desc := "(LXactKernel;I[J)I" } : Jvm.MethodName) method_3_code (4 : Nat) (Option.some Jvm.ClassFile.FieldType.int) [((0 : Nat), (9 : Nat), (12 : Nat), (13 : Nat)), ((0 : Nat), (9 : Nat), (15 : Nat), (15 : Nat)), ((0 : Nat), (9 : Nat), (18 : Nat), (17 : Nat))]) ∈ lw_all := lw_g (lw_at lw_m2 235 rfl) rfl
theorem q533 : (Jvm.Cond.classLink "XactKernelLaw" (13 : Nat) "java/lang/IllegalArgumentException") ∈ lw_all := lw_g (lw_at lw_m2 236 rfl) rfl
theorem q534 : (Jvm.Cond.classLink "XactKernelLaw" (15 : Nat) "java/lang/IllegalStateException") ∈ lw_all := lw_g (lw_at lw_m2 237 rfl) rfl
theorem q535 : (Jvm.Cond.classLink "XactKernelLaw" (17 : Nat) "java/lang/IndexOutOfBoundsException") ∈ lw_all := lw_g (lw_at lw_m2 238 rfl) rfl
theorem q554 : (Jvm.Cond.methodLink "XactKernelLaw" (7 : Nat) ({ cls := "XactKernel", name := "begin", desc := "(I)I" } : Jvm.MethodName)) ∈ lw_all := lw_g (lw_at lw_m3 17 rfl) rfl
theorem q735 : (Jvm.Cond.methodLink "XactKernelLaw" (111 : Nat) ({ cls := "XactKernelLaw", name := "end", desc := "(LXactKernel;I[J)I" } : Jvm.MethodName)) ∈ lw_all := lw_g (lw_at lw_m3 198 rfl) rfl
theorem q736 : (Jvm.Cond.static ({ cls := "XactKernelLaw", name := "end", desc := "(LXactKernel;I[J)I" } : Jvm.MethodName)) ∈ lw_all := lw_g (lw_at lw_m3 199 rfl) rfl
theorem q737 : (Jvm.Cond.codeWith ({ cls := "XactKernelLaw", name := "end", desc := "(LXactKernel;I[J)I" } : Jvm.MethodName) method_4_code (4 : Nat) (Option.some Jvm.ClassFile.FieldType.int) [((0 : Nat), (9 : Nat), (12 : Nat), (13 : Nat)), ((0 : Nat), (9 : Nat), (15 : Nat), (15 : Nat)), ((0 : Nat), (9 : Nat), (18 : Nat), (22 : Nat)), ((0 : Nat), (9 : Nat), (21 : Nat), (17 : Nat)), ((0 : Nat), (9 : Nat), (24 : Nat), (24 : Nat))]) ∈ lw_all := lw_g (lw_at lw_m3 200 rfl) rfl
theorem q738 : (Jvm.Cond.classLink "XactKernelLaw" (22 : Nat) "java/util/NoSuchElementException") ∈ lw_all := lw_g (lw_at lw_m3 201 rfl) rfl
theorem q739 : (Jvm.Cond.classLink "XactKernelLaw" (24 : Nat) "java/lang/UnsupportedOperationException") ∈ lw_all := lw_g (lw_at lw_m3 202 rfl) rfl
theorem q740 : (Jvm.Cond.methodLink "XactKernelLaw" (19 : Nat) ({ cls := "XactKernel", name := "end", desc := "(I)I" } : Jvm.MethodName)) ∈ lw_all := lw_g (lw_at lw_m3 203 rfl) rfl
theorem q959 : (Jvm.Cond.methodLink "XactKernelLaw" (114 : Nat) ({ cls := "XactKernelLaw", name := "abort", desc := "(LXactKernel;I[J)I" } : Jvm.MethodName)) ∈ lw_all := lw_g (lw_at lw_m4 182 rfl) rfl
theorem q960 : (Jvm.Cond.static ({ cls := "XactKernelLaw", name := "abort", desc := "(LXactKernel;I[J)I" } : Jvm.MethodName)) ∈ lw_all := lw_g (lw_at lw_m4 183 rfl) rfl
theorem q961 : (Jvm.Cond.codeWith ({ cls := "XactKernelLaw", name := "abort", desc := "(LXactKernel;I[J)I" } : Jvm.MethodName) method_5_code (4 : Nat) (Option.some Jvm.ClassFile.FieldType.int) [((0 : Nat), (9 : Nat), (12 : Nat), (13 : Nat)), ((0 : Nat), (9 : Nat), (15 : Nat), (15 : Nat)), ((0 : Nat), (9 : Nat), (18 : Nat), (22 : Nat))]) ∈ lw_all := lw_g (lw_at lw_m4 184 rfl) rfl
theorem q962 : (Jvm.Cond.methodLink "XactKernelLaw" (26 : Nat) ({ cls := "XactKernel", name := "abort", desc := "(I)I" } : Jvm.MethodName)) ∈ lw_all := lw_g (lw_at lw_m4 185 rfl) rfl
theorem q966 : (Jvm.Cond.methodLink "XactKernelLaw" (117 : Nat) ({ cls := "XactKernelLaw", name := "open", desc := "(LXactKernel;III[J)I" } : Jvm.MethodName)) ∈ lw_all := lw_g (lw_at lw_m4 189 rfl) rfl
theorem q967 : (Jvm.Cond.static ({ cls := "XactKernelLaw", name := "open", desc := "(LXactKernel;III[J)I" } : Jvm.MethodName)) ∈ lw_all := lw_g (lw_at lw_m4 190 rfl) rfl
theorem q968 : (Jvm.Cond.codeWith ({ cls := "XactKernelLaw", name := "open", desc := "(LXactKernel;III[J)I" } : Jvm.MethodName) method_6_code (6 : Nat) (Option.some Jvm.ClassFile.FieldType.int) [((0 : Nat), (12 : Nat), (15 : Nat), (13 : Nat)), ((0 : Nat), (12 : Nat), (19 : Nat), (15 : Nat)), ((0 : Nat), (12 : Nat), (23 : Nat), (22 : Nat)), ((0 : Nat), (12 : Nat), (27 : Nat), (17 : Nat)), ((0 : Nat), (12 : Nat), (31 : Nat), (24 : Nat))]) ∈ lw_all := lw_g (lw_at lw_m4 191 rfl) rfl
theorem q969 : (Jvm.Cond.methodLink "XactKernelLaw" (29 : Nat) ({ cls := "XactKernel", name := "open", desc := "(III)I" } : Jvm.MethodName)) ∈ lw_all := lw_g (lw_at lw_m4 192 rfl) rfl
theorem q1183 : (Jvm.Cond.methodLink "XactKernelLaw" (121 : Nat) ({ cls := "XactKernelLaw", name := "close", desc := "(LXactKernel;II[J)I" } : Jvm.MethodName)) ∈ lw_all := lw_g (lw_at lw_m5 166 rfl) rfl
theorem q1184 : (Jvm.Cond.static ({ cls := "XactKernelLaw", name := "close", desc := "(LXactKernel;II[J)I" } : Jvm.MethodName)) ∈ lw_all := lw_g (lw_at lw_m5 167 rfl) rfl
theorem q1185 : (Jvm.Cond.codeWith ({ cls := "XactKernelLaw", name := "close", desc := "(LXactKernel;II[J)I" } : Jvm.MethodName) method_7_code (5 : Nat) (Option.some Jvm.ClassFile.FieldType.int) [((0 : Nat), (10 : Nat), (13 : Nat), (13 : Nat)), ((0 : Nat), (10 : Nat), (17 : Nat), (15 : Nat))]) ∈ lw_all := lw_g (lw_at lw_m5 168 rfl) rfl
theorem q1186 : (Jvm.Cond.methodLink "XactKernelLaw" (33 : Nat) ({ cls := "XactKernel", name := "close", desc := "(II)I" } : Jvm.MethodName)) ∈ lw_all := lw_g (lw_at lw_m5 169 rfl) rfl
theorem q1194 : (Jvm.Cond.methodLink "XactKernelLaw" (125 : Nat) ({ cls := "XactKernelLaw", name := "read", desc := "(LXactKernel;II[J)I" } : Jvm.MethodName)) ∈ lw_all := lw_g (lw_at lw_m5 177 rfl) rfl
theorem q1195 : (Jvm.Cond.static ({ cls := "XactKernelLaw", name := "read", desc := "(LXactKernel;II[J)I" } : Jvm.MethodName)) ∈ lw_all := lw_g (lw_at lw_m5 178 rfl) rfl
theorem q1196 : (Jvm.Cond.codeWith ({ cls := "XactKernelLaw", name := "read", desc := "(LXactKernel;II[J)I" } : Jvm.MethodName) method_8_code (5 : Nat) (Option.some Jvm.ClassFile.FieldType.int) [((0 : Nat), (10 : Nat), (13 : Nat), (13 : Nat)), ((0 : Nat), (10 : Nat), (17 : Nat), (15 : Nat)), ((0 : Nat), (10 : Nat), (21 : Nat), (22 : Nat)), ((0 : Nat), (10 : Nat), (25 : Nat), (24 : Nat))]) ∈ lw_all := lw_g (lw_at lw_m5 179 rfl) rfl
theorem q1197 : (Jvm.Cond.methodLink "XactKernelLaw" (37 : Nat) ({ cls := "XactKernel", name := "read", desc := "(II)I" } : Jvm.MethodName)) ∈ lw_all := lw_g (lw_at lw_m5 180 rfl) rfl
theorem q1232 : (Jvm.Cond.methodLink "XactKernelLaw" (128 : Nat) ({ cls := "XactKernelLaw", name := "write", desc := "(LXactKernel;III[J)I" } : Jvm.MethodName)) ∈ lw_all := lw_g (lw_at lw_m5 215 rfl) rfl
theorem q1233 : (Jvm.Cond.static ({ cls := "XactKernelLaw", name := "write", desc := "(LXactKernel;III[J)I" } : Jvm.MethodName)) ∈ lw_all := lw_g (lw_at lw_m5 216 rfl) rfl
theorem q1234 : (Jvm.Cond.codeWith ({ cls := "XactKernelLaw", name := "write", desc := "(LXactKernel;III[J)I" } : Jvm.MethodName) method_9_code (6 : Nat) (Option.some Jvm.ClassFile.FieldType.int) [((0 : Nat), (12 : Nat), (15 : Nat), (13 : Nat)), ((0 : Nat), (12 : Nat), (19 : Nat), (15 : Nat)), ((0 : Nat), (12 : Nat), (23 : Nat), (17 : Nat)), ((0 : Nat), (12 : Nat), (27 : Nat), (24 : Nat))]) ∈ lw_all := lw_g (lw_at lw_m5 217 rfl) rfl
theorem q1235 : (Jvm.Cond.methodLink "XactKernelLaw" (40 : Nat) ({ cls := "XactKernel", name := "write", desc := "(III)I" } : Jvm.MethodName)) ∈ lw_all := lw_g (lw_at lw_m5 218 rfl) rfl
theorem q1240 : (Jvm.Cond.methodLink "XactKernelLaw" (131 : Nat) ({ cls := "XactKernelLaw", name := "seek", desc := "(LXactKernel;III[J)I" } : Jvm.MethodName)) ∈ lw_all := lw_g (lw_at lw_m5 223 rfl) rfl
theorem q1241 : (Jvm.Cond.static ({ cls := "XactKernelLaw", name := "seek", desc := "(LXactKernel;III[J)I" } : Jvm.MethodName)) ∈ lw_all := lw_g (lw_at lw_m5 224 rfl) rfl
theorem q1242 : (Jvm.Cond.codeWith ({ cls := "XactKernelLaw", name := "seek", desc := "(LXactKernel;III[J)I" } : Jvm.MethodName) method_10_code (6 : Nat) (Option.some Jvm.ClassFile.FieldType.int) [((0 : Nat), (12 : Nat), (15 : Nat), (13 : Nat)), ((0 : Nat), (12 : Nat), (19 : Nat), (15 : Nat)), ((0 : Nat), (12 : Nat), (23 : Nat), (24 : Nat))]) ∈ lw_all := lw_g (lw_at lw_m5 225 rfl) rfl
theorem q1243 : (Jvm.Cond.methodLink "XactKernelLaw" (43 : Nat) ({ cls := "XactKernel", name := "seek", desc := "(III)I" } : Jvm.MethodName)) ∈ lw_all := lw_g (lw_at lw_m5 226 rfl) rfl
theorem q1247 : (Jvm.Cond.methodLink "XactKernelLaw" (134 : Nat) ({ cls := "XactKernelLaw", name := "truncate", desc := "(LXactKernel;III[J)I" } : Jvm.MethodName)) ∈ lw_all := lw_g (lw_at lw_m5 230 rfl) rfl
theorem q1248 : (Jvm.Cond.static ({ cls := "XactKernelLaw", name := "truncate", desc := "(LXactKernel;III[J)I" } : Jvm.MethodName)) ∈ lw_all := lw_g (lw_at lw_m5 231 rfl) rfl
theorem q1249 : (Jvm.Cond.codeWith ({ cls := "XactKernelLaw", name := "truncate", desc := "(LXactKernel;III[J)I" } : Jvm.MethodName) method_11_code (6 : Nat) (Option.some Jvm.ClassFile.FieldType.int) [((0 : Nat), (12 : Nat), (15 : Nat), (13 : Nat)), ((0 : Nat), (12 : Nat), (19 : Nat), (15 : Nat)), ((0 : Nat), (12 : Nat), (23 : Nat), (24 : Nat)), ((0 : Nat), (12 : Nat), (27 : Nat), (17 : Nat))]) ∈ lw_all := lw_g (lw_at lw_m5 232 rfl) rfl
theorem q1250 : (Jvm.Cond.methodLink "XactKernelLaw" (46 : Nat) ({ cls := "XactKernel", name := "truncate", desc := "(III)I" } : Jvm.MethodName)) ∈ lw_all := lw_g (lw_at lw_m5 233 rfl) rfl
theorem q1258 : (Jvm.Cond.methodLink "XactKernelLaw" (137 : Nat) ({ cls := "XactKernelLaw", name := "directory", desc := "(LXactKernel;II[J)I" } : Jvm.MethodName)) ∈ lw_all := lw_g (lw_at lw_m6 1 rfl) rfl
theorem q1259 : (Jvm.Cond.static ({ cls := "XactKernelLaw", name := "directory", desc := "(LXactKernel;II[J)I" } : Jvm.MethodName)) ∈ lw_all := lw_g (lw_at lw_m6 2 rfl) rfl
theorem q1260 : (Jvm.Cond.codeWith ({ cls := "XactKernelLaw", name := "directory", desc := "(LXactKernel;II[J)I" } : Jvm.MethodName) method_12_code (5 : Nat) (Option.some Jvm.ClassFile.FieldType.int) [((0 : Nat), (10 : Nat), (13 : Nat), (13 : Nat)), ((0 : Nat), (10 : Nat), (17 : Nat), (15 : Nat)), ((0 : Nat), (10 : Nat), (21 : Nat), (22 : Nat)), ((0 : Nat), (10 : Nat), (25 : Nat), (17 : Nat)), ((0 : Nat), (10 : Nat), (29 : Nat), (24 : Nat))]) ∈ lw_all := lw_g (lw_at lw_m6 3 rfl) rfl
theorem q1261 : (Jvm.Cond.methodLink "XactKernelLaw" (49 : Nat) ({ cls := "XactKernel", name := "directory", desc := "(II)I" } : Jvm.MethodName)) ∈ lw_all := lw_g (lw_at lw_m6 4 rfl) rfl
theorem q1265 : (Jvm.Cond.methodLink "XactKernelLaw" (140 : Nat) ({ cls := "XactKernelLaw", name := "link", desc := "(LXactKernel;III[J)I" } : Jvm.MethodName)) ∈ lw_all := lw_g (lw_at lw_m6 8 rfl) rfl
theorem q1266 : (Jvm.Cond.static ({ cls := "XactKernelLaw", name := "link", desc := "(LXactKernel;III[J)I" } : Jvm.MethodName)) ∈ lw_all := lw_g (lw_at lw_m6 9 rfl) rfl
theorem q1267 : (Jvm.Cond.codeWith ({ cls := "XactKernelLaw", name := "link", desc := "(LXactKernel;III[J)I" } : Jvm.MethodName) method_13_code (6 : Nat) (Option.some Jvm.ClassFile.FieldType.int) [((0 : Nat), (12 : Nat), (15 : Nat), (13 : Nat)), ((0 : Nat), (12 : Nat), (19 : Nat), (15 : Nat)), ((0 : Nat), (12 : Nat), (23 : Nat), (22 : Nat)), ((0 : Nat), (12 : Nat), (27 : Nat), (17 : Nat)), ((0 : Nat), (12 : Nat), (31 : Nat), (24 : Nat))]) ∈ lw_all := lw_g (lw_at lw_m6 10 rfl) rfl
theorem q1268 : (Jvm.Cond.methodLink "XactKernelLaw" (52 : Nat) ({ cls := "XactKernel", name := "link", desc := "(III)I" } : Jvm.MethodName)) ∈ lw_all := lw_g (lw_at lw_m6 11 rfl) rfl
theorem q1272 : (Jvm.Cond.methodLink "XactKernelLaw" (143 : Nat) ({ cls := "XactKernelLaw", name := "unlink", desc := "(LXactKernel;II[J)I" } : Jvm.MethodName)) ∈ lw_all := lw_g (lw_at lw_m6 15 rfl) rfl
theorem q1273 : (Jvm.Cond.static ({ cls := "XactKernelLaw", name := "unlink", desc := "(LXactKernel;II[J)I" } : Jvm.MethodName)) ∈ lw_all := lw_g (lw_at lw_m6 16 rfl) rfl
theorem q1274 : (Jvm.Cond.codeWith ({ cls := "XactKernelLaw", name := "unlink", desc := "(LXactKernel;II[J)I" } : Jvm.MethodName) method_14_code (5 : Nat) (Option.some Jvm.ClassFile.FieldType.int) [((0 : Nat), (10 : Nat), (13 : Nat), (13 : Nat)), ((0 : Nat), (10 : Nat), (17 : Nat), (15 : Nat)), ((0 : Nat), (10 : Nat), (21 : Nat), (22 : Nat)), ((0 : Nat), (10 : Nat), (25 : Nat), (17 : Nat)), ((0 : Nat), (10 : Nat), (29 : Nat), (24 : Nat))]) ∈ lw_all := lw_g (lw_at lw_m6 17 rfl) rfl
theorem q1275 : (Jvm.Cond.methodLink "XactKernelLaw" (55 : Nat) ({ cls := "XactKernel", name := "unlink", desc := "(II)I" } : Jvm.MethodName)) ∈ lw_all := lw_g (lw_at lw_m6 18 rfl) rfl
theorem q1285 : (Jvm.Cond.methodLink "XactKernelLaw" (146 : Nat) ({ cls := "XactKernelLaw", name := "rename", desc := "(LXactKernel;III[J)I" } : Jvm.MethodName)) ∈ lw_all := lw_g (lw_at lw_m6 28 rfl) rfl
theorem q1286 : (Jvm.Cond.static ({ cls := "XactKernelLaw", name := "rename", desc := "(LXactKernel;III[J)I" } : Jvm.MethodName)) ∈ lw_all := lw_g (lw_at lw_m6 29 rfl) rfl
theorem q1287 : (Jvm.Cond.codeWith ({ cls := "XactKernelLaw", name := "rename", desc := "(LXactKernel;III[J)I" } : Jvm.MethodName) method_15_code (6 : Nat) (Option.some Jvm.ClassFile.FieldType.int) [((0 : Nat), (12 : Nat), (15 : Nat), (13 : Nat)), ((0 : Nat), (12 : Nat), (19 : Nat), (15 : Nat)), ((0 : Nat), (12 : Nat), (23 : Nat), (22 : Nat)), ((0 : Nat), (12 : Nat), (27 : Nat), (17 : Nat)), ((0 : Nat), (12 : Nat), (31 : Nat), (24 : Nat))]) ∈ lw_all := lw_g (lw_at lw_m6 30 rfl) rfl
theorem q1288 : (Jvm.Cond.methodLink "XactKernelLaw" (58 : Nat) ({ cls := "XactKernel", name := "rename", desc := "(III)I" } : Jvm.MethodName)) ∈ lw_all := lw_g (lw_at lw_m6 31 rfl) rfl
theorem q1295 : (Jvm.Cond.methodLink "XactKernelLaw" (149 : Nat) ({ cls := "XactKernelLaw", name := "size", desc := "(LXactKernel;II[J)I" } : Jvm.MethodName)) ∈ lw_all := lw_g (lw_at lw_m6 38 rfl) rfl
theorem q1296 : (Jvm.Cond.static ({ cls := "XactKernelLaw", name := "size", desc := "(LXactKernel;II[J)I" } : Jvm.MethodName)) ∈ lw_all := lw_g (lw_at lw_m6 39 rfl) rfl
theorem q1297 : (Jvm.Cond.codeWith ({ cls := "XactKernelLaw", name := "size", desc := "(LXactKernel;II[J)I" } : Jvm.MethodName) method_16_code (5 : Nat) (Option.some Jvm.ClassFile.FieldType.int) [((0 : Nat), (10 : Nat), (13 : Nat), (13 : Nat)), ((0 : Nat), (10 : Nat), (17 : Nat), (15 : Nat)), ((0 : Nat), (10 : Nat), (21 : Nat), (22 : Nat)), ((0 : Nat), (10 : Nat), (25 : Nat), (24 : Nat))]) ∈ lw_all := lw_g (lw_at lw_m6 40 rfl) rfl
theorem q1298 : (Jvm.Cond.methodLink "XactKernelLaw" (61 : Nat) ({ cls := "XactKernel", name := "size", desc := "(II)I" } : Jvm.MethodName)) ∈ lw_all := lw_g (lw_at lw_m6 41 rfl) rfl
theorem q1302 : (Jvm.Cond.methodLink "XactKernelLaw" (152 : Nat) ({ cls := "XactKernelLaw", name := "pipe", desc := "(LXactKernel;I[J)I" } : Jvm.MethodName)) ∈ lw_all := lw_g (lw_at lw_m6 45 rfl) rfl
theorem q1303 : (Jvm.Cond.static ({ cls := "XactKernelLaw", name := "pipe", desc := "(LXactKernel;I[J)I" } : Jvm.MethodName)) ∈ lw_all := lw_g (lw_at lw_m6 46 rfl) rfl
theorem q1304 : (Jvm.Cond.codeWith ({ cls := "XactKernelLaw", name := "pipe", desc := "(LXactKernel;I[J)I" } : Jvm.MethodName) method_17_code (4 : Nat) (Option.some Jvm.ClassFile.FieldType.int) [((0 : Nat), (9 : Nat), (12 : Nat), (13 : Nat)), ((0 : Nat), (9 : Nat), (15 : Nat), (15 : Nat)), ((0 : Nat), (9 : Nat), (18 : Nat), (17 : Nat))]) ∈ lw_all := lw_g (lw_at lw_m6 47 rfl) rfl
theorem q1305 : (Jvm.Cond.methodLink "XactKernelLaw" (64 : Nat) ({ cls := "XactKernel", name := "pipe", desc := "(I)I" } : Jvm.MethodName)) ∈ lw_all := lw_g (lw_at lw_m6 48 rfl) rfl
theorem q1311 : (Jvm.Cond.methodLink "XactKernelLaw" (155 : Nat) ({ cls := "XactKernelLaw", name := "fork", desc := "(LXactKernel;I[J)I" } : Jvm.MethodName)) ∈ lw_all := lw_g (lw_at lw_m6 54 rfl) rfl
theorem q1312 : (Jvm.Cond.static ({ cls := "XactKernelLaw", name := "fork", desc := "(LXactKernel;I[J)I" } : Jvm.MethodName)) ∈ lw_all := lw_g (lw_at lw_m6 55 rfl) rfl
theorem q1313 : (Jvm.Cond.codeWith ({ cls := "XactKernelLaw", name := "fork", desc := "(LXactKernel;I[J)I" } : Jvm.MethodName) method_18_code (4 : Nat) (Option.some Jvm.ClassFile.FieldType.int) [((0 : Nat), (9 : Nat), (12 : Nat), (13 : Nat)), ((0 : Nat), (9 : Nat), (15 : Nat), (15 : Nat)), ((0 : Nat), (9 : Nat), (18 : Nat), (24 : Nat)), ((0 : Nat), (9 : Nat), (21 : Nat), (17 : Nat))]) ∈ lw_all := lw_g (lw_at lw_m6 56 rfl) rfl
theorem q1314 : (Jvm.Cond.methodLink "XactKernelLaw" (67 : Nat) ({ cls := "XactKernel", name := "fork", desc := "(I)I" } : Jvm.MethodName)) ∈ lw_all := lw_g (lw_at lw_m6 57 rfl) rfl
theorem q1319 : (Jvm.Cond.methodLink "XactKernelLaw" (158 : Nat) ({ cls := "XactKernelLaw", name := "exit", desc := "(LXactKernel;I[J)I" } : Jvm.MethodName)) ∈ lw_all := lw_g (lw_at lw_m6 62 rfl) rfl
theorem q1320 : (Jvm.Cond.static ({ cls := "XactKernelLaw", name := "exit", desc := "(LXactKernel;I[J)I" } : Jvm.MethodName)) ∈ lw_all := lw_g (lw_at lw_m6 63 rfl) rfl
theorem q1321 : (Jvm.Cond.codeWith ({ cls := "XactKernelLaw", name := "exit", desc := "(LXactKernel;I[J)I" } : Jvm.MethodName) method_19_code (4 : Nat) (Option.some Jvm.ClassFile.FieldType.int) [((0 : Nat), (9 : Nat), (12 : Nat), (13 : Nat)), ((0 : Nat), (9 : Nat), (15 : Nat), (15 : Nat)), ((0 : Nat), (9 : Nat), (18 : Nat), (24 : Nat))]) ∈ lw_all := lw_g (lw_at lw_m6 64 rfl) rfl
theorem q1322 : (Jvm.Cond.methodLink "XactKernelLaw" (70 : Nat) ({ cls := "XactKernel", name := "exit", desc := "(I)I" } : Jvm.MethodName)) ∈ lw_all := lw_g (lw_at lw_m6 65 rfl) rfl
theorem q1330 : (Jvm.Cond.methodLink "XactKernelLaw" (161 : Nat) ({ cls := "XactKernelLaw", name := "signal", desc := "(LXactKernel;III[J)I" } : Jvm.MethodName)) ∈ lw_all := lw_g (lw_at lw_m6 73 rfl) rfl
theorem q1331 : (Jvm.Cond.static ({ cls := "XactKernelLaw", name := "signal", desc := "(LXactKernel;III[J)I" } : Jvm.MethodName)) ∈ lw_all := lw_g (lw_at lw_m6 74 rfl) rfl
theorem q1332 : (Jvm.Cond.codeWith ({ cls := "XactKernelLaw", name := "signal", desc := "(LXactKernel;III[J)I" } : Jvm.MethodName) method_20_code (6 : Nat) (Option.some Jvm.ClassFile.FieldType.int) [((0 : Nat), (12 : Nat), (15 : Nat), (13 : Nat)), ((0 : Nat), (12 : Nat), (19 : Nat), (15 : Nat)), ((0 : Nat), (12 : Nat), (23 : Nat), (22 : Nat)), ((0 : Nat), (12 : Nat), (27 : Nat), (17 : Nat))]) ∈ lw_all := lw_g (lw_at lw_m6 75 rfl) rfl
theorem q1333 : (Jvm.Cond.methodLink "XactKernelLaw" (73 : Nat) ({ cls := "XactKernel", name := "signal", desc := "(III)I" } : Jvm.MethodName)) ∈ lw_all := lw_g (lw_at lw_m6 76 rfl) rfl
theorem q1351 : (Jvm.Cond.methodLink "XactKernelLaw" (164 : Nat) ({ cls := "XactKernelLaw", name := "take", desc := "(LXactKernel;I[J)I" } : Jvm.MethodName)) ∈ lw_all := lw_g (lw_at lw_m6 94 rfl) rfl
theorem q1352 : (Jvm.Cond.static ({ cls := "XactKernelLaw", name := "take", desc := "(LXactKernel;I[J)I" } : Jvm.MethodName)) ∈ lw_all := lw_g (lw_at lw_m6 95 rfl) rfl
theorem q1353 : (Jvm.Cond.codeWith ({ cls := "XactKernelLaw", name := "take", desc := "(LXactKernel;I[J)I" } : Jvm.MethodName) method_21_code (4 : Nat) (Option.some Jvm.ClassFile.FieldType.int) [((0 : Nat), (9 : Nat), (12 : Nat), (13 : Nat)), ((0 : Nat), (9 : Nat), (15 : Nat), (15 : Nat)), ((0 : Nat), (9 : Nat), (18 : Nat), (22 : Nat))]) ∈ lw_all := lw_g (lw_at lw_m6 96 rfl) rfl
theorem q1354 : (Jvm.Cond.methodLink "XactKernelLaw" (76 : Nat) ({ cls := "XactKernel", name := "take", desc := "(I)I" } : Jvm.MethodName)) ∈ lw_all := lw_g (lw_at lw_m6 97 rfl) rfl
theorem q1367 : (Jvm.Cond.methodLink "XactKernelLaw" (167 : Nat) ({ cls := "XactKernelLaw", name := "log", desc := "(LXactKernel;I[J)I" } : Jvm.MethodName)) ∈ lw_all := lw_g (lw_at lw_m6 110 rfl) rfl
theorem q1368 : (Jvm.Cond.static ({ cls := "XactKernelLaw", name := "log", desc := "(LXactKernel;I[J)I" } : Jvm.MethodName)) ∈ lw_all := lw_g (lw_at lw_m6 111 rfl) rfl
theorem q1369 : (Jvm.Cond.codeWith ({ cls := "XactKernelLaw", name := "log", desc := "(LXactKernel;I[J)I" } : Jvm.MethodName) method_22_code (4 : Nat) (Option.some Jvm.ClassFile.FieldType.int) [((0 : Nat), (9 : Nat), (12 : Nat), (13 : Nat))]) ∈ lw_all := lw_g (lw_at lw_m6 112 rfl) rfl
theorem q1370 : (Jvm.Cond.methodLink "XactKernelLaw" (79 : Nat) ({ cls := "XactKernel", name := "log", desc := "(I)I" } : Jvm.MethodName)) ∈ lw_all := lw_g (lw_at lw_m6 113 rfl) rfl
theorem q1374 : (Jvm.Cond.methodLink "XactKernelLaw" (170 : Nat) ({ cls := "XactKernelLaw", name := "cut", desc := "(LXactKernel;I[J)I" } : Jvm.MethodName)) ∈ lw_all := lw_g (lw_at lw_m6 117 rfl) rfl
theorem q1375 : (Jvm.Cond.static ({ cls := "XactKernelLaw", name := "cut", desc := "(LXactKernel;I[J)I" } : Jvm.MethodName)) ∈ lw_all := lw_g (lw_at lw_m6 118 rfl) rfl
theorem q1376 : (Jvm.Cond.codeWith ({ cls := "XactKernelLaw", name := "cut", desc := "(LXactKernel;I[J)I" } : Jvm.MethodName) method_23_code (4 : Nat) (Option.some Jvm.ClassFile.FieldType.int) [((0 : Nat), (9 : Nat), (12 : Nat), (13 : Nat))]) ∈ lw_all := lw_g (lw_at lw_m6 119 rfl) rfl
theorem q1377 : (Jvm.Cond.methodLink "XactKernelLaw" (82 : Nat) ({ cls := "XactKernel", name := "cut", desc := "(I)I" } : Jvm.MethodName)) ∈ lw_all := lw_g (lw_at lw_m6 120 rfl) rfl
theorem q1381 : (Jvm.Cond.methodLink "XactKernelLaw" (173 : Nat) ({ cls := "XactKernelLaw", name := "item", desc := "(LXactKernel;II[J)I" } : Jvm.MethodName)) ∈ lw_all := lw_g (lw_at lw_m6 124 rfl) rfl
theorem q1382 : (Jvm.Cond.static ({ cls := "XactKernelLaw", name := "item", desc := "(LXactKernel;II[J)I" } : Jvm.MethodName)) ∈ lw_all := lw_g (lw_at lw_m6 125 rfl) rfl
theorem q1383 : (Jvm.Cond.codeWith ({ cls := "XactKernelLaw", name := "item", desc := "(LXactKernel;II[J)I" } : Jvm.MethodName) method_24_code (5 : Nat) (Option.some Jvm.ClassFile.FieldType.int) [((0 : Nat), (10 : Nat), (13 : Nat), (13 : Nat))]) ∈ lw_all := lw_g (lw_at lw_m6 126 rfl) rfl
theorem q1384 : (Jvm.Cond.methodLink "XactKernelLaw" (85 : Nat) ({ cls := "XactKernel", name := "item", desc := "(II)I" } : Jvm.MethodName)) ∈ lw_all := lw_g (lw_at lw_m6 127 rfl) rfl
theorem q1400 : (Jvm.Cond.methodLink "XactKernelLaw" (176 : Nat) ({ cls := "XactKernelLaw", name := "cell", desc := "(LXactKernel;II[J)I" } : Jvm.MethodName)) ∈ lw_all := lw_g (lw_at lw_m6 143 rfl) rfl
theorem q1401 : (Jvm.Cond.static ({ cls := "XactKernelLaw", name := "cell", desc := "(LXactKernel;II[J)I" } : Jvm.MethodName)) ∈ lw_all := lw_g (lw_at lw_m6 144 rfl) rfl
theorem q1402 : (Jvm.Cond.codeWith ({ cls := "XactKernelLaw", name := "cell", desc := "(LXactKernel;II[J)I" } : Jvm.MethodName) method_25_code (5 : Nat) (Option.some Jvm.ClassFile.FieldType.int) [((0 : Nat), (10 : Nat), (13 : Nat), (13 : Nat)), ((0 : Nat), (10 : Nat), (17 : Nat), (17 : Nat))]) ∈ lw_all := lw_g (lw_at lw_m6 145 rfl) rfl
theorem q1403 : (Jvm.Cond.methodLink "XactKernelLaw" (88 : Nat) ({ cls := "XactKernel", name := "cell", desc := "(II)I" } : Jvm.MethodName)) ∈ lw_all := lw_g (lw_at lw_m6 146 rfl) rfl
theorem q1407 : (Jvm.Cond.methodLink "XactKernelLaw" (179 : Nat) ({ cls := "XactKernelLaw", name := "look", desc := "(LXactKernel;II[J)I" } : Jvm.MethodName)) ∈ lw_all := lw_g (lw_at lw_m6 150 rfl) rfl
theorem q1408 : (Jvm.Cond.static ({ cls := "XactKernelLaw", name := "look", desc := "(LXactKernel;II[J)I" } : Jvm.MethodName)) ∈ lw_all := lw_g (lw_at lw_m6 151 rfl) rfl
theorem q1409 : (Jvm.Cond.codeWith ({ cls := "XactKernelLaw", name := "look", desc := "(LXactKernel;II[J)I" } : Jvm.MethodName) method_26_code (5 : Nat) (Option.some Jvm.ClassFile.FieldType.int) [((0 : Nat), (10 : Nat), (13 : Nat), (13 : Nat))]) ∈ lw_all := lw_g (lw_at lw_m6 152 rfl) rfl
theorem q1410 : (Jvm.Cond.methodLink "XactKernelLaw" (91 : Nat) ({ cls := "XactKernel", name := "look", desc := "(II)I" } : Jvm.MethodName)) ∈ lw_all := lw_g (lw_at lw_m6 153 rfl) rfl
theorem q1414 : (Jvm.Cond.methodLink "XactKernelLaw" (182 : Nat) ({ cls := "XactKernelLaw", name := "count", desc := "(LXactKernel;I[J)I" } : Jvm.MethodName)) ∈ lw_all := lw_g (lw_at lw_m6 157 rfl) rfl
theorem q1415 : (Jvm.Cond.static ({ cls := "XactKernelLaw", name := "count", desc := "(LXactKernel;I[J)I" } : Jvm.MethodName)) ∈ lw_all := lw_g (lw_at lw_m6 158 rfl) rfl
theorem q1416 : (Jvm.Cond.codeWith ({ cls := "XactKernelLaw", name := "count", desc := "(LXactKernel;I[J)I" } : Jvm.MethodName) method_27_code (4 : Nat) (Option.some Jvm.ClassFile.FieldType.int) [((0 : Nat), (9 : Nat), (12 : Nat), (13 : Nat))]) ∈ lw_all := lw_g (lw_at lw_m6 159 rfl) rfl
theorem q1417 : (Jvm.Cond.methodLink "XactKernelLaw" (94 : Nat) ({ cls := "XactKernel", name := "count", desc := "(I)I" } : Jvm.MethodName)) ∈ lw_all := lw_g (lw_at lw_m6 160 rfl) rfl
theorem q1418 : (Jvm.Cond.classLink "XactKernelLaw" (98 : Nat) "XactKernelModel") ∈ lw_all := lw_g (lw_at lw_m6 161 rfl) rfl
theorem q1420 : (Jvm.Cond.methodLink "XactKernelLaw" (100 : Nat) ({ cls := "XactKernelModel", name := "<init>", desc := "()V" } : Jvm.MethodName)) ∈ lw_all := lw_g (lw_at lw_m6 163 rfl) rfl
theorem q1518 : (Jvm.Cond.methodLink "XactKernelLaw" (107 : Nat) ({ cls := "XactKernelModel", name := "thrown", desc := "()I" } : Jvm.MethodName)) ∈ lw_all := lw_g (lw_at lw_m7 21 rfl) rfl
theorem q1522 : (Jvm.Cond.methodLink "XactKernelLaw" (106 : Nat) ({ cls := "XactKernelModel", name := "begin", desc := "(I)I" } : Jvm.MethodName)) ∈ lw_all := lw_g (lw_at lw_m7 25 rfl) rfl
theorem q1541 : (Jvm.Cond.methodLink "XactKernelLaw" (113 : Nat) ({ cls := "XactKernelModel", name := "end", desc := "(I)I" } : Jvm.MethodName)) ∈ lw_all := lw_g (lw_at lw_m7 44 rfl) rfl
theorem q1581 : (Jvm.Cond.methodLink "XactKernelLaw" (120 : Nat) ({ cls := "XactKernelModel", name := "open", desc := "(III)I" } : Jvm.MethodName)) ∈ lw_all := lw_g (lw_at lw_m7 84 rfl) rfl
theorem q1643 : (Jvm.Cond.methodLink "XactKernelLaw" (124 : Nat) ({ cls := "XactKernelModel", name := "close", desc := "(II)I" } : Jvm.MethodName)) ∈ lw_all := lw_g (lw_at lw_m7 146 rfl) rfl
theorem q1651 : (Jvm.Cond.methodLink "XactKernelLaw" (127 : Nat) ({ cls := "XactKernelModel", name := "read", desc := "(II)I" } : Jvm.MethodName)) ∈ lw_all := lw_g (lw_at lw_m7 154 rfl) rfl
theorem q1655 : (Jvm.Cond.methodLink "XactKernelLaw" (130 : Nat) ({ cls := "XactKernelModel", name := "write", desc := "(III)I" } : Jvm.MethodName)) ∈ lw_all := lw_g (lw_at lw_m7 158 rfl) rfl
theorem q1659 : (Jvm.Cond.methodLink "XactKernelLaw" (133 : Nat) ({ cls := "XactKernelModel", name := "seek", desc := "(III)I" } : Jvm.MethodName)) ∈ lw_all := lw_g (lw_at lw_m7 162 rfl) rfl
theorem q1663 : (Jvm.Cond.methodLink "XactKernelLaw" (136 : Nat) ({ cls := "XactKernelModel", name := "truncate", desc := "(III)I" } : Jvm.MethodName)) ∈ lw_all := lw_g (lw_at lw_m7 166 rfl) rfl
theorem q1667 : (Jvm.Cond.methodLink "XactKernelLaw" (139 : Nat) ({ cls := "XactKernelModel", name := "directory", desc := "(II)I" } : Jvm.MethodName)) ∈ lw_all := lw_g (lw_at lw_m7 170 rfl) rfl
theorem q1671 : (Jvm.Cond.methodLink "XactKernelLaw" (142 : Nat) ({ cls := "XactKernelModel", name := "link", desc := "(III)I" } : Jvm.MethodName)) ∈ lw_all := lw_g (lw_at lw_m7 174 rfl) rfl
theorem q1675 : (Jvm.Cond.methodLink "XactKernelLaw" (145 : Nat) ({ cls := "XactKernelModel", name := "unlink", desc := "(II)I" } : Jvm.MethodName)) ∈ lw_all := lw_g (lw_at lw_m7 178 rfl) rfl
theorem q1683 : (Jvm.Cond.methodLink "XactKernelLaw" (148 : Nat) ({ cls := "XactKernelModel", name := "rename", desc := "(III)I" } : Jvm.MethodName)) ∈ lw_all := lw_g (lw_at lw_m7 186 rfl) rfl
theorem q1687 : (Jvm.Cond.methodLink "XactKernelLaw" (151 : Nat) ({ cls := "XactKernelModel", name := "size", desc := "(II)I" } : Jvm.MethodName)) ∈ lw_all := lw_g (lw_at lw_m7 190 rfl) rfl
theorem q1691 : (Jvm.Cond.methodLink "XactKernelLaw" (154 : Nat) ({ cls := "XactKernelModel", name := "pipe", desc := "(I)I" } : Jvm.MethodName)) ∈ lw_all := lw_g (lw_at lw_m7 194 rfl) rfl
theorem q1695 : (Jvm.Cond.methodLink "XactKernelLaw" (116 : Nat) ({ cls := "XactKernelModel", name := "abort", desc := "(I)I" } : Jvm.MethodName)) ∈ lw_all := lw_g (lw_at lw_m7 198 rfl) rfl
theorem q1699 : (Jvm.Cond.methodLink "XactKernelLaw" (157 : Nat) ({ cls := "XactKernelModel", name := "fork", desc := "(I)I" } : Jvm.MethodName)) ∈ lw_all := lw_g (lw_at lw_m7 202 rfl) rfl
theorem q1703 : (Jvm.Cond.methodLink "XactKernelLaw" (160 : Nat) ({ cls := "XactKernelModel", name := "exit", desc := "(I)I" } : Jvm.MethodName)) ∈ lw_all := lw_g (lw_at lw_m7 206 rfl) rfl
theorem q1711 : (Jvm.Cond.methodLink "XactKernelLaw" (163 : Nat) ({ cls := "XactKernelModel", name := "signal", desc := "(III)I" } : Jvm.MethodName)) ∈ lw_all := lw_g (lw_at lw_m7 214 rfl) rfl
theorem q1715 : (Jvm.Cond.methodLink "XactKernelLaw" (166 : Nat) ({ cls := "XactKernelModel", name := "take", desc := "(I)I" } : Jvm.MethodName)) ∈ lw_all := lw_g (lw_at lw_m7 218 rfl) rfl
theorem q1719 : (Jvm.Cond.methodLink "XactKernelLaw" (169 : Nat) ({ cls := "XactKernelModel", name := "log", desc := "(I)I" } : Jvm.MethodName)) ∈ lw_all := lw_g (lw_at lw_m7 222 rfl) rfl
theorem q1723 : (Jvm.Cond.methodLink "XactKernelLaw" (172 : Nat) ({ cls := "XactKernelModel", name := "cut", desc := "(I)I" } : Jvm.MethodName)) ∈ lw_all := lw_g (lw_at lw_m7 226 rfl) rfl
theorem q1727 : (Jvm.Cond.methodLink "XactKernelLaw" (175 : Nat) ({ cls := "XactKernelModel", name := "item", desc := "(II)I" } : Jvm.MethodName)) ∈ lw_all := lw_g (lw_at lw_m7 230 rfl) rfl
theorem q1731 : (Jvm.Cond.methodLink "XactKernelLaw" (178 : Nat) ({ cls := "XactKernelModel", name := "cell", desc := "(II)I" } : Jvm.MethodName)) ∈ lw_all := lw_g (lw_at lw_m7 234 rfl) rfl
theorem q1735 : (Jvm.Cond.methodLink "XactKernelLaw" (181 : Nat) ({ cls := "XactKernelModel", name := "look", desc := "(II)I" } : Jvm.MethodName)) ∈ lw_all := lw_g (lw_at lw_m7 238 rfl) rfl
theorem q1739 : (Jvm.Cond.methodLink "XactKernelLaw" (184 : Nat) ({ cls := "XactKernelModel", name := "count", desc := "(I)I" } : Jvm.MethodName)) ∈ lw_all := lw_g (lw_at lw_m8 2 rfl) rfl
/-! XactKernel -/
def RX1 : String := "XactKernel"
def TX1 : u_T := fun k => match k with
  | 0 => ("XactKernel", "items", "[LXactKernel$Item;", true)
  | 1 => ("XactKernel", "processes", "[LXactKernel$Process;", true)
  | 2 => ("XactKernel", "transactions", "Ljava/util/List;", true)
  | 3 => ("XactKernel", "log", "I", false)
  | 4 => ("XactKernel", "cutAt", "I", false)
  | 5 => ("XactKernel", "done", "I", false)
  | 6 => ("XactKernel", "aborted", "I", false)
  | 7 => ("XactKernel", "crashes", "I", false)
  | _ => ("XactKernel", "writes", "I", false)
def tyX1 : Nat → FieldType := fun k => match k with
  | 0 => .array (.object "XactKernel$Item")
  | 1 => .array (.object "XactKernel$Process")
  | 2 => .object "java/util/List"
  | 3 => .int
  | 4 => .int
  | 5 => .int
  | 6 => .int
  | 7 => .int
  | _ => .int
abbrev wsX10 : List Cond := u_ws RX1 TX1 9
theorem nmX1 : ∀ a, a < 9 → ∀ b, b < 9 → a ≠ b → (TX1 a).2.1 ≠ (TX1 b).2.1 := by decide +kernel
theorem tyX1_ok : ∀ k, k < 9 → parseFieldDescriptor (TX1 k).2.2.1 = some (tyX1 k) := by decide +kernel
abbrev cX1_init : ByteArray := prog_1_method_1_code
def yX1_init : MethodName := ⟨RX1, "<init>", "()V"⟩
abbrev cX1_begin : ByteArray := prog_1_method_28_code
def yX1_begin : MethodName := ⟨RX1, "begin", "(I)I"⟩
abbrev cX1_process : ByteArray := prog_1_method_7_code
def yX1_process : MethodName := ⟨RX1, "process", "(I)LXactKernel$Process;"⟩
abbrev cX1_in : ByteArray := prog_1_method_2_code
def yX1_in : MethodName := ⟨RX1, "in", "(III)Z"⟩
abbrev cX1_check : ByteArray := prog_1_method_3_code
def yX1_check : MethodName := ⟨RX1, "check", "(Z)V"⟩
abbrev cX1_awake : ByteArray := prog_1_method_8_code
def yX1_awake : MethodName := ⟨RX1, "awake", "(LXactKernel$Process;)V"⟩
abbrev cX1_room : ByteArray := prog_1_method_4_code
def yX1_room : MethodName := ⟨RX1, "room", "(Z)V"⟩
abbrev cX1_end : ByteArray := prog_1_method_29_code
def yX1_end : MethodName := ⟨RX1, "end", "(I)I"⟩
abbrev cX1_isThere : ByteArray := prog_1_method_6_code
def yX1_isThere : MethodName := ⟨RX1, "isThere", "(Z)V"⟩
abbrev cX1_ends : ByteArray := prog_1_method_23_code
def yX1_ends : MethodName := ⟨RX1, "ends", "(LXactKernel$Transaction;)V"⟩
abbrev cX1_dirty : ByteArray := prog_1_method_20_code
def yX1_dirty : MethodName := ⟨RX1, "dirty", "(LXactKernel$Transaction;)I"⟩
abbrev cX1_drop : ByteArray := prog_1_method_12_code
def yX1_drop : MethodName := ⟨RX1, "drop", "(LXactKernel$Transaction;)V"⟩
abbrev cX1_sweep : ByteArray := prog_1_method_26_code
def yX1_sweep : MethodName := ⟨RX1, "sweep", "()V"⟩
abbrev cX1_stores : ByteArray := prog_1_method_24_code
def yX1_stores : MethodName := ⟨RX1, "stores", "(I)Z"⟩
abbrev cX1_store : ByteArray := prog_1_method_21_code
def yX1_store : MethodName := ⟨RX1, "store", "(I)V"⟩
abbrev cX1_disk : ByteArray := prog_1_method_19_code
def yX1_disk : MethodName := ⟨RX1, "disk", "(I)V"⟩
abbrev cX1_crash : ByteArray := prog_1_method_25_code
def yX1_crash : MethodName := ⟨RX1, "crash", "(LXactKernel$Transaction;Z)V"⟩
abbrev cX1_put : ByteArray := prog_1_method_22_code
def yX1_put : MethodName := ⟨RX1, "put", "(LXactKernel$Transaction;)V"⟩
abbrev cX1_abort : ByteArray := prog_1_method_30_code
def yX1_abort : MethodName := ⟨RX1, "abort", "(I)I"⟩
abbrev cX1_open : ByteArray := prog_1_method_39_code
def yX1_open : MethodName := ⟨RX1, "open", "(III)I"⟩
abbrev cX1_isPath : ByteArray := prog_1_method_9_code
def yX1_isPath : MethodName := ⟨RX1, "isPath", "(I)Z"⟩
abbrev cX1_current : ByteArray := prog_1_method_11_code
def yX1_current : MethodName := ⟨RX1, "current", "(LXactKernel$Process;)LXactKernel$Transaction;"⟩
abbrev cX1_holder : ByteArray := prog_1_method_33_code
def yX1_holder : MethodName := ⟨RX1, "holder", "(LXactKernel$Transaction;I)I"⟩
abbrev cX1_length : ByteArray := prog_1_method_10_code
def yX1_length : MethodName := ⟨RX1, "length", "(I)I"⟩
abbrev cX1_fits : ByteArray := prog_1_method_5_code
def yX1_fits : MethodName := ⟨RX1, "fits", "(Z)V"⟩
abbrev cX1_walk : ByteArray := prog_1_method_32_code
def yX1_walk : MethodName := ⟨RX1, "walk", "(LXactKernel$Transaction;II)I"⟩
abbrev cX1_within : ByteArray := prog_1_method_31_code
def yX1_within : MethodName := ⟨RX1, "within", "(LXactKernel$Transaction;I)LXactKernel$DirectoryItem;"⟩
abbrev cX1_reads : ByteArray := prog_1_method_15_code
def yX1_reads : MethodName := ⟨RX1, "reads", "(LXactKernel$Transaction;I)LXactKernel$Item;"⟩
abbrev cX1_meet : ByteArray := prog_1_method_13_code
def yX1_meet : MethodName := ⟨RX1, "meet", "(LXactKernel$Transaction;IZ)V"⟩
abbrev cX1_seen : ByteArray := prog_1_method_14_code
def yX1_seen : MethodName := ⟨RX1, "seen", "(LXactKernel;LXactKernel$Transaction;I)LXactKernel$Item;"⟩
abbrev cX1_under : ByteArray := prog_1_method_35_code
def yX1_under : MethodName := ⟨RX1, "under", "(LXactKernel$Transaction;II)I"⟩
abbrev cX1_last : ByteArray := prog_1_method_34_code
def yX1_last : MethodName := ⟨RX1, "last", "(I)I"⟩
abbrev cX1_makes : ByteArray := prog_1_method_37_code
def yX1_makes : MethodName := ⟨RX1, "makes", "(LXactKernel$Transaction;IILXactKernel$Item;)I"⟩
abbrev cX1_free : ByteArray := prog_1_method_17_code
def yX1_free : MethodName := ⟨RX1, "free", "(II)I"⟩
abbrev cX1_isFree : ByteArray := prog_1_method_18_code
def yX1_isFree : MethodName := ⟨RX1, "isFree", "(I)Z"⟩
abbrev cX1_full : ByteArray := prog_1_method_38_code
def yX1_full : MethodName := ⟨RX1, "full", "(LXactKernel$Transaction;I)V"⟩
abbrev cX1_enter : ByteArray := prog_1_method_36_code
def yX1_enter : MethodName := ⟨RX1, "enter", "(LXactKernel$Transaction;III)V"⟩
abbrev cX1_writes : ByteArray := prog_1_method_16_code
def yX1_writes : MethodName := ⟨RX1, "writes", "(LXactKernel$Transaction;I)LXactKernel$Item;"⟩
abbrev cX1_leave : ByteArray := prog_1_method_27_code
def yX1_leave : MethodName := ⟨RX1, "leave", "(LXactKernel$Transaction;)V"⟩
abbrev cX1_close : ByteArray := prog_1_method_42_code
def yX1_close : MethodName := ⟨RX1, "close", "(II)I"⟩
abbrev cX1_descriptor : ByteArray := prog_1_method_40_code
def yX1_descriptor : MethodName := ⟨RX1, "descriptor", "(LXactKernel$Process;I)LXactKernel$Descriptor;"⟩
abbrev cX1_read : ByteArray := prog_1_method_43_code
def yX1_read : MethodName := ⟨RX1, "read", "(II)I"⟩
abbrev cX1_isPipe : ByteArray := prog_1_method_41_code
def yX1_isPipe : MethodName := ⟨RX1, "isPipe", "(LXactKernel$Descriptor;)Z"⟩
abbrev cX1_write : ByteArray := prog_1_method_44_code
def yX1_write : MethodName := ⟨RX1, "write", "(III)I"⟩
abbrev cX1_seek : ByteArray := prog_1_method_45_code
def yX1_seek : MethodName := ⟨RX1, "seek", "(III)I"⟩
abbrev cX1_truncate : ByteArray := prog_1_method_46_code
def yX1_truncate : MethodName := ⟨RX1, "truncate", "(III)I"⟩
abbrev cX1_directory : ByteArray := prog_1_method_47_code
def yX1_directory : MethodName := ⟨RX1, "directory", "(II)I"⟩
abbrev cX1_link : ByteArray := prog_1_method_48_code
def yX1_link : MethodName := ⟨RX1, "link", "(III)I"⟩
abbrev cX1_unlink : ByteArray := prog_1_method_49_code
def yX1_unlink : MethodName := ⟨RX1, "unlink", "(II)I"⟩
abbrev cX1_rename : ByteArray := prog_1_method_51_code
def yX1_rename : MethodName := ⟨RX1, "rename", "(III)I"⟩
abbrev cX1_begins : ByteArray := prog_1_method_50_code
def yX1_begins : MethodName := ⟨RX1, "begins", "(II)Z"⟩
abbrev cX1_size : ByteArray := prog_1_method_52_code
def yX1_size : MethodName := ⟨RX1, "size", "(II)I"⟩
abbrev cX1_pipe : ByteArray := prog_1_method_53_code
def yX1_pipe : MethodName := ⟨RX1, "pipe", "(I)I"⟩
abbrev cX1_fork : ByteArray := prog_1_method_54_code
def yX1_fork : MethodName := ⟨RX1, "fork", "(I)I"⟩
abbrev cX1_exit : ByteArray := prog_1_method_55_code
def yX1_exit : MethodName := ⟨RX1, "exit", "(I)I"⟩
abbrev cX1_count : ByteArray := prog_1_method_63_code
def yX1_count : MethodName := ⟨RX1, "count", "(I)I"⟩
abbrev cX1_signal : ByteArray := prog_1_method_56_code
def yX1_signal : MethodName := ⟨RX1, "signal", "(III)I"⟩
abbrev cX1_take : ByteArray := prog_1_method_57_code
def yX1_take : MethodName := ⟨RX1, "take", "(I)I"⟩
abbrev cX1_log : ByteArray := prog_1_method_58_code
def yX1_log : MethodName := ⟨RX1, "log", "(I)I"⟩
abbrev cX1_cut : ByteArray := prog_1_method_59_code
def yX1_cut : MethodName := ⟨RX1, "cut", "(I)I"⟩
abbrev cX1_item : ByteArray := prog_1_method_60_code
def yX1_item : MethodName := ⟨RX1, "item", "(II)I"⟩
abbrev cX1_cell : ByteArray := prog_1_method_61_code
def yX1_cell : MethodName := ⟨RX1, "cell", "(II)I"⟩
abbrev cX1_look : ByteArray := prog_1_method_62_code
def yX1_look : MethodName := ⟨RX1, "look", "(II)I"⟩
theorem q58 : (Jvm.Cond.initialized "XactKernel") ∈ lw_all := lw_g (lw_at lw_m1 1 rfl) rfl
theorem q97 : (Jvm.Cond.instantiable "XactKernel" (9 : Nat)) ∈ lw_all := lw_g (lw_at lw_m1 40 rfl) rfl
theorem q99 : (Jvm.Cond.instanceMethod ({ cls := "XactKernel", name := "<init>", desc := "()V" } : Jvm.MethodName)) ∈ lw_all := lw_g (lw_at lw_m1 42 rfl) rfl
theorem q100 : (Jvm.Cond.code ({ cls := "XactKernel", name := "<init>", desc := "()V" } : Jvm.MethodName) prog_1_method_1_code (1 : Nat) (Option.none : Option Jvm.ClassFile.FieldType)) ∈ lw_all := lw_g (lw_at lw_m1 43 rfl) rfl
theorem q101 : (Jvm.Cond.methodLink "XactKernel" (1 : Nat) ({ cls := "java/lang/Object", name := "<init>", desc := "()V" } : Jvm.MethodName)) ∈ lw_all := lw_g (lw_at lw_m1 44 rfl) rfl
theorem q104 : (Jvm.Cond.classLink "XactKernel" (9 : Nat) "XactKernel$Item") ∈ lw_all := lw_g (lw_at lw_m1 47 rfl) rfl
theorem q106 : (Jvm.Cond.classLink "XactKernel" (15 : Nat) "XactKernel$Process") ∈ lw_all := lw_g (lw_at lw_m1 49 rfl) rfl
theorem q108 : (Jvm.Cond.classLink "XactKernel" (21 : Nat) "java/util/ArrayList") ∈ lw_all := lw_g (lw_at lw_m1 51 rfl) rfl
theorem q110 : (Jvm.Cond.methodLink "XactKernel" (23 : Nat) ({ cls := "java/util/ArrayList", name := "<init>", desc := "()V" } : Jvm.MethodName)) ∈ lw_all := lw_g (lw_at lw_m1 53 rfl) rfl
theorem q137 : (Jvm.Cond.classLink "XactKernel" (35 : Nat) "XactKernel$DirectoryItem") ∈ lw_all := lw_g (lw_at lw_m1 80 rfl) rfl
theorem q139 : (Jvm.Cond.methodLinkNest "XactKernel" (37 : Nat) ({ cls := "XactKernel$DirectoryItem", name := "<init>", desc := "()V" } : Jvm.MethodName) "XactKernel") ∈ lw_tbl := lw_at lw_m1 82 rfl
theorem q470 : (Jvm.Cond.fieldLink "XactKernel" (271 : Nat) "XactKernel$DirectoryItem" "entries" "Ljava/util/List;") ∈ lw_all := lw_g (lw_at lw_m2 173 rfl) rfl
theorem q475 : (Jvm.Cond.methodLinkNest "XactKernel" (38 : Nat) ({ cls := "XactKernel$Process", name := "<init>", desc := "()V" } : Jvm.MethodName) "XactKernel") ∈ lw_tbl := lw_at lw_m2 178 rfl
theorem q485 : (Jvm.Cond.fieldLink "XactKernel" (91 : Nat) "XactKernel$Process" "descriptors" "[LXactKernel$Descriptor;") ∈ lw_all := lw_g (lw_at lw_m2 188 rfl) rfl
theorem q487 : (Jvm.Cond.fieldLink "XactKernel" (198 : Nat) "XactKernel$Process" "signals" "Ljava/util/List;") ∈ lw_all := lw_g (lw_at lw_m2 190 rfl) rfl
theorem q488 : (Jvm.Cond.fieldLink "XactKernel" (66 : Nat) "XactKernel$Process" "transaction" "LXactKernel$Transaction;") ∈ lw_all := lw_g (lw_at lw_m2 191 rfl) rfl
theorem q489 : (Jvm.Cond.fieldLink "XactKernel" (88 : Nat) "XactKernel$Process" "depth" "I") ∈ lw_all := lw_g (lw_at lw_m2 192 rfl) rfl
theorem q490 : (Jvm.Cond.fieldLink "XactKernel" (59 : Nat) "XactKernel$Process" "told" "Z") ∈ lw_all := lw_g (lw_at lw_m2 193 rfl) rfl
theorem q502 : (Jvm.Cond.fieldLink "XactKernel" (11 : Nat) "XactKernel" "items" "[LXactKernel$Item;") ∈ lw_all := lw_g (lw_at lw_m2 205 rfl) rfl
theorem q503 : (Jvm.Cond.fieldLink "XactKernel" (17 : Nat) "XactKernel" "processes" "[LXactKernel$Process;") ∈ lw_all := lw_g (lw_at lw_m2 206 rfl) rfl
theorem q504 : (Jvm.Cond.fieldLink "XactKernel" (24 : Nat) "XactKernel" "transactions" "Ljava/util/List;") ∈ lw_all := lw_g (lw_at lw_m2 207 rfl) rfl
theorem q505 : (Jvm.Cond.fieldLink "XactKernel" (28 : Nat) "XactKernel" "log" "I") ∈ lw_all := lw_g (lw_at lw_m2 208 rfl) rfl
theorem q506 : (Jvm.Cond.fieldLink "XactKernel" (32 : Nat) "XactKernel" "cutAt" "I") ∈ lw_all := lw_g (lw_at lw_m2 209 rfl) rfl
theorem q507 : (Jvm.Cond.fieldLink "XactKernel" (187 : Nat) "XactKernel" "done" "I") ∈ lw_all := lw_g (lw_at lw_m2 210 rfl) rfl
theorem q508 : (Jvm.Cond.fieldLink "XactKernel" (85 : Nat) "XactKernel" "aborted" "I") ∈ lw_all := lw_g (lw_at lw_m2 211 rfl) rfl
theorem q509 : (Jvm.Cond.fieldLink "XactKernel" (211 : Nat) "XactKernel" "crashes" "I") ∈ lw_all := lw_g (lw_at lw_m2 212 rfl) rfl
theorem q510 : (Jvm.Cond.fieldLink "XactKernel" (166 : Nat) "XactKernel" "writes" "I") ∈ lw_all := lw_g (lw_at lw_m2 213 rfl) rfl
theorem q511 : (Jvm.Cond.laysFinal "XactKernel" "XactKernel" "items" "[LXactKernel$Item;") ∈ lw_all := lw_g (lw_at lw_m2 214 rfl) rfl
theorem q512 : (Jvm.Cond.soleField "XactKernel" "items") ∈ lw_all := lw_g (lw_at lw_m2 215 rfl) rfl
theorem q513 : (Jvm.Cond.laysFinal "XactKernel" "XactKernel" "processes" "[LXactKernel$Process;") ∈ lw_all := lw_g (lw_at lw_m2 216 rfl) rfl
theorem q514 : (Jvm.Cond.soleField "XactKernel" "processes") ∈ lw_all := lw_g (lw_at lw_m2 217 rfl) rfl
theorem q515 : (Jvm.Cond.laysFinal "XactKernel" "XactKernel" "transactions" "Ljava/util/List;") ∈ lw_all := lw_g (lw_at lw_m2 218 rfl) rfl
theorem q516 : (Jvm.Cond.soleField "XactKernel" "transactions") ∈ lw_all := lw_g (lw_at lw_m2 219 rfl) rfl
theorem q517 : (Jvm.Cond.lays "XactKernel" "XactKernel" "log" "I") ∈ lw_all := lw_g (lw_at lw_m2 220 rfl) rfl
theorem q518 : (Jvm.Cond.soleField "XactKernel" "log") ∈ lw_all := lw_g (lw_at lw_m2 221 rfl) rfl
theorem q519 : (Jvm.Cond.lays "XactKernel" "XactKernel" "cutAt" "I") ∈ lw_all := lw_g (lw_at lw_m2 222 rfl) rfl
theorem q520 : (Jvm.Cond.soleField "XactKernel" "cutAt") ∈ lw_all := lw_g (lw_at lw_m2 223 rfl) rfl
theorem q521 : (Jvm.Cond.lays "XactKernel" "XactKernel" "done" "I") ∈ lw_all := lw_g (lw_at lw_m2 224 rfl) rfl
theorem q522 : (Jvm.Cond.soleField "XactKernel" "done") ∈ lw_all := lw_g (lw_at lw_m2 225 rfl) rfl
theorem q523 : (Jvm.Cond.lays "XactKernel" "XactKernel" "aborted" "I") ∈ lw_all := lw_g (lw_at lw_m2 226 rfl) rfl
theorem q524 : (Jvm.Cond.soleField "XactKernel" "aborted") ∈ lw_all := lw_g (lw_at lw_m2 227 rfl) rfl
theorem q525 : (Jvm.Cond.lays "XactKernel" "XactKernel" "crashes" "I") ∈ lw_all := lw_g (lw_at lw_m2 228 rfl) rfl
theorem q526 : (Jvm.Cond.soleField "XactKernel" "crashes") ∈ lw_all := lw_g (lw_at lw_m2 229 rfl) rfl
theorem q527 : (Jvm.Cond.lays "XactKernel" "XactKernel" "writes" "I") ∈ lw_all := lw_g (lw_at lw_m2 230 rfl) rfl
theorem q528 : (Jvm.Cond.soleField "XactKernel" "writes") ∈ lw_all := lw_g (lw_at lw_m2 231 rfl) rfl
theorem q529 : (Jvm.Cond.superclass "XactKernel" "java/lang/Object") ∈ lw_all := lw_g (lw_at lw_m2 232 rfl) rfl
theorem q555 : (Jvm.Cond.instanceMethod ({ cls := "XactKernel", name := "begin", desc := "(I)I" } : Jvm.MethodName)) ∈ lw_all := lw_g (lw_at lw_m3 18 rfl) rfl
theorem q556 : (Jvm.Cond.selects "XactKernel" ({ cls := "XactKernel", name := "begin", desc := "(I)I" } : Jvm.MethodName) ({ cls := "XactKernel", name := "begin", desc := "(I)I" } : Jvm.MethodName)) ∈ lw_all := lw_g (lw_at lw_m3 19 rfl) rfl
theorem q557 : (Jvm.Cond.code ({ cls := "XactKernel", name := "begin", desc := "(I)I" } : Jvm.MethodName) prog_1_method_28_code (3 : Nat) (Option.some Jvm.ClassFile.FieldType.int)) ∈ lw_all := lw_g (lw_at lw_m3 20 rfl) rfl
theorem q558 : (Jvm.Cond.methodLink "XactKernel" (232 : Nat) ({ cls := "XactKernel", name := "process", desc := "(I)LXactKernel$Process;" } : Jvm.MethodName)) ∈ lw_all := lw_g (lw_at lw_m3 21 rfl) rfl
theorem q559 : (Jvm.Cond.privateMethod ({ cls := "XactKernel", name := "process", desc := "(I)LXactKernel$Process;" } : Jvm.MethodName)) ∈ lw_tbl := lw_at lw_m3 22 rfl
theorem q560 : (Jvm.Cond.instanceMethod ({ cls := "XactKernel", name := "process", desc := "(I)LXactKernel$Process;" } : Jvm.MethodName)) ∈ lw_all := lw_g (lw_at lw_m3 23 rfl) rfl
theorem q561 : (Jvm.Cond.code ({ cls := "XactKernel", name := "process", desc := "(I)LXactKernel$Process;" } : Jvm.MethodName) prog_1_method_7_code (2 : Nat) (Option.some (Jvm.ClassFile.FieldType.object "XactKernel$Process"))) ∈ lw_all := lw_g (lw_at lw_m3 24 rfl) rfl
theorem q562 : (Jvm.Cond.methodLink "XactKernel" (51 : Nat) ({ cls := "XactKernel", name := "in", desc := "(III)Z" } : Jvm.MethodName)) ∈ lw_all := lw_g (lw_at lw_m3 25 rfl) rfl
theorem q563 : (Jvm.Cond.static ({ cls := "XactKernel", name := "in", desc := "(III)Z" } : Jvm.MethodName)) ∈ lw_all := lw_g (lw_at lw_m3 26 rfl) rfl
theorem q564 : (Jvm.Cond.code ({ cls := "XactKernel", name := "in", desc := "(III)Z" } : Jvm.MethodName) prog_1_method_2_code (3 : Nat) (Option.some Jvm.ClassFile.FieldType.boolean)) ∈ lw_all := lw_g (lw_at lw_m3 27 rfl) rfl
theorem q565 : (Jvm.Cond.methodLink "XactKernel" (55 : Nat) ({ cls := "XactKernel", name := "check", desc := "(Z)V" } : Jvm.MethodName)) ∈ lw_all := lw_g (lw_at lw_m3 28 rfl) rfl
theorem q566 : (Jvm.Cond.static ({ cls := "XactKernel", name := "check", desc := "(Z)V" } : Jvm.MethodName)) ∈ lw_all := lw_g (lw_at lw_m3 29 rfl) rfl
theorem q567 : (Jvm.Cond.code ({ cls := "XactKernel", name := "check", desc := "(Z)V" } : Jvm.MethodName) prog_1_method_3_code (1 : Nat) (Option.none : Option Jvm.ClassFile.FieldType)) ∈ lw_all := lw_g (lw_at lw_m3 30 rfl) rfl
theorem q568 : (Jvm.Cond.classLink "XactKernel" (39 : Nat) "java/lang/IllegalArgumentException") ∈ lw_all := lw_g (lw_at lw_m3 31 rfl) rfl
theorem q569 : (Jvm.Cond.methodLink "XactKernel" (41 : Nat) ({ cls := "java/lang/IllegalArgumentException", name := "<init>", desc := "()V" } : Jvm.MethodName)) ∈ lw_all := lw_g (lw_at lw_m3 32 rfl) rfl
theorem q579 : (Jvm.Cond.methodLink "XactKernel" (235 : Nat) ({ cls := "XactKernel", name := "awake", desc := "(LXactKernel$Process;)V" } : Jvm.MethodName)) ∈ lw_all := lw_g (lw_at lw_m3 42 rfl) rfl
theorem q580 : (Jvm.Cond.static ({ cls := "XactKernel", name := "awake", desc := "(LXactKernel$Process;)V" } : Jvm.MethodName)) ∈ lw_all := lw_g (lw_at lw_m3 43 rfl) rfl
theorem q581 : (Jvm.Cond.code ({ cls := "XactKernel", name := "awake", desc := "(LXactKernel$Process;)V" } : Jvm.MethodName) prog_1_method_8_code (1 : Nat) (Option.none : Option Jvm.ClassFile.FieldType)) ∈ lw_all := lw_g (lw_at lw_m3 44 rfl) rfl
theorem q582 : (Jvm.Cond.classLink "XactKernel" (63 : Nat) "java/lang/IllegalStateException") ∈ lw_all := lw_g (lw_at lw_m3 45 rfl) rfl
theorem q591 : (Jvm.Cond.methodLink "XactKernel" (65 : Nat) ({ cls := "java/lang/IllegalStateException", name := "<init>", desc := "()V" } : Jvm.MethodName)) ∈ lw_all := lw_g (lw_at lw_m3 54 rfl) rfl
theorem q597 : (Jvm.Cond.methodLink "XactKernel" (239 : Nat) ({ cls := "XactKernel", name := "room", desc := "(Z)V" } : Jvm.MethodName)) ∈ lw_all := lw_g (lw_at lw_m3 60 rfl) rfl
theorem q598 : (Jvm.Cond.static ({ cls := "XactKernel", name := "room", desc := "(Z)V" } : Jvm.MethodName)) ∈ lw_all := lw_g (lw_at lw_m3 61 rfl) rfl
theorem q599 : (Jvm.Cond.code ({ cls := "XactKernel", name := "room", desc := "(Z)V" } : Jvm.MethodName) prog_1_method_4_code (1 : Nat) (Option.none : Option Jvm.ClassFile.FieldType)) ∈ lw_all := lw_g (lw_at lw_m3 62 rfl) rfl
theorem q600 : (Jvm.Cond.classLink "XactKernel" (42 : Nat) "java/lang/IndexOutOfBoundsException") ∈ lw_all := lw_g (lw_at lw_m3 63 rfl) rfl
theorem q609 : (Jvm.Cond.methodLink "XactKernel" (44 : Nat) ({ cls := "java/lang/IndexOutOfBoundsException", name := "<init>", desc := "()V" } : Jvm.MethodName)) ∈ lw_all := lw_g (lw_at lw_m3 72 rfl) rfl
theorem q615 : (Jvm.Cond.classLink "XactKernel" (70 : Nat) "XactKernel$Transaction") ∈ lw_all := lw_g (lw_at lw_m3 78 rfl) rfl
theorem q617 : (Jvm.Cond.methodLink "XactKernel" (72 : Nat) ({ cls := "XactKernel$Transaction", name := "<init>", desc := "(LXactKernel$Process;Z)V" } : Jvm.MethodName)) ∈ lw_all := lw_g (lw_at lw_m3 80 rfl) rfl
theorem q636 : (Jvm.Cond.fieldLink "XactKernel" (217 : Nat) "XactKernel$Descriptor" "item" "I") ∈ lw_all := lw_g (lw_at lw_m3 99 rfl) rfl
theorem q638 : (Jvm.Cond.fieldLink "XactKernel" (333 : Nat) "XactKernel$Descriptor" "writes" "Z") ∈ lw_all := lw_g (lw_at lw_m3 101 rfl) rfl
theorem q640 : (Jvm.Cond.fieldLink "XactKernel" (327 : Nat) "XactKernel$Descriptor" "place" "I") ∈ lw_all := lw_g (lw_at lw_m3 103 rfl) rfl
theorem q650 : (Jvm.Cond.fieldLink "XactKernel" (81 : Nat) "XactKernel$Transaction" "process" "LXactKernel$Process;") ∈ lw_all := lw_g (lw_at lw_m3 113 rfl) rfl
theorem q652 : (Jvm.Cond.fieldLink "XactKernel" (98 : Nat) "XactKernel$Transaction" "alone" "Z") ∈ lw_all := lw_g (lw_at lw_m3 115 rfl) rfl
theorem q654 : (Jvm.Cond.fieldLink "XactKernel" (148 : Nat) "XactKernel$Transaction" "copies" "[LXactKernel$Item;") ∈ lw_all := lw_g (lw_at lw_m3 117 rfl) rfl
theorem q656 : (Jvm.Cond.fieldLink "XactKernel" (117 : Nat) "XactKernel$Transaction" "reads" "[Z") ∈ lw_all := lw_g (lw_at lw_m3 119 rfl) rfl
theorem q658 : (Jvm.Cond.fieldLink "XactKernel" (145 : Nat) "XactKernel$Transaction" "frees" "[Z") ∈ lw_all := lw_g (lw_at lw_m3 121 rfl) rfl
theorem q660 : (Jvm.Cond.fieldLink "XactKernel" (190 : Nat) "XactKernel$Transaction" "signals" "Ljava/util/List;") ∈ lw_all := lw_g (lw_at lw_m3 123 rfl) rfl
theorem q662 : (Jvm.Cond.fieldLink "XactKernel" (95 : Nat) "XactKernel$Transaction" "before" "[LXactKernel$Descriptor;") ∈ lw_all := lw_g (lw_at lw_m3 125 rfl) rfl
theorem q678 : (Jvm.Cond.interfaceEntry "XactKernel" (128 : Nat)) ∈ lw_tbl := lw_at lw_m3 141 rfl
theorem q679 : (Jvm.Cond.methodLink "XactKernel" (128 : Nat) ({ cls := "java/util/List", name := "add", desc := "(Ljava/lang/Object;)Z" } : Jvm.MethodName)) ∈ lw_all := lw_g (lw_at lw_m3 142 rfl) rfl
theorem q707 : (Jvm.Cond.selects "XactKernel" ({ cls := "java/lang/Object", name := "getClass", desc := "()Ljava/lang/Class;" } : Jvm.MethodName) ({ cls := "java/lang/Object", name := "getClass", desc := "()Ljava/lang/Class;" } : Jvm.MethodName)) ∈ lw_all := lw_g (lw_at lw_m3 170 rfl) rfl
theorem q741 : (Jvm.Cond.instanceMethod ({ cls := "XactKernel", name := "end", desc := "(I)I" } : Jvm.MethodName)) ∈ lw_all := lw_g (lw_at lw_m3 204 rfl) rfl
theorem q742 : (Jvm.Cond.selects "XactKernel" ({ cls := "XactKernel", name := "end", desc := "(I)I" } : Jvm.MethodName) ({ cls := "XactKernel", name := "end", desc := "(I)I" } : Jvm.MethodName)) ∈ lw_all := lw_g (lw_at lw_m3 205 rfl) rfl
theorem q743 : (Jvm.Cond.code ({ cls := "XactKernel", name := "end", desc := "(I)I" } : Jvm.MethodName) prog_1_method_29_code (3 : Nat) (Option.some Jvm.ClassFile.FieldType.int)) ∈ lw_all := lw_g (lw_at lw_m3 206 rfl) rfl
theorem q744 : (Jvm.Cond.methodLink "XactKernel" (242 : Nat) ({ cls := "XactKernel", name := "isThere", desc := "(Z)V" } : Jvm.MethodName)) ∈ lw_all := lw_g (lw_at lw_m3 207 rfl) rfl
theorem q745 : (Jvm.Cond.static ({ cls := "XactKernel", name := "isThere", desc := "(Z)V" } : Jvm.MethodName)) ∈ lw_all := lw_g (lw_at lw_m3 208 rfl) rfl
theorem q746 : (Jvm.Cond.code ({ cls := "XactKernel", name := "isThere", desc := "(Z)V" } : Jvm.MethodName) prog_1_method_6_code (1 : Nat) (Option.none : Option Jvm.ClassFile.FieldType)) ∈ lw_all := lw_g (lw_at lw_m3 209 rfl) rfl
theorem q747 : (Jvm.Cond.classLink "XactKernel" (48 : Nat) "java/util/NoSuchElementException") ∈ lw_all := lw_g (lw_at lw_m3 210 rfl) rfl
theorem q756 : (Jvm.Cond.methodLink "XactKernel" (50 : Nat) ({ cls := "java/util/NoSuchElementException", name := "<init>", desc := "()V" } : Jvm.MethodName)) ∈ lw_all := lw_g (lw_at lw_m3 219 rfl) rfl
theorem q762 : (Jvm.Cond.methodLink "XactKernel" (229 : Nat) ({ cls := "XactKernel", name := "ends", desc := "(LXactKernel$Transaction;)V" } : Jvm.MethodName)) ∈ lw_all := lw_g (lw_at lw_m3 225 rfl) rfl
theorem q763 : (Jvm.Cond.privateMethod ({ cls := "XactKernel", name := "ends", desc := "(LXactKernel$Transaction;)V" } : Jvm.MethodName)) ∈ lw_tbl := lw_at lw_m3 226 rfl
theorem q764 : (Jvm.Cond.instanceMethod ({ cls := "XactKernel", name := "ends", desc := "(LXactKernel$Transaction;)V" } : Jvm.MethodName)) ∈ lw_all := lw_g (lw_at lw_m3 227 rfl) rfl
theorem q765 : (Jvm.Cond.code ({ cls := "XactKernel", name := "ends", desc := "(LXactKernel$Transaction;)V" } : Jvm.MethodName) prog_1_method_23_code (7 : Nat) (Option.none : Option Jvm.ClassFile.FieldType)) ∈ lw_all := lw_g (lw_at lw_m3 228 rfl) rfl
theorem q766 : (Jvm.Cond.methodLink "XactKernel" (173 : Nat) ({ cls := "XactKernel", name := "dirty", desc := "(LXactKernel$Transaction;)I" } : Jvm.MethodName)) ∈ lw_all := lw_g (lw_at lw_m3 229 rfl) rfl
theorem q767 : (Jvm.Cond.static ({ cls := "XactKernel", name := "dirty", desc := "(LXactKernel$Transaction;)I" } : Jvm.MethodName)) ∈ lw_all := lw_g (lw_at lw_m3 230 rfl) rfl
theorem q768 : (Jvm.Cond.code ({ cls := "XactKernel", name := "dirty", desc := "(LXactKernel$Transaction;)I" } : Jvm.MethodName) prog_1_method_20_code (3 : Nat) (Option.some Jvm.ClassFile.FieldType.int)) ∈ lw_all := lw_g (lw_at lw_m3 231 rfl) rfl
theorem q769 : (Jvm.Cond.methodLink "XactKernel" (113 : Nat) ({ cls := "XactKernel$Transaction", name := "wrote", desc := "(I)Z" } : Jvm.MethodName)) ∈ lw_all := lw_g (lw_at lw_m3 232 rfl) rfl
theorem q773 : (Jvm.Cond.methodLink "XactKernel" (121 : Nat) ({ cls := "XactKernel", name := "drop", desc := "(LXactKernel$Transaction;)V" } : Jvm.MethodName)) ∈ lw_all := lw_g (lw_at lw_m3 236 rfl) rfl
theorem q774 : (Jvm.Cond.privateMethod ({ cls := "XactKernel", name := "drop", desc := "(LXactKernel$Transaction;)V" } : Jvm.MethodName)) ∈ lw_tbl := lw_at lw_m3 237 rfl
theorem q775 : (Jvm.Cond.instanceMethod ({ cls := "XactKernel", name := "drop", desc := "(LXactKernel$Transaction;)V" } : Jvm.MethodName)) ∈ lw_all := lw_g (lw_at lw_m3 238 rfl) rfl
theorem q776 : (Jvm.Cond.code ({ cls := "XactKernel", name := "drop", desc := "(LXactKernel$Transaction;)V" } : Jvm.MethodName) prog_1_method_12_code (4 : Nat) (Option.none : Option Jvm.ClassFile.FieldType)) ∈ lw_all := lw_g (lw_at lw_m3 239 rfl) rfl
theorem q777 : (Jvm.Cond.interfaceEntry "XactKernel" (75 : Nat)) ∈ lw_tbl := lw_at lw_m4 0 rfl
theorem q778 : (Jvm.Cond.methodLink "XactKernel" (75 : Nat) ({ cls := "java/util/List", name := "remove", desc := "(Ljava/lang/Object;)Z" } : Jvm.MethodName)) ∈ lw_all := lw_g (lw_at lw_m4 1 rfl) rfl
theorem q790 : (Jvm.Cond.selects "XactKernel" ({ cls := "java/lang/Object", name := "equals", desc := "(Ljava/lang/Object;)Z" } : Jvm.MethodName) ({ cls := "java/lang/Object", name := "equals", desc := "(Ljava/lang/Object;)Z" } : Jvm.MethodName)) ∈ lw_all := lw_g (lw_at lw_m4 13 rfl) rfl
theorem q827 : (Jvm.Cond.methodLink "XactKernel" (125 : Nat) ({ cls := "XactKernel", name := "sweep", desc := "()V" } : Jvm.MethodName)) ∈ lw_all := lw_g (lw_at lw_m4 50 rfl) rfl
theorem q828 : (Jvm.Cond.privateMethod ({ cls := "XactKernel", name := "sweep", desc := "()V" } : Jvm.MethodName)) ∈ lw_tbl := lw_at lw_m4 51 rfl
theorem q829 : (Jvm.Cond.instanceMethod ({ cls := "XactKernel", name := "sweep", desc := "()V" } : Jvm.MethodName)) ∈ lw_all := lw_g (lw_at lw_m4 52 rfl) rfl
theorem q830 : (Jvm.Cond.code ({ cls := "XactKernel", name := "sweep", desc := "()V" } : Jvm.MethodName) prog_1_method_26_code (10 : Nat) (Option.none : Option Jvm.ClassFile.FieldType)) ∈ lw_all := lw_g (lw_at lw_m4 53 rfl) rfl
theorem q831 : (Jvm.Cond.interfaceEntry "XactKernel" (131 : Nat)) ∈ lw_tbl := lw_at lw_m4 54 rfl
theorem q832 : (Jvm.Cond.methodLink "XactKernel" (131 : Nat) ({ cls := "java/util/List", name := "iterator", desc := "()Ljava/util/Iterator;" } : Jvm.MethodName)) ∈ lw_all := lw_g (lw_at lw_m4 55 rfl) rfl
theorem q859 : (Jvm.Cond.interfaceEntry "XactKernel" (135 : Nat)) ∈ lw_tbl := lw_at lw_m4 82 rfl
theorem q860 : (Jvm.Cond.methodLink "XactKernel" (135 : Nat) ({ cls := "java/util/Iterator", name := "hasNext", desc := "()Z" } : Jvm.MethodName)) ∈ lw_all := lw_g (lw_at lw_m4 83 rfl) rfl
theorem q869 : (Jvm.Cond.interfaceEntry "XactKernel" (141 : Nat)) ∈ lw_tbl := lw_at lw_m4 92 rfl
theorem q870 : (Jvm.Cond.methodLink "XactKernel" (141 : Nat) ({ cls := "java/util/Iterator", name := "next", desc := "()Ljava/lang/Object;" } : Jvm.MethodName)) ∈ lw_all := lw_g (lw_at lw_m4 93 rfl) rfl
theorem q884 : (Jvm.Cond.classLink "XactKernel" (222 : Nat) "XactKernel$FileItem") ∈ lw_all := lw_g (lw_at lw_m4 107 rfl) rfl
theorem q885 : (Jvm.Cond.classLink "XactKernel" (227 : Nat) "XactKernel$PipeItem") ∈ lw_all := lw_g (lw_at lw_m4 108 rfl) rfl
theorem q886 : (Jvm.Cond.methodLink "XactKernel" (177 : Nat) ({ cls := "XactKernel", name := "stores", desc := "(I)Z" } : Jvm.MethodName)) ∈ lw_all := lw_g (lw_at lw_m4 109 rfl) rfl
theorem q887 : (Jvm.Cond.privateMethod ({ cls := "XactKernel", name := "stores", desc := "(I)Z" } : Jvm.MethodName)) ∈ lw_tbl := lw_at lw_m4 110 rfl
theorem q888 : (Jvm.Cond.instanceMethod ({ cls := "XactKernel", name := "stores", desc := "(I)Z" } : Jvm.MethodName)) ∈ lw_all := lw_g (lw_at lw_m4 111 rfl) rfl
theorem q889 : (Jvm.Cond.codeWith ({ cls := "XactKernel", name := "stores", desc := "(I)Z" } : Jvm.MethodName) prog_1_method_24_code (3 : Nat) (Option.some Jvm.ClassFile.FieldType.boolean) [((0 : Nat), (5 : Nat), (8 : Nat), (45 : Nat))]) ∈ lw_all := lw_g (lw_at lw_m4 112 rfl) rfl
theorem q890 : (Jvm.Cond.classLink "XactKernel" (45 : Nat) "java/lang/UnsupportedOperationException") ∈ lw_all := lw_g (lw_at lw_m4 113 rfl) rfl
theorem q891 : (Jvm.Cond.methodLink "XactKernel" (208 : Nat) ({ cls := "XactKernel", name := "store", desc := "(I)V" } : Jvm.MethodName)) ∈ lw_all := lw_g (lw_at lw_m4 114 rfl) rfl
theorem q892 : (Jvm.Cond.privateMethod ({ cls := "XactKernel", name := "store", desc := "(I)V" } : Jvm.MethodName)) ∈ lw_tbl := lw_at lw_m4 115 rfl
theorem q893 : (Jvm.Cond.instanceMethod ({ cls := "XactKernel", name := "store", desc := "(I)V" } : Jvm.MethodName)) ∈ lw_all := lw_g (lw_at lw_m4 116 rfl) rfl
theorem q894 : (Jvm.Cond.code ({ cls := "XactKernel", name := "store", desc := "(I)V" } : Jvm.MethodName) prog_1_method_21_code (3 : Nat) (Option.none : Option Jvm.ClassFile.FieldType)) ∈ lw_all := lw_g (lw_at lw_m4 117 rfl) rfl
theorem q895 : (Jvm.Cond.methodLink "XactKernel" (169 : Nat) ({ cls := "XactKernel", name := "disk", desc := "(I)V" } : Jvm.MethodName)) ∈ lw_all := lw_g (lw_at lw_m4 118 rfl) rfl
theorem q896 : (Jvm.Cond.privateMethod ({ cls := "XactKernel", name := "disk", desc := "(I)V" } : Jvm.MethodName)) ∈ lw_tbl := lw_at lw_m4 119 rfl
theorem q897 : (Jvm.Cond.instanceMethod ({ cls := "XactKernel", name := "disk", desc := "(I)V" } : Jvm.MethodName)) ∈ lw_all := lw_g (lw_at lw_m4 120 rfl) rfl
theorem q898 : (Jvm.Cond.code ({ cls := "XactKernel", name := "disk", desc := "(I)V" } : Jvm.MethodName) prog_1_method_19_code (2 : Nat) (Option.none : Option Jvm.ClassFile.FieldType)) ∈ lw_all := lw_g (lw_at lw_m4 121 rfl) rfl
theorem q907 : (Jvm.Cond.methodLink "XactKernel" (47 : Nat) ({ cls := "java/lang/UnsupportedOperationException", name := "<init>", desc := "()V" } : Jvm.MethodName)) ∈ lw_all := lw_g (lw_at lw_m4 130 rfl) rfl
theorem q913 : (Jvm.Cond.methodLink "XactKernel" (180 : Nat) ({ cls := "XactKernel", name := "crash", desc := "(LXactKernel$Transaction;Z)V" } : Jvm.MethodName)) ∈ lw_all := lw_g (lw_at lw_m4 136 rfl) rfl
theorem q914 : (Jvm.Cond.privateMethod ({ cls := "XactKernel", name := "crash", desc := "(LXactKernel$Transaction;Z)V" } : Jvm.MethodName)) ∈ lw_tbl := lw_at lw_m4 137 rfl
theorem q915 : (Jvm.Cond.instanceMethod ({ cls := "XactKernel", name := "crash", desc := "(LXactKernel$Transaction;Z)V" } : Jvm.MethodName)) ∈ lw_all := lw_g (lw_at lw_m4 138 rfl) rfl
theorem q916 : (Jvm.Cond.code ({ cls := "XactKernel", name := "crash", desc := "(LXactKernel$Transaction;Z)V" } : Jvm.MethodName) prog_1_method_25_code (4 : Nat) (Option.none : Option Jvm.ClassFile.FieldType)) ∈ lw_all := lw_g (lw_at lw_m4 139 rfl) rfl
theorem q917 : (Jvm.Cond.methodLink "XactKernel" (184 : Nat) ({ cls := "XactKernel", name := "put", desc := "(LXactKernel$Transaction;)V" } : Jvm.MethodName)) ∈ lw_all := lw_g (lw_at lw_m4 140 rfl) rfl
theorem q918 : (Jvm.Cond.privateMethod ({ cls := "XactKernel", name := "put", desc := "(LXactKernel$Transaction;)V" } : Jvm.MethodName)) ∈ lw_tbl := lw_at lw_m4 141 rfl
theorem q919 : (Jvm.Cond.instanceMethod ({ cls := "XactKernel", name := "put", desc := "(LXactKernel$Transaction;)V" } : Jvm.MethodName)) ∈ lw_all := lw_g (lw_at lw_m4 142 rfl) rfl
theorem q920 : (Jvm.Cond.code ({ cls := "XactKernel", name := "put", desc := "(LXactKernel$Transaction;)V" } : Jvm.MethodName) prog_1_method_22_code (3 : Nat) (Option.none : Option Jvm.ClassFile.FieldType)) ∈ lw_all := lw_g (lw_at lw_m4 143 rfl) rfl
theorem q921 : (Jvm.Cond.interfaceEntry "XactKernel" (214 : Nat)) ∈ lw_tbl := lw_at lw_m4 144 rfl
theorem q922 : (Jvm.Cond.methodLink "XactKernel" (214 : Nat) ({ cls := "java/util/List", name := "clear", desc := "()V" } : Jvm.MethodName)) ∈ lw_all := lw_g (lw_at lw_m4 145 rfl) rfl
theorem q930 : (Jvm.Cond.classLink "XactKernel" (193 : Nat) "XactKernel$Signal") ∈ lw_all := lw_g (lw_at lw_m4 153 rfl) rfl
theorem q931 : (Jvm.Cond.interfaceEntry "XactKernel" (101 : Nat)) ∈ lw_tbl := lw_at lw_m4 154 rfl
theorem q932 : (Jvm.Cond.methodLink "XactKernel" (101 : Nat) ({ cls := "java/util/List", name := "size", desc := "()I" } : Jvm.MethodName)) ∈ lw_all := lw_g (lw_at lw_m4 155 rfl) rfl
theorem q940 : (Jvm.Cond.methodLink "XactKernel" (202 : Nat) ({ cls := "java/lang/Integer", name := "valueOf", desc := "(I)Ljava/lang/Integer;" } : Jvm.MethodName)) ∈ lw_all := lw_g (lw_at lw_m4 163 rfl) rfl
theorem q963 : (Jvm.Cond.instanceMethod ({ cls := "XactKernel", name := "abort", desc := "(I)I" } : Jvm.MethodName)) ∈ lw_all := lw_g (lw_at lw_m4 186 rfl) rfl
theorem q964 : (Jvm.Cond.selects "XactKernel" ({ cls := "XactKernel", name := "abort", desc := "(I)I" } : Jvm.MethodName) ({ cls := "XactKernel", name := "abort", desc := "(I)I" } : Jvm.MethodName)) ∈ lw_all := lw_g (lw_at lw_m4 187 rfl) rfl
theorem q965 : (Jvm.Cond.code ({ cls := "XactKernel", name := "abort", desc := "(I)I" } : Jvm.MethodName) prog_1_method_30_code (4 : Nat) (Option.some Jvm.ClassFile.FieldType.int)) ∈ lw_all := lw_g (lw_at lw_m4 188 rfl) rfl
theorem q970 : (Jvm.Cond.instanceMethod ({ cls := "XactKernel", name := "open", desc := "(III)I" } : Jvm.MethodName)) ∈ lw_all := lw_g (lw_at lw_m4 193 rfl) rfl
theorem q971 : (Jvm.Cond.selects "XactKernel" ({ cls := "XactKernel", name := "open", desc := "(III)I" } : Jvm.MethodName) ({ cls := "XactKernel", name := "open", desc := "(III)I" } : Jvm.MethodName)) ∈ lw_all := lw_g (lw_at lw_m4 194 rfl) rfl
theorem q972 : (Jvm.Cond.code ({ cls := "XactKernel", name := "open", desc := "(III)I" } : Jvm.MethodName) prog_1_method_39_code (10 : Nat) (Option.some Jvm.ClassFile.FieldType.int)) ∈ lw_all := lw_g (lw_at lw_m4 195 rfl) rfl
theorem q973 : (Jvm.Cond.methodLink "XactKernel" (292 : Nat) ({ cls := "XactKernel", name := "isPath", desc := "(I)Z" } : Jvm.MethodName)) ∈ lw_all := lw_g (lw_at lw_m4 196 rfl) rfl
theorem q974 : (Jvm.Cond.static ({ cls := "XactKernel", name := "isPath", desc := "(I)Z" } : Jvm.MethodName)) ∈ lw_all := lw_g (lw_at lw_m4 197 rfl) rfl
theorem q975 : (Jvm.Cond.code ({ cls := "XactKernel", name := "isPath", desc := "(I)Z" } : Jvm.MethodName) prog_1_method_9_code (4 : Nat) (Option.some Jvm.ClassFile.FieldType.boolean)) ∈ lw_all := lw_g (lw_at lw_m4 198 rfl) rfl
theorem q976 : (Jvm.Cond.methodLink "XactKernel" (295 : Nat) ({ cls := "XactKernel", name := "current", desc := "(LXactKernel$Process;)LXactKernel$Transaction;" } : Jvm.MethodName)) ∈ lw_all := lw_g (lw_at lw_m4 199 rfl) rfl
theorem q977 : (Jvm.Cond.privateMethod ({ cls := "XactKernel", name := "current", desc := "(LXactKernel$Process;)LXactKernel$Transaction;" } : Jvm.MethodName)) ∈ lw_tbl := lw_at lw_m4 200 rfl
theorem q978 : (Jvm.Cond.instanceMethod ({ cls := "XactKernel", name := "current", desc := "(LXactKernel$Process;)LXactKernel$Transaction;" } : Jvm.MethodName)) ∈ lw_all := lw_g (lw_at lw_m4 201 rfl) rfl
theorem q979 : (Jvm.Cond.code ({ cls := "XactKernel", name := "current", desc := "(LXactKernel$Process;)LXactKernel$Transaction;" } : Jvm.MethodName) prog_1_method_11_code (2 : Nat) (Option.some (Jvm.ClassFile.FieldType.object "XactKernel$Transaction"))) ∈ lw_all := lw_g (lw_at lw_m4 202 rfl) rfl
theorem q980 : (Jvm.Cond.methodLink "XactKernel" (299 : Nat) ({ cls := "XactKernel", name := "holder", desc := "(LXactKernel$Transaction;I)I" } : Jvm.MethodName)) ∈ lw_all := lw_g (lw_at lw_m4 203 rfl) rfl
theorem q981 : (Jvm.Cond.privateMethod ({ cls := "XactKernel", name := "holder", desc := "(LXactKernel$Transaction;I)I" } : Jvm.MethodName)) ∈ lw_tbl := lw_at lw_m4 204 rfl
theorem q982 : (Jvm.Cond.instanceMethod ({ cls := "XactKernel", name := "holder", desc := "(LXactKernel$Transaction;I)I" } : Jvm.MethodName)) ∈ lw_all := lw_g (lw_at lw_m4 205 rfl) rfl
theorem q983 : (Jvm.Cond.code ({ cls := "XactKernel", name := "holder", desc := "(LXactKernel$Transaction;I)I" } : Jvm.MethodName) prog_1_method_33_code (4 : Nat) (Option.some Jvm.ClassFile.FieldType.int)) ∈ lw_all := lw_g (lw_at lw_m4 206 rfl) rfl
theorem q984 : (Jvm.Cond.methodLink "XactKernel" (259 : Nat) ({ cls := "XactKernel", name := "length", desc := "(I)I" } : Jvm.MethodName)) ∈ lw_all := lw_g (lw_at lw_m4 207 rfl) rfl
theorem q985 : (Jvm.Cond.static ({ cls := "XactKernel", name := "length", desc := "(I)I" } : Jvm.MethodName)) ∈ lw_all := lw_g (lw_at lw_m4 208 rfl) rfl
theorem q986 : (Jvm.Cond.code ({ cls := "XactKernel", name := "length", desc := "(I)I" } : Jvm.MethodName) prog_1_method_10_code (2 : Nat) (Option.some Jvm.ClassFile.FieldType.int)) ∈ lw_all := lw_g (lw_at lw_m4 209 rfl) rfl
theorem q987 : (Jvm.Cond.methodLink "XactKernel" (248 : Nat) ({ cls := "XactKernel", name := "fits", desc := "(Z)V" } : Jvm.MethodName)) ∈ lw_all := lw_g (lw_at lw_m4 210 rfl) rfl
theorem q988 : (Jvm.Cond.static ({ cls := "XactKernel", name := "fits", desc := "(Z)V" } : Jvm.MethodName)) ∈ lw_all := lw_g (lw_at lw_m4 211 rfl) rfl
theorem q989 : (Jvm.Cond.code ({ cls := "XactKernel", name := "fits", desc := "(Z)V" } : Jvm.MethodName) prog_1_method_5_code (1 : Nat) (Option.none : Option Jvm.ClassFile.FieldType)) ∈ lw_all := lw_g (lw_at lw_m4 212 rfl) rfl
theorem q990 : (Jvm.Cond.methodLink "XactKernel" (262 : Nat) ({ cls := "XactKernel", name := "walk", desc := "(LXactKernel$Transaction;II)I" } : Jvm.MethodName)) ∈ lw_all := lw_g (lw_at lw_m4 213 rfl) rfl
theorem q991 : (Jvm.Cond.privateMethod ({ cls := "XactKernel", name := "walk", desc := "(LXactKernel$Transaction;II)I" } : Jvm.MethodName)) ∈ lw_tbl := lw_at lw_m4 214 rfl
theorem q992 : (Jvm.Cond.instanceMethod ({ cls := "XactKernel", name := "walk", desc := "(LXactKernel$Transaction;II)I" } : Jvm.MethodName)) ∈ lw_all := lw_g (lw_at lw_m4 215 rfl) rfl
theorem q993 : (Jvm.Cond.code ({ cls := "XactKernel", name := "walk", desc := "(LXactKernel$Transaction;II)I" } : Jvm.MethodName) prog_1_method_32_code (7 : Nat) (Option.some Jvm.ClassFile.FieldType.int)) ∈ lw_all := lw_g (lw_at lw_m4 216 rfl) rfl
theorem q994 : (Jvm.Cond.methodLink "XactKernel" (251 : Nat) ({ cls := "XactKernel", name := "within", desc := "(LXactKernel$Transaction;I)LXactKernel$DirectoryItem;" } : Jvm.MethodName)) ∈ lw_all := lw_g (lw_at lw_m4 217 rfl) rfl
theorem q995 : (Jvm.Cond.privateMethod ({ cls := "XactKernel", name := "within", desc := "(LXactKernel$Transaction;I)LXactKernel$DirectoryItem;" } : Jvm.MethodName)) ∈ lw_tbl := lw_at lw_m4 218 rfl
theorem q996 : (Jvm.Cond.instanceMethod ({ cls := "XactKernel", name := "within", desc := "(LXactKernel$Transaction;I)LXactKernel$DirectoryItem;" } : Jvm.MethodName)) ∈ lw_all := lw_g (lw_at lw_m4 219 rfl) rfl
theorem q997 : (Jvm.Cond.code ({ cls := "XactKernel", name := "within", desc := "(LXactKernel$Transaction;I)LXactKernel$DirectoryItem;" } : Jvm.MethodName) prog_1_method_31_code (4 : Nat) (Option.some (Jvm.ClassFile.FieldType.object "XactKernel$DirectoryItem"))) ∈ lw_all := lw_g (lw_at lw_m4 220 rfl) rfl
theorem q998 : (Jvm.Cond.methodLink "XactKernel" (245 : Nat) ({ cls := "XactKernel", name := "reads", desc := "(LXactKernel$Transaction;I)LXactKernel$Item;" } : Jvm.MethodName)) ∈ lw_all := lw_g (lw_at lw_m4 221 rfl) rfl
theorem q999 : (Jvm.Cond.privateMethod ({ cls := "XactKernel", name := "reads", desc := "(LXactKernel$Transaction;I)LXactKernel$Item;" } : Jvm.MethodName)) ∈ lw_tbl := lw_at lw_m4 222 rfl
theorem q1000 : (Jvm.Cond.instanceMethod ({ cls := "XactKernel", name := "reads", desc := "(LXactKernel$Transaction;I)LXactKernel$Item;" } : Jvm.MethodName)) ∈ lw_all := lw_g (lw_at lw_m4 223 rfl) rfl
theorem q1001 : (Jvm.Cond.code ({ cls := "XactKernel", name := "reads", desc := "(LXactKernel$Transaction;I)LXactKernel$Item;" } : Jvm.MethodName) prog_1_method_15_code (3 : Nat) (Option.some (Jvm.ClassFile.FieldType.object "XactKernel$Item"))) ∈ lw_all := lw_g (lw_at lw_m4 224 rfl) rfl
theorem q1002 : (Jvm.Cond.methodLink "XactKernel" (151 : Nat) ({ cls := "XactKernel", name := "meet", desc := "(LXactKernel$Transaction;IZ)V" } : Jvm.MethodName)) ∈ lw_all := lw_g (lw_at lw_m4 225 rfl) rfl
theorem q1003 : (Jvm.Cond.privateMethod ({ cls := "XactKernel", name := "meet", desc := "(LXactKernel$Transaction;IZ)V" } : Jvm.MethodName)) ∈ lw_tbl := lw_at lw_m4 226 rfl
theorem q1004 : (Jvm.Cond.instanceMethod ({ cls := "XactKernel", name := "meet", desc := "(LXactKernel$Transaction;IZ)V" } : Jvm.MethodName)) ∈ lw_all := lw_g (lw_at lw_m4 227 rfl) rfl
theorem q1005 : (Jvm.Cond.code ({ cls := "XactKernel", name := "meet", desc := "(LXactKernel$Transaction;IZ)V" } : Jvm.MethodName) prog_1_method_13_code (8 : Nat) (Option.none : Option Jvm.ClassFile.FieldType)) ∈ lw_all := lw_g (lw_at lw_m4 228 rfl) rfl
theorem q1006 : (Jvm.Cond.interfaceEntry "XactKernel" (105 : Nat)) ∈ lw_tbl := lw_at lw_m4 229 rfl
theorem q1007 : (Jvm.Cond.methodLink "XactKernel" (105 : Nat) ({ cls := "java/util/List", name := "indexOf", desc := "(Ljava/lang/Object;)I" } : Jvm.MethodName)) ∈ lw_all := lw_g (lw_at lw_m4 230 rfl) rfl
theorem q1019 : (Jvm.Cond.interfaceEntry "XactKernel" (109 : Nat)) ∈ lw_tbl := lw_at lw_m5 2 rfl
theorem q1020 : (Jvm.Cond.methodLink "XactKernel" (109 : Nat) ({ cls := "java/util/List", name := "get", desc := "(I)Ljava/lang/Object;" } : Jvm.MethodName)) ∈ lw_all := lw_g (lw_at lw_m5 3 rfl) rfl
theorem q1038 : (Jvm.Cond.methodLink "XactKernel" (155 : Nat) ({ cls := "XactKernel", name := "seen", desc := "(LXactKernel;LXactKernel$Transaction;I)LXactKernel$Item;" } : Jvm.MethodName)) ∈ lw_all := lw_g (lw_at lw_m5 21 rfl) rfl
theorem q1039 : (Jvm.Cond.static ({ cls := "XactKernel", name := "seen", desc := "(LXactKernel;LXactKernel$Transaction;I)LXactKernel$Item;" } : Jvm.MethodName)) ∈ lw_all := lw_g (lw_at lw_m5 22 rfl) rfl
theorem q1040 : (Jvm.Cond.code ({ cls := "XactKernel", name := "seen", desc := "(LXactKernel;LXactKernel$Transaction;I)LXactKernel$Item;" } : Jvm.MethodName) prog_1_method_14_code (3 : Nat) (Option.some (Jvm.ClassFile.FieldType.object "XactKernel$Item"))) ∈ lw_all := lw_g (lw_at lw_m5 23 rfl) rfl
theorem q1041 : (Jvm.Cond.methodLink "XactKernel" (255 : Nat) ({ cls := "XactKernel$DirectoryItem", name := "find", desc := "(I)I" } : Jvm.MethodName)) ∈ lw_all := lw_g (lw_at lw_m5 24 rfl) rfl
theorem q1052 : (Jvm.Cond.methodLink "XactKernel" (303 : Nat) ({ cls := "XactKernel", name := "under", desc := "(LXactKernel$Transaction;II)I" } : Jvm.MethodName)) ∈ lw_all := lw_g (lw_at lw_m5 35 rfl) rfl
theorem q1053 : (Jvm.Cond.privateMethod ({ cls := "XactKernel", name := "under", desc := "(LXactKernel$Transaction;II)I" } : Jvm.MethodName)) ∈ lw_tbl := lw_at lw_m5 36 rfl
theorem q1054 : (Jvm.Cond.instanceMethod ({ cls := "XactKernel", name := "under", desc := "(LXactKernel$Transaction;II)I" } : Jvm.MethodName)) ∈ lw_all := lw_g (lw_at lw_m5 37 rfl) rfl
theorem q1055 : (Jvm.Cond.code ({ cls := "XactKernel", name := "under", desc := "(LXactKernel$Transaction;II)I" } : Jvm.MethodName) prog_1_method_35_code (5 : Nat) (Option.some Jvm.ClassFile.FieldType.int)) ∈ lw_all := lw_g (lw_at lw_m5 38 rfl) rfl
theorem q1056 : (Jvm.Cond.methodLink "XactKernel" (266 : Nat) ({ cls := "XactKernel", name := "last", desc := "(I)I" } : Jvm.MethodName)) ∈ lw_all := lw_g (lw_at lw_m5 39 rfl) rfl
theorem q1057 : (Jvm.Cond.static ({ cls := "XactKernel", name := "last", desc := "(I)I" } : Jvm.MethodName)) ∈ lw_all := lw_g (lw_at lw_m5 40 rfl) rfl
theorem q1058 : (Jvm.Cond.code ({ cls := "XactKernel", name := "last", desc := "(I)I" } : Jvm.MethodName) prog_1_method_34_code (1 : Nat) (Option.some Jvm.ClassFile.FieldType.int)) ∈ lw_all := lw_g (lw_at lw_m5 41 rfl) rfl
theorem q1059 : (Jvm.Cond.methodLink "XactKernel" (306 : Nat) ({ cls := "XactKernel$Process", name := "free", desc := "(I)I" } : Jvm.MethodName)) ∈ lw_all := lw_g (lw_at lw_m5 42 rfl) rfl
theorem q1064 : (Jvm.Cond.methodLinkNest "XactKernel" (308 : Nat) ({ cls := "XactKernel$FileItem", name := "<init>", desc := "()V" } : Jvm.MethodName) "XactKernel") ∈ lw_tbl := lw_at lw_m5 47 rfl
theorem q1069 : (Jvm.Cond.fieldLink "XactKernel" (343 : Nat) "XactKernel$FileItem" "cells" "[I") ∈ lw_all := lw_g (lw_at lw_m5 52 rfl) rfl
theorem q1071 : (Jvm.Cond.fieldLink "XactKernel" (347 : Nat) "XactKernel$FileItem" "size" "I") ∈ lw_all := lw_g (lw_at lw_m5 54 rfl) rfl
theorem q1073 : (Jvm.Cond.fieldLink "XactKernel" (224 : Nat) "XactKernel$FileItem" "links" "I") ∈ lw_all := lw_g (lw_at lw_m5 56 rfl) rfl
theorem q1082 : (Jvm.Cond.methodLink "XactKernel" (309 : Nat) ({ cls := "XactKernel", name := "makes", desc := "(LXactKernel$Transaction;IILXactKernel$Item;)I" } : Jvm.MethodName)) ∈ lw_all := lw_g (lw_at lw_m5 65 rfl) rfl
theorem q1083 : (Jvm.Cond.privateMethod ({ cls := "XactKernel", name := "makes", desc := "(LXactKernel$Transaction;IILXactKernel$Item;)I" } : Jvm.MethodName)) ∈ lw_tbl := lw_at lw_m5 66 rfl
theorem q1084 : (Jvm.Cond.instanceMethod ({ cls := "XactKernel", name := "makes", desc := "(LXactKernel$Transaction;IILXactKernel$Item;)I" } : Jvm.MethodName)) ∈ lw_all := lw_g (lw_at lw_m5 67 rfl) rfl
theorem q1085 : (Jvm.Cond.code ({ cls := "XactKernel", name := "makes", desc := "(LXactKernel$Transaction;IILXactKernel$Item;)I" } : Jvm.MethodName) prog_1_method_37_code (6 : Nat) (Option.some Jvm.ClassFile.FieldType.int)) ∈ lw_all := lw_g (lw_at lw_m5 68 rfl) rfl
theorem q1086 : (Jvm.Cond.methodLink "XactKernel" (279 : Nat) ({ cls := "XactKernel", name := "free", desc := "(II)I" } : Jvm.MethodName)) ∈ lw_all := lw_g (lw_at lw_m5 69 rfl) rfl
theorem q1087 : (Jvm.Cond.privateMethod ({ cls := "XactKernel", name := "free", desc := "(II)I" } : Jvm.MethodName)) ∈ lw_tbl := lw_at lw_m5 70 rfl
theorem q1088 : (Jvm.Cond.instanceMethod ({ cls := "XactKernel", name := "free", desc := "(II)I" } : Jvm.MethodName)) ∈ lw_all := lw_g (lw_at lw_m5 71 rfl) rfl
theorem q1089 : (Jvm.Cond.code ({ cls := "XactKernel", name := "free", desc := "(II)I" } : Jvm.MethodName) prog_1_method_17_code (4 : Nat) (Option.some Jvm.ClassFile.FieldType.int)) ∈ lw_all := lw_g (lw_at lw_m5 72 rfl) rfl
theorem q1090 : (Jvm.Cond.methodLink "XactKernel" (163 : Nat) ({ cls := "XactKernel", name := "isFree", desc := "(I)Z" } : Jvm.MethodName)) ∈ lw_all := lw_g (lw_at lw_m5 73 rfl) rfl
theorem q1091 : (Jvm.Cond.privateMethod ({ cls := "XactKernel", name := "isFree", desc := "(I)Z" } : Jvm.MethodName)) ∈ lw_tbl := lw_at lw_m5 74 rfl
theorem q1092 : (Jvm.Cond.instanceMethod ({ cls := "XactKernel", name := "isFree", desc := "(I)Z" } : Jvm.MethodName)) ∈ lw_all := lw_g (lw_at lw_m5 75 rfl) rfl
theorem q1093 : (Jvm.Cond.code ({ cls := "XactKernel", name := "isFree", desc := "(I)Z" } : Jvm.MethodName) prog_1_method_18_code (4 : Nat) (Option.some Jvm.ClassFile.FieldType.boolean)) ∈ lw_all := lw_g (lw_at lw_m5 76 rfl) rfl
theorem q1094 : (Jvm.Cond.methodLink "XactKernel" (283 : Nat) ({ cls := "XactKernel", name := "full", desc := "(LXactKernel$Transaction;I)V" } : Jvm.MethodName)) ∈ lw_all := lw_g (lw_at lw_m5 77 rfl) rfl
theorem q1095 : (Jvm.Cond.privateMethod ({ cls := "XactKernel", name := "full", desc := "(LXactKernel$Transaction;I)V" } : Jvm.MethodName)) ∈ lw_tbl := lw_at lw_m5 78 rfl
theorem q1096 : (Jvm.Cond.instanceMethod ({ cls := "XactKernel", name := "full", desc := "(LXactKernel$Transaction;I)V" } : Jvm.MethodName)) ∈ lw_all := lw_g (lw_at lw_m5 79 rfl) rfl
theorem q1097 : (Jvm.Cond.code ({ cls := "XactKernel", name := "full", desc := "(LXactKernel$Transaction;I)V" } : Jvm.MethodName) prog_1_method_38_code (3 : Nat) (Option.none : Option Jvm.ClassFile.FieldType)) ∈ lw_all := lw_g (lw_at lw_m5 80 rfl) rfl
theorem q1098 : (Jvm.Cond.methodLink "XactKernel" (291 : Nat) ({ cls := "XactKernel$Item", name := "size", desc := "()I" } : Jvm.MethodName)) ∈ lw_all := lw_g (lw_at lw_m5 81 rfl) rfl
theorem q1114 : (Jvm.Cond.methodLink "XactKernel" (287 : Nat) ({ cls := "XactKernel", name := "enter", desc := "(LXactKernel$Transaction;III)V" } : Jvm.MethodName)) ∈ lw_all := lw_g (lw_at lw_m5 97 rfl) rfl
theorem q1115 : (Jvm.Cond.privateMethod ({ cls := "XactKernel", name := "enter", desc := "(LXactKernel$Transaction;III)V" } : Jvm.MethodName)) ∈ lw_tbl := lw_at lw_m5 98 rfl
theorem q1116 : (Jvm.Cond.instanceMethod ({ cls := "XactKernel", name := "enter", desc := "(LXactKernel$Transaction;III)V" } : Jvm.MethodName)) ∈ lw_all := lw_g (lw_at lw_m5 99 rfl) rfl
theorem q1117 : (Jvm.Cond.code ({ cls := "XactKernel", name := "enter", desc := "(LXactKernel$Transaction;III)V" } : Jvm.MethodName) prog_1_method_36_code (6 : Nat) (Option.none : Option Jvm.ClassFile.FieldType)) ∈ lw_all := lw_g (lw_at lw_m5 100 rfl) rfl
theorem q1118 : (Jvm.Cond.methodLink "XactKernel" (269 : Nat) ({ cls := "XactKernel", name := "writes", desc := "(LXactKernel$Transaction;I)LXactKernel$Item;" } : Jvm.MethodName)) ∈ lw_all := lw_g (lw_at lw_m5 101 rfl) rfl
theorem q1119 : (Jvm.Cond.privateMethod ({ cls := "XactKernel", name := "writes", desc := "(LXactKernel$Transaction;I)LXactKernel$Item;" } : Jvm.MethodName)) ∈ lw_tbl := lw_at lw_m5 102 rfl
theorem q1120 : (Jvm.Cond.instanceMethod ({ cls := "XactKernel", name := "writes", desc := "(LXactKernel$Transaction;I)LXactKernel$Item;" } : Jvm.MethodName)) ∈ lw_all := lw_g (lw_at lw_m5 103 rfl) rfl
theorem q1121 : (Jvm.Cond.code ({ cls := "XactKernel", name := "writes", desc := "(LXactKernel$Transaction;I)LXactKernel$Item;" } : Jvm.MethodName) prog_1_method_16_code (3 : Nat) (Option.some (Jvm.ClassFile.FieldType.object "XactKernel$Item"))) ∈ lw_all := lw_g (lw_at lw_m5 104 rfl) rfl
theorem q1122 : (Jvm.Cond.methodLink "XactKernel" (159 : Nat) ({ cls := "XactKernel$Item", name := "copy", desc := "()LXactKernel$Item;" } : Jvm.MethodName)) ∈ lw_all := lw_g (lw_at lw_m5 105 rfl) rfl
theorem q1149 : (Jvm.Cond.fieldLink "XactKernel" (335 : Nat) "XactKernel$PipeItem" "row" "Ljava/util/List;") ∈ lw_all := lw_g (lw_at lw_m5 132 rfl) rfl
theorem q1162 : (Jvm.Cond.classLink "XactKernel" (274 : Nat) "XactKernel$Entry") ∈ lw_all := lw_g (lw_at lw_m5 145 rfl) rfl
theorem q1164 : (Jvm.Cond.methodLink "XactKernel" (276 : Nat) ({ cls := "XactKernel$Entry", name := "<init>", desc := "(II)V" } : Jvm.MethodName)) ∈ lw_all := lw_g (lw_at lw_m5 147 rfl) rfl
theorem q1177 : (Jvm.Cond.classLink "XactKernel" (218 : Nat) "XactKernel$Descriptor") ∈ lw_all := lw_g (lw_at lw_m5 160 rfl) rfl
theorem q1178 : (Jvm.Cond.methodLink "XactKernel" (313 : Nat) ({ cls := "XactKernel$Descriptor", name := "<init>", desc := "(IZI)V" } : Jvm.MethodName)) ∈ lw_all := lw_g (lw_at lw_m5 161 rfl) rfl
theorem q1179 : (Jvm.Cond.methodLink "XactKernel" (316 : Nat) ({ cls := "XactKernel", name := "leave", desc := "(LXactKernel$Transaction;)V" } : Jvm.MethodName)) ∈ lw_all := lw_g (lw_at lw_m5 162 rfl) rfl
theorem q1180 : (Jvm.Cond.privateMethod ({ cls := "XactKernel", name := "leave", desc := "(LXactKernel$Transaction;)V" } : Jvm.MethodName)) ∈ lw_tbl := lw_at lw_m5 163 rfl
theorem q1181 : (Jvm.Cond.instanceMethod ({ cls := "XactKernel", name := "leave", desc := "(LXactKernel$Transaction;)V" } : Jvm.MethodName)) ∈ lw_all := lw_g (lw_at lw_m5 164 rfl) rfl
theorem q1182 : (Jvm.Cond.code ({ cls := "XactKernel", name := "leave", desc := "(LXactKernel$Transaction;)V" } : Jvm.MethodName) prog_1_method_27_code (2 : Nat) (Option.none : Option Jvm.ClassFile.FieldType)) ∈ lw_all := lw_g (lw_at lw_m5 165 rfl) rfl
theorem q1187 : (Jvm.Cond.instanceMethod ({ cls := "XactKernel", name := "close", desc := "(II)I" } : Jvm.MethodName)) ∈ lw_all := lw_g (lw_at lw_m5 170 rfl) rfl
theorem q1188 : (Jvm.Cond.selects "XactKernel" ({ cls := "XactKernel", name := "close", desc := "(II)I" } : Jvm.MethodName) ({ cls := "XactKernel", name := "close", desc := "(II)I" } : Jvm.MethodName)) ∈ lw_all := lw_g (lw_at lw_m5 171 rfl) rfl
theorem q1189 : (Jvm.Cond.code ({ cls := "XactKernel", name := "close", desc := "(II)I" } : Jvm.MethodName) prog_1_method_42_code (4 : Nat) (Option.some Jvm.ClassFile.FieldType.int)) ∈ lw_all := lw_g (lw_at lw_m5 172 rfl) rfl
theorem q1190 : (Jvm.Cond.methodLink "XactKernel" (319 : Nat) ({ cls := "XactKernel", name := "descriptor", desc := "(LXactKernel$Process;I)LXactKernel$Descriptor;" } : Jvm.MethodName)) ∈ lw_all := lw_g (lw_at lw_m5 173 rfl) rfl
theorem q1191 : (Jvm.Cond.privateMethod ({ cls := "XactKernel", name := "descriptor", desc := "(LXactKernel$Process;I)LXactKernel$Descriptor;" } : Jvm.MethodName)) ∈ lw_tbl := lw_at lw_m5 174 rfl
theorem q1192 : (Jvm.Cond.instanceMethod ({ cls := "XactKernel", name := "descriptor", desc := "(LXactKernel$Process;I)LXactKernel$Descriptor;" } : Jvm.MethodName)) ∈ lw_all := lw_g (lw_at lw_m5 175 rfl) rfl
theorem q1193 : (Jvm.Cond.code ({ cls := "XactKernel", name := "descriptor", desc := "(LXactKernel$Process;I)LXactKernel$Descriptor;" } : Jvm.MethodName) prog_1_method_40_code (3 : Nat) (Option.some (Jvm.ClassFile.FieldType.object "XactKernel$Descriptor"))) ∈ lw_all := lw_g (lw_at lw_m5 176 rfl) rfl
theorem q1198 : (Jvm.Cond.instanceMethod ({ cls := "XactKernel", name := "read", desc := "(II)I" } : Jvm.MethodName)) ∈ lw_all := lw_g (lw_at lw_m5 181 rfl) rfl
theorem q1199 : (Jvm.Cond.selects "XactKernel" ({ cls := "XactKernel", name := "read", desc := "(II)I" } : Jvm.MethodName) ({ cls := "XactKernel", name := "read", desc := "(II)I" } : Jvm.MethodName)) ∈ lw_all := lw_g (lw_at lw_m5 182 rfl) rfl
theorem q1200 : (Jvm.Cond.code ({ cls := "XactKernel", name := "read", desc := "(II)I" } : Jvm.MethodName) prog_1_method_43_code (8 : Nat) (Option.some Jvm.ClassFile.FieldType.int)) ∈ lw_all := lw_g (lw_at lw_m5 183 rfl) rfl
theorem q1201 : (Jvm.Cond.methodLink "XactKernel" (323 : Nat) ({ cls := "XactKernel", name := "isPipe", desc := "(LXactKernel$Descriptor;)Z" } : Jvm.MethodName)) ∈ lw_all := lw_g (lw_at lw_m5 184 rfl) rfl
theorem q1202 : (Jvm.Cond.static ({ cls := "XactKernel", name := "isPipe", desc := "(LXactKernel$Descriptor;)Z" } : Jvm.MethodName)) ∈ lw_all := lw_g (lw_at lw_m5 185 rfl) rfl
theorem q1203 : (Jvm.Cond.code ({ cls := "XactKernel", name := "isPipe", desc := "(LXactKernel$Descriptor;)Z" } : Jvm.MethodName) prog_1_method_41_code (1 : Nat) (Option.some Jvm.ClassFile.FieldType.boolean)) ∈ lw_all := lw_g (lw_at lw_m5 186 rfl) rfl
theorem q1204 : (Jvm.Cond.methodLink "XactKernel" (330 : Nat) ({ cls := "XactKernel$Item", name := "cell", desc := "(I)I" } : Jvm.MethodName)) ∈ lw_all := lw_g (lw_at lw_m5 187 rfl) rfl
theorem q1221 : (Jvm.Cond.interfaceEntry "XactKernel" (338 : Nat)) ∈ lw_tbl := lw_at lw_m5 204 rfl
theorem q1222 : (Jvm.Cond.methodLink "XactKernel" (338 : Nat) ({ cls := "java/util/List", name := "remove", desc := "(I)Ljava/lang/Object;" } : Jvm.MethodName)) ∈ lw_all := lw_g (lw_at lw_m5 205 rfl) rfl
theorem q1230 : (Jvm.Cond.classLink "XactKernel" (203 : Nat) "java/lang/Integer") ∈ lw_all := lw_g (lw_at lw_m5 213 rfl) rfl
theorem q1231 : (Jvm.Cond.methodLink "XactKernel" (340 : Nat) ({ cls := "java/lang/Integer", name := "intValue", desc := "()I" } : Jvm.MethodName)) ∈ lw_all := lw_g (lw_at lw_m5 214 rfl) rfl
theorem q1236 : (Jvm.Cond.instanceMethod ({ cls := "XactKernel", name := "write", desc := "(III)I" } : Jvm.MethodName)) ∈ lw_all := lw_g (lw_at lw_m5 219 rfl) rfl
theorem q1237 : (Jvm.Cond.selects "XactKernel" ({ cls := "XactKernel", name := "write", desc := "(III)I" } : Jvm.MethodName) ({ cls := "XactKernel", name := "write", desc := "(III)I" } : Jvm.MethodName)) ∈ lw_all := lw_g (lw_at lw_m5 220 rfl) rfl
theorem q1238 : (Jvm.Cond.code ({ cls := "XactKernel", name := "write", desc := "(III)I" } : Jvm.MethodName) prog_1_method_44_code (9 : Nat) (Option.some Jvm.ClassFile.FieldType.int)) ∈ lw_all := lw_g (lw_at lw_m5 221 rfl) rfl
theorem q1239 : (Jvm.Cond.methodLink "XactKernel" (349 : Nat) ({ cls := "java/lang/Math", name := "max", desc := "(II)I" } : Jvm.MethodName)) ∈ lw_all := lw_g (lw_at lw_m5 222 rfl) rfl
theorem q1244 : (Jvm.Cond.instanceMethod ({ cls := "XactKernel", name := "seek", desc := "(III)I" } : Jvm.MethodName)) ∈ lw_all := lw_g (lw_at lw_m5 227 rfl) rfl
theorem q1245 : (Jvm.Cond.selects "XactKernel" ({ cls := "XactKernel", name := "seek", desc := "(III)I" } : Jvm.MethodName) ({ cls := "XactKernel", name := "seek", desc := "(III)I" } : Jvm.MethodName)) ∈ lw_all := lw_g (lw_at lw_m5 228 rfl) rfl
theorem q1246 : (Jvm.Cond.code ({ cls := "XactKernel", name := "seek", desc := "(III)I" } : Jvm.MethodName) prog_1_method_45_code (7 : Nat) (Option.some Jvm.ClassFile.FieldType.int)) ∈ lw_all := lw_g (lw_at lw_m5 229 rfl) rfl
theorem q1251 : (Jvm.Cond.instanceMethod ({ cls := "XactKernel", name := "truncate", desc := "(III)I" } : Jvm.MethodName)) ∈ lw_all := lw_g (lw_at lw_m5 234 rfl) rfl
theorem q1252 : (Jvm.Cond.selects "XactKernel" ({ cls := "XactKernel", name := "truncate", desc := "(III)I" } : Jvm.MethodName) ({ cls := "XactKernel", name := "truncate", desc := "(III)I" } : Jvm.MethodName)) ∈ lw_all := lw_g (lw_at lw_m5 235 rfl) rfl
theorem q1253 : (Jvm.Cond.code ({ cls := "XactKernel", name := "truncate", desc := "(III)I" } : Jvm.MethodName) prog_1_method_46_code (9 : Nat) (Option.some Jvm.ClassFile.FieldType.int)) ∈ lw_all := lw_g (lw_at lw_m5 236 rfl) rfl
theorem q1254 : (Jvm.Cond.methodLink "XactKernel" (354 : Nat) ({ cls := "XactKernel$FileItem", name := "cut", desc := "(I)V" } : Jvm.MethodName)) ∈ lw_all := lw_g (lw_at lw_m5 237 rfl) rfl
theorem q1262 : (Jvm.Cond.instanceMethod ({ cls := "XactKernel", name := "directory", desc := "(II)I" } : Jvm.MethodName)) ∈ lw_all := lw_g (lw_at lw_m6 5 rfl) rfl
theorem q1263 : (Jvm.Cond.selects "XactKernel" ({ cls := "XactKernel", name := "directory", desc := "(II)I" } : Jvm.MethodName) ({ cls := "XactKernel", name := "directory", desc := "(II)I" } : Jvm.MethodName)) ∈ lw_all := lw_g (lw_at lw_m6 6 rfl) rfl
theorem q1264 : (Jvm.Cond.code ({ cls := "XactKernel", name := "directory", desc := "(II)I" } : Jvm.MethodName) prog_1_method_47_code (7 : Nat) (Option.some Jvm.ClassFile.FieldType.int)) ∈ lw_all := lw_g (lw_at lw_m6 7 rfl) rfl
theorem q1269 : (Jvm.Cond.instanceMethod ({ cls := "XactKernel", name := "link", desc := "(III)I" } : Jvm.MethodName)) ∈ lw_all := lw_g (lw_at lw_m6 12 rfl) rfl
theorem q1270 : (Jvm.Cond.selects "XactKernel" ({ cls := "XactKernel", name := "link", desc := "(III)I" } : Jvm.MethodName) ({ cls := "XactKernel", name := "link", desc := "(III)I" } : Jvm.MethodName)) ∈ lw_all := lw_g (lw_at lw_m6 13 rfl) rfl
theorem q1271 : (Jvm.Cond.code ({ cls := "XactKernel", name := "link", desc := "(III)I" } : Jvm.MethodName) prog_1_method_48_code (10 : Nat) (Option.some Jvm.ClassFile.FieldType.int)) ∈ lw_all := lw_g (lw_at lw_m6 14 rfl) rfl
theorem q1276 : (Jvm.Cond.instanceMethod ({ cls := "XactKernel", name := "unlink", desc := "(II)I" } : Jvm.MethodName)) ∈ lw_all := lw_g (lw_at lw_m6 19 rfl) rfl
theorem q1277 : (Jvm.Cond.selects "XactKernel" ({ cls := "XactKernel", name := "unlink", desc := "(II)I" } : Jvm.MethodName) ({ cls := "XactKernel", name := "unlink", desc := "(II)I" } : Jvm.MethodName)) ∈ lw_all := lw_g (lw_at lw_m6 20 rfl) rfl
theorem q1278 : (Jvm.Cond.code ({ cls := "XactKernel", name := "unlink", desc := "(II)I" } : Jvm.MethodName) prog_1_method_49_code (11 : Nat) (Option.some Jvm.ClassFile.FieldType.int)) ∈ lw_all := lw_g (lw_at lw_m6 21 rfl) rfl
theorem q1279 : (Jvm.Cond.methodLink "XactKernel" (357 : Nat) ({ cls := "XactKernel$DirectoryItem", name := "remove", desc := "(I)V" } : Jvm.MethodName)) ∈ lw_all := lw_g (lw_at lw_m6 22 rfl) rfl
theorem q1289 : (Jvm.Cond.instanceMethod ({ cls := "XactKernel", name := "rename", desc := "(III)I" } : Jvm.MethodName)) ∈ lw_all := lw_g (lw_at lw_m6 32 rfl) rfl
theorem q1290 : (Jvm.Cond.selects "XactKernel" ({ cls := "XactKernel", name := "rename", desc := "(III)I" } : Jvm.MethodName) ({ cls := "XactKernel", name := "rename", desc := "(III)I" } : Jvm.MethodName)) ∈ lw_all := lw_g (lw_at lw_m6 33 rfl) rfl
theorem q1291 : (Jvm.Cond.code ({ cls := "XactKernel", name := "rename", desc := "(III)I" } : Jvm.MethodName) prog_1_method_51_code (10 : Nat) (Option.some Jvm.ClassFile.FieldType.int)) ∈ lw_all := lw_g (lw_at lw_m6 34 rfl) rfl
theorem q1292 : (Jvm.Cond.methodLink "XactKernel" (359 : Nat) ({ cls := "XactKernel", name := "begins", desc := "(II)Z" } : Jvm.MethodName)) ∈ lw_all := lw_g (lw_at lw_m6 35 rfl) rfl
theorem q1293 : (Jvm.Cond.static ({ cls := "XactKernel", name := "begins", desc := "(II)Z" } : Jvm.MethodName)) ∈ lw_all := lw_g (lw_at lw_m6 36 rfl) rfl
theorem q1294 : (Jvm.Cond.code ({ cls := "XactKernel", name := "begins", desc := "(II)Z" } : Jvm.MethodName) prog_1_method_50_code (3 : Nat) (Option.some Jvm.ClassFile.FieldType.boolean)) ∈ lw_all := lw_g (lw_at lw_m6 37 rfl) rfl
theorem q1299 : (Jvm.Cond.instanceMethod ({ cls := "XactKernel", name := "size", desc := "(II)I" } : Jvm.MethodName)) ∈ lw_all := lw_g (lw_at lw_m6 42 rfl) rfl
theorem q1300 : (Jvm.Cond.selects "XactKernel" ({ cls := "XactKernel", name := "size", desc := "(II)I" } : Jvm.MethodName) ({ cls := "XactKernel", name := "size", desc := "(II)I" } : Jvm.MethodName)) ∈ lw_all := lw_g (lw_at lw_m6 43 rfl) rfl
theorem q1301 : (Jvm.Cond.code ({ cls := "XactKernel", name := "size", desc := "(II)I" } : Jvm.MethodName) prog_1_method_52_code (7 : Nat) (Option.some Jvm.ClassFile.FieldType.int)) ∈ lw_all := lw_g (lw_at lw_m6 44 rfl) rfl
theorem q1306 : (Jvm.Cond.instanceMethod ({ cls := "XactKernel", name := "pipe", desc := "(I)I" } : Jvm.MethodName)) ∈ lw_all := lw_g (lw_at lw_m6 49 rfl) rfl
theorem q1307 : (Jvm.Cond.selects "XactKernel" ({ cls := "XactKernel", name := "pipe", desc := "(I)I" } : Jvm.MethodName) ({ cls := "XactKernel", name := "pipe", desc := "(I)I" } : Jvm.MethodName)) ∈ lw_all := lw_g (lw_at lw_m6 50 rfl) rfl
theorem q1308 : (Jvm.Cond.code ({ cls := "XactKernel", name := "pipe", desc := "(I)I" } : Jvm.MethodName) prog_1_method_53_code (7 : Nat) (Option.some Jvm.ClassFile.FieldType.int)) ∈ lw_all := lw_g (lw_at lw_m6 51 rfl) rfl
theorem q1309 : (Jvm.Cond.methodLink "XactKernel" (363 : Nat) ({ cls := "java/lang/Math", name := "min", desc := "(II)I" } : Jvm.MethodName)) ∈ lw_all := lw_g (lw_at lw_m6 52 rfl) rfl
theorem q1310 : (Jvm.Cond.methodLinkNest "XactKernel" (366 : Nat) ({ cls := "XactKernel$PipeItem", name := "<init>", desc := "()V" } : Jvm.MethodName) "XactKernel") ∈ lw_tbl := lw_at lw_m6 53 rfl
theorem q1315 : (Jvm.Cond.instanceMethod ({ cls := "XactKernel", name := "fork", desc := "(I)I" } : Jvm.MethodName)) ∈ lw_all := lw_g (lw_at lw_m6 58 rfl) rfl
theorem q1316 : (Jvm.Cond.selects "XactKernel" ({ cls := "XactKernel", name := "fork", desc := "(I)I" } : Jvm.MethodName) ({ cls := "XactKernel", name := "fork", desc := "(I)I" } : Jvm.MethodName)) ∈ lw_all := lw_g (lw_at lw_m6 59 rfl) rfl
theorem q1317 : (Jvm.Cond.code ({ cls := "XactKernel", name := "fork", desc := "(I)I" } : Jvm.MethodName) prog_1_method_54_code (5 : Nat) (Option.some Jvm.ClassFile.FieldType.int)) ∈ lw_all := lw_g (lw_at lw_m6 60 rfl) rfl
theorem q1318 : (Jvm.Cond.methodLink "XactKernel" (367 : Nat) ({ cls := "XactKernel$Descriptor", name := "copy", desc := "()LXactKernel$Descriptor;" } : Jvm.MethodName)) ∈ lw_all := lw_g (lw_at lw_m6 61 rfl) rfl
theorem q1323 : (Jvm.Cond.instanceMethod ({ cls := "XactKernel", name := "exit", desc := "(I)I" } : Jvm.MethodName)) ∈ lw_all := lw_g (lw_at lw_m6 66 rfl) rfl
theorem q1324 : (Jvm.Cond.selects "XactKernel" ({ cls := "XactKernel", name := "exit", desc := "(I)I" } : Jvm.MethodName) ({ cls := "XactKernel", name := "exit", desc := "(I)I" } : Jvm.MethodName)) ∈ lw_all := lw_g (lw_at lw_m6 67 rfl) rfl
theorem q1325 : (Jvm.Cond.code ({ cls := "XactKernel", name := "exit", desc := "(I)I" } : Jvm.MethodName) prog_1_method_55_code (3 : Nat) (Option.some Jvm.ClassFile.FieldType.int)) ∈ lw_all := lw_g (lw_at lw_m6 68 rfl) rfl
theorem q1326 : (Jvm.Cond.methodLink "XactKernel" (370 : Nat) ({ cls := "XactKernel", name := "count", desc := "(I)I" } : Jvm.MethodName)) ∈ lw_all := lw_g (lw_at lw_m6 69 rfl) rfl
theorem q1327 : (Jvm.Cond.instanceMethod ({ cls := "XactKernel", name := "count", desc := "(I)I" } : Jvm.MethodName)) ∈ lw_all := lw_g (lw_at lw_m6 70 rfl) rfl
theorem q1328 : (Jvm.Cond.selects "XactKernel" ({ cls := "XactKernel", name := "count", desc := "(I)I" } : Jvm.MethodName) ({ cls := "XactKernel", name := "count", desc := "(I)I" } : Jvm.MethodName)) ∈ lw_all := lw_g (lw_at lw_m6 71 rfl) rfl
theorem q1329 : (Jvm.Cond.code ({ cls := "XactKernel", name := "count", desc := "(I)I" } : Jvm.MethodName) prog_1_method_63_code (7 : Nat) (Option.some Jvm.ClassFile.FieldType.int)) ∈ lw_all := lw_g (lw_at lw_m6 72 rfl) rfl
theorem q1334 : (Jvm.Cond.instanceMethod ({ cls := "XactKernel", name := "signal", desc := "(III)I" } : Jvm.MethodName)) ∈ lw_all := lw_g (lw_at lw_m6 77 rfl) rfl
theorem q1335 : (Jvm.Cond.selects "XactKernel" ({ cls := "XactKernel", name := "signal", desc := "(III)I" } : Jvm.MethodName) ({ cls := "XactKernel", name := "signal", desc := "(III)I" } : Jvm.MethodName)) ∈ lw_all := lw_g (lw_at lw_m6 78 rfl) rfl
theorem q1336 : (Jvm.Cond.code ({ cls := "XactKernel", name := "signal", desc := "(III)I" } : Jvm.MethodName) prog_1_method_56_code (5 : Nat) (Option.some Jvm.ClassFile.FieldType.int)) ∈ lw_all := lw_g (lw_at lw_m6 79 rfl) rfl
theorem q1338 : (Jvm.Cond.methodLink "XactKernel" (373 : Nat) ({ cls := "XactKernel$Signal", name := "<init>", desc := "(II)V" } : Jvm.MethodName)) ∈ lw_all := lw_g (lw_at lw_m6 81 rfl) rfl
theorem q1343 : (Jvm.Cond.fieldLink "XactKernel" (195 : Nat) "XactKernel$Signal" "to" "I") ∈ lw_all := lw_g (lw_at lw_m6 86 rfl) rfl
theorem q1345 : (Jvm.Cond.fieldLink "XactKernel" (199 : Nat) "XactKernel$Signal" "n" "I") ∈ lw_all := lw_g (lw_at lw_m6 88 rfl) rfl
theorem q1355 : (Jvm.Cond.instanceMethod ({ cls := "XactKernel", name := "take", desc := "(I)I" } : Jvm.MethodName)) ∈ lw_all := lw_g (lw_at lw_m6 98 rfl) rfl
theorem q1356 : (Jvm.Cond.selects "XactKernel" ({ cls := "XactKernel", name := "take", desc := "(I)I" } : Jvm.MethodName) ({ cls := "XactKernel", name := "take", desc := "(I)I" } : Jvm.MethodName)) ∈ lw_all := lw_g (lw_at lw_m6 99 rfl) rfl
theorem q1357 : (Jvm.Cond.code ({ cls := "XactKernel", name := "take", desc := "(I)I" } : Jvm.MethodName) prog_1_method_57_code (3 : Nat) (Option.some Jvm.ClassFile.FieldType.int)) ∈ lw_all := lw_g (lw_at lw_m6 100 rfl) rfl
theorem q1358 : (Jvm.Cond.interfaceEntry "XactKernel" (374 : Nat)) ∈ lw_tbl := lw_at lw_m6 101 rfl
theorem q1359 : (Jvm.Cond.methodLink "XactKernel" (374 : Nat) ({ cls := "java/util/List", name := "isEmpty", desc := "()Z" } : Jvm.MethodName)) ∈ lw_all := lw_g (lw_at lw_m6 102 rfl) rfl
theorem q1371 : (Jvm.Cond.instanceMethod ({ cls := "XactKernel", name := "log", desc := "(I)I" } : Jvm.MethodName)) ∈ lw_all := lw_g (lw_at lw_m6 114 rfl) rfl
theorem q1372 : (Jvm.Cond.selects "XactKernel" ({ cls := "XactKernel", name := "log", desc := "(I)I" } : Jvm.MethodName) ({ cls := "XactKernel", name := "log", desc := "(I)I" } : Jvm.MethodName)) ∈ lw_all := lw_g (lw_at lw_m6 115 rfl) rfl
theorem q1373 : (Jvm.Cond.code ({ cls := "XactKernel", name := "log", desc := "(I)I" } : Jvm.MethodName) prog_1_method_58_code (3 : Nat) (Option.some Jvm.ClassFile.FieldType.int)) ∈ lw_all := lw_g (lw_at lw_m6 116 rfl) rfl
theorem q1378 : (Jvm.Cond.instanceMethod ({ cls := "XactKernel", name := "cut", desc := "(I)I" } : Jvm.MethodName)) ∈ lw_all := lw_g (lw_at lw_m6 121 rfl) rfl
theorem q1379 : (Jvm.Cond.selects "XactKernel" ({ cls := "XactKernel", name := "cut", desc := "(I)I" } : Jvm.MethodName) ({ cls := "XactKernel", name := "cut", desc := "(I)I" } : Jvm.MethodName)) ∈ lw_all := lw_g (lw_at lw_m6 122 rfl) rfl
theorem q1380 : (Jvm.Cond.code ({ cls := "XactKernel", name := "cut", desc := "(I)I" } : Jvm.MethodName) prog_1_method_59_code (3 : Nat) (Option.some Jvm.ClassFile.FieldType.int)) ∈ lw_all := lw_g (lw_at lw_m6 123 rfl) rfl
theorem q1385 : (Jvm.Cond.instanceMethod ({ cls := "XactKernel", name := "item", desc := "(II)I" } : Jvm.MethodName)) ∈ lw_all := lw_g (lw_at lw_m6 128 rfl) rfl
theorem q1386 : (Jvm.Cond.selects "XactKernel" ({ cls := "XactKernel", name := "item", desc := "(II)I" } : Jvm.MethodName) ({ cls := "XactKernel", name := "item", desc := "(II)I" } : Jvm.MethodName)) ∈ lw_all := lw_g (lw_at lw_m6 129 rfl) rfl
theorem q1387 : (Jvm.Cond.code ({ cls := "XactKernel", name := "item", desc := "(II)I" } : Jvm.MethodName) prog_1_method_60_code (6 : Nat) (Option.some Jvm.ClassFile.FieldType.int)) ∈ lw_all := lw_g (lw_at lw_m6 130 rfl) rfl
theorem q1388 : (Jvm.Cond.methodLink "XactKernel" (377 : Nat) ({ cls := "XactKernel$Item", name := "kind", desc := "()I" } : Jvm.MethodName)) ∈ lw_all := lw_g (lw_at lw_m6 131 rfl) rfl
theorem q1404 : (Jvm.Cond.instanceMethod ({ cls := "XactKernel", name := "cell", desc := "(II)I" } : Jvm.MethodName)) ∈ lw_all := lw_g (lw_at lw_m6 147 rfl) rfl
theorem q1405 : (Jvm.Cond.selects "XactKernel" ({ cls := "XactKernel", name := "cell", desc := "(II)I" } : Jvm.MethodName) ({ cls := "XactKernel", name := "cell", desc := "(II)I" } : Jvm.MethodName)) ∈ lw_all := lw_g (lw_at lw_m6 148 rfl) rfl
theorem q1406 : (Jvm.Cond.code ({ cls := "XactKernel", name := "cell", desc := "(II)I" } : Jvm.MethodName) prog_1_method_61_code (3 : Nat) (Option.some Jvm.ClassFile.FieldType.int)) ∈ lw_all := lw_g (lw_at lw_m6 149 rfl) rfl
theorem q1411 : (Jvm.Cond.instanceMethod ({ cls := "XactKernel", name := "look", desc := "(II)I" } : Jvm.MethodName)) ∈ lw_all := lw_g (lw_at lw_m6 154 rfl) rfl
theorem q1412 : (Jvm.Cond.selects "XactKernel" ({ cls := "XactKernel", name := "look", desc := "(II)I" } : Jvm.MethodName) ({ cls := "XactKernel", name := "look", desc := "(II)I" } : Jvm.MethodName)) ∈ lw_all := lw_g (lw_at lw_m6 155 rfl) rfl
theorem q1413 : (Jvm.Cond.code ({ cls := "XactKernel", name := "look", desc := "(II)I" } : Jvm.MethodName) prog_1_method_62_code (5 : Nat) (Option.some Jvm.ClassFile.FieldType.int)) ∈ lw_all := lw_g (lw_at lw_m6 156 rfl) rfl
theorem q1763 : (Jvm.Cond.castable "XactKernel" "java/lang/Object") ∈ lw_tbl := lw_at lw_m8 26 rfl
theorem in_X1 : ∀ w ∈ wsX10, w ∈ lw_all := lw_in wsX10 [511, 513, 515, 517, 519, 521, 523, 525, 527] (by decide +kernel) (by decide +kernel)
/-! java/util/AbstractCollection -/
def RJ0 : String := "java/util/AbstractCollection"
abbrev cJ0_init : ByteArray := prog_39_method_1_code
def yJ0_init : MethodName := ⟨RJ0, "<init>", "()V"⟩
theorem q59 : (Jvm.Cond.initialized "java/util/AbstractCollection") ∈ lw_all := lw_g (lw_at lw_m1 2 rfl) rfl
theorem q117 : (Jvm.Cond.instanceMethod ({ cls := "java/util/AbstractCollection", name := "<init>", desc := "()V" } : Jvm.MethodName)) ∈ lw_all := lw_g (lw_at lw_m1 60 rfl) rfl
theorem q118 : (Jvm.Cond.code ({ cls := "java/util/AbstractCollection", name := "<init>", desc := "()V" } : Jvm.MethodName) prog_39_method_1_code (1 : Nat) (Option.none : Option Jvm.ClassFile.FieldType)) ∈ lw_all := lw_g (lw_at lw_m1 61 rfl) rfl
theorem q119 : (Jvm.Cond.methodLink "java/util/AbstractCollection" (1 : Nat) ({ cls := "java/lang/Object", name := "<init>", desc := "()V" } : Jvm.MethodName)) ∈ lw_all := lw_g (lw_at lw_m1 62 rfl) rfl
/-! java/util/AbstractList -/
def RJ1 : String := "java/util/AbstractList"
abbrev cJ1_init : ByteArray := prog_40_method_1_code
def yJ1_init : MethodName := ⟨RJ1, "<init>", "()V"⟩
theorem q60 : (Jvm.Cond.initialized "java/util/AbstractList") ∈ lw_all := lw_g (lw_at lw_m1 3 rfl) rfl
theorem q114 : (Jvm.Cond.instanceMethod ({ cls := "java/util/AbstractList", name := "<init>", desc := "()V" } : Jvm.MethodName)) ∈ lw_all := lw_g (lw_at lw_m1 57 rfl) rfl
theorem q115 : (Jvm.Cond.code ({ cls := "java/util/AbstractList", name := "<init>", desc := "()V" } : Jvm.MethodName) prog_40_method_1_code (1 : Nat) (Option.none : Option Jvm.ClassFile.FieldType)) ∈ lw_all := lw_g (lw_at lw_m1 58 rfl) rfl
theorem q116 : (Jvm.Cond.methodLink "java/util/AbstractList" (1 : Nat) ({ cls := "java/util/AbstractCollection", name := "<init>", desc := "()V" } : Jvm.MethodName)) ∈ lw_all := lw_g (lw_at lw_m1 59 rfl) rfl
theorem q126 : (Jvm.Cond.fieldLink "java/util/AbstractList" (7 : Nat) "java/util/AbstractList" "modCount" "I") ∈ lw_all := lw_g (lw_at lw_m1 69 rfl) rfl
theorem q135 : (Jvm.Cond.soleField "java/util/AbstractList" "modCount") ∈ lw_all := lw_g (lw_at lw_m1 78 rfl) rfl
/-! java/util/ArrayList -/
def RJ2 : String := "java/util/ArrayList"
def TJ2 : u_T := fun k => match k with
  | 0 => ("java/util/AbstractList", "modCount", "I", false)
  | 1 => ("java/util/ArrayList", "elementData", "[Ljava/lang/Object;", false)
  | _ => ("java/util/ArrayList", "size", "I", false)
def tyJ2 : Nat → FieldType := fun k => match k with
  | 0 => .int
  | 1 => .array (.object "java/lang/Object")
  | _ => .int
abbrev wsJ20 : List Cond := u_ws RJ2 TJ2 3
theorem nmJ2 : ∀ a, a < 3 → ∀ b, b < 3 → a ≠ b → (TJ2 a).2.1 ≠ (TJ2 b).2.1 := by decide +kernel
theorem tyJ2_ok : ∀ k, k < 3 → parseFieldDescriptor (TJ2 k).2.2.1 = some (tyJ2 k) := by decide +kernel
abbrev cJ2_init : ByteArray := prog_41_method_2_code
def yJ2_init : MethodName := ⟨RJ2, "<init>", "()V"⟩
abbrev cJ2_init_2 : ByteArray := prog_41_method_1_code
def yJ2_init_2 : MethodName := ⟨RJ2, "<init>", "(I)V"⟩
abbrev cJ2_add : ByteArray := prog_41_method_25_code
def yJ2_add : MethodName := ⟨RJ2, "add", "(Ljava/lang/Object;)Z"⟩
abbrev cJ2_add_2 : ByteArray := prog_41_method_24_code
def yJ2_add_2 : MethodName := ⟨RJ2, "add", "(Ljava/lang/Object;[Ljava/lang/Object;I)V"⟩
abbrev cJ2_grow : ByteArray := prog_41_method_7_code
def yJ2_grow : MethodName := ⟨RJ2, "grow", "()[Ljava/lang/Object;"⟩
abbrev cJ2_grow_2 : ByteArray := prog_41_method_6_code
def yJ2_grow_2 : MethodName := ⟨RJ2, "grow", "(I)[Ljava/lang/Object;"⟩
abbrev cJ2_remove : ByteArray := prog_41_method_38_code
def yJ2_remove : MethodName := ⟨RJ2, "remove", "(Ljava/lang/Object;)Z"⟩
abbrev cJ2_fastRemove : ByteArray := prog_41_method_39_code
def yJ2_fastRemove : MethodName := ⟨RJ2, "fastRemove", "([Ljava/lang/Object;I)V"⟩
abbrev cJ2_iterator : ByteArray := prog_41_method_55_code
def yJ2_iterator : MethodName := ⟨RJ2, "iterator", "()Ljava/util/Iterator;"⟩
abbrev cJ2_clear : ByteArray := prog_41_method_40_code
def yJ2_clear : MethodName := ⟨RJ2, "clear", "()V"⟩
abbrev cJ2_size : ByteArray := prog_41_method_8_code
def yJ2_size : MethodName := ⟨RJ2, "size", "()I"⟩
abbrev cJ2_indexOf : ByteArray := prog_41_method_11_code
def yJ2_indexOf : MethodName := ⟨RJ2, "indexOf", "(Ljava/lang/Object;)I"⟩
abbrev cJ2_indexOfRange : ByteArray := prog_41_method_12_code
def yJ2_indexOfRange : MethodName := ⟨RJ2, "indexOfRange", "(Ljava/lang/Object;II)I"⟩
abbrev cJ2_get : ByteArray := prog_41_method_20_code
def yJ2_get : MethodName := ⟨RJ2, "get", "(I)Ljava/lang/Object;"⟩
abbrev cJ2_elementData : ByteArray := prog_41_method_18_code
def yJ2_elementData : MethodName := ⟨RJ2, "elementData", "(I)Ljava/lang/Object;"⟩
abbrev cJ2_remove_2 : ByteArray := prog_41_method_29_code
def yJ2_remove_2 : MethodName := ⟨RJ2, "remove", "(I)Ljava/lang/Object;"⟩
abbrev cJ2_isEmpty : ByteArray := prog_41_method_9_code
def yJ2_isEmpty : MethodName := ⟨RJ2, "isEmpty", "()Z"⟩
theorem q61 : (Jvm.Cond.initialized "java/util/ArrayList") ∈ lw_all := lw_g (lw_at lw_m1 4 rfl) rfl
theorem q109 : (Jvm.Cond.instantiable "java/util/ArrayList" (3 : Nat)) ∈ lw_all := lw_g (lw_at lw_m1 52 rfl) rfl
theorem q111 : (Jvm.Cond.instanceMethod ({ cls := "java/util/ArrayList", name := "<init>", desc := "()V" } : Jvm.MethodName)) ∈ lw_all := lw_g (lw_at lw_m1 54 rfl) rfl
theorem q112 : (Jvm.Cond.code ({ cls := "java/util/ArrayList", name := "<init>", desc := "()V" } : Jvm.MethodName) prog_41_method_2_code (1 : Nat) (Option.none : Option Jvm.ClassFile.FieldType)) ∈ lw_all := lw_g (lw_at lw_m1 55 rfl) rfl
theorem q113 : (Jvm.Cond.methodLink "java/util/ArrayList" (1 : Nat) ({ cls := "java/util/AbstractList", name := "<init>", desc := "()V" } : Jvm.MethodName)) ∈ lw_all := lw_g (lw_at lw_m1 56 rfl) rfl
theorem q120 : (Jvm.Cond.fieldLink "java/util/ArrayList" (39 : Nat) "java/util/ArrayList" "DEFAULTCAPACITY_EMPTY_ELEMENTDATA" "[Ljava/lang/Object;") ∈ lw_all := lw_g (lw_at lw_m1 63 rfl) rfl
theorem q121 : (Jvm.Cond.laysStatic "java/util/ArrayList" "DEFAULTCAPACITY_EMPTY_ELEMENTDATA" "[Ljava/lang/Object;") ∈ lw_tbl := lw_at lw_m1 64 rfl
theorem q122 : (Jvm.Cond.fieldLink "java/util/ArrayList" (9 : Nat) "java/util/ArrayList" "elementData" "[Ljava/lang/Object;") ∈ lw_all := lw_g (lw_at lw_m1 65 rfl) rfl
theorem q125 : (Jvm.Cond.fieldLink "java/util/ArrayList" (48 : Nat) "java/util/ArrayList" "size" "I") ∈ lw_all := lw_g (lw_at lw_m1 68 rfl) rfl
theorem q128 : (Jvm.Cond.sameField "java/util/ArrayList" "java/util/AbstractList" "modCount" "I") ∈ lw_all := lw_g (lw_at lw_m1 71 rfl) rfl
theorem q129 : (Jvm.Cond.fieldLink "java/util/ArrayList" (63 : Nat) "java/util/ArrayList" "modCount" "I") ∈ lw_all := lw_g (lw_at lw_m1 72 rfl) rfl
theorem q130 : (Jvm.Cond.lays "java/util/ArrayList" "java/util/ArrayList" "elementData" "[Ljava/lang/Object;") ∈ lw_all := lw_g (lw_at lw_m1 73 rfl) rfl
theorem q131 : (Jvm.Cond.soleField "java/util/ArrayList" "elementData") ∈ lw_all := lw_g (lw_at lw_m1 74 rfl) rfl
theorem q132 : (Jvm.Cond.lays "java/util/ArrayList" "java/util/ArrayList" "size" "I") ∈ lw_all := lw_g (lw_at lw_m1 75 rfl) rfl
theorem q133 : (Jvm.Cond.soleField "java/util/ArrayList" "size") ∈ lw_all := lw_g (lw_at lw_m1 76 rfl) rfl
theorem q134 : (Jvm.Cond.lays "java/util/ArrayList" "java/util/AbstractList" "modCount" "I") ∈ lw_all := lw_g (lw_at lw_m1 77 rfl) rfl
theorem q136 : (Jvm.Cond.superclass "java/util/ArrayList" "java/util/AbstractList") ∈ lw_all := lw_g (lw_at lw_m1 79 rfl) rfl
theorem q148 : (Jvm.Cond.instanceMethod ({ cls := "java/util/ArrayList", name := "<init>", desc := "(I)V" } : Jvm.MethodName)) ∈ lw_all := lw_g (lw_at lw_m1 91 rfl) rfl
theorem q149 : (Jvm.Cond.code ({ cls := "java/util/ArrayList", name := "<init>", desc := "(I)V" } : Jvm.MethodName) prog_41_method_1_code (2 : Nat) (Option.none : Option Jvm.ClassFile.FieldType)) ∈ lw_all := lw_g (lw_at lw_m1 92 rfl) rfl
theorem q150 : (Jvm.Cond.classLink "java/util/ArrayList" (7 : Nat) "java/lang/Object") ∈ lw_all := lw_g (lw_at lw_m1 93 rfl) rfl
theorem q152 : (Jvm.Cond.fieldLink "java/util/ArrayList" (15 : Nat) "java/util/ArrayList" "EMPTY_ELEMENTDATA" "[Ljava/lang/Object;") ∈ lw_all := lw_g (lw_at lw_m1 95 rfl) rfl
theorem q153 : (Jvm.Cond.laysStatic "java/util/ArrayList" "EMPTY_ELEMENTDATA" "[Ljava/lang/Object;") ∈ lw_tbl := lw_at lw_m1 96 rfl
theorem q154 : (Jvm.Cond.classLink "java/util/ArrayList" (18 : Nat) "java/lang/IllegalArgumentException") ∈ lw_all := lw_g (lw_at lw_m1 97 rfl) rfl
theorem q198 : (Jvm.Cond.classLink "java/util/ArrayList" (20 : Nat) "java/lang/StringBuilder") ∈ lw_all := lw_g (lw_at lw_m1 141 rfl) rfl
theorem q200 : (Jvm.Cond.methodLink "java/util/ArrayList" (22 : Nat) ({ cls := "java/lang/StringBuilder", name := "<init>", desc := "()V" } : Jvm.MethodName)) ∈ lw_all := lw_g (lw_at lw_m1 143 rfl) rfl
theorem q230 : (Jvm.Cond.stringRef "java/util/ArrayList" (23 : Nat) "Illegal Capacity: ") ∈ lw_tbl := lw_at lw_m1 173 rfl
theorem q231 : (Jvm.Cond.methodLink "java/util/ArrayList" (25 : Nat) ({ cls := "java/lang/StringBuilder", name := "append", desc := "(Ljava/lang/String;)Ljava/lang/StringBuilder;" } : Jvm.MethodName)) ∈ lw_all := lw_g (lw_at lw_m1 174 rfl) rfl
theorem q351 : (Jvm.Cond.methodLink "java/util/ArrayList" (29 : Nat) ({ cls := "java/lang/StringBuilder", name := "append", desc := "(I)Ljava/lang/StringBuilder;" } : Jvm.MethodName)) ∈ lw_all := lw_g (lw_at lw_m2 54 rfl) rfl
theorem q376 : (Jvm.Cond.methodLink "java/util/ArrayList" (32 : Nat) ({ cls := "java/lang/StringBuilder", name := "toString", desc := "()Ljava/lang/String;" } : Jvm.MethodName)) ∈ lw_all := lw_g (lw_at lw_m2 79 rfl) rfl
theorem q468 : (Jvm.Cond.methodLink "java/util/ArrayList" (36 : Nat) ({ cls := "java/lang/IllegalArgumentException", name := "<init>", desc := "(Ljava/lang/String;)V" } : Jvm.MethodName)) ∈ lw_all := lw_g (lw_at lw_m2 171 rfl) rfl
theorem q682 : (Jvm.Cond.castable "java/util/ArrayList" "java/util/List") ∈ lw_tbl := lw_at lw_m3 145 rfl
theorem q683 : (Jvm.Cond.selects "java/util/ArrayList" ({ cls := "java/util/List", name := "add", desc := "(Ljava/lang/Object;)Z" } : Jvm.MethodName) ({ cls := "java/util/ArrayList", name := "add", desc := "(Ljava/lang/Object;)Z" } : Jvm.MethodName)) ∈ lw_all := lw_g (lw_at lw_m3 146 rfl) rfl
theorem q684 : (Jvm.Cond.unhidden "java/util/ArrayList" "add" "(Ljava/lang/Object;)Z") ∈ lw_tbl := lw_at lw_m3 147 rfl
theorem q685 : (Jvm.Cond.instanceMethod ({ cls := "java/util/ArrayList", name := "add", desc := "(Ljava/lang/Object;)Z" } : Jvm.MethodName)) ∈ lw_all := lw_g (lw_at lw_m3 148 rfl) rfl
theorem q686 : (Jvm.Cond.publicMethod ({ cls := "java/util/ArrayList", name := "add", desc := "(Ljava/lang/Object;)Z" } : Jvm.MethodName)) ∈ lw_tbl := lw_at lw_m3 149 rfl
theorem q687 : (Jvm.Cond.code ({ cls := "java/util/ArrayList", name := "add", desc := "(Ljava/lang/Object;)Z" } : Jvm.MethodName) prog_41_method_25_code (2 : Nat) (Option.some Jvm.ClassFile.FieldType.boolean)) ∈ lw_all := lw_g (lw_at lw_m3 150 rfl) rfl
theorem q688 : (Jvm.Cond.methodLink "java/util/ArrayList" (131 : Nat) ({ cls := "java/util/ArrayList", name := "add", desc := "(Ljava/lang/Object;[Ljava/lang/Object;I)V" } : Jvm.MethodName)) ∈ lw_all := lw_g (lw_at lw_m3 151 rfl) rfl
theorem q689 : (Jvm.Cond.privateMethod ({ cls := "java/util/ArrayList", name := "add", desc := "(Ljava/lang/Object;[Ljava/lang/Object;I)V" } : Jvm.MethodName)) ∈ lw_tbl := lw_at lw_m3 152 rfl
theorem q690 : (Jvm.Cond.instanceMethod ({ cls := "java/util/ArrayList", name := "add", desc := "(Ljava/lang/Object;[Ljava/lang/Object;I)V" } : Jvm.MethodName)) ∈ lw_all := lw_g (lw_at lw_m3 153 rfl) rfl
theorem q691 : (Jvm.Cond.code ({ cls := "java/util/ArrayList", name := "add", desc := "(Ljava/lang/Object;[Ljava/lang/Object;I)V" } : Jvm.MethodName) prog_41_method_24_code (4 : Nat) (Option.none : Option Jvm.ClassFile.FieldType)) ∈ lw_all := lw_g (lw_at lw_m3 154 rfl) rfl
theorem q692 : (Jvm.Cond.methodLink "java/util/ArrayList" (129 : Nat) ({ cls := "java/util/ArrayList", name := "grow", desc := "()[Ljava/lang/Object;" } : Jvm.MethodName)) ∈ lw_all := lw_g (lw_at lw_m3 155 rfl) rfl
theorem q693 : (Jvm.Cond.privateMethod ({ cls := "java/util/ArrayList", name := "grow", desc := "()[Ljava/lang/Object;" } : Jvm.MethodName)) ∈ lw_tbl := lw_at lw_m3 156 rfl
theorem q694 : (Jvm.Cond.instanceMethod ({ cls := "java/util/ArrayList", name := "grow", desc := "()[Ljava/lang/Object;" } : Jvm.MethodName)) ∈ lw_all := lw_g (lw_at lw_m3 157 rfl) rfl
theorem q695 : (Jvm.Cond.code ({ cls := "java/util/ArrayList", name := "grow", desc := "()[Ljava/lang/Object;" } : Jvm.MethodName) prog_41_method_7_code (1 : Nat) (Option.some (Jvm.ClassFile.FieldType.array (Jvm.ClassFile.FieldType.object "java/lang/Object")))) ∈ lw_all := lw_g (lw_at lw_m3 158 rfl) rfl
theorem q696 : (Jvm.Cond.methodLink "java/util/ArrayList" (69 : Nat) ({ cls := "java/util/ArrayList", name := "grow", desc := "(I)[Ljava/lang/Object;" } : Jvm.MethodName)) ∈ lw_all := lw_g (lw_at lw_m3 159 rfl) rfl
theorem q697 : (Jvm.Cond.privateMethod ({ cls := "java/util/ArrayList", name := "grow", desc := "(I)[Ljava/lang/Object;" } : Jvm.MethodName)) ∈ lw_tbl := lw_at lw_m3 160 rfl
theorem q698 : (Jvm.Cond.instanceMethod ({ cls := "java/util/ArrayList", name := "grow", desc := "(I)[Ljava/lang/Object;" } : Jvm.MethodName)) ∈ lw_all := lw_g (lw_at lw_m3 161 rfl) rfl
theorem q699 : (Jvm.Cond.code ({ cls := "java/util/ArrayList", name := "grow", desc := "(I)[Ljava/lang/Object;" } : Jvm.MethodName) prog_41_method_6_code (4 : Nat) (Option.some (Jvm.ClassFile.FieldType.array (Jvm.ClassFile.FieldType.object "java/lang/Object")))) ∈ lw_all := lw_g (lw_at lw_m3 162 rfl) rfl
theorem q700 : (Jvm.Cond.methodLink "java/util/ArrayList" (73 : Nat) ({ cls := "jdk/internal/util/ArraysSupport", name := "newLength", desc := "(III)I" } : Jvm.MethodName)) ∈ lw_all := lw_g (lw_at lw_m3 163 rfl) rfl
theorem q701 : (Jvm.Cond.methodLink "java/util/ArrayList" (66 : Nat) ({ cls := "java/util/Arrays", name := "copyOf", desc := "([Ljava/lang/Object;I)[Ljava/lang/Object;" } : Jvm.MethodName)) ∈ lw_all := lw_g (lw_at lw_m3 164 rfl) rfl
theorem q725 : (Jvm.Cond.selects "java/util/ArrayList" ({ cls := "java/lang/Object", name := "getClass", desc := "()Ljava/lang/Class;" } : Jvm.MethodName) ({ cls := "java/lang/Object", name := "getClass", desc := "()Ljava/lang/Class;" } : Jvm.MethodName)) ∈ lw_all := lw_g (lw_at lw_m3 188 rfl) rfl
theorem q734 : (Jvm.Cond.methodLink "java/util/ArrayList" (79 : Nat) ({ cls := "java/lang/Math", name := "max", desc := "(II)I" } : Jvm.MethodName)) ∈ lw_all := lw_g (lw_at lw_m3 197 rfl) rfl
theorem q781 : (Jvm.Cond.selects "java/util/ArrayList" ({ cls := "java/util/List", name := "remove", desc := "(Ljava/lang/Object;)Z" } : Jvm.MethodName) ({ cls := "java/util/ArrayList", name := "remove", desc := "(Ljava/lang/Object;)Z" } : Jvm.MethodName)) ∈ lw_all := lw_g (lw_at lw_m4 4 rfl) rfl
theorem q782 : (Jvm.Cond.unhidden "java/util/ArrayList" "remove" "(Ljava/lang/Object;)Z") ∈ lw_tbl := lw_at lw_m4 5 rfl
theorem q783 : (Jvm.Cond.instanceMethod ({ cls := "java/util/ArrayList", name := "remove", desc := "(Ljava/lang/Object;)Z" } : Jvm.MethodName)) ∈ lw_all := lw_g (lw_at lw_m4 6 rfl) rfl
theorem q784 : (Jvm.Cond.publicMethod ({ cls := "java/util/ArrayList", name := "remove", desc := "(Ljava/lang/Object;)Z" } : Jvm.MethodName)) ∈ lw_tbl := lw_at lw_m4 7 rfl
theorem q785 : (Jvm.Cond.code ({ cls := "java/util/ArrayList", name := "remove", desc := "(Ljava/lang/Object;)Z" } : Jvm.MethodName) prog_41_method_38_code (5 : Nat) (Option.some Jvm.ClassFile.FieldType.boolean)) ∈ lw_all := lw_g (lw_at lw_m4 8 rfl) rfl
theorem q787 : (Jvm.Cond.methodLink "java/util/ArrayList" (93 : Nat) ({ cls := "java/lang/Object", name := "equals", desc := "(Ljava/lang/Object;)Z" } : Jvm.MethodName)) ∈ lw_all := lw_g (lw_at lw_m4 10 rfl) rfl
theorem q822 : (Jvm.Cond.methodLink "java/util/ArrayList" (144 : Nat) ({ cls := "java/util/ArrayList", name := "fastRemove", desc := "([Ljava/lang/Object;I)V" } : Jvm.MethodName)) ∈ lw_all := lw_g (lw_at lw_m4 45 rfl) rfl
theorem q823 : (Jvm.Cond.privateMethod ({ cls := "java/util/ArrayList", name := "fastRemove", desc := "([Ljava/lang/Object;I)V" } : Jvm.MethodName)) ∈ lw_tbl := lw_at lw_m4 46 rfl
theorem q824 : (Jvm.Cond.instanceMethod ({ cls := "java/util/ArrayList", name := "fastRemove", desc := "([Ljava/lang/Object;I)V" } : Jvm.MethodName)) ∈ lw_all := lw_g (lw_at lw_m4 47 rfl) rfl
theorem q825 : (Jvm.Cond.code ({ cls := "java/util/ArrayList", name := "fastRemove", desc := "([Ljava/lang/Object;I)V" } : Jvm.MethodName) prog_41_method_39_code (4 : Nat) (Option.none : Option Jvm.ClassFile.FieldType)) ∈ lw_all := lw_g (lw_at lw_m4 48 rfl) rfl
theorem q826 : (Jvm.Cond.methodLink "java/util/ArrayList" (112 : Nat) ({ cls := "java/lang/System", name := "arraycopy", desc := "(Ljava/lang/Object;ILjava/lang/Object;II)V" } : Jvm.MethodName)) ∈ lw_all := lw_g (lw_at lw_m4 49 rfl) rfl
theorem q835 : (Jvm.Cond.selects "java/util/ArrayList" ({ cls := "java/util/List", name := "iterator", desc := "()Ljava/util/Iterator;" } : Jvm.MethodName) ({ cls := "java/util/ArrayList", name := "iterator", desc := "()Ljava/util/Iterator;" } : Jvm.MethodName)) ∈ lw_all := lw_g (lw_at lw_m4 58 rfl) rfl
theorem q836 : (Jvm.Cond.unhidden "java/util/ArrayList" "iterator" "()Ljava/util/Iterator;") ∈ lw_tbl := lw_at lw_m4 59 rfl
theorem q837 : (Jvm.Cond.instanceMethod ({ cls := "java/util/ArrayList", name := "iterator", desc := "()Ljava/util/Iterator;" } : Jvm.MethodName)) ∈ lw_all := lw_g (lw_at lw_m4 60 rfl) rfl
theorem q838 : (Jvm.Cond.publicMethod ({ cls := "java/util/ArrayList", name := "iterator", desc := "()Ljava/util/Iterator;" } : Jvm.MethodName)) ∈ lw_tbl := lw_at lw_m4 61 rfl
theorem q839 : (Jvm.Cond.code ({ cls := "java/util/ArrayList", name := "iterator", desc := "()Ljava/util/Iterator;" } : Jvm.MethodName) prog_41_method_55_code (1 : Nat) (Option.some (Jvm.ClassFile.FieldType.object "java/util/Iterator"))) ∈ lw_all := lw_g (lw_at lw_m4 62 rfl) rfl
theorem q840 : (Jvm.Cond.classLink "java/util/ArrayList" (267 : Nat) "java/util/ArrayList$Itr") ∈ lw_all := lw_g (lw_at lw_m4 63 rfl) rfl
theorem q842 : (Jvm.Cond.methodLink "java/util/ArrayList" (269 : Nat) ({ cls := "java/util/ArrayList$Itr", name := "<init>", desc := "(Ljava/util/ArrayList;)V" } : Jvm.MethodName)) ∈ lw_all := lw_g (lw_at lw_m4 65 rfl) rfl
theorem q925 : (Jvm.Cond.selects "java/util/ArrayList" ({ cls := "java/util/List", name := "clear", desc := "()V" } : Jvm.MethodName) ({ cls := "java/util/ArrayList", name := "clear", desc := "()V" } : Jvm.MethodName)) ∈ lw_all := lw_g (lw_at lw_m4 148 rfl) rfl
theorem q926 : (Jvm.Cond.unhidden "java/util/ArrayList" "clear" "()V") ∈ lw_tbl := lw_at lw_m4 149 rfl
theorem q927 : (Jvm.Cond.instanceMethod ({ cls := "java/util/ArrayList", name := "clear", desc := "()V" } : Jvm.MethodName)) ∈ lw_all := lw_g (lw_at lw_m4 150 rfl) rfl
theorem q928 : (Jvm.Cond.publicMethod ({ cls := "java/util/ArrayList", name := "clear", desc := "()V" } : Jvm.MethodName)) ∈ lw_tbl := lw_at lw_m4 151 rfl
theorem q929 : (Jvm.Cond.code ({ cls := "java/util/ArrayList", name := "clear", desc := "()V" } : Jvm.MethodName) prog_41_method_40_code (4 : Nat) (Option.none : Option Jvm.ClassFile.FieldType)) ∈ lw_all := lw_g (lw_at lw_m4 152 rfl) rfl
theorem q935 : (Jvm.Cond.selects "java/util/ArrayList" ({ cls := "java/util/List", name := "size", desc := "()I" } : Jvm.MethodName) ({ cls := "java/util/ArrayList", name := "size", desc := "()I" } : Jvm.MethodName)) ∈ lw_all := lw_g (lw_at lw_m4 158 rfl) rfl
theorem q936 : (Jvm.Cond.unhidden "java/util/ArrayList" "size" "()I") ∈ lw_tbl := lw_at lw_m4 159 rfl
theorem q937 : (Jvm.Cond.instanceMethod ({ cls := "java/util/ArrayList", name := "size", desc := "()I" } : Jvm.MethodName)) ∈ lw_all := lw_g (lw_at lw_m4 160 rfl) rfl
theorem q938 : (Jvm.Cond.publicMethod ({ cls := "java/util/ArrayList", name := "size", desc := "()I" } : Jvm.MethodName)) ∈ lw_tbl := lw_at lw_m4 161 rfl
theorem q939 : (Jvm.Cond.code ({ cls := "java/util/ArrayList", name := "size", desc := "()I" } : Jvm.MethodName) prog_41_method_8_code (1 : Nat) (Option.some Jvm.ClassFile.FieldType.int)) ∈ lw_all := lw_g (lw_at lw_m4 162 rfl) rfl
theorem q1010 : (Jvm.Cond.selects "java/util/ArrayList" ({ cls := "java/util/List", name := "indexOf", desc := "(Ljava/lang/Object;)I" } : Jvm.MethodName) ({ cls := "java/util/ArrayList", name := "indexOf", desc := "(Ljava/lang/Object;)I" } : Jvm.MethodName)) ∈ lw_all := lw_g (lw_at lw_m4 233 rfl) rfl
theorem q1011 : (Jvm.Cond.unhidden "java/util/ArrayList" "indexOf" "(Ljava/lang/Object;)I") ∈ lw_tbl := lw_at lw_m4 234 rfl
theorem q1012 : (Jvm.Cond.instanceMethod ({ cls := "java/util/ArrayList", name := "indexOf", desc := "(Ljava/lang/Object;)I" } : Jvm.MethodName)) ∈ lw_all := lw_g (lw_at lw_m4 235 rfl) rfl
theorem q1013 : (Jvm.Cond.publicMethod ({ cls := "java/util/ArrayList", name := "indexOf", desc := "(Ljava/lang/Object;)I" } : Jvm.MethodName)) ∈ lw_tbl := lw_at lw_m4 236 rfl
theorem q1014 : (Jvm.Cond.code ({ cls := "java/util/ArrayList", name := "indexOf", desc := "(Ljava/lang/Object;)I" } : Jvm.MethodName) prog_41_method_11_code (2 : Nat) (Option.some Jvm.ClassFile.FieldType.int)) ∈ lw_all := lw_g (lw_at lw_m4 237 rfl) rfl
theorem q1015 : (Jvm.Cond.methodLink "java/util/ArrayList" (89 : Nat) ({ cls := "java/util/ArrayList", name := "indexOfRange", desc := "(Ljava/lang/Object;II)I" } : Jvm.MethodName)) ∈ lw_all := lw_g (lw_at lw_m4 238 rfl) rfl
theorem q1016 : (Jvm.Cond.instanceMethod ({ cls := "java/util/ArrayList", name := "indexOfRange", desc := "(Ljava/lang/Object;II)I" } : Jvm.MethodName)) ∈ lw_all := lw_g (lw_at lw_m4 239 rfl) rfl
theorem q1017 : (Jvm.Cond.selects "java/util/ArrayList" ({ cls := "java/util/ArrayList", name := "indexOfRange", desc := "(Ljava/lang/Object;II)I" } : Jvm.MethodName) ({ cls := "java/util/ArrayList", name := "indexOfRange", desc := "(Ljava/lang/Object;II)I" } : Jvm.MethodName)) ∈ lw_all := lw_g (lw_at lw_m5 0 rfl) rfl
theorem q1018 : (Jvm.Cond.code ({ cls := "java/util/ArrayList", name := "indexOfRange", desc := "(Ljava/lang/Object;II)I" } : Jvm.MethodName) prog_41_method_12_code (6 : Nat) (Option.some Jvm.ClassFile.FieldType.int)) ∈ lw_all := lw_g (lw_at lw_m5 1 rfl) rfl
theorem q1023 : (Jvm.Cond.selects "java/util/ArrayList" ({ cls := "java/util/List", name := "get", desc := "(I)Ljava/lang/Object;" } : Jvm.MethodName) ({ cls := "java/util/ArrayList", name := "get", desc := "(I)Ljava/lang/Object;" } : Jvm.MethodName)) ∈ lw_all := lw_g (lw_at lw_m5 6 rfl) rfl
theorem q1024 : (Jvm.Cond.unhidden "java/util/ArrayList" "get" "(I)Ljava/lang/Object;") ∈ lw_tbl := lw_at lw_m5 7 rfl
theorem q1025 : (Jvm.Cond.instanceMethod ({ cls := "java/util/ArrayList", name := "get", desc := "(I)Ljava/lang/Object;" } : Jvm.MethodName)) ∈ lw_all := lw_g (lw_at lw_m5 8 rfl) rfl
theorem q1026 : (Jvm.Cond.publicMethod ({ cls := "java/util/ArrayList", name := "get", desc := "(I)Ljava/lang/Object;" } : Jvm.MethodName)) ∈ lw_tbl := lw_at lw_m5 9 rfl
theorem q1027 : (Jvm.Cond.code ({ cls := "java/util/ArrayList", name := "get", desc := "(I)Ljava/lang/Object;" } : Jvm.MethodName) prog_41_method_20_code (2 : Nat) (Option.some (Jvm.ClassFile.FieldType.object "java/lang/Object"))) ∈ lw_all := lw_g (lw_at lw_m5 10 rfl) rfl
theorem q1028 : (Jvm.Cond.methodLink "java/util/ArrayList" (118 : Nat) ({ cls := "java/util/Objects", name := "checkIndex", desc := "(II)I" } : Jvm.MethodName)) ∈ lw_all := lw_g (lw_at lw_m5 11 rfl) rfl
theorem q1034 : (Jvm.Cond.methodLink "java/util/ArrayList" (123 : Nat) ({ cls := "java/util/ArrayList", name := "elementData", desc := "(I)Ljava/lang/Object;" } : Jvm.MethodName)) ∈ lw_all := lw_g (lw_at lw_m5 17 rfl) rfl
theorem q1035 : (Jvm.Cond.instanceMethod ({ cls := "java/util/ArrayList", name := "elementData", desc := "(I)Ljava/lang/Object;" } : Jvm.MethodName)) ∈ lw_all := lw_g (lw_at lw_m5 18 rfl) rfl
theorem q1036 : (Jvm.Cond.selects "java/util/ArrayList" ({ cls := "java/util/ArrayList", name := "elementData", desc := "(I)Ljava/lang/Object;" } : Jvm.MethodName) ({ cls := "java/util/ArrayList", name := "elementData", desc := "(I)Ljava/lang/Object;" } : Jvm.MethodName)) ∈ lw_all := lw_g (lw_at lw_m5 19 rfl) rfl
theorem q1037 : (Jvm.Cond.code ({ cls := "java/util/ArrayList", name := "elementData", desc := "(I)Ljava/lang/Object;" } : Jvm.MethodName) prog_41_method_18_code (2 : Nat) (Option.some (Jvm.ClassFile.FieldType.object "java/lang/Object"))) ∈ lw_all := lw_g (lw_at lw_m5 20 rfl) rfl
theorem q1225 : (Jvm.Cond.selects "java/util/ArrayList" ({ cls := "java/util/List", name := "remove", desc := "(I)Ljava/lang/Object;" } : Jvm.MethodName) ({ cls := "java/util/ArrayList", name := "remove", desc := "(I)Ljava/lang/Object;" } : Jvm.MethodName)) ∈ lw_all := lw_g (lw_at lw_m5 208 rfl) rfl
theorem q1226 : (Jvm.Cond.unhidden "java/util/ArrayList" "remove" "(I)Ljava/lang/Object;") ∈ lw_tbl := lw_at lw_m5 209 rfl
theorem q1227 : (Jvm.Cond.instanceMethod ({ cls := "java/util/ArrayList", name := "remove", desc := "(I)Ljava/lang/Object;" } : Jvm.MethodName)) ∈ lw_all := lw_g (lw_at lw_m5 210 rfl) rfl
theorem q1228 : (Jvm.Cond.publicMethod ({ cls := "java/util/ArrayList", name := "remove", desc := "(I)Ljava/lang/Object;" } : Jvm.MethodName)) ∈ lw_tbl := lw_at lw_m5 211 rfl
theorem q1229 : (Jvm.Cond.code ({ cls := "java/util/ArrayList", name := "remove", desc := "(I)Ljava/lang/Object;" } : Jvm.MethodName) prog_41_method_29_code (4 : Nat) (Option.some (Jvm.ClassFile.FieldType.object "java/lang/Object"))) ∈ lw_all := lw_g (lw_at lw_m5 212 rfl) rfl
theorem q1362 : (Jvm.Cond.selects "java/util/ArrayList" ({ cls := "java/util/List", name := "isEmpty", desc := "()Z" } : Jvm.MethodName) ({ cls := "java/util/ArrayList", name := "isEmpty", desc := "()Z" } : Jvm.MethodName)) ∈ lw_all := lw_g (lw_at lw_m6 105 rfl) rfl
theorem q1363 : (Jvm.Cond.unhidden "java/util/ArrayList" "isEmpty" "()Z") ∈ lw_tbl := lw_at lw_m6 106 rfl
theorem q1364 : (Jvm.Cond.instanceMethod ({ cls := "java/util/ArrayList", name := "isEmpty", desc := "()Z" } : Jvm.MethodName)) ∈ lw_all := lw_g (lw_at lw_m6 107 rfl) rfl
theorem q1365 : (Jvm.Cond.publicMethod ({ cls := "java/util/ArrayList", name := "isEmpty", desc := "()Z" } : Jvm.MethodName)) ∈ lw_tbl := lw_at lw_m6 108 rfl
theorem q1366 : (Jvm.Cond.code ({ cls := "java/util/ArrayList", name := "isEmpty", desc := "()Z" } : Jvm.MethodName) prog_41_method_9_code (1 : Nat) (Option.some Jvm.ClassFile.FieldType.boolean)) ∈ lw_all := lw_g (lw_at lw_m6 109 rfl) rfl
theorem q1764 : (Jvm.Cond.castable "java/util/ArrayList" "java/lang/Object") ∈ lw_tbl := lw_at lw_m8 27 rfl
theorem in_J2 : ∀ w ∈ wsJ20, w ∈ lw_all := lw_in wsJ20 [134, 130, 132] (by decide +kernel) (by decide +kernel)
/-! XactKernel$Item -/
def RX2 : String := "XactKernel$Item"
abbrev cX2_init : ByteArray := prog_6_method_1_code
def yX2_init : MethodName := ⟨RX2, "<init>", "()V"⟩
theorem q62 : (Jvm.Cond.initialized "XactKernel$Item") ∈ lw_all := lw_g (lw_at lw_m1 5 rfl) rfl
theorem q143 : (Jvm.Cond.instanceMethod ({ cls := "XactKernel$Item", name := "<init>", desc := "()V" } : Jvm.MethodName)) ∈ lw_all := lw_g (lw_at lw_m1 86 rfl) rfl
theorem q144 : (Jvm.Cond.code ({ cls := "XactKernel$Item", name := "<init>", desc := "()V" } : Jvm.MethodName) prog_6_method_1_code (1 : Nat) (Option.none : Option Jvm.ClassFile.FieldType)) ∈ lw_all := lw_g (lw_at lw_m1 87 rfl) rfl
theorem q145 : (Jvm.Cond.methodLink "XactKernel$Item" (1 : Nat) ({ cls := "java/lang/Object", name := "<init>", desc := "()V" } : Jvm.MethodName)) ∈ lw_all := lw_g (lw_at lw_m1 88 rfl) rfl
theorem q1099 : (Jvm.Cond.declares ({ cls := "XactKernel$Item", name := "size", desc := "()I" } : Jvm.MethodName)) ∈ lw_tbl := lw_at lw_m5 82 rfl
theorem q1100 : (Jvm.Cond.sameMethod "XactKernel$Item" "XactKernel$Item" "size" "()I") ∈ lw_all := lw_g (lw_at lw_m5 83 rfl) rfl
theorem q1123 : (Jvm.Cond.declares ({ cls := "XactKernel$Item", name := "copy", desc := "()LXactKernel$Item;" } : Jvm.MethodName)) ∈ lw_tbl := lw_at lw_m5 106 rfl
theorem q1124 : (Jvm.Cond.sameMethod "XactKernel$Item" "XactKernel$Item" "copy" "()LXactKernel$Item;") ∈ lw_all := lw_g (lw_at lw_m5 107 rfl) rfl
theorem q1205 : (Jvm.Cond.declares ({ cls := "XactKernel$Item", name := "cell", desc := "(I)I" } : Jvm.MethodName)) ∈ lw_tbl := lw_at lw_m5 188 rfl
theorem q1206 : (Jvm.Cond.sameMethod "XactKernel$Item" "XactKernel$Item" "cell" "(I)I") ∈ lw_all := lw_g (lw_at lw_m5 189 rfl) rfl
theorem q1389 : (Jvm.Cond.declares ({ cls := "XactKernel$Item", name := "kind", desc := "()I" } : Jvm.MethodName)) ∈ lw_tbl := lw_at lw_m6 132 rfl
theorem q1390 : (Jvm.Cond.sameMethod "XactKernel$Item" "XactKernel$Item" "kind" "()I") ∈ lw_all := lw_g (lw_at lw_m6 133 rfl) rfl
theorem q1754 : (Jvm.Cond.castable "XactKernel$Item" "java/lang/Object") ∈ lw_tbl := lw_at lw_m8 17 rfl
/-! XactKernel$DirectoryItem -/
def RX3 : String := "XactKernel$DirectoryItem"
def TX3 : u_T := fun k => match k with
  | _ => ("XactKernel$DirectoryItem", "entries", "Ljava/util/List;", true)
def tyX3 : Nat → FieldType := fun k => match k with
  | _ => .object "java/util/List"
abbrev wsX30 : List Cond := u_ws RX3 TX3 1
theorem nmX3 : ∀ a, a < 1 → ∀ b, b < 1 → a ≠ b → (TX3 a).2.1 ≠ (TX3 b).2.1 := by decide +kernel
theorem tyX3_ok : ∀ k, k < 1 → parseFieldDescriptor (TX3 k).2.2.1 = some (tyX3 k) := by decide +kernel
abbrev cX3_init : ByteArray := prog_3_method_1_code
def yX3_init : MethodName := ⟨RX3, "<init>", "()V"⟩
abbrev cX3_find : ByteArray := prog_3_method_6_code
def yX3_find : MethodName := ⟨RX3, "find", "(I)I"⟩
abbrev cX3_size : ByteArray := prog_3_method_3_code
def yX3_size : MethodName := ⟨RX3, "size", "()I"⟩
abbrev cX3_copy : ByteArray := prog_3_method_5_code
def yX3_copy : MethodName := ⟨RX3, "copy", "()LXactKernel$Item;"⟩
abbrev cX3_cell : ByteArray := prog_3_method_4_code
def yX3_cell : MethodName := ⟨RX3, "cell", "(I)I"⟩
abbrev cX3_remove : ByteArray := prog_3_method_7_code
def yX3_remove : MethodName := ⟨RX3, "remove", "(I)V"⟩
abbrev cX3_kind : ByteArray := prog_3_method_2_code
def yX3_kind : MethodName := ⟨RX3, "kind", "()I"⟩
theorem q63 : (Jvm.Cond.initialized "XactKernel$DirectoryItem") ∈ lw_all := lw_g (lw_at lw_m1 6 rfl) rfl
theorem q138 : (Jvm.Cond.instantiable "XactKernel$DirectoryItem" (1 : Nat)) ∈ lw_all := lw_g (lw_at lw_m1 81 rfl) rfl
theorem q140 : (Jvm.Cond.instanceMethod ({ cls := "XactKernel$DirectoryItem", name := "<init>", desc := "()V" } : Jvm.MethodName)) ∈ lw_all := lw_g (lw_at lw_m1 83 rfl) rfl
theorem q141 : (Jvm.Cond.code ({ cls := "XactKernel$DirectoryItem", name := "<init>", desc := "()V" } : Jvm.MethodName) prog_3_method_1_code (1 : Nat) (Option.none : Option Jvm.ClassFile.FieldType)) ∈ lw_all := lw_g (lw_at lw_m1 84 rfl) rfl
theorem q142 : (Jvm.Cond.methodLinkNest "XactKernel$DirectoryItem" (3 : Nat) ({ cls := "XactKernel$Item", name := "<init>", desc := "()V" } : Jvm.MethodName) "XactKernel") ∈ lw_tbl := lw_at lw_m1 85 rfl
theorem q146 : (Jvm.Cond.classLink "XactKernel$DirectoryItem" (9 : Nat) "java/util/ArrayList") ∈ lw_all := lw_g (lw_at lw_m1 89 rfl) rfl
theorem q147 : (Jvm.Cond.methodLink "XactKernel$DirectoryItem" (11 : Nat) ({ cls := "java/util/ArrayList", name := "<init>", desc := "(I)V" } : Jvm.MethodName)) ∈ lw_all := lw_g (lw_at lw_m1 90 rfl) rfl
theorem q469 : (Jvm.Cond.fieldLink "XactKernel$DirectoryItem" (14 : Nat) "XactKernel$DirectoryItem" "entries" "Ljava/util/List;") ∈ lw_all := lw_g (lw_at lw_m2 172 rfl) rfl
theorem q471 : (Jvm.Cond.laysFinal "XactKernel$DirectoryItem" "XactKernel$DirectoryItem" "entries" "Ljava/util/List;") ∈ lw_all := lw_g (lw_at lw_m2 174 rfl) rfl
theorem q472 : (Jvm.Cond.soleField "XactKernel$DirectoryItem" "entries") ∈ lw_all := lw_g (lw_at lw_m2 175 rfl) rfl
theorem q473 : (Jvm.Cond.superclass "XactKernel$DirectoryItem" "XactKernel$Item") ∈ lw_all := lw_g (lw_at lw_m2 176 rfl) rfl
theorem q709 : (Jvm.Cond.selects "XactKernel$DirectoryItem" ({ cls := "java/lang/Object", name := "getClass", desc := "()Ljava/lang/Class;" } : Jvm.MethodName) ({ cls := "java/lang/Object", name := "getClass", desc := "()Ljava/lang/Class;" } : Jvm.MethodName)) ∈ lw_all := lw_g (lw_at lw_m3 172 rfl) rfl
theorem q792 : (Jvm.Cond.selects "XactKernel$DirectoryItem" ({ cls := "java/lang/Object", name := "equals", desc := "(Ljava/lang/Object;)Z" } : Jvm.MethodName) ({ cls := "java/lang/Object", name := "equals", desc := "(Ljava/lang/Object;)Z" } : Jvm.MethodName)) ∈ lw_all := lw_g (lw_at lw_m4 15 rfl) rfl
theorem q1042 : (Jvm.Cond.instanceMethod ({ cls := "XactKernel$DirectoryItem", name := "find", desc := "(I)I" } : Jvm.MethodName)) ∈ lw_all := lw_g (lw_at lw_m5 25 rfl) rfl
theorem q1043 : (Jvm.Cond.selects "XactKernel$DirectoryItem" ({ cls := "XactKernel$DirectoryItem", name := "find", desc := "(I)I" } : Jvm.MethodName) ({ cls := "XactKernel$DirectoryItem", name := "find", desc := "(I)I" } : Jvm.MethodName)) ∈ lw_all := lw_g (lw_at lw_m5 26 rfl) rfl
theorem q1044 : (Jvm.Cond.code ({ cls := "XactKernel$DirectoryItem", name := "find", desc := "(I)I" } : Jvm.MethodName) prog_3_method_6_code (4 : Nat) (Option.some Jvm.ClassFile.FieldType.int)) ∈ lw_all := lw_g (lw_at lw_m5 27 rfl) rfl
theorem q1045 : (Jvm.Cond.interfaceEntry "XactKernel$DirectoryItem" (37 : Nat)) ∈ lw_tbl := lw_at lw_m5 28 rfl
theorem q1046 : (Jvm.Cond.methodLink "XactKernel$DirectoryItem" (37 : Nat) ({ cls := "java/util/List", name := "iterator", desc := "()Ljava/util/Iterator;" } : Jvm.MethodName)) ∈ lw_all := lw_g (lw_at lw_m5 29 rfl) rfl
theorem q1047 : (Jvm.Cond.interfaceEntry "XactKernel$DirectoryItem" (41 : Nat)) ∈ lw_tbl := lw_at lw_m5 30 rfl
theorem q1048 : (Jvm.Cond.methodLink "XactKernel$DirectoryItem" (41 : Nat) ({ cls := "java/util/Iterator", name := "hasNext", desc := "()Z" } : Jvm.MethodName)) ∈ lw_all := lw_g (lw_at lw_m5 31 rfl) rfl
theorem q1049 : (Jvm.Cond.interfaceEntry "XactKernel$DirectoryItem" (47 : Nat)) ∈ lw_tbl := lw_at lw_m5 32 rfl
theorem q1050 : (Jvm.Cond.methodLink "XactKernel$DirectoryItem" (47 : Nat) ({ cls := "java/util/Iterator", name := "next", desc := "()Ljava/lang/Object;" } : Jvm.MethodName)) ∈ lw_all := lw_g (lw_at lw_m5 33 rfl) rfl
theorem q1051 : (Jvm.Cond.classLink "XactKernel$DirectoryItem" (30 : Nat) "XactKernel$Entry") ∈ lw_all := lw_g (lw_at lw_m5 34 rfl) rfl
theorem q1101 : (Jvm.Cond.selects "XactKernel$DirectoryItem" ({ cls := "XactKernel$Item", name := "size", desc := "()I" } : Jvm.MethodName) ({ cls := "XactKernel$DirectoryItem", name := "size", desc := "()I" } : Jvm.MethodName)) ∈ lw_all := lw_g (lw_at lw_m5 84 rfl) rfl
theorem q1102 : (Jvm.Cond.instanceMethod ({ cls := "XactKernel$DirectoryItem", name := "size", desc := "()I" } : Jvm.MethodName)) ∈ lw_all := lw_g (lw_at lw_m5 85 rfl) rfl
theorem q1103 : (Jvm.Cond.code ({ cls := "XactKernel$DirectoryItem", name := "size", desc := "()I" } : Jvm.MethodName) prog_3_method_3_code (1 : Nat) (Option.some Jvm.ClassFile.FieldType.int)) ∈ lw_all := lw_g (lw_at lw_m5 86 rfl) rfl
theorem q1104 : (Jvm.Cond.interfaceEntry "XactKernel$DirectoryItem" (20 : Nat)) ∈ lw_tbl := lw_at lw_m5 87 rfl
theorem q1105 : (Jvm.Cond.methodLink "XactKernel$DirectoryItem" (20 : Nat) ({ cls := "java/util/List", name := "size", desc := "()I" } : Jvm.MethodName)) ∈ lw_all := lw_g (lw_at lw_m5 88 rfl) rfl
theorem q1125 : (Jvm.Cond.selects "XactKernel$DirectoryItem" ({ cls := "XactKernel$Item", name := "copy", desc := "()LXactKernel$Item;" } : Jvm.MethodName) ({ cls := "XactKernel$DirectoryItem", name := "copy", desc := "()LXactKernel$Item;" } : Jvm.MethodName)) ∈ lw_all := lw_g (lw_at lw_m5 108 rfl) rfl
theorem q1126 : (Jvm.Cond.instanceMethod ({ cls := "XactKernel$DirectoryItem", name := "copy", desc := "()LXactKernel$Item;" } : Jvm.MethodName)) ∈ lw_all := lw_g (lw_at lw_m5 109 rfl) rfl
theorem q1127 : (Jvm.Cond.code ({ cls := "XactKernel$DirectoryItem", name := "copy", desc := "()LXactKernel$Item;" } : Jvm.MethodName) prog_3_method_5_code (4 : Nat) (Option.some (Jvm.ClassFile.FieldType.object "XactKernel$Item"))) ∈ lw_all := lw_g (lw_at lw_m5 110 rfl) rfl
theorem q1128 : (Jvm.Cond.classLink "XactKernel$DirectoryItem" (15 : Nat) "XactKernel$DirectoryItem") ∈ lw_all := lw_g (lw_at lw_m5 111 rfl) rfl
theorem q1129 : (Jvm.Cond.methodLink "XactKernel$DirectoryItem" (36 : Nat) ({ cls := "XactKernel$DirectoryItem", name := "<init>", desc := "()V" } : Jvm.MethodName)) ∈ lw_all := lw_g (lw_at lw_m5 112 rfl) rfl
theorem q1130 : (Jvm.Cond.interfaceEntry "XactKernel$DirectoryItem" (51 : Nat)) ∈ lw_tbl := lw_at lw_m5 113 rfl
theorem q1131 : (Jvm.Cond.methodLink "XactKernel$DirectoryItem" (51 : Nat) ({ cls := "java/util/List", name := "add", desc := "(Ljava/lang/Object;)Z" } : Jvm.MethodName)) ∈ lw_all := lw_g (lw_at lw_m5 114 rfl) rfl
theorem q1169 : (Jvm.Cond.fieldLink "XactKernel$DirectoryItem" (32 : Nat) "XactKernel$Entry" "name" "I") ∈ lw_all := lw_g (lw_at lw_m5 152 rfl) rfl
theorem q1171 : (Jvm.Cond.fieldLink "XactKernel$DirectoryItem" (55 : Nat) "XactKernel$Entry" "item" "I") ∈ lw_all := lw_g (lw_at lw_m5 154 rfl) rfl
theorem q1207 : (Jvm.Cond.selects "XactKernel$DirectoryItem" ({ cls := "XactKernel$Item", name := "cell", desc := "(I)I" } : Jvm.MethodName) ({ cls := "XactKernel$DirectoryItem", name := "cell", desc := "(I)I" } : Jvm.MethodName)) ∈ lw_all := lw_g (lw_at lw_m5 190 rfl) rfl
theorem q1208 : (Jvm.Cond.instanceMethod ({ cls := "XactKernel$DirectoryItem", name := "cell", desc := "(I)I" } : Jvm.MethodName)) ∈ lw_all := lw_g (lw_at lw_m5 191 rfl) rfl
theorem q1209 : (Jvm.Cond.code ({ cls := "XactKernel$DirectoryItem", name := "cell", desc := "(I)I" } : Jvm.MethodName) prog_3_method_4_code (2 : Nat) (Option.some Jvm.ClassFile.FieldType.int)) ∈ lw_all := lw_g (lw_at lw_m5 192 rfl) rfl
theorem q1210 : (Jvm.Cond.interfaceEntry "XactKernel$DirectoryItem" (26 : Nat)) ∈ lw_tbl := lw_at lw_m5 193 rfl
theorem q1211 : (Jvm.Cond.methodLink "XactKernel$DirectoryItem" (26 : Nat) ({ cls := "java/util/List", name := "get", desc := "(I)Ljava/lang/Object;" } : Jvm.MethodName)) ∈ lw_all := lw_g (lw_at lw_m5 194 rfl) rfl
theorem q1280 : (Jvm.Cond.instanceMethod ({ cls := "XactKernel$DirectoryItem", name := "remove", desc := "(I)V" } : Jvm.MethodName)) ∈ lw_all := lw_g (lw_at lw_m6 23 rfl) rfl
theorem q1281 : (Jvm.Cond.selects "XactKernel$DirectoryItem" ({ cls := "XactKernel$DirectoryItem", name := "remove", desc := "(I)V" } : Jvm.MethodName) ({ cls := "XactKernel$DirectoryItem", name := "remove", desc := "(I)V" } : Jvm.MethodName)) ∈ lw_all := lw_g (lw_at lw_m6 24 rfl) rfl
theorem q1282 : (Jvm.Cond.code ({ cls := "XactKernel$DirectoryItem", name := "remove", desc := "(I)V" } : Jvm.MethodName) prog_3_method_7_code (3 : Nat) (Option.none : Option Jvm.ClassFile.FieldType)) ∈ lw_all := lw_g (lw_at lw_m6 25 rfl) rfl
theorem q1283 : (Jvm.Cond.interfaceEntry "XactKernel$DirectoryItem" (58 : Nat)) ∈ lw_tbl := lw_at lw_m6 26 rfl
theorem q1284 : (Jvm.Cond.methodLink "XactKernel$DirectoryItem" (58 : Nat) ({ cls := "java/util/List", name := "remove", desc := "(I)Ljava/lang/Object;" } : Jvm.MethodName)) ∈ lw_all := lw_g (lw_at lw_m6 27 rfl) rfl
theorem q1391 : (Jvm.Cond.selects "XactKernel$DirectoryItem" ({ cls := "XactKernel$Item", name := "kind", desc := "()I" } : Jvm.MethodName) ({ cls := "XactKernel$DirectoryItem", name := "kind", desc := "()I" } : Jvm.MethodName)) ∈ lw_all := lw_g (lw_at lw_m6 134 rfl) rfl
theorem q1392 : (Jvm.Cond.instanceMethod ({ cls := "XactKernel$DirectoryItem", name := "kind", desc := "()I" } : Jvm.MethodName)) ∈ lw_all := lw_g (lw_at lw_m6 135 rfl) rfl
theorem q1393 : (Jvm.Cond.code ({ cls := "XactKernel$DirectoryItem", name := "kind", desc := "()I" } : Jvm.MethodName) prog_3_method_2_code (1 : Nat) (Option.some Jvm.ClassFile.FieldType.int)) ∈ lw_all := lw_g (lw_at lw_m6 136 rfl) rfl
theorem q1757 : (Jvm.Cond.castable "XactKernel$DirectoryItem" "XactKernel$Item") ∈ lw_tbl := lw_at lw_m8 20 rfl
theorem q1765 : (Jvm.Cond.castable "XactKernel$DirectoryItem" "java/lang/Object") ∈ lw_tbl := lw_at lw_m8 28 rfl
theorem in_X3 : ∀ w ∈ wsX30, w ∈ lw_all := lw_in wsX30 [471] (by decide +kernel) (by decide +kernel)
/-! java/lang/Throwable -/
def RJ3 : String := "java/lang/Throwable"
def TJ3 : u_T := fun k => match k with
  | 0 => ("java/lang/Throwable", "cause", "Ljava/lang/Throwable;", false)
  | 1 => ("java/lang/Throwable", "stackTrace", "[Ljava/lang/StackTraceElement;", false)
  | 2 => ("java/lang/Throwable", "suppressedExceptions", "Ljava/util/List;", false)
  | 3 => ("java/lang/Throwable", "detailMessage", "Ljava/lang/String;", false)
  | _ => ("java/lang/Throwable", "backtrace", "Ljava/lang/Object;", false)
def tyJ3 : Nat → FieldType := fun k => match k with
  | 0 => .object "java/lang/Throwable"
  | 1 => .array (.object "java/lang/StackTraceElement")
  | 2 => .object "java/util/List"
  | 3 => .object "java/lang/String"
  | _ => .object "java/lang/Object"
abbrev wsJ30 : List Cond := u_ws RJ3 TJ3 5
theorem nmJ3 : ∀ a, a < 5 → ∀ b, b < 5 → a ≠ b → (TJ3 a).2.1 ≠ (TJ3 b).2.1 := by decide +kernel
theorem tyJ3_ok : ∀ k, k < 5 → parseFieldDescriptor (TJ3 k).2.2.1 = some (tyJ3 k) := by decide +kernel
abbrev cJ3_init : ByteArray := prog_35_method_1_code
def yJ3_init : MethodName := ⟨RJ3, "<init>", "()V"⟩
abbrev cJ3_init_2 : ByteArray := prog_35_method_2_code
def yJ3_init_2 : MethodName := ⟨RJ3, "<init>", "(Ljava/lang/String;)V"⟩
theorem q64 : (Jvm.Cond.initialized "java/lang/Throwable") ∈ lw_all := lw_g (lw_at lw_m1 7 rfl) rfl
theorem q161 : (Jvm.Cond.declares ({ cls := "java/lang/Throwable", name := "<init>", desc := "()V" } : Jvm.MethodName)) ∈ lw_tbl := lw_at lw_m1 104 rfl
theorem q162 : (Jvm.Cond.declares ({ cls := "java/lang/Throwable", name := "<init>", desc := "(Ljava/lang/String;)V" } : Jvm.MethodName)) ∈ lw_tbl := lw_at lw_m1 105 rfl
theorem q166 : (Jvm.Cond.lays "java/lang/Throwable" "java/lang/Throwable" "cause" "Ljava/lang/Throwable;") ∈ lw_all := lw_g (lw_at lw_m1 109 rfl) rfl
theorem q168 : (Jvm.Cond.lays "java/lang/Throwable" "java/lang/Throwable" "stackTrace" "[Ljava/lang/StackTraceElement;") ∈ lw_all := lw_g (lw_at lw_m1 111 rfl) rfl
theorem q170 : (Jvm.Cond.lays "java/lang/Throwable" "java/lang/Throwable" "suppressedExceptions" "Ljava/util/List;") ∈ lw_all := lw_g (lw_at lw_m1 113 rfl) rfl
theorem q172 : (Jvm.Cond.lays "java/lang/Throwable" "java/lang/Throwable" "detailMessage" "Ljava/lang/String;") ∈ lw_all := lw_g (lw_at lw_m1 115 rfl) rfl
theorem q174 : (Jvm.Cond.lays "java/lang/Throwable" "java/lang/Throwable" "backtrace" "Ljava/lang/Object;") ∈ lw_all := lw_g (lw_at lw_m1 117 rfl) rfl
theorem q175 : (Jvm.Cond.fieldLink "java/lang/Throwable" (198 : Nat) "java/lang/Throwable" "backtrace" "Ljava/lang/Object;") ∈ lw_all := lw_g (lw_at lw_m1 118 rfl) rfl
theorem q176 : (Jvm.Cond.superclass "java/lang/Throwable" "java/lang/Object") ∈ lw_all := lw_g (lw_at lw_m1 119 rfl) rfl
theorem q177 : (Jvm.Cond.instanceMethod ({ cls := "java/lang/Throwable", name := "<init>", desc := "()V" } : Jvm.MethodName)) ∈ lw_all := lw_g (lw_at lw_m1 120 rfl) rfl
theorem q178 : (Jvm.Cond.code ({ cls := "java/lang/Throwable", name := "<init>", desc := "()V" } : Jvm.MethodName) prog_35_method_1_code (1 : Nat) (Option.none : Option Jvm.ClassFile.FieldType)) ∈ lw_all := lw_g (lw_at lw_m1 121 rfl) rfl
theorem q179 : (Jvm.Cond.methodLink "java/lang/Throwable" (1 : Nat) ({ cls := "java/lang/Object", name := "<init>", desc := "()V" } : Jvm.MethodName)) ∈ lw_all := lw_g (lw_at lw_m1 122 rfl) rfl
theorem q180 : (Jvm.Cond.fieldLink "java/lang/Throwable" (13 : Nat) "java/lang/Throwable" "UNASSIGNED_STACK" "[Ljava/lang/StackTraceElement;") ∈ lw_all := lw_g (lw_at lw_m1 123 rfl) rfl
theorem q181 : (Jvm.Cond.laysStatic "java/lang/Throwable" "UNASSIGNED_STACK" "[Ljava/lang/StackTraceElement;") ∈ lw_tbl := lw_at lw_m1 124 rfl
theorem q182 : (Jvm.Cond.fieldLink "java/lang/Throwable" (20 : Nat) "java/lang/Throwable" "SUPPRESSED_SENTINEL" "Ljava/util/List;") ∈ lw_all := lw_g (lw_at lw_m1 125 rfl) rfl
theorem q183 : (Jvm.Cond.laysStatic "java/lang/Throwable" "SUPPRESSED_SENTINEL" "Ljava/util/List;") ∈ lw_tbl := lw_at lw_m1 126 rfl
theorem q184 : (Jvm.Cond.methodLink "java/lang/Throwable" (27 : Nat) ({ cls := "java/lang/Throwable", name := "fillInStackTrace", desc := "()Ljava/lang/Throwable;" } : Jvm.MethodName)) ∈ lw_all := lw_g (lw_at lw_m1 127 rfl) rfl
theorem q185 : (Jvm.Cond.instanceMethod ({ cls := "java/lang/Throwable", name := "fillInStackTrace", desc := "()Ljava/lang/Throwable;" } : Jvm.MethodName)) ∈ lw_all := lw_g (lw_at lw_m1 128 rfl) rfl
theorem q186 : (Jvm.Cond.sameMethod "java/lang/Throwable" "java/lang/Throwable" "fillInStackTrace" "()Ljava/lang/Throwable;") ∈ lw_all := lw_g (lw_at lw_m1 129 rfl) rfl
theorem q192 : (Jvm.Cond.codeSync ({ cls := "java/lang/Throwable", name := "fillInStackTrace", desc := "()Ljava/lang/Throwable;" } : Jvm.MethodName) prog_35_method_18_code (1 : Nat) (Option.some (Jvm.ClassFile.FieldType.object "java/lang/Throwable"))) ∈ lw_all := lw_g (lw_at lw_m1 135 rfl) rfl
theorem q193 : (Jvm.Cond.methodLink "java/lang/Throwable" (202 : Nat) ({ cls := "java/lang/Throwable", name := "fillInStackTrace", desc := "(I)Ljava/lang/Throwable;" } : Jvm.MethodName)) ∈ lw_all := lw_g (lw_at lw_m1 136 rfl) rfl
theorem q194 : (Jvm.Cond.privateMethod ({ cls := "java/lang/Throwable", name := "fillInStackTrace", desc := "(I)Ljava/lang/Throwable;" } : Jvm.MethodName)) ∈ lw_tbl := lw_at lw_m1 137 rfl
theorem q195 : (Jvm.Cond.instanceMethod ({ cls := "java/lang/Throwable", name := "fillInStackTrace", desc := "(I)Ljava/lang/Throwable;" } : Jvm.MethodName)) ∈ lw_all := lw_g (lw_at lw_m1 138 rfl) rfl
theorem q196 : (Jvm.Cond.instantiable "java/lang/Throwable" (6 : Nat)) ∈ lw_all := lw_g (lw_at lw_m1 139 rfl) rfl
theorem q197 : (Jvm.Cond.native ({ cls := "java/lang/Throwable", name := "fillInStackTrace", desc := "(I)Ljava/lang/Throwable;" } : Jvm.MethodName)) ∈ lw_all := lw_g (lw_at lw_m1 140 rfl) rfl
theorem q429 : (Jvm.Cond.instanceMethod ({ cls := "java/lang/Throwable", name := "<init>", desc := "(Ljava/lang/String;)V" } : Jvm.MethodName)) ∈ lw_all := lw_g (lw_at lw_m2 132 rfl) rfl
theorem q430 : (Jvm.Cond.code ({ cls := "java/lang/Throwable", name := "<init>", desc := "(Ljava/lang/String;)V" } : Jvm.MethodName) prog_35_method_2_code (2 : Nat) (Option.none : Option Jvm.ClassFile.FieldType)) ∈ lw_all := lw_g (lw_at lw_m2 133 rfl) rfl
theorem q431 : (Jvm.Cond.fieldLink "java/lang/Throwable" (198 : Nat) "java/lang/Throwable" "backtrace" "Ljava/lang/Object;") ∈ lw_all := lw_g (lw_at lw_m2 134 rfl) rfl
theorem q432 : (Jvm.Cond.fieldLink "java/lang/Throwable" (31 : Nat) "java/lang/Throwable" "detailMessage" "Ljava/lang/String;") ∈ lw_all := lw_g (lw_at lw_m2 135 rfl) rfl
theorem q433 : (Jvm.Cond.fieldLink "java/lang/Throwable" (7 : Nat) "java/lang/Throwable" "cause" "Ljava/lang/Throwable;") ∈ lw_all := lw_g (lw_at lw_m2 136 rfl) rfl
theorem q434 : (Jvm.Cond.fieldLink "java/lang/Throwable" (17 : Nat) "java/lang/Throwable" "stackTrace" "[Ljava/lang/StackTraceElement;") ∈ lw_all := lw_g (lw_at lw_m2 137 rfl) rfl
theorem q435 : (Jvm.Cond.fieldLink "java/lang/Throwable" (24 : Nat) "java/lang/Throwable" "suppressedExceptions" "Ljava/util/List;") ∈ lw_all := lw_g (lw_at lw_m2 138 rfl) rfl
theorem q436 : (Jvm.Cond.soleField "java/lang/Throwable" "backtrace") ∈ lw_all := lw_g (lw_at lw_m2 139 rfl) rfl
theorem q437 : (Jvm.Cond.soleField "java/lang/Throwable" "detailMessage") ∈ lw_all := lw_g (lw_at lw_m2 140 rfl) rfl
theorem q438 : (Jvm.Cond.soleField "java/lang/Throwable" "cause") ∈ lw_all := lw_g (lw_at lw_m2 141 rfl) rfl
theorem q439 : (Jvm.Cond.soleField "java/lang/Throwable" "stackTrace") ∈ lw_all := lw_g (lw_at lw_m2 142 rfl) rfl
theorem q441 : (Jvm.Cond.soleField "java/lang/Throwable" "depth") ∈ lw_all := lw_g (lw_at lw_m2 144 rfl) rfl
theorem q442 : (Jvm.Cond.soleField "java/lang/Throwable" "suppressedExceptions") ∈ lw_all := lw_g (lw_at lw_m2 145 rfl) rfl
theorem q1744 : (Jvm.Cond.sameMethod "java/lang/Throwable" "java/lang/Throwable" "fillInStackTrace" "(I)Ljava/lang/Throwable;") ∈ lw_all := lw_g (lw_at lw_m8 7 rfl) rfl
theorem q1782 : (Jvm.Cond.castable "java/lang/Throwable" "java/lang/Object") ∈ lw_tbl := lw_at lw_m8 45 rfl
theorem in_J3 : ∀ w ∈ wsJ30, w ∈ lw_all := lw_in wsJ30 [166, 168, 170, 172, 174] (by decide +kernel) (by decide +kernel)
/-! java/lang/Exception -/
def RJ4 : String := "java/lang/Exception"
abbrev cJ4_init : ByteArray := prog_20_method_2_code
def yJ4_init : MethodName := ⟨RJ4, "<init>", "(Ljava/lang/String;)V"⟩
abbrev cJ4_init_2 : ByteArray := prog_20_method_1_code
def yJ4_init_2 : MethodName := ⟨RJ4, "<init>", "()V"⟩
theorem q65 : (Jvm.Cond.initialized "java/lang/Exception") ∈ lw_all := lw_g (lw_at lw_m1 8 rfl) rfl
theorem q159 : (Jvm.Cond.declares ({ cls := "java/lang/Exception", name := "<init>", desc := "()V" } : Jvm.MethodName)) ∈ lw_tbl := lw_at lw_m1 102 rfl
theorem q160 : (Jvm.Cond.declares ({ cls := "java/lang/Exception", name := "<init>", desc := "(Ljava/lang/String;)V" } : Jvm.MethodName)) ∈ lw_tbl := lw_at lw_m1 103 rfl
theorem q426 : (Jvm.Cond.instanceMethod ({ cls := "java/lang/Exception", name := "<init>", desc := "(Ljava/lang/String;)V" } : Jvm.MethodName)) ∈ lw_all := lw_g (lw_at lw_m2 129 rfl) rfl
theorem q427 : (Jvm.Cond.code ({ cls := "java/lang/Exception", name := "<init>", desc := "(Ljava/lang/String;)V" } : Jvm.MethodName) prog_20_method_2_code (2 : Nat) (Option.none : Option Jvm.ClassFile.FieldType)) ∈ lw_all := lw_g (lw_at lw_m2 130 rfl) rfl
theorem q428 : (Jvm.Cond.methodLink "java/lang/Exception" (7 : Nat) ({ cls := "java/lang/Throwable", name := "<init>", desc := "(Ljava/lang/String;)V" } : Jvm.MethodName)) ∈ lw_all := lw_g (lw_at lw_m2 131 rfl) rfl
theorem q576 : (Jvm.Cond.instanceMethod ({ cls := "java/lang/Exception", name := "<init>", desc := "()V" } : Jvm.MethodName)) ∈ lw_all := lw_g (lw_at lw_m3 39 rfl) rfl
theorem q577 : (Jvm.Cond.code ({ cls := "java/lang/Exception", name := "<init>", desc := "()V" } : Jvm.MethodName) prog_20_method_1_code (1 : Nat) (Option.none : Option Jvm.ClassFile.FieldType)) ∈ lw_all := lw_g (lw_at lw_m3 40 rfl) rfl
theorem q578 : (Jvm.Cond.methodLink "java/lang/Exception" (1 : Nat) ({ cls := "java/lang/Throwable", name := "<init>", desc := "()V" } : Jvm.MethodName)) ∈ lw_all := lw_g (lw_at lw_m3 41 rfl) rfl
/-! java/lang/RuntimeException -/
def RJ5 : String := "java/lang/RuntimeException"
abbrev cJ5_init : ByteArray := prog_29_method_2_code
def yJ5_init : MethodName := ⟨RJ5, "<init>", "(Ljava/lang/String;)V"⟩
abbrev cJ5_init_2 : ByteArray := prog_29_method_1_code
def yJ5_init_2 : MethodName := ⟨RJ5, "<init>", "()V"⟩
theorem q66 : (Jvm.Cond.initialized "java/lang/RuntimeException") ∈ lw_all := lw_g (lw_at lw_m1 9 rfl) rfl
theorem q157 : (Jvm.Cond.declares ({ cls := "java/lang/RuntimeException", name := "<init>", desc := "()V" } : Jvm.MethodName)) ∈ lw_tbl := lw_at lw_m1 100 rfl
theorem q158 : (Jvm.Cond.declares ({ cls := "java/lang/RuntimeException", name := "<init>", desc := "(Ljava/lang/String;)V" } : Jvm.MethodName)) ∈ lw_tbl := lw_at lw_m1 101 rfl
theorem q423 : (Jvm.Cond.instanceMethod ({ cls := "java/lang/RuntimeException", name := "<init>", desc := "(Ljava/lang/String;)V" } : Jvm.MethodName)) ∈ lw_all := lw_g (lw_at lw_m2 126 rfl) rfl
theorem q424 : (Jvm.Cond.code ({ cls := "java/lang/RuntimeException", name := "<init>", desc := "(Ljava/lang/String;)V" } : Jvm.MethodName) prog_29_method_2_code (2 : Nat) (Option.none : Option Jvm.ClassFile.FieldType)) ∈ lw_all := lw_g (lw_at lw_m2 127 rfl) rfl
theorem q425 : (Jvm.Cond.methodLink "java/lang/RuntimeException" (7 : Nat) ({ cls := "java/lang/Exception", name := "<init>", desc := "(Ljava/lang/String;)V" } : Jvm.MethodName)) ∈ lw_all := lw_g (lw_at lw_m2 128 rfl) rfl
theorem q573 : (Jvm.Cond.instanceMethod ({ cls := "java/lang/RuntimeException", name := "<init>", desc := "()V" } : Jvm.MethodName)) ∈ lw_all := lw_g (lw_at lw_m3 36 rfl) rfl
theorem q574 : (Jvm.Cond.code ({ cls := "java/lang/RuntimeException", name := "<init>", desc := "()V" } : Jvm.MethodName) prog_29_method_1_code (1 : Nat) (Option.none : Option Jvm.ClassFile.FieldType)) ∈ lw_all := lw_g (lw_at lw_m3 37 rfl) rfl
theorem q575 : (Jvm.Cond.methodLink "java/lang/RuntimeException" (1 : Nat) ({ cls := "java/lang/Exception", name := "<init>", desc := "()V" } : Jvm.MethodName)) ∈ lw_all := lw_g (lw_at lw_m3 38 rfl) rfl
/-! java/lang/IllegalArgumentException -/
def RJ6 : String := "java/lang/IllegalArgumentException"
def TJ6 : u_T := fun k => match k with
  | 0 => ("java/lang/Throwable", "cause", "Ljava/lang/Throwable;", false)
  | 1 => ("java/lang/Throwable", "stackTrace", "[Ljava/lang/StackTraceElement;", false)
  | 2 => ("java/lang/Throwable", "suppressedExceptions", "Ljava/util/List;", false)
  | 3 => ("java/lang/Throwable", "detailMessage", "Ljava/lang/String;", false)
  | 4 => ("java/lang/Throwable", "backtrace", "Ljava/lang/Object;", false)
  | _ => ("java/lang/Throwable", "depth", "I", false)
def tyJ6 : Nat → FieldType := fun k => match k with
  | 0 => .object "java/lang/Throwable"
  | 1 => .array (.object "java/lang/StackTraceElement")
  | 2 => .object "java/util/List"
  | 3 => .object "java/lang/String"
  | 4 => .object "java/lang/Object"
  | _ => .int
abbrev wsJ60 : List Cond := u_ws RJ6 TJ6 6
theorem nmJ6 : ∀ a, a < 6 → ∀ b, b < 6 → a ≠ b → (TJ6 a).2.1 ≠ (TJ6 b).2.1 := by decide +kernel
theorem tyJ6_ok : ∀ k, k < 6 → parseFieldDescriptor (TJ6 k).2.2.1 = some (tyJ6 k) := by decide +kernel
abbrev cJ6_init : ByteArray := prog_21_method_2_code
def yJ6_init : MethodName := ⟨RJ6, "<init>", "(Ljava/lang/String;)V"⟩
abbrev cJ6_init_2 : ByteArray := prog_21_method_1_code
def yJ6_init_2 : MethodName := ⟨RJ6, "<init>", "()V"⟩
theorem q67 : (Jvm.Cond.initialized "java/lang/IllegalArgumentException") ∈ lw_all := lw_g (lw_at lw_m1 10 rfl) rfl
theorem q155 : (Jvm.Cond.instantiable "java/lang/IllegalArgumentException" (6 : Nat)) ∈ lw_all := lw_g (lw_at lw_m1 98 rfl) rfl
theorem q156 : (Jvm.Cond.castable "java/lang/IllegalArgumentException" "java/lang/IllegalArgumentException") ∈ lw_tbl := lw_at lw_m1 99 rfl
theorem q163 : (Jvm.Cond.selects "java/lang/IllegalArgumentException" ({ cls := "java/lang/Throwable", name := "fillInStackTrace", desc := "(I)Ljava/lang/Throwable;" } : Jvm.MethodName) ({ cls := "java/lang/Throwable", name := "fillInStackTrace", desc := "(I)Ljava/lang/Throwable;" } : Jvm.MethodName)) ∈ lw_all := lw_g (lw_at lw_m1 106 rfl) rfl
theorem q164 : (Jvm.Cond.selects "java/lang/IllegalArgumentException" ({ cls := "java/lang/Throwable", name := "fillInStackTrace", desc := "()Ljava/lang/Throwable;" } : Jvm.MethodName) ({ cls := "java/lang/Throwable", name := "fillInStackTrace", desc := "()Ljava/lang/Throwable;" } : Jvm.MethodName)) ∈ lw_all := lw_g (lw_at lw_m1 107 rfl) rfl
theorem q165 : (Jvm.Cond.lays "java/lang/IllegalArgumentException" "java/lang/Throwable" "cause" "Ljava/lang/Throwable;") ∈ lw_all := lw_g (lw_at lw_m1 108 rfl) rfl
theorem q167 : (Jvm.Cond.lays "java/lang/IllegalArgumentException" "java/lang/Throwable" "stackTrace" "[Ljava/lang/StackTraceElement;") ∈ lw_all := lw_g (lw_at lw_m1 110 rfl) rfl
theorem q169 : (Jvm.Cond.lays "java/lang/IllegalArgumentException" "java/lang/Throwable" "suppressedExceptions" "Ljava/util/List;") ∈ lw_all := lw_g (lw_at lw_m1 112 rfl) rfl
theorem q171 : (Jvm.Cond.lays "java/lang/IllegalArgumentException" "java/lang/Throwable" "detailMessage" "Ljava/lang/String;") ∈ lw_all := lw_g (lw_at lw_m1 114 rfl) rfl
theorem q173 : (Jvm.Cond.lays "java/lang/IllegalArgumentException" "java/lang/Throwable" "backtrace" "Ljava/lang/Object;") ∈ lw_all := lw_g (lw_at lw_m1 116 rfl) rfl
theorem q420 : (Jvm.Cond.instanceMethod ({ cls := "java/lang/IllegalArgumentException", name := "<init>", desc := "(Ljava/lang/String;)V" } : Jvm.MethodName)) ∈ lw_all := lw_g (lw_at lw_m2 123 rfl) rfl
theorem q421 : (Jvm.Cond.code ({ cls := "java/lang/IllegalArgumentException", name := "<init>", desc := "(Ljava/lang/String;)V" } : Jvm.MethodName) prog_21_method_2_code (2 : Nat) (Option.none : Option Jvm.ClassFile.FieldType)) ∈ lw_all := lw_g (lw_at lw_m2 124 rfl) rfl
theorem q422 : (Jvm.Cond.methodLink "java/lang/IllegalArgumentException" (7 : Nat) ({ cls := "java/lang/RuntimeException", name := "<init>", desc := "(Ljava/lang/String;)V" } : Jvm.MethodName)) ∈ lw_all := lw_g (lw_at lw_m2 125 rfl) rfl
theorem q440 : (Jvm.Cond.lays "java/lang/IllegalArgumentException" "java/lang/Throwable" "depth" "I") ∈ lw_all := lw_g (lw_at lw_m2 143 rfl) rfl
theorem q443 : (Jvm.Cond.superclass "java/lang/IllegalArgumentException" "java/lang/RuntimeException") ∈ lw_all := lw_g (lw_at lw_m2 146 rfl) rfl
theorem q570 : (Jvm.Cond.instanceMethod ({ cls := "java/lang/IllegalArgumentException", name := "<init>", desc := "()V" } : Jvm.MethodName)) ∈ lw_all := lw_g (lw_at lw_m3 33 rfl) rfl
theorem q571 : (Jvm.Cond.code ({ cls := "java/lang/IllegalArgumentException", name := "<init>", desc := "()V" } : Jvm.MethodName) prog_21_method_1_code (1 : Nat) (Option.none : Option Jvm.ClassFile.FieldType)) ∈ lw_all := lw_g (lw_at lw_m3 34 rfl) rfl
theorem q572 : (Jvm.Cond.methodLink "java/lang/IllegalArgumentException" (1 : Nat) ({ cls := "java/lang/RuntimeException", name := "<init>", desc := "()V" } : Jvm.MethodName)) ∈ lw_all := lw_g (lw_at lw_m3 35 rfl) rfl
theorem q718 : (Jvm.Cond.selects "java/lang/IllegalArgumentException" ({ cls := "java/lang/Object", name := "getClass", desc := "()Ljava/lang/Class;" } : Jvm.MethodName) ({ cls := "java/lang/Object", name := "getClass", desc := "()Ljava/lang/Class;" } : Jvm.MethodName)) ∈ lw_all := lw_g (lw_at lw_m3 181 rfl) rfl
theorem q801 : (Jvm.Cond.selects "java/lang/IllegalArgumentException" ({ cls := "java/lang/Object", name := "equals", desc := "(Ljava/lang/Object;)Z" } : Jvm.MethodName) ({ cls := "java/lang/Object", name := "equals", desc := "(Ljava/lang/Object;)Z" } : Jvm.MethodName)) ∈ lw_all := lw_g (lw_at lw_m4 24 rfl) rfl
theorem q1766 : (Jvm.Cond.castable "java/lang/IllegalArgumentException" "java/lang/Object") ∈ lw_tbl := lw_at lw_m8 29 rfl
theorem in_J6 : ∀ w ∈ wsJ60, w ∈ lw_all := lw_in wsJ60 [165, 167, 169, 171, 173, 440] (by decide +kernel) (by decide +kernel)
/-! jdk/internal/util/ArraysSupport -/
def RJ11 : String := "jdk/internal/util/ArraysSupport"
abbrev cJ11_newLength : ByteArray := prog_51_method_27_code
def yJ11_newLength : MethodName := ⟨RJ11, "newLength", "(III)I"⟩
abbrev cJ11_hugeLength : ByteArray := prog_51_method_28_code
def yJ11_hugeLength : MethodName := ⟨RJ11, "hugeLength", "(II)I"⟩
theorem q72 : (Jvm.Cond.initialized "jdk/internal/util/ArraysSupport") ∈ lw_all := lw_g (lw_at lw_m1 15 rfl) rfl
theorem q251 : (Jvm.Cond.static ({ cls := "jdk/internal/util/ArraysSupport", name := "newLength", desc := "(III)I" } : Jvm.MethodName)) ∈ lw_all := lw_g (lw_at lw_m1 194 rfl) rfl
theorem q252 : (Jvm.Cond.code ({ cls := "jdk/internal/util/ArraysSupport", name := "newLength", desc := "(III)I" } : Jvm.MethodName) prog_51_method_27_code (4 : Nat) (Option.some Jvm.ClassFile.FieldType.int)) ∈ lw_all := lw_g (lw_at lw_m1 195 rfl) rfl
theorem q253 : (Jvm.Cond.methodLink "jdk/internal/util/ArraysSupport" (194 : Nat) ({ cls := "java/lang/Math", name := "max", desc := "(II)I" } : Jvm.MethodName)) ∈ lw_all := lw_g (lw_at lw_m1 196 rfl) rfl
theorem q256 : (Jvm.Cond.constant "jdk/internal/util/ArraysSupport" (200 : Nat) (2147483639 : Int32)) ∈ lw_all := lw_g (lw_at lw_m1 199 rfl) rfl
theorem q257 : (Jvm.Cond.methodLink "jdk/internal/util/ArraysSupport" (201 : Nat) ({ cls := "jdk/internal/util/ArraysSupport", name := "hugeLength", desc := "(II)I" } : Jvm.MethodName)) ∈ lw_all := lw_g (lw_at lw_m1 200 rfl) rfl
theorem q258 : (Jvm.Cond.static ({ cls := "jdk/internal/util/ArraysSupport", name := "hugeLength", desc := "(II)I" } : Jvm.MethodName)) ∈ lw_all := lw_g (lw_at lw_m1 201 rfl) rfl
theorem q259 : (Jvm.Cond.code ({ cls := "jdk/internal/util/ArraysSupport", name := "hugeLength", desc := "(II)I" } : Jvm.MethodName) prog_51_method_28_code (3 : Nat) (Option.some Jvm.ClassFile.FieldType.int)) ∈ lw_all := lw_g (lw_at lw_m1 202 rfl) rfl
/-! java/lang/Math -/
def RJ12 : String := "java/lang/Math"
abbrev cJ12_max : ByteArray := prog_27_method_65_code
def yJ12_max : MethodName := ⟨RJ12, "max", "(II)I"⟩
abbrev cJ12_min : ByteArray := prog_27_method_69_code
def yJ12_min : MethodName := ⟨RJ12, "min", "(II)I"⟩
theorem q73 : (Jvm.Cond.initialized "java/lang/Math") ∈ lw_all := lw_g (lw_at lw_m1 16 rfl) rfl
theorem q254 : (Jvm.Cond.static ({ cls := "java/lang/Math", name := "max", desc := "(II)I" } : Jvm.MethodName)) ∈ lw_all := lw_g (lw_at lw_m1 197 rfl) rfl
theorem q255 : (Jvm.Cond.code ({ cls := "java/lang/Math", name := "max", desc := "(II)I" } : Jvm.MethodName) prog_27_method_65_code (2 : Nat) (Option.some Jvm.ClassFile.FieldType.int)) ∈ lw_all := lw_g (lw_at lw_m1 198 rfl) rfl
theorem q272 : (Jvm.Cond.static ({ cls := "java/lang/Math", name := "min", desc := "(II)I" } : Jvm.MethodName)) ∈ lw_all := lw_g (lw_at lw_m1 215 rfl) rfl
theorem q273 : (Jvm.Cond.code ({ cls := "java/lang/Math", name := "min", desc := "(II)I" } : Jvm.MethodName) prog_27_method_69_code (2 : Nat) (Option.some Jvm.ClassFile.FieldType.int)) ∈ lw_all := lw_g (lw_at lw_m1 216 rfl) rfl
/-! java/util/Arrays -/
def RJ13 : String := "java/util/Arrays"
abbrev cJ13_copyOf : ByteArray := prog_43_method_121_code
def yJ13_copyOf : MethodName := ⟨RJ13, "copyOf", "([BI)[B"⟩
abbrev cJ13_copyOfRange : ByteArray := prog_43_method_132_code
def yJ13_copyOfRange : MethodName := ⟨RJ13, "copyOfRange", "([BII)[B"⟩
abbrev cJ13_copyOfRangeByte : ByteArray := prog_43_method_133_code
def yJ13_copyOfRangeByte : MethodName := ⟨RJ13, "copyOfRangeByte", "([BII)[B"⟩
abbrev cJ13_checkLength : ByteArray := prog_43_method_131_code
def yJ13_checkLength : MethodName := ⟨RJ13, "checkLength", "(II)V"⟩
abbrev cJ13_copyOf_2 : ByteArray := prog_43_method_119_code
def yJ13_copyOf_2 : MethodName := ⟨RJ13, "copyOf", "([Ljava/lang/Object;I)[Ljava/lang/Object;"⟩
abbrev cJ13_copyOf_3 : ByteArray := prog_43_method_120_code
def yJ13_copyOf_3 : MethodName := ⟨RJ13, "copyOf", "([Ljava/lang/Object;ILjava/lang/Class;)[Ljava/lang/Object;"⟩
theorem q74 : (Jvm.Cond.initialized "java/util/Arrays") ∈ lw_all := lw_g (lw_at lw_m1 17 rfl) rfl
theorem q262 : (Jvm.Cond.static ({ cls := "java/util/Arrays", name := "copyOf", desc := "([BI)[B" } : Jvm.MethodName)) ∈ lw_all := lw_g (lw_at lw_m1 205 rfl) rfl
theorem q263 : (Jvm.Cond.code ({ cls := "java/util/Arrays", name := "copyOf", desc := "([BI)[B" } : Jvm.MethodName) prog_43_method_121_code (3 : Nat) (Option.some (Jvm.ClassFile.FieldType.array Jvm.ClassFile.FieldType.byte))) ∈ lw_all := lw_g (lw_at lw_m1 206 rfl) rfl
theorem q264 : (Jvm.Cond.methodLink "java/util/Arrays" (310 : Nat) ({ cls := "[B", name := "clone", desc := "()Ljava/lang/Object;" } : Jvm.MethodName)) ∈ lw_all := lw_g (lw_at lw_m1 207 rfl) rfl
theorem q270 : (Jvm.Cond.classLink "java/util/Arrays" (311 : Nat) "[B") ∈ lw_all := lw_g (lw_at lw_m1 213 rfl) rfl
theorem q271 : (Jvm.Cond.methodLink "java/util/Arrays" (304 : Nat) ({ cls := "java/lang/Math", name := "min", desc := "(II)I" } : Jvm.MethodName)) ∈ lw_all := lw_g (lw_at lw_m1 214 rfl) rfl
theorem q274 : (Jvm.Cond.methodLink "java/util/Arrays" (150 : Nat) ({ cls := "java/lang/System", name := "arraycopy", desc := "(Ljava/lang/Object;ILjava/lang/Object;II)V" } : Jvm.MethodName)) ∈ lw_all := lw_g (lw_at lw_m1 217 rfl) rfl
theorem q404 : (Jvm.Cond.static ({ cls := "java/util/Arrays", name := "copyOfRange", desc := "([BII)[B" } : Jvm.MethodName)) ∈ lw_all := lw_g (lw_at lw_m2 107 rfl) rfl
theorem q405 : (Jvm.Cond.code ({ cls := "java/util/Arrays", name := "copyOfRange", desc := "([BII)[B" } : Jvm.MethodName) prog_43_method_132_code (3 : Nat) (Option.some (Jvm.ClassFile.FieldType.array Jvm.ClassFile.FieldType.byte))) ∈ lw_all := lw_g (lw_at lw_m2 108 rfl) rfl
theorem q406 : (Jvm.Cond.methodLink "java/util/Arrays" (339 : Nat) ({ cls := "java/util/Arrays", name := "copyOfRangeByte", desc := "([BII)[B" } : Jvm.MethodName)) ∈ lw_all := lw_g (lw_at lw_m2 109 rfl) rfl
theorem q407 : (Jvm.Cond.static ({ cls := "java/util/Arrays", name := "copyOfRangeByte", desc := "([BII)[B" } : Jvm.MethodName)) ∈ lw_all := lw_g (lw_at lw_m2 110 rfl) rfl
theorem q408 : (Jvm.Cond.code ({ cls := "java/util/Arrays", name := "copyOfRangeByte", desc := "([BII)[B" } : Jvm.MethodName) prog_43_method_133_code (5 : Nat) (Option.some (Jvm.ClassFile.FieldType.array Jvm.ClassFile.FieldType.byte))) ∈ lw_all := lw_g (lw_at lw_m2 111 rfl) rfl
theorem q409 : (Jvm.Cond.methodLink "java/util/Arrays" (343 : Nat) ({ cls := "java/util/Arrays", name := "checkLength", desc := "(II)V" } : Jvm.MethodName)) ∈ lw_all := lw_g (lw_at lw_m2 112 rfl) rfl
theorem q410 : (Jvm.Cond.static ({ cls := "java/util/Arrays", name := "checkLength", desc := "(II)V" } : Jvm.MethodName)) ∈ lw_all := lw_g (lw_at lw_m2 113 rfl) rfl
theorem q411 : (Jvm.Cond.code ({ cls := "java/util/Arrays", name := "checkLength", desc := "(II)V" } : Jvm.MethodName) prog_43_method_131_code (2 : Nat) (Option.none : Option Jvm.ClassFile.FieldType)) ∈ lw_all := lw_g (lw_at lw_m2 114 rfl) rfl
theorem q412 : (Jvm.Cond.classLink "java/util/Arrays" (43 : Nat) "java/lang/IllegalArgumentException") ∈ lw_all := lw_g (lw_at lw_m2 115 rfl) rfl
theorem q413 : (Jvm.Cond.classLink "java/util/Arrays" (45 : Nat) "java/lang/StringBuilder") ∈ lw_all := lw_g (lw_at lw_m2 116 rfl) rfl
theorem q414 : (Jvm.Cond.methodLink "java/util/Arrays" (47 : Nat) ({ cls := "java/lang/StringBuilder", name := "<init>", desc := "()V" } : Jvm.MethodName)) ∈ lw_all := lw_g (lw_at lw_m2 117 rfl) rfl
theorem q415 : (Jvm.Cond.methodLink "java/util/Arrays" (54 : Nat) ({ cls := "java/lang/StringBuilder", name := "append", desc := "(I)Ljava/lang/StringBuilder;" } : Jvm.MethodName)) ∈ lw_all := lw_g (lw_at lw_m2 118 rfl) rfl
theorem q416 : (Jvm.Cond.stringRef "java/util/Arrays" (337 : Nat) " > ") ∈ lw_tbl := lw_at lw_m2 119 rfl
theorem q417 : (Jvm.Cond.methodLink "java/util/Arrays" (50 : Nat) ({ cls := "java/lang/StringBuilder", name := "append", desc := "(Ljava/lang/String;)Ljava/lang/StringBuilder;" } : Jvm.MethodName)) ∈ lw_all := lw_g (lw_at lw_m2 120 rfl) rfl
theorem q418 : (Jvm.Cond.methodLink "java/util/Arrays" (61 : Nat) ({ cls := "java/lang/StringBuilder", name := "toString", desc := "()Ljava/lang/String;" } : Jvm.MethodName)) ∈ lw_all := lw_g (lw_at lw_m2 121 rfl) rfl
theorem q419 : (Jvm.Cond.methodLink "java/util/Arrays" (65 : Nat) ({ cls := "java/lang/IllegalArgumentException", name := "<init>", desc := "(Ljava/lang/String;)V" } : Jvm.MethodName)) ∈ lw_all := lw_g (lw_at lw_m2 122 rfl) rfl
theorem q702 : (Jvm.Cond.static ({ cls := "java/util/Arrays", name := "copyOf", desc := "([Ljava/lang/Object;I)[Ljava/lang/Object;" } : Jvm.MethodName)) ∈ lw_all := lw_g (lw_at lw_m3 165 rfl) rfl
theorem q703 : (Jvm.Cond.code ({ cls := "java/util/Arrays", name := "copyOf", desc := "([Ljava/lang/Object;I)[Ljava/lang/Object;" } : Jvm.MethodName) prog_43_method_119_code (2 : Nat) (Option.some (Jvm.ClassFile.FieldType.array (Jvm.ClassFile.FieldType.object "java/lang/Object")))) ∈ lw_all := lw_g (lw_at lw_m3 166 rfl) rfl
theorem q704 : (Jvm.Cond.methodLink "java/util/Arrays" (86 : Nat) ({ cls := "java/lang/Object", name := "getClass", desc := "()Ljava/lang/Class;" } : Jvm.MethodName)) ∈ lw_all := lw_g (lw_at lw_m3 167 rfl) rfl
theorem q729 : (Jvm.Cond.methodLink "java/util/Arrays" (300 : Nat) ({ cls := "java/util/Arrays", name := "copyOf", desc := "([Ljava/lang/Object;ILjava/lang/Class;)[Ljava/lang/Object;" } : Jvm.MethodName)) ∈ lw_all := lw_g (lw_at lw_m3 192 rfl) rfl
theorem q730 : (Jvm.Cond.static ({ cls := "java/util/Arrays", name := "copyOf", desc := "([Ljava/lang/Object;ILjava/lang/Class;)[Ljava/lang/Object;" } : Jvm.MethodName)) ∈ lw_all := lw_g (lw_at lw_m3 193 rfl) rfl
theorem q731 : (Jvm.Cond.code ({ cls := "java/util/Arrays", name := "copyOf", desc := "([Ljava/lang/Object;ILjava/lang/Class;)[Ljava/lang/Object;" } : Jvm.MethodName) prog_43_method_120_code (4 : Nat) (Option.some (Jvm.ClassFile.FieldType.array (Jvm.ClassFile.FieldType.object "java/lang/Object")))) ∈ lw_all := lw_g (lw_at lw_m3 194 rfl) rfl
theorem q732 : (Jvm.Cond.classLink "java/util/Arrays" (110 : Nat) "[Ljava/lang/Object;") ∈ lw_all := lw_g (lw_at lw_m3 195 rfl) rfl
theorem q733 : (Jvm.Cond.classLink "java/util/Arrays" (2 : Nat) "java/lang/Object") ∈ lw_all := lw_g (lw_at lw_m3 196 rfl) rfl
/-! jdk/internal/util/Preconditions -/
def RJ14 : String := "jdk/internal/util/Preconditions"
abbrev cJ14_checkFromToIndex : ByteArray := prog_52_method_12_code
def yJ14_checkFromToIndex : MethodName := ⟨RJ14, "checkFromToIndex", "(IIILjava/util/function/BiFunction;)I"⟩
abbrev cJ14_checkFromIndexSize : ByteArray := prog_52_method_13_code
def yJ14_checkFromIndexSize : MethodName := ⟨RJ14, "checkFromIndexSize", "(IIILjava/util/function/BiFunction;)I"⟩
abbrev cJ14_checkIndex : ByteArray := prog_52_method_11_code
def yJ14_checkIndex : MethodName := ⟨RJ14, "checkIndex", "(IILjava/util/function/BiFunction;)I"⟩
theorem q76 : (Jvm.Cond.initialized "jdk/internal/util/Preconditions") ∈ lw_all := lw_g (lw_at lw_m1 19 rfl) rfl
theorem q295 : (Jvm.Cond.laysStatic "jdk/internal/util/Preconditions" "SIOOBE_FORMATTER" "Ljava/util/function/BiFunction;") ∈ lw_tbl := lw_at lw_m1 238 rfl
theorem q297 : (Jvm.Cond.static ({ cls := "jdk/internal/util/Preconditions", name := "checkFromToIndex", desc := "(IIILjava/util/function/BiFunction;)I" } : Jvm.MethodName)) ∈ lw_all := lw_g (lw_at lw_m2 0 rfl) rfl
theorem q298 : (Jvm.Cond.code ({ cls := "jdk/internal/util/Preconditions", name := "checkFromToIndex", desc := "(IIILjava/util/function/BiFunction;)I" } : Jvm.MethodName) prog_52_method_12_code (4 : Nat) (Option.some Jvm.ClassFile.FieldType.int)) ∈ lw_all := lw_g (lw_at lw_m2 1 rfl) rfl
theorem q343 : (Jvm.Cond.static ({ cls := "jdk/internal/util/Preconditions", name := "checkFromIndexSize", desc := "(IIILjava/util/function/BiFunction;)I" } : Jvm.MethodName)) ∈ lw_all := lw_g (lw_at lw_m2 46 rfl) rfl
theorem q344 : (Jvm.Cond.code ({ cls := "jdk/internal/util/Preconditions", name := "checkFromIndexSize", desc := "(IIILjava/util/function/BiFunction;)I" } : Jvm.MethodName) prog_52_method_13_code (4 : Nat) (Option.some Jvm.ClassFile.FieldType.int)) ∈ lw_all := lw_g (lw_at lw_m2 47 rfl) rfl
theorem q1032 : (Jvm.Cond.static ({ cls := "jdk/internal/util/Preconditions", name := "checkIndex", desc := "(IILjava/util/function/BiFunction;)I" } : Jvm.MethodName)) ∈ lw_all := lw_g (lw_at lw_m5 15 rfl) rfl
theorem q1033 : (Jvm.Cond.code ({ cls := "jdk/internal/util/Preconditions", name := "checkIndex", desc := "(IILjava/util/function/BiFunction;)I" } : Jvm.MethodName) prog_52_method_11_code (3 : Nat) (Option.some Jvm.ClassFile.FieldType.int)) ∈ lw_all := lw_g (lw_at lw_m5 16 rfl) rfl
/-! java/lang/Number -/
def RJ16 : String := "java/lang/Number"
abbrev cJ16_init : ByteArray := prog_28_method_1_code
def yJ16_init : MethodName := ⟨RJ16, "<init>", "()V"⟩
theorem q78 : (Jvm.Cond.initialized "java/lang/Number") ∈ lw_all := lw_g (lw_at lw_m1 21 rfl) rfl
theorem q952 : (Jvm.Cond.instanceMethod ({ cls := "java/lang/Number", name := "<init>", desc := "()V" } : Jvm.MethodName)) ∈ lw_all := lw_g (lw_at lw_m4 175 rfl) rfl
theorem q953 : (Jvm.Cond.code ({ cls := "java/lang/Number", name := "<init>", desc := "()V" } : Jvm.MethodName) prog_28_method_1_code (1 : Nat) (Option.none : Option Jvm.ClassFile.FieldType)) ∈ lw_all := lw_g (lw_at lw_m4 176 rfl) rfl
theorem q954 : (Jvm.Cond.methodLink "java/lang/Number" (1 : Nat) ({ cls := "java/lang/Object", name := "<init>", desc := "()V" } : Jvm.MethodName)) ∈ lw_all := lw_g (lw_at lw_m4 177 rfl) rfl
/-! java/lang/Integer -/
def RJ17 : String := "java/lang/Integer"
def TJ17 : u_T := fun k => match k with
  | _ => ("java/lang/Integer", "value", "I", true)
def tyJ17 : Nat → FieldType := fun k => match k with
  | _ => .int
abbrev wsJ170 : List Cond := u_ws RJ17 TJ17 1
theorem nmJ17 : ∀ a, a < 1 → ∀ b, b < 1 → a ≠ b → (TJ17 a).2.1 ≠ (TJ17 b).2.1 := by decide +kernel
theorem tyJ17_ok : ∀ k, k < 1 → parseFieldDescriptor (TJ17 k).2.2.1 = some (tyJ17 k) := by decide +kernel
abbrev cJ17_stringSize : ByteArray := prog_24_method_13_code
def yJ17_stringSize : MethodName := ⟨RJ17, "stringSize", "(I)I"⟩
abbrev cJ17_getChars : ByteArray := prog_24_method_12_code
def yJ17_getChars : MethodName := ⟨RJ17, "getChars", "(II[B)I"⟩
abbrev cJ17_equals : ByteArray := prog_24_method_34_code
def yJ17_equals : MethodName := ⟨RJ17, "equals", "(Ljava/lang/Object;)Z"⟩
abbrev cJ17_intValue : ByteArray := prog_24_method_27_code
def yJ17_intValue : MethodName := ⟨RJ17, "intValue", "()I"⟩
abbrev cJ17_valueOf : ByteArray := prog_24_method_22_code
def yJ17_valueOf : MethodName := ⟨RJ17, "valueOf", "(I)Ljava/lang/Integer;"⟩
abbrev cJ17_init : ByteArray := prog_24_method_23_code
def yJ17_init : MethodName := ⟨RJ17, "<init>", "(I)V"⟩
theorem q79 : (Jvm.Cond.initialized "java/lang/Integer") ∈ lw_all := lw_g (lw_at lw_m1 22 rfl) rfl
theorem q359 : (Jvm.Cond.static ({ cls := "java/lang/Integer", name := "stringSize", desc := "(I)I" } : Jvm.MethodName)) ∈ lw_all := lw_g (lw_at lw_m2 62 rfl) rfl
theorem q360 : (Jvm.Cond.code ({ cls := "java/lang/Integer", name := "stringSize", desc := "(I)I" } : Jvm.MethodName) prog_24_method_13_code (4 : Nat) (Option.some Jvm.ClassFile.FieldType.int)) ∈ lw_all := lw_g (lw_at lw_m2 63 rfl) rfl
theorem q362 : (Jvm.Cond.static ({ cls := "java/lang/Integer", name := "getChars", desc := "(II[B)I" } : Jvm.MethodName)) ∈ lw_all := lw_g (lw_at lw_m2 65 rfl) rfl
theorem q363 : (Jvm.Cond.code ({ cls := "java/lang/Integer", name := "getChars", desc := "(II[B)I" } : Jvm.MethodName) prog_24_method_12_code (7 : Nat) (Option.some Jvm.ClassFile.FieldType.int)) ∈ lw_all := lw_g (lw_at lw_m2 66 rfl) rfl
theorem q364 : (Jvm.Cond.fieldLink "java/lang/Integer" (83 : Nat) "java/lang/Integer" "DigitOnes" "[B") ∈ lw_all := lw_g (lw_at lw_m2 67 rfl) rfl
theorem q365 : (Jvm.Cond.laysStatic "java/lang/Integer" "DigitOnes" "[B") ∈ lw_tbl := lw_at lw_m2 68 rfl
theorem q366 : (Jvm.Cond.fieldLink "java/lang/Integer" (87 : Nat) "java/lang/Integer" "DigitTens" "[B") ∈ lw_all := lw_g (lw_at lw_m2 69 rfl) rfl
theorem q367 : (Jvm.Cond.laysStatic "java/lang/Integer" "DigitTens" "[B") ∈ lw_tbl := lw_at lw_m2 70 rfl
theorem q721 : (Jvm.Cond.selects "java/lang/Integer" ({ cls := "java/lang/Object", name := "getClass", desc := "()Ljava/lang/Class;" } : Jvm.MethodName) ({ cls := "java/lang/Object", name := "getClass", desc := "()Ljava/lang/Class;" } : Jvm.MethodName)) ∈ lw_all := lw_g (lw_at lw_m3 184 rfl) rfl
theorem q804 : (Jvm.Cond.selects "java/lang/Integer" ({ cls := "java/lang/Object", name := "equals", desc := "(Ljava/lang/Object;)Z" } : Jvm.MethodName) ({ cls := "java/lang/Integer", name := "equals", desc := "(Ljava/lang/Object;)Z" } : Jvm.MethodName)) ∈ lw_all := lw_g (lw_at lw_m4 27 rfl) rfl
theorem q805 : (Jvm.Cond.instanceMethod ({ cls := "java/lang/Integer", name := "equals", desc := "(Ljava/lang/Object;)Z" } : Jvm.MethodName)) ∈ lw_all := lw_g (lw_at lw_m4 28 rfl) rfl
theorem q806 : (Jvm.Cond.code ({ cls := "java/lang/Integer", name := "equals", desc := "(Ljava/lang/Object;)Z" } : Jvm.MethodName) prog_24_method_34_code (2 : Nat) (Option.some Jvm.ClassFile.FieldType.boolean)) ∈ lw_all := lw_g (lw_at lw_m4 29 rfl) rfl
theorem q807 : (Jvm.Cond.classLink "java/lang/Integer" (1 : Nat) "java/lang/Integer") ∈ lw_all := lw_g (lw_at lw_m4 30 rfl) rfl
theorem q808 : (Jvm.Cond.methodLink "java/lang/Integer" (211 : Nat) ({ cls := "java/lang/Integer", name := "intValue", desc := "()I" } : Jvm.MethodName)) ∈ lw_all := lw_g (lw_at lw_m4 31 rfl) rfl
theorem q809 : (Jvm.Cond.instanceMethod ({ cls := "java/lang/Integer", name := "intValue", desc := "()I" } : Jvm.MethodName)) ∈ lw_all := lw_g (lw_at lw_m4 32 rfl) rfl
theorem q810 : (Jvm.Cond.selects "java/lang/Integer" ({ cls := "java/lang/Integer", name := "intValue", desc := "()I" } : Jvm.MethodName) ({ cls := "java/lang/Integer", name := "intValue", desc := "()I" } : Jvm.MethodName)) ∈ lw_all := lw_g (lw_at lw_m4 33 rfl) rfl
theorem q811 : (Jvm.Cond.code ({ cls := "java/lang/Integer", name := "intValue", desc := "()I" } : Jvm.MethodName) prog_24_method_27_code (1 : Nat) (Option.some Jvm.ClassFile.FieldType.int)) ∈ lw_all := lw_g (lw_at lw_m4 34 rfl) rfl
theorem q941 : (Jvm.Cond.static ({ cls := "java/lang/Integer", name := "valueOf", desc := "(I)Ljava/lang/Integer;" } : Jvm.MethodName)) ∈ lw_all := lw_g (lw_at lw_m4 164 rfl) rfl
theorem q942 : (Jvm.Cond.code ({ cls := "java/lang/Integer", name := "valueOf", desc := "(I)Ljava/lang/Integer;" } : Jvm.MethodName) prog_24_method_22_code (1 : Nat) (Option.some (Jvm.ClassFile.FieldType.object "java/lang/Integer"))) ∈ lw_all := lw_g (lw_at lw_m4 165 rfl) rfl
theorem q943 : (Jvm.Cond.fieldLink "java/lang/Integer" (191 : Nat) "java/lang/Integer$IntegerCache" "high" "I") ∈ lw_all := lw_g (lw_at lw_m4 166 rfl) rfl
theorem q945 : (Jvm.Cond.fieldLink "java/lang/Integer" (195 : Nat) "java/lang/Integer$IntegerCache" "cache" "[Ljava/lang/Integer;") ∈ lw_all := lw_g (lw_at lw_m4 168 rfl) rfl
theorem q947 : (Jvm.Cond.instantiable "java/lang/Integer" (1 : Nat)) ∈ lw_all := lw_g (lw_at lw_m4 170 rfl) rfl
theorem q948 : (Jvm.Cond.methodLink "java/lang/Integer" (199 : Nat) ({ cls := "java/lang/Integer", name := "<init>", desc := "(I)V" } : Jvm.MethodName)) ∈ lw_all := lw_g (lw_at lw_m4 171 rfl) rfl
theorem q949 : (Jvm.Cond.instanceMethod ({ cls := "java/lang/Integer", name := "<init>", desc := "(I)V" } : Jvm.MethodName)) ∈ lw_all := lw_g (lw_at lw_m4 172 rfl) rfl
theorem q950 : (Jvm.Cond.code ({ cls := "java/lang/Integer", name := "<init>", desc := "(I)V" } : Jvm.MethodName) prog_24_method_23_code (2 : Nat) (Option.none : Option Jvm.ClassFile.FieldType)) ∈ lw_all := lw_g (lw_at lw_m4 173 rfl) rfl
theorem q951 : (Jvm.Cond.methodLink "java/lang/Integer" (202 : Nat) ({ cls := "java/lang/Number", name := "<init>", desc := "()V" } : Jvm.MethodName)) ∈ lw_all := lw_g (lw_at lw_m4 174 rfl) rfl
theorem q955 : (Jvm.Cond.fieldLink "java/lang/Integer" (205 : Nat) "java/lang/Integer" "value" "I") ∈ lw_all := lw_g (lw_at lw_m4 178 rfl) rfl
theorem q956 : (Jvm.Cond.laysFinal "java/lang/Integer" "java/lang/Integer" "value" "I") ∈ lw_all := lw_g (lw_at lw_m4 179 rfl) rfl
theorem q957 : (Jvm.Cond.soleField "java/lang/Integer" "value") ∈ lw_all := lw_g (lw_at lw_m4 180 rfl) rfl
theorem q958 : (Jvm.Cond.superclass "java/lang/Integer" "java/lang/Number") ∈ lw_all := lw_g (lw_at lw_m4 181 rfl) rfl
theorem q1777 : (Jvm.Cond.castable "java/lang/Integer" "java/lang/Object") ∈ lw_tbl := lw_at lw_m8 40 rfl
theorem in_J17 : ∀ w ∈ wsJ170, w ∈ lw_all := lw_in wsJ170 [956] (by decide +kernel) (by decide +kernel)
/-! XactKernel$Process -/
def RX4 : String := "XactKernel$Process"
def TX4 : u_T := fun k => match k with
  | 0 => ("XactKernel$Process", "descriptors", "[LXactKernel$Descriptor;", true)
  | 1 => ("XactKernel$Process", "signals", "Ljava/util/List;", true)
  | 2 => ("XactKernel$Process", "transaction", "LXactKernel$Transaction;", false)
  | 3 => ("XactKernel$Process", "depth", "I", false)
  | _ => ("XactKernel$Process", "told", "Z", false)
def tyX4 : Nat → FieldType := fun k => match k with
  | 0 => .array (.object "XactKernel$Descriptor")
  | 1 => .object "java/util/List"
  | 2 => .object "XactKernel$Transaction"
  | 3 => .int
  | _ => .boolean
abbrev wsX40 : List Cond := u_ws RX4 TX4 5
theorem nmX4 : ∀ a, a < 5 → ∀ b, b < 5 → a ≠ b → (TX4 a).2.1 ≠ (TX4 b).2.1 := by decide +kernel
theorem tyX4_ok : ∀ k, k < 5 → parseFieldDescriptor (TX4 k).2.2.1 = some (tyX4 k) := by decide +kernel
abbrev cX4_init : ByteArray := prog_8_method_1_code
def yX4_init : MethodName := ⟨RX4, "<init>", "()V"⟩
abbrev cX4_free : ByteArray := prog_8_method_2_code
def yX4_free : MethodName := ⟨RX4, "free", "(I)I"⟩
theorem q80 : (Jvm.Cond.initialized "XactKernel$Process") ∈ lw_all := lw_g (lw_at lw_m1 23 rfl) rfl
theorem q474 : (Jvm.Cond.instantiable "XactKernel$Process" (5 : Nat)) ∈ lw_all := lw_g (lw_at lw_m2 177 rfl) rfl
theorem q476 : (Jvm.Cond.instanceMethod ({ cls := "XactKernel$Process", name := "<init>", desc := "()V" } : Jvm.MethodName)) ∈ lw_all := lw_g (lw_at lw_m2 179 rfl) rfl
theorem q477 : (Jvm.Cond.code ({ cls := "XactKernel$Process", name := "<init>", desc := "()V" } : Jvm.MethodName) prog_8_method_1_code (1 : Nat) (Option.none : Option Jvm.ClassFile.FieldType)) ∈ lw_all := lw_g (lw_at lw_m2 180 rfl) rfl
theorem q478 : (Jvm.Cond.methodLink "XactKernel$Process" (3 : Nat) ({ cls := "java/lang/Object", name := "<init>", desc := "()V" } : Jvm.MethodName)) ∈ lw_all := lw_g (lw_at lw_m2 181 rfl) rfl
theorem q479 : (Jvm.Cond.classLink "XactKernel$Process" (9 : Nat) "XactKernel$Descriptor") ∈ lw_all := lw_g (lw_at lw_m2 182 rfl) rfl
theorem q481 : (Jvm.Cond.classLink "XactKernel$Process" (17 : Nat) "java/util/ArrayList") ∈ lw_all := lw_g (lw_at lw_m2 184 rfl) rfl
theorem q482 : (Jvm.Cond.methodLink "XactKernel$Process" (19 : Nat) ({ cls := "java/util/ArrayList", name := "<init>", desc := "(I)V" } : Jvm.MethodName)) ∈ lw_all := lw_g (lw_at lw_m2 185 rfl) rfl
theorem q483 : (Jvm.Cond.fieldLink "XactKernel$Process" (11 : Nat) "XactKernel$Process" "descriptors" "[LXactKernel$Descriptor;") ∈ lw_all := lw_g (lw_at lw_m2 186 rfl) rfl
theorem q486 : (Jvm.Cond.fieldLink "XactKernel$Process" (22 : Nat) "XactKernel$Process" "signals" "Ljava/util/List;") ∈ lw_all := lw_g (lw_at lw_m2 189 rfl) rfl
theorem q491 : (Jvm.Cond.laysFinal "XactKernel$Process" "XactKernel$Process" "descriptors" "[LXactKernel$Descriptor;") ∈ lw_all := lw_g (lw_at lw_m2 194 rfl) rfl
theorem q492 : (Jvm.Cond.soleField "XactKernel$Process" "descriptors") ∈ lw_all := lw_g (lw_at lw_m2 195 rfl) rfl
theorem q493 : (Jvm.Cond.laysFinal "XactKernel$Process" "XactKernel$Process" "signals" "Ljava/util/List;") ∈ lw_all := lw_g (lw_at lw_m2 196 rfl) rfl
theorem q494 : (Jvm.Cond.soleField "XactKernel$Process" "signals") ∈ lw_all := lw_g (lw_at lw_m2 197 rfl) rfl
theorem q495 : (Jvm.Cond.lays "XactKernel$Process" "XactKernel$Process" "transaction" "LXactKernel$Transaction;") ∈ lw_all := lw_g (lw_at lw_m2 198 rfl) rfl
theorem q496 : (Jvm.Cond.soleField "XactKernel$Process" "transaction") ∈ lw_all := lw_g (lw_at lw_m2 199 rfl) rfl
theorem q497 : (Jvm.Cond.lays "XactKernel$Process" "XactKernel$Process" "depth" "I") ∈ lw_all := lw_g (lw_at lw_m2 200 rfl) rfl
theorem q498 : (Jvm.Cond.soleField "XactKernel$Process" "depth") ∈ lw_all := lw_g (lw_at lw_m2 201 rfl) rfl
theorem q499 : (Jvm.Cond.lays "XactKernel$Process" "XactKernel$Process" "told" "Z") ∈ lw_all := lw_g (lw_at lw_m2 202 rfl) rfl
theorem q500 : (Jvm.Cond.soleField "XactKernel$Process" "told") ∈ lw_all := lw_g (lw_at lw_m2 203 rfl) rfl
theorem q501 : (Jvm.Cond.superclass "XactKernel$Process" "java/lang/Object") ∈ lw_all := lw_g (lw_at lw_m2 204 rfl) rfl
theorem q713 : (Jvm.Cond.selects "XactKernel$Process" ({ cls := "java/lang/Object", name := "getClass", desc := "()Ljava/lang/Class;" } : Jvm.MethodName) ({ cls := "java/lang/Object", name := "getClass", desc := "()Ljava/lang/Class;" } : Jvm.MethodName)) ∈ lw_all := lw_g (lw_at lw_m3 176 rfl) rfl
theorem q796 : (Jvm.Cond.selects "XactKernel$Process" ({ cls := "java/lang/Object", name := "equals", desc := "(Ljava/lang/Object;)Z" } : Jvm.MethodName) ({ cls := "java/lang/Object", name := "equals", desc := "(Ljava/lang/Object;)Z" } : Jvm.MethodName)) ∈ lw_all := lw_g (lw_at lw_m4 19 rfl) rfl
theorem q1060 : (Jvm.Cond.instanceMethod ({ cls := "XactKernel$Process", name := "free", desc := "(I)I" } : Jvm.MethodName)) ∈ lw_all := lw_g (lw_at lw_m5 43 rfl) rfl
theorem q1061 : (Jvm.Cond.selects "XactKernel$Process" ({ cls := "XactKernel$Process", name := "free", desc := "(I)I" } : Jvm.MethodName) ({ cls := "XactKernel$Process", name := "free", desc := "(I)I" } : Jvm.MethodName)) ∈ lw_all := lw_g (lw_at lw_m5 44 rfl) rfl
theorem q1062 : (Jvm.Cond.code ({ cls := "XactKernel$Process", name := "free", desc := "(I)I" } : Jvm.MethodName) prog_8_method_2_code (3 : Nat) (Option.some Jvm.ClassFile.FieldType.int)) ∈ lw_all := lw_g (lw_at lw_m5 45 rfl) rfl
theorem q1755 : (Jvm.Cond.castable "XactKernel$Process" "java/lang/Object") ∈ lw_tbl := lw_at lw_m8 18 rfl
theorem in_X4 : ∀ w ∈ wsX40, w ∈ lw_all := lw_in wsX40 [491, 493, 495, 497, 499] (by decide +kernel) (by decide +kernel)
/-! XactKernelModel -/
def RX5 : String := "XactKernelModel"
def TX5 : u_T := fun k => match k with
  | 0 => ("XactKernelModel", "kind", "[I", true)
  | 1 => ("XactKernelModel", "many", "[I", true)
  | 2 => ("XactKernelModel", "links", "[I", true)
  | 3 => ("XactKernelModel", "value", "[I", true)
  | 4 => ("XactKernelModel", "names", "[I", true)
  | 5 => ("XactKernelModel", "wrote", "[Z", true)
  | 6 => ("XactKernelModel", "seen", "[Z", true)
  | 7 => ("XactKernelModel", "fresh", "[Z", true)
  | 8 => ("XactKernelModel", "there", "[Z", true)
  | 9 => ("XactKernelModel", "goes", "[Z", true)
  | 10 => ("XactKernelModel", "told", "[Z", true)
  | 11 => ("XactKernelModel", "deep", "[I", true)
  | 12 => ("XactKernelModel", "age", "[I", true)
  | 13 => ("XactKernelModel", "signals", "[I", true)
  | 14 => ("XactKernelModel", "signalMany", "[I", true)
  | 15 => ("XactKernelModel", "pending", "[I", true)
  | 16 => ("XactKernelModel", "pendingTo", "[I", true)
  | 17 => ("XactKernelModel", "pendingMany", "[I", true)
  | 18 => ("XactKernelModel", "item", "[I", true)
  | 19 => ("XactKernelModel", "place", "[I", true)
  | 20 => ("XactKernelModel", "oldItem", "[I", true)
  | 21 => ("XactKernelModel", "oldPlace", "[I", true)
  | 22 => ("XactKernelModel", "counts", "[I", true)
  | 23 => ("XactKernelModel", "clock", "I", false)
  | 24 => ("XactKernelModel", "log", "I", false)
  | 25 => ("XactKernelModel", "cut", "I", false)
  | 26 => ("XactKernelModel", "thrown", "I", false)
  | 27 => ("XactKernelModel", "holder", "I", false)
  | 28 => ("XactKernelModel", "name", "I", false)
  | 29 => ("XactKernelModel", "found", "I", false)
  | _ => ("XactKernelModel", "alone", "Z", false)
def tyX5 : Nat → FieldType := fun k => match k with
  | 0 => .array .int
  | 1 => .array .int
  | 2 => .array .int
  | 3 => .array .int
  | 4 => .array .int
  | 5 => .array .boolean
  | 6 => .array .boolean
  | 7 => .array .boolean
  | 8 => .array .boolean
  | 9 => .array .boolean
  | 10 => .array .boolean
  | 11 => .array .int
  | 12 => .array .int
  | 13 => .array .int
  | 14 => .array .int
  | 15 => .array .int
  | 16 => .array .int
  | 17 => .array .int
  | 18 => .array .int
  | 19 => .array .int
  | 20 => .array .int
  | 21 => .array .int
  | 22 => .array .int
  | 23 => .int
  | 24 => .int
  | 25 => .int
  | 26 => .int
  | 27 => .int
  | 28 => .int
  | 29 => .int
  | _ => .boolean
abbrev wsX50 : List Cond := u_ws RX5 TX5 31
theorem nmX5 : ∀ a, a < 31 → ∀ b, b < 31 → a ≠ b → (TX5 a).2.1 ≠ (TX5 b).2.1 := by decide +kernel
theorem tyX5_ok : ∀ k, k < 31 → parseFieldDescriptor (TX5 k).2.2.1 = some (tyX5 k) := by decide +kernel
abbrev cX5_init : ByteArray := prog_12_method_1_code
def yX5_init : MethodName := ⟨RX5, "<init>", "()V"⟩
abbrev cX5_thrown : ByteArray := prog_12_method_4_code
def yX5_thrown : MethodName := ⟨RX5, "thrown", "()I"⟩
abbrev cX5_begin : ByteArray := prog_12_method_31_code
def yX5_begin : MethodName := ⟨RX5, "begin", "(I)I"⟩
abbrev cX5_isProcess : ByteArray := prog_12_method_21_code
def yX5_isProcess : MethodName := ⟨RX5, "isProcess", "(I)Z"⟩
abbrev cX5_is : ByteArray := prog_12_method_2_code
def yX5_is : MethodName := ⟨RX5, "is", "(III)Z"⟩
abbrev cX5_refuse : ByteArray := prog_12_method_3_code
def yX5_refuse : MethodName := ⟨RX5, "refuse", "(I)I"⟩
abbrev cX5_enter : ByteArray := prog_12_method_16_code
def yX5_enter : MethodName := ⟨RX5, "enter", "(I)Z"⟩
abbrev cX5_end : ByteArray := prog_12_method_33_code
def yX5_end : MethodName := ⟨RX5, "end", "(I)I"⟩
abbrev cX5_plain : ByteArray := prog_12_method_32_code
def yX5_plain : MethodName := ⟨RX5, "plain", "(I)Z"⟩
abbrev cX5_done : ByteArray := prog_12_method_18_code
def yX5_done : MethodName := ⟨RX5, "done", "(IIII)I"⟩
abbrev cX5_finish : ByteArray := prog_12_method_19_code
def yX5_finish : MethodName := ⟨RX5, "finish", "(I)I"⟩
abbrev cX5_aborted : ByteArray := prog_12_method_8_code
def yX5_aborted : MethodName := ⟨RX5, "aborted", "(I)V"⟩
abbrev cX5_drop : ByteArray := prog_12_method_7_code
def yX5_drop : MethodName := ⟨RX5, "drop", "(I)V"⟩
abbrev cX5_copy : ByteArray := prog_12_method_6_code
def yX5_copy : MethodName := ⟨RX5, "copy", "(II)V"⟩
abbrev cX5_send : ByteArray := prog_12_method_20_code
def yX5_send : MethodName := ⟨RX5, "send", "(II)V"⟩
abbrev cX5_sweep : ByteArray := prog_12_method_15_code
def yX5_sweep : MethodName := ⟨RX5, "sweep", "()V"⟩
abbrev cX5_isNamed : ByteArray := prog_12_method_14_code
def yX5_isNamed : MethodName := ⟨RX5, "isNamed", "(I)Z"⟩
abbrev cX5_open : ByteArray := prog_12_method_35_code
def yX5_open : MethodName := ⟨RX5, "open", "(III)I"⟩
abbrev cX5_isPath : ByteArray := prog_12_method_23_code
def yX5_isPath : MethodName := ⟨RX5, "isPath", "(I)Z"⟩
abbrev cX5_toHolder : ByteArray := prog_12_method_27_code
def yX5_toHolder : MethodName := ⟨RX5, "toHolder", "(IIII)I"⟩
abbrev cX5_length : ByteArray := prog_12_method_24_code
def yX5_length : MethodName := ⟨RX5, "length", "(I)I"⟩
abbrev cX5_walk : ByteArray := prog_12_method_26_code
def yX5_walk : MethodName := ⟨RX5, "walk", "(IIIII)I"⟩
abbrev cX5_reads : ByteArray := prog_12_method_10_code
def yX5_reads : MethodName := ⟨RX5, "reads", "(II)Z"⟩
abbrev cX5_meet : ByteArray := prog_12_method_9_code
def yX5_meet : MethodName := ⟨RX5, "meet", "(IIZ)Z"⟩
abbrev cX5_of : ByteArray := prog_12_method_5_code
def yX5_of : MethodName := ⟨RX5, "of", "(II)I"⟩
abbrev cX5_under : ByteArray := prog_12_method_25_code
def yX5_under : MethodName := ⟨RX5, "under", "(III)I"⟩
abbrev cX5_fail : ByteArray := prog_12_method_17_code
def yX5_fail : MethodName := ⟨RX5, "fail", "(II)I"⟩
abbrev cX5_freeDescriptor : ByteArray := prog_12_method_30_code
def yX5_freeDescriptor : MethodName := ⟨RX5, "freeDescriptor", "(II)I"⟩
abbrev cX5_make : ByteArray := prog_12_method_34_code
def yX5_make : MethodName := ⟨RX5, "make", "(II)I"⟩
abbrev cX5_spare : ByteArray := prog_12_method_12_code
def yX5_spare : MethodName := ⟨RX5, "spare", "(II)I"⟩
abbrev cX5_writes : ByteArray := prog_12_method_11_code
def yX5_writes : MethodName := ⟨RX5, "writes", "(II)Z"⟩
abbrev cX5_create : ByteArray := prog_12_method_13_code
def yX5_create : MethodName := ⟨RX5, "create", "(III)I"⟩
abbrev cX5_append : ByteArray := prog_12_method_28_code
def yX5_append : MethodName := ⟨RX5, "append", "(IIII)V"⟩
abbrev cX5_close : ByteArray := prog_12_method_36_code
def yX5_close : MethodName := ⟨RX5, "close", "(II)I"⟩
abbrev cX5_isHeld : ByteArray := prog_12_method_22_code
def yX5_isHeld : MethodName := ⟨RX5, "isHeld", "(II)Z"⟩
abbrev cX5_read : ByteArray := prog_12_method_37_code
def yX5_read : MethodName := ⟨RX5, "read", "(II)I"⟩
abbrev cX5_write : ByteArray := prog_12_method_38_code
def yX5_write : MethodName := ⟨RX5, "write", "(III)I"⟩
abbrev cX5_seek : ByteArray := prog_12_method_39_code
def yX5_seek : MethodName := ⟨RX5, "seek", "(III)I"⟩
abbrev cX5_truncate : ByteArray := prog_12_method_40_code
def yX5_truncate : MethodName := ⟨RX5, "truncate", "(III)I"⟩
abbrev cX5_directory : ByteArray := prog_12_method_41_code
def yX5_directory : MethodName := ⟨RX5, "directory", "(II)I"⟩
abbrev cX5_link : ByteArray := prog_12_method_42_code
def yX5_link : MethodName := ⟨RX5, "link", "(III)I"⟩
abbrev cX5_unlink : ByteArray := prog_12_method_43_code
def yX5_unlink : MethodName := ⟨RX5, "unlink", "(II)I"⟩
abbrev cX5_remove : ByteArray := prog_12_method_29_code
def yX5_remove : MethodName := ⟨RX5, "remove", "(III)V"⟩
abbrev cX5_rename : ByteArray := prog_12_method_44_code
def yX5_rename : MethodName := ⟨RX5, "rename", "(III)I"⟩
abbrev cX5_size : ByteArray := prog_12_method_45_code
def yX5_size : MethodName := ⟨RX5, "size", "(II)I"⟩
abbrev cX5_pipe : ByteArray := prog_12_method_46_code
def yX5_pipe : MethodName := ⟨RX5, "pipe", "(I)I"⟩
abbrev cX5_abort : ByteArray := prog_12_method_47_code
def yX5_abort : MethodName := ⟨RX5, "abort", "(I)I"⟩
abbrev cX5_fork : ByteArray := prog_12_method_48_code
def yX5_fork : MethodName := ⟨RX5, "fork", "(I)I"⟩
abbrev cX5_exit : ByteArray := prog_12_method_49_code
def yX5_exit : MethodName := ⟨RX5, "exit", "(I)I"⟩
abbrev cX5_processes : ByteArray := prog_12_method_50_code
def yX5_processes : MethodName := ⟨RX5, "processes", "()I"⟩
abbrev cX5_signal : ByteArray := prog_12_method_51_code
def yX5_signal : MethodName := ⟨RX5, "signal", "(III)I"⟩
abbrev cX5_take : ByteArray := prog_12_method_52_code
def yX5_take : MethodName := ⟨RX5, "take", "(I)I"⟩
abbrev cX5_log : ByteArray := prog_12_method_53_code
def yX5_log : MethodName := ⟨RX5, "log", "(I)I"⟩
abbrev cX5_cut : ByteArray := prog_12_method_54_code
def yX5_cut : MethodName := ⟨RX5, "cut", "(I)I"⟩
abbrev cX5_item : ByteArray := prog_12_method_55_code
def yX5_item : MethodName := ⟨RX5, "item", "(II)I"⟩
abbrev cX5_cell : ByteArray := prog_12_method_56_code
def yX5_cell : MethodName := ⟨RX5, "cell", "(II)I"⟩
abbrev cX5_look : ByteArray := prog_12_method_57_code
def yX5_look : MethodName := ⟨RX5, "look", "(II)I"⟩
abbrev cX5_count : ByteArray := prog_12_method_58_code
def yX5_count : MethodName := ⟨RX5, "count", "(I)I"⟩
theorem q81 : (Jvm.Cond.initialized "XactKernelModel") ∈ lw_all := lw_g (lw_at lw_m1 24 rfl) rfl
theorem q716 : (Jvm.Cond.selects "XactKernelModel" ({ cls := "java/lang/Object", name := "getClass", desc := "()Ljava/lang/Class;" } : Jvm.MethodName) ({ cls := "java/lang/Object", name := "getClass", desc := "()Ljava/lang/Class;" } : Jvm.MethodName)) ∈ lw_all := lw_g (lw_at lw_m3 179 rfl) rfl
theorem q799 : (Jvm.Cond.selects "XactKernelModel" ({ cls := "java/lang/Object", name := "equals", desc := "(Ljava/lang/Object;)Z" } : Jvm.MethodName) ({ cls := "java/lang/Object", name := "equals", desc := "(Ljava/lang/Object;)Z" } : Jvm.MethodName)) ∈ lw_all := lw_g (lw_at lw_m4 22 rfl) rfl
theorem q1419 : (Jvm.Cond.instantiable "XactKernelModel" (31 : Nat)) ∈ lw_all := lw_g (lw_at lw_m6 162 rfl) rfl
theorem q1421 : (Jvm.Cond.instanceMethod ({ cls := "XactKernelModel", name := "<init>", desc := "()V" } : Jvm.MethodName)) ∈ lw_all := lw_g (lw_at lw_m6 164 rfl) rfl
theorem q1422 : (Jvm.Cond.code ({ cls := "XactKernelModel", name := "<init>", desc := "()V" } : Jvm.MethodName) prog_12_method_1_code (2 : Nat) (Option.none : Option Jvm.ClassFile.FieldType)) ∈ lw_all := lw_g (lw_at lw_m6 165 rfl) rfl
theorem q1423 : (Jvm.Cond.methodLink "XactKernelModel" (1 : Nat) ({ cls := "java/lang/Object", name := "<init>", desc := "()V" } : Jvm.MethodName)) ∈ lw_all := lw_g (lw_at lw_m6 166 rfl) rfl
theorem q1424 : (Jvm.Cond.fieldLink "XactKernelModel" (7 : Nat) "XactKernelModel" "kind" "[I") ∈ lw_all := lw_g (lw_at lw_m6 167 rfl) rfl
theorem q1425 : (Jvm.Cond.fieldLink "XactKernelModel" (13 : Nat) "XactKernelModel" "many" "[I") ∈ lw_all := lw_g (lw_at lw_m6 168 rfl) rfl
theorem q1426 : (Jvm.Cond.fieldLink "XactKernelModel" (16 : Nat) "XactKernelModel" "links" "[I") ∈ lw_all := lw_g (lw_at lw_m6 169 rfl) rfl
theorem q1427 : (Jvm.Cond.fieldLink "XactKernelModel" (19 : Nat) "XactKernelModel" "value" "[I") ∈ lw_all := lw_g (lw_at lw_m6 170 rfl) rfl
theorem q1428 : (Jvm.Cond.fieldLink "XactKernelModel" (22 : Nat) "XactKernelModel" "names" "[I") ∈ lw_all := lw_g (lw_at lw_m6 171 rfl) rfl
theorem q1429 : (Jvm.Cond.fieldLink "XactKernelModel" (25 : Nat) "XactKernelModel" "wrote" "[Z") ∈ lw_all := lw_g (lw_at lw_m6 172 rfl) rfl
theorem q1430 : (Jvm.Cond.fieldLink "XactKernelModel" (29 : Nat) "XactKernelModel" "seen" "[Z") ∈ lw_all := lw_g (lw_at lw_m6 173 rfl) rfl
theorem q1431 : (Jvm.Cond.fieldLink "XactKernelModel" (32 : Nat) "XactKernelModel" "fresh" "[Z") ∈ lw_all := lw_g (lw_at lw_m6 174 rfl) rfl
theorem q1432 : (Jvm.Cond.fieldLink "XactKernelModel" (35 : Nat) "XactKernelModel" "there" "[Z") ∈ lw_all := lw_g (lw_at lw_m6 175 rfl) rfl
theorem q1433 : (Jvm.Cond.fieldLink "XactKernelModel" (38 : Nat) "XactKernelModel" "goes" "[Z") ∈ lw_all := lw_g (lw_at lw_m6 176 rfl) rfl
theorem q1434 : (Jvm.Cond.fieldLink "XactKernelModel" (41 : Nat) "XactKernelModel" "told" "[Z") ∈ lw_all := lw_g (lw_at lw_m6 177 rfl) rfl
theorem q1435 : (Jvm.Cond.fieldLink "XactKernelModel" (44 : Nat) "XactKernelModel" "deep" "[I") ∈ lw_all := lw_g (lw_at lw_m6 178 rfl) rfl
theorem q1436 : (Jvm.Cond.fieldLink "XactKernelModel" (47 : Nat) "XactKernelModel" "age" "[I") ∈ lw_all := lw_g (lw_at lw_m6 179 rfl) rfl
theorem q1437 : (Jvm.Cond.fieldLink "XactKernelModel" (50 : Nat) "XactKernelModel" "signals" "[I") ∈ lw_all := lw_g (lw_at lw_m6 180 rfl) rfl
theorem q1438 : (Jvm.Cond.fieldLink "XactKernelModel" (53 : Nat) "XactKernelModel" "signalMany" "[I") ∈ lw_all := lw_g (lw_at lw_m6 181 rfl) rfl
theorem q1439 : (Jvm.Cond.fieldLink "XactKernelModel" (56 : Nat) "XactKernelModel" "pending" "[I") ∈ lw_all := lw_g (lw_at lw_m6 182 rfl) rfl
theorem q1440 : (Jvm.Cond.fieldLink "XactKernelModel" (59 : Nat) "XactKernelModel" "pendingTo" "[I") ∈ lw_all := lw_g (lw_at lw_m6 183 rfl) rfl
theorem q1441 : (Jvm.Cond.fieldLink "XactKernelModel" (62 : Nat) "XactKernelModel" "pendingMany" "[I") ∈ lw_all := lw_g (lw_at lw_m6 184 rfl) rfl
theorem q1442 : (Jvm.Cond.fieldLink "XactKernelModel" (65 : Nat) "XactKernelModel" "item" "[I") ∈ lw_all := lw_g (lw_at lw_m6 185 rfl) rfl
theorem q1443 : (Jvm.Cond.fieldLink "XactKernelModel" (68 : Nat) "XactKernelModel" "place" "[I") ∈ lw_all := lw_g (lw_at lw_m6 186 rfl) rfl
theorem q1444 : (Jvm.Cond.fieldLink "XactKernelModel" (71 : Nat) "XactKernelModel" "oldItem" "[I") ∈ lw_all := lw_g (lw_at lw_m6 187 rfl) rfl
theorem q1445 : (Jvm.Cond.fieldLink "XactKernelModel" (74 : Nat) "XactKernelModel" "oldPlace" "[I") ∈ lw_all := lw_g (lw_at lw_m6 188 rfl) rfl
theorem q1446 : (Jvm.Cond.fieldLink "XactKernelModel" (77 : Nat) "XactKernelModel" "counts" "[I") ∈ lw_all := lw_g (lw_at lw_m6 189 rfl) rfl
theorem q1447 : (Jvm.Cond.fieldLink "XactKernelModel" (113 : Nat) "XactKernelModel" "clock" "I") ∈ lw_all := lw_g (lw_at lw_m6 190 rfl) rfl
theorem q1448 : (Jvm.Cond.fieldLink "XactKernelModel" (80 : Nat) "XactKernelModel" "log" "I") ∈ lw_all := lw_g (lw_at lw_m6 191 rfl) rfl
theorem q1449 : (Jvm.Cond.fieldLink "XactKernelModel" (84 : Nat) "XactKernelModel" "cut" "I") ∈ lw_all := lw_g (lw_at lw_m6 192 rfl) rfl
theorem q1450 : (Jvm.Cond.fieldLink "XactKernelModel" (87 : Nat) "XactKernelModel" "thrown" "I") ∈ lw_all := lw_g (lw_at lw_m6 193 rfl) rfl
theorem q1451 : (Jvm.Cond.fieldLink "XactKernelModel" (155 : Nat) "XactKernelModel" "holder" "I") ∈ lw_all := lw_g (lw_at lw_m6 194 rfl) rfl
theorem q1452 : (Jvm.Cond.fieldLink "XactKernelModel" (158 : Nat) "XactKernelModel" "name" "I") ∈ lw_all := lw_g (lw_at lw_m6 195 rfl) rfl
theorem q1453 : (Jvm.Cond.fieldLink "XactKernelModel" (137 : Nat) "XactKernelModel" "found" "I") ∈ lw_all := lw_g (lw_at lw_m6 196 rfl) rfl
theorem q1454 : (Jvm.Cond.fieldLink "XactKernelModel" (109 : Nat) "XactKernelModel" "alone" "Z") ∈ lw_all := lw_g (lw_at lw_m6 197 rfl) rfl
theorem q1455 : (Jvm.Cond.laysFinal "XactKernelModel" "XactKernelModel" "kind" "[I") ∈ lw_all := lw_g (lw_at lw_m6 198 rfl) rfl
theorem q1456 : (Jvm.Cond.soleField "XactKernelModel" "kind") ∈ lw_all := lw_g (lw_at lw_m6 199 rfl) rfl
theorem q1457 : (Jvm.Cond.laysFinal "XactKernelModel" "XactKernelModel" "many" "[I") ∈ lw_all := lw_g (lw_at lw_m6 200 rfl) rfl
theorem q1458 : (Jvm.Cond.soleField "XactKernelModel" "many") ∈ lw_all := lw_g (lw_at lw_m6 201 rfl) rfl
theorem q1459 : (Jvm.Cond.laysFinal "XactKernelModel" "XactKernelModel" "links" "[I") ∈ lw_all := lw_g (lw_at lw_m6 202 rfl) rfl
theorem q1460 : (Jvm.Cond.soleField "XactKernelModel" "links") ∈ lw_all := lw_g (lw_at lw_m6 203 rfl) rfl
theorem q1461 : (Jvm.Cond.laysFinal "XactKernelModel" "XactKernelModel" "value" "[I") ∈ lw_all := lw_g (lw_at lw_m6 204 rfl) rfl
theorem q1462 : (Jvm.Cond.soleField "XactKernelModel" "value") ∈ lw_all := lw_g (lw_at lw_m6 205 rfl) rfl
theorem q1463 : (Jvm.Cond.laysFinal "XactKernelModel" "XactKernelModel" "names" "[I") ∈ lw_all := lw_g (lw_at lw_m6 206 rfl) rfl
theorem q1464 : (Jvm.Cond.soleField "XactKernelModel" "names") ∈ lw_all := lw_g (lw_at lw_m6 207 rfl) rfl
theorem q1465 : (Jvm.Cond.laysFinal "XactKernelModel" "XactKernelModel" "wrote" "[Z") ∈ lw_all := lw_g (lw_at lw_m6 208 rfl) rfl
theorem q1466 : (Jvm.Cond.soleField "XactKernelModel" "wrote") ∈ lw_all := lw_g (lw_at lw_m6 209 rfl) rfl
theorem q1467 : (Jvm.Cond.laysFinal "XactKernelModel" "XactKernelModel" "seen" "[Z") ∈ lw_all := lw_g (lw_at lw_m6 210 rfl) rfl
theorem q1468 : (Jvm.Cond.soleField "XactKernelModel" "seen") ∈ lw_all := lw_g (lw_at lw_m6 211 rfl) rfl
theorem q1469 : (Jvm.Cond.laysFinal "XactKernelModel" "XactKernelModel" "fresh" "[Z") ∈ lw_all := lw_g (lw_at lw_m6 212 rfl) rfl
theorem q1470 : (Jvm.Cond.soleField "XactKernelModel" "fresh") ∈ lw_all := lw_g (lw_at lw_m6 213 rfl) rfl
theorem q1471 : (Jvm.Cond.laysFinal "XactKernelModel" "XactKernelModel" "there" "[Z") ∈ lw_all := lw_g (lw_at lw_m6 214 rfl) rfl
theorem q1472 : (Jvm.Cond.soleField "XactKernelModel" "there") ∈ lw_all := lw_g (lw_at lw_m6 215 rfl) rfl
theorem q1473 : (Jvm.Cond.laysFinal "XactKernelModel" "XactKernelModel" "goes" "[Z") ∈ lw_all := lw_g (lw_at lw_m6 216 rfl) rfl
theorem q1474 : (Jvm.Cond.soleField "XactKernelModel" "goes") ∈ lw_all := lw_g (lw_at lw_m6 217 rfl) rfl
theorem q1475 : (Jvm.Cond.laysFinal "XactKernelModel" "XactKernelModel" "told" "[Z") ∈ lw_all := lw_g (lw_at lw_m6 218 rfl) rfl
theorem q1476 : (Jvm.Cond.soleField "XactKernelModel" "told") ∈ lw_all := lw_g (lw_at lw_m6 219 rfl) rfl
theorem q1477 : (Jvm.Cond.laysFinal "XactKernelModel" "XactKernelModel" "deep" "[I") ∈ lw_all := lw_g (lw_at lw_m6 220 rfl) rfl
theorem q1478 : (Jvm.Cond.soleField "XactKernelModel" "deep") ∈ lw_all := lw_g (lw_at lw_m6 221 rfl) rfl
theorem q1479 : (Jvm.Cond.laysFinal "XactKernelModel" "XactKernelModel" "age" "[I") ∈ lw_all := lw_g (lw_at lw_m6 222 rfl) rfl
theorem q1480 : (Jvm.Cond.soleField "XactKernelModel" "age") ∈ lw_all := lw_g (lw_at lw_m6 223 rfl) rfl
theorem q1481 : (Jvm.Cond.laysFinal "XactKernelModel" "XactKernelModel" "signals" "[I") ∈ lw_all := lw_g (lw_at lw_m6 224 rfl) rfl
theorem q1482 : (Jvm.Cond.soleField "XactKernelModel" "signals") ∈ lw_all := lw_g (lw_at lw_m6 225 rfl) rfl
theorem q1483 : (Jvm.Cond.laysFinal "XactKernelModel" "XactKernelModel" "signalMany" "[I") ∈ lw_all := lw_g (lw_at lw_m6 226 rfl) rfl
theorem q1484 : (Jvm.Cond.soleField "XactKernelModel" "signalMany") ∈ lw_all := lw_g (lw_at lw_m6 227 rfl) rfl
theorem q1485 : (Jvm.Cond.laysFinal "XactKernelModel" "XactKernelModel" "pending" "[I") ∈ lw_all := lw_g (lw_at lw_m6 228 rfl) rfl
theorem q1486 : (Jvm.Cond.soleField "XactKernelModel" "pending") ∈ lw_all := lw_g (lw_at lw_m6 229 rfl) rfl
theorem q1487 : (Jvm.Cond.laysFinal "XactKernelModel" "XactKernelModel" "pendingTo" "[I") ∈ lw_all := lw_g (lw_at lw_m6 230 rfl) rfl
theorem q1488 : (Jvm.Cond.soleField "XactKernelModel" "pendingTo") ∈ lw_all := lw_g (lw_at lw_m6 231 rfl) rfl
theorem q1489 : (Jvm.Cond.laysFinal "XactKernelModel" "XactKernelModel" "pendingMany" "[I") ∈ lw_all := lw_g (lw_at lw_m6 232 rfl) rfl
theorem q1490 : (Jvm.Cond.soleField "XactKernelModel" "pendingMany") ∈ lw_all := lw_g (lw_at lw_m6 233 rfl) rfl
theorem q1491 : (Jvm.Cond.laysFinal "XactKernelModel" "XactKernelModel" "item" "[I") ∈ lw_all := lw_g (lw_at lw_m6 234 rfl) rfl
theorem q1492 : (Jvm.Cond.soleField "XactKernelModel" "item") ∈ lw_all := lw_g (lw_at lw_m6 235 rfl) rfl
theorem q1493 : (Jvm.Cond.laysFinal "XactKernelModel" "XactKernelModel" "place" "[I") ∈ lw_all := lw_g (lw_at lw_m6 236 rfl) rfl
theorem q1494 : (Jvm.Cond.soleField "XactKernelModel" "place") ∈ lw_all := lw_g (lw_at lw_m6 237 rfl) rfl
theorem q1495 : (Jvm.Cond.laysFinal "XactKernelModel" "XactKernelModel" "oldItem" "[I") ∈ lw_all := lw_g (lw_at lw_m6 238 rfl) rfl
theorem q1496 : (Jvm.Cond.soleField "XactKernelModel" "oldItem") ∈ lw_all := lw_g (lw_at lw_m6 239 rfl) rfl
theorem q1497 : (Jvm.Cond.laysFinal "XactKernelModel" "XactKernelModel" "oldPlace" "[I") ∈ lw_all := lw_g (lw_at lw_m7 0 rfl) rfl
theorem q1498 : (Jvm.Cond.soleField "XactKernelModel" "oldPlace") ∈ lw_all := lw_g (lw_at lw_m7 1 rfl) rfl
theorem q1499 : (Jvm.Cond.laysFinal "XactKernelModel" "XactKernelModel" "counts" "[I") ∈ lw_all := lw_g (lw_at lw_m7 2 rfl) rfl
theorem q1500 : (Jvm.Cond.soleField "XactKernelModel" "counts") ∈ lw_all := lw_g (lw_at lw_m7 3 rfl) rfl
theorem q1501 : (Jvm.Cond.lays "XactKernelModel" "XactKernelModel" "clock" "I") ∈ lw_all := lw_g (lw_at lw_m7 4 rfl) rfl
theorem q1502 : (Jvm.Cond.soleField "XactKernelModel" "clock") ∈ lw_all := lw_g (lw_at lw_m7 5 rfl) rfl
theorem q1503 : (Jvm.Cond.lays "XactKernelModel" "XactKernelModel" "log" "I") ∈ lw_all := lw_g (lw_at lw_m7 6 rfl) rfl
theorem q1504 : (Jvm.Cond.soleField "XactKernelModel" "log") ∈ lw_all := lw_g (lw_at lw_m7 7 rfl) rfl
theorem q1505 : (Jvm.Cond.lays "XactKernelModel" "XactKernelModel" "cut" "I") ∈ lw_all := lw_g (lw_at lw_m7 8 rfl) rfl
theorem q1506 : (Jvm.Cond.soleField "XactKernelModel" "cut") ∈ lw_all := lw_g (lw_at lw_m7 9 rfl) rfl
theorem q1507 : (Jvm.Cond.lays "XactKernelModel" "XactKernelModel" "thrown" "I") ∈ lw_all := lw_g (lw_at lw_m7 10 rfl) rfl
theorem q1508 : (Jvm.Cond.soleField "XactKernelModel" "thrown") ∈ lw_all := lw_g (lw_at lw_m7 11 rfl) rfl
theorem q1509 : (Jvm.Cond.lays "XactKernelModel" "XactKernelModel" "holder" "I") ∈ lw_all := lw_g (lw_at lw_m7 12 rfl) rfl
theorem q1510 : (Jvm.Cond.soleField "XactKernelModel" "holder") ∈ lw_all := lw_g (lw_at lw_m7 13 rfl) rfl
theorem q1511 : (Jvm.Cond.lays "XactKernelModel" "XactKernelModel" "name" "I") ∈ lw_all := lw_g (lw_at lw_m7 14 rfl) rfl
theorem q1512 : (Jvm.Cond.soleField "XactKernelModel" "name") ∈ lw_all := lw_g (lw_at lw_m7 15 rfl) rfl
theorem q1513 : (Jvm.Cond.lays "XactKernelModel" "XactKernelModel" "found" "I") ∈ lw_all := lw_g (lw_at lw_m7 16 rfl) rfl
theorem q1514 : (Jvm.Cond.soleField "XactKernelModel" "found") ∈ lw_all := lw_g (lw_at lw_m7 17 rfl) rfl
theorem q1515 : (Jvm.Cond.lays "XactKernelModel" "XactKernelModel" "alone" "Z") ∈ lw_all := lw_g (lw_at lw_m7 18 rfl) rfl
theorem q1516 : (Jvm.Cond.soleField "XactKernelModel" "alone") ∈ lw_all := lw_g (lw_at lw_m7 19 rfl) rfl
theorem q1517 : (Jvm.Cond.superclass "XactKernelModel" "java/lang/Object") ∈ lw_all := lw_g (lw_at lw_m7 20 rfl) rfl
theorem q1519 : (Jvm.Cond.instanceMethod ({ cls := "XactKernelModel", name := "thrown", desc := "()I" } : Jvm.MethodName)) ∈ lw_all := lw_g (lw_at lw_m7 22 rfl) rfl
theorem q1520 : (Jvm.Cond.selects "XactKernelModel" ({ cls := "XactKernelModel", name := "thrown", desc := "()I" } : Jvm.MethodName) ({ cls := "XactKernelModel", name := "thrown", desc := "()I" } : Jvm.MethodName)) ∈ lw_all := lw_g (lw_at lw_m7 23 rfl) rfl
theorem q1521 : (Jvm.Cond.code ({ cls := "XactKernelModel", name := "thrown", desc := "()I" } : Jvm.MethodName) prog_12_method_4_code (1 : Nat) (Option.some Jvm.ClassFile.FieldType.int)) ∈ lw_all := lw_g (lw_at lw_m7 24 rfl) rfl
theorem q1523 : (Jvm.Cond.instanceMethod ({ cls := "XactKernelModel", name := "begin", desc := "(I)I" } : Jvm.MethodName)) ∈ lw_all := lw_g (lw_at lw_m7 26 rfl) rfl
theorem q1524 : (Jvm.Cond.selects "XactKernelModel" ({ cls := "XactKernelModel", name := "begin", desc := "(I)I" } : Jvm.MethodName) ({ cls := "XactKernelModel", name := "begin", desc := "(I)I" } : Jvm.MethodName)) ∈ lw_all := lw_g (lw_at lw_m7 27 rfl) rfl
theorem q1525 : (Jvm.Cond.code ({ cls := "XactKernelModel", name := "begin", desc := "(I)I" } : Jvm.MethodName) prog_12_method_31_code (3 : Nat) (Option.some Jvm.ClassFile.FieldType.int)) ∈ lw_all := lw_g (lw_at lw_m7 28 rfl) rfl
theorem q1526 : (Jvm.Cond.methodLink "XactKernelModel" (130 : Nat) ({ cls := "XactKernelModel", name := "isProcess", desc := "(I)Z" } : Jvm.MethodName)) ∈ lw_all := lw_g (lw_at lw_m7 29 rfl) rfl
theorem q1527 : (Jvm.Cond.privateMethod ({ cls := "XactKernelModel", name := "isProcess", desc := "(I)Z" } : Jvm.MethodName)) ∈ lw_tbl := lw_at lw_m7 30 rfl
theorem q1528 : (Jvm.Cond.instanceMethod ({ cls := "XactKernelModel", name := "isProcess", desc := "(I)Z" } : Jvm.MethodName)) ∈ lw_all := lw_g (lw_at lw_m7 31 rfl) rfl
theorem q1529 : (Jvm.Cond.code ({ cls := "XactKernelModel", name := "isProcess", desc := "(I)Z" } : Jvm.MethodName) prog_12_method_21_code (2 : Nat) (Option.some Jvm.ClassFile.FieldType.boolean)) ∈ lw_all := lw_g (lw_at lw_m7 32 rfl) rfl
theorem q1530 : (Jvm.Cond.methodLink "XactKernelModel" (126 : Nat) ({ cls := "XactKernelModel", name := "is", desc := "(III)Z" } : Jvm.MethodName)) ∈ lw_all := lw_g (lw_at lw_m7 33 rfl) rfl
theorem q1531 : (Jvm.Cond.static ({ cls := "XactKernelModel", name := "is", desc := "(III)Z" } : Jvm.MethodName)) ∈ lw_all := lw_g (lw_at lw_m7 34 rfl) rfl
theorem q1532 : (Jvm.Cond.code ({ cls := "XactKernelModel", name := "is", desc := "(III)Z" } : Jvm.MethodName) prog_12_method_2_code (3 : Nat) (Option.some Jvm.ClassFile.FieldType.boolean)) ∈ lw_all := lw_g (lw_at lw_m7 35 rfl) rfl
theorem q1533 : (Jvm.Cond.methodLink "XactKernelModel" (161 : Nat) ({ cls := "XactKernelModel", name := "refuse", desc := "(I)I" } : Jvm.MethodName)) ∈ lw_all := lw_g (lw_at lw_m7 36 rfl) rfl
theorem q1534 : (Jvm.Cond.privateMethod ({ cls := "XactKernelModel", name := "refuse", desc := "(I)I" } : Jvm.MethodName)) ∈ lw_tbl := lw_at lw_m7 37 rfl
theorem q1535 : (Jvm.Cond.instanceMethod ({ cls := "XactKernelModel", name := "refuse", desc := "(I)I" } : Jvm.MethodName)) ∈ lw_all := lw_g (lw_at lw_m7 38 rfl) rfl
theorem q1536 : (Jvm.Cond.code ({ cls := "XactKernelModel", name := "refuse", desc := "(I)I" } : Jvm.MethodName) prog_12_method_3_code (2 : Nat) (Option.some Jvm.ClassFile.FieldType.int)) ∈ lw_all := lw_g (lw_at lw_m7 39 rfl) rfl
theorem q1537 : (Jvm.Cond.methodLink "XactKernelModel" (164 : Nat) ({ cls := "XactKernelModel", name := "enter", desc := "(I)Z" } : Jvm.MethodName)) ∈ lw_all := lw_g (lw_at lw_m7 40 rfl) rfl
theorem q1538 : (Jvm.Cond.privateMethod ({ cls := "XactKernelModel", name := "enter", desc := "(I)Z" } : Jvm.MethodName)) ∈ lw_tbl := lw_at lw_m7 41 rfl
theorem q1539 : (Jvm.Cond.instanceMethod ({ cls := "XactKernelModel", name := "enter", desc := "(I)Z" } : Jvm.MethodName)) ∈ lw_all := lw_g (lw_at lw_m7 42 rfl) rfl
theorem q1540 : (Jvm.Cond.code ({ cls := "XactKernelModel", name := "enter", desc := "(I)Z" } : Jvm.MethodName) prog_12_method_16_code (3 : Nat) (Option.some Jvm.ClassFile.FieldType.boolean)) ∈ lw_all := lw_g (lw_at lw_m7 43 rfl) rfl
theorem q1542 : (Jvm.Cond.instanceMethod ({ cls := "XactKernelModel", name := "end", desc := "(I)I" } : Jvm.MethodName)) ∈ lw_all := lw_g (lw_at lw_m7 45 rfl) rfl
theorem q1543 : (Jvm.Cond.selects "XactKernelModel" ({ cls := "XactKernelModel", name := "end", desc := "(I)I" } : Jvm.MethodName) ({ cls := "XactKernelModel", name := "end", desc := "(I)I" } : Jvm.MethodName)) ∈ lw_all := lw_g (lw_at lw_m7 46 rfl) rfl
theorem q1544 : (Jvm.Cond.code ({ cls := "XactKernelModel", name := "end", desc := "(I)I" } : Jvm.MethodName) prog_12_method_33_code (2 : Nat) (Option.some Jvm.ClassFile.FieldType.int)) ∈ lw_all := lw_g (lw_at lw_m7 47 rfl) rfl
theorem q1545 : (Jvm.Cond.methodLink "XactKernelModel" (167 : Nat) ({ cls := "XactKernelModel", name := "plain", desc := "(I)Z" } : Jvm.MethodName)) ∈ lw_all := lw_g (lw_at lw_m7 48 rfl) rfl
theorem q1546 : (Jvm.Cond.privateMethod ({ cls := "XactKernelModel", name := "plain", desc := "(I)Z" } : Jvm.MethodName)) ∈ lw_tbl := lw_at lw_m7 49 rfl
theorem q1547 : (Jvm.Cond.instanceMethod ({ cls := "XactKernelModel", name := "plain", desc := "(I)Z" } : Jvm.MethodName)) ∈ lw_all := lw_g (lw_at lw_m7 50 rfl) rfl
theorem q1548 : (Jvm.Cond.code ({ cls := "XactKernelModel", name := "plain", desc := "(I)Z" } : Jvm.MethodName) prog_12_method_32_code (2 : Nat) (Option.some Jvm.ClassFile.FieldType.boolean)) ∈ lw_all := lw_g (lw_at lw_m7 51 rfl) rfl
theorem q1549 : (Jvm.Cond.methodLink "XactKernelModel" (170 : Nat) ({ cls := "XactKernelModel", name := "done", desc := "(IIII)I" } : Jvm.MethodName)) ∈ lw_all := lw_g (lw_at lw_m7 52 rfl) rfl
theorem q1550 : (Jvm.Cond.privateMethod ({ cls := "XactKernelModel", name := "done", desc := "(IIII)I" } : Jvm.MethodName)) ∈ lw_tbl := lw_at lw_m7 53 rfl
theorem q1551 : (Jvm.Cond.instanceMethod ({ cls := "XactKernelModel", name := "done", desc := "(IIII)I" } : Jvm.MethodName)) ∈ lw_all := lw_g (lw_at lw_m7 54 rfl) rfl
theorem q1552 : (Jvm.Cond.code ({ cls := "XactKernelModel", name := "done", desc := "(IIII)I" } : Jvm.MethodName) prog_12_method_18_code (6 : Nat) (Option.some Jvm.ClassFile.FieldType.int)) ∈ lw_all := lw_g (lw_at lw_m7 55 rfl) rfl
theorem q1553 : (Jvm.Cond.methodLink "XactKernelModel" (119 : Nat) ({ cls := "XactKernelModel", name := "finish", desc := "(I)I" } : Jvm.MethodName)) ∈ lw_all := lw_g (lw_at lw_m7 56 rfl) rfl
theorem q1554 : (Jvm.Cond.privateMethod ({ cls := "XactKernelModel", name := "finish", desc := "(I)I" } : Jvm.MethodName)) ∈ lw_tbl := lw_at lw_m7 57 rfl
theorem q1555 : (Jvm.Cond.instanceMethod ({ cls := "XactKernelModel", name := "finish", desc := "(I)I" } : Jvm.MethodName)) ∈ lw_all := lw_g (lw_at lw_m7 58 rfl) rfl
theorem q1556 : (Jvm.Cond.code ({ cls := "XactKernelModel", name := "finish", desc := "(I)I" } : Jvm.MethodName) prog_12_method_19_code (6 : Nat) (Option.some Jvm.ClassFile.FieldType.int)) ∈ lw_all := lw_g (lw_at lw_m7 59 rfl) rfl
theorem q1557 : (Jvm.Cond.methodLink "XactKernelModel" (94 : Nat) ({ cls := "XactKernelModel", name := "aborted", desc := "(I)V" } : Jvm.MethodName)) ∈ lw_all := lw_g (lw_at lw_m7 60 rfl) rfl
theorem q1558 : (Jvm.Cond.privateMethod ({ cls := "XactKernelModel", name := "aborted", desc := "(I)V" } : Jvm.MethodName)) ∈ lw_tbl := lw_at lw_m7 61 rfl
theorem q1559 : (Jvm.Cond.instanceMethod ({ cls := "XactKernelModel", name := "aborted", desc := "(I)V" } : Jvm.MethodName)) ∈ lw_all := lw_g (lw_at lw_m7 62 rfl) rfl
theorem q1560 : (Jvm.Cond.code ({ cls := "XactKernelModel", name := "aborted", desc := "(I)V" } : Jvm.MethodName) prog_12_method_8_code (3 : Nat) (Option.none : Option Jvm.ClassFile.FieldType)) ∈ lw_all := lw_g (lw_at lw_m7 63 rfl) rfl
theorem q1561 : (Jvm.Cond.methodLink "XactKernelModel" (90 : Nat) ({ cls := "XactKernelModel", name := "drop", desc := "(I)V" } : Jvm.MethodName)) ∈ lw_all := lw_g (lw_at lw_m7 64 rfl) rfl
theorem q1562 : (Jvm.Cond.privateMethod ({ cls := "XactKernelModel", name := "drop", desc := "(I)V" } : Jvm.MethodName)) ∈ lw_tbl := lw_at lw_m7 65 rfl
theorem q1563 : (Jvm.Cond.instanceMethod ({ cls := "XactKernelModel", name := "drop", desc := "(I)V" } : Jvm.MethodName)) ∈ lw_all := lw_g (lw_at lw_m7 66 rfl) rfl
theorem q1564 : (Jvm.Cond.code ({ cls := "XactKernelModel", name := "drop", desc := "(I)V" } : Jvm.MethodName) prog_12_method_7_code (3 : Nat) (Option.none : Option Jvm.ClassFile.FieldType)) ∈ lw_all := lw_g (lw_at lw_m7 67 rfl) rfl
theorem q1565 : (Jvm.Cond.methodLink "XactKernelModel" (101 : Nat) ({ cls := "XactKernelModel", name := "copy", desc := "(II)V" } : Jvm.MethodName)) ∈ lw_all := lw_g (lw_at lw_m7 68 rfl) rfl
theorem q1566 : (Jvm.Cond.privateMethod ({ cls := "XactKernelModel", name := "copy", desc := "(II)V" } : Jvm.MethodName)) ∈ lw_tbl := lw_at lw_m7 69 rfl
theorem q1567 : (Jvm.Cond.instanceMethod ({ cls := "XactKernelModel", name := "copy", desc := "(II)V" } : Jvm.MethodName)) ∈ lw_all := lw_g (lw_at lw_m7 70 rfl) rfl
theorem q1568 : (Jvm.Cond.code ({ cls := "XactKernelModel", name := "copy", desc := "(II)V" } : Jvm.MethodName) prog_12_method_6_code (4 : Nat) (Option.none : Option Jvm.ClassFile.FieldType)) ∈ lw_all := lw_g (lw_at lw_m7 71 rfl) rfl
theorem q1569 : (Jvm.Cond.methodLink "XactKernelModel" (123 : Nat) ({ cls := "XactKernelModel", name := "send", desc := "(II)V" } : Jvm.MethodName)) ∈ lw_all := lw_g (lw_at lw_m7 72 rfl) rfl
theorem q1570 : (Jvm.Cond.privateMethod ({ cls := "XactKernelModel", name := "send", desc := "(II)V" } : Jvm.MethodName)) ∈ lw_tbl := lw_at lw_m7 73 rfl
theorem q1571 : (Jvm.Cond.instanceMethod ({ cls := "XactKernelModel", name := "send", desc := "(II)V" } : Jvm.MethodName)) ∈ lw_all := lw_g (lw_at lw_m7 74 rfl) rfl
theorem q1572 : (Jvm.Cond.code ({ cls := "XactKernelModel", name := "send", desc := "(II)V" } : Jvm.MethodName) prog_12_method_20_code (3 : Nat) (Option.none : Option Jvm.ClassFile.FieldType)) ∈ lw_all := lw_g (lw_at lw_m7 75 rfl) rfl
theorem q1573 : (Jvm.Cond.methodLink "XactKernelModel" (116 : Nat) ({ cls := "XactKernelModel", name := "sweep", desc := "()V" } : Jvm.MethodName)) ∈ lw_all := lw_g (lw_at lw_m7 76 rfl) rfl
theorem q1574 : (Jvm.Cond.privateMethod ({ cls := "XactKernelModel", name := "sweep", desc := "()V" } : Jvm.MethodName)) ∈ lw_tbl := lw_at lw_m7 77 rfl
theorem q1575 : (Jvm.Cond.instanceMethod ({ cls := "XactKernelModel", name := "sweep", desc := "()V" } : Jvm.MethodName)) ∈ lw_all := lw_g (lw_at lw_m7 78 rfl) rfl
theorem q1576 : (Jvm.Cond.code ({ cls := "XactKernelModel", name := "sweep", desc := "()V" } : Jvm.MethodName) prog_12_method_15_code (4 : Nat) (Option.none : Option Jvm.ClassFile.FieldType)) ∈ lw_all := lw_g (lw_at lw_m7 79 rfl) rfl
theorem q1577 : (Jvm.Cond.methodLink "XactKernelModel" (105 : Nat) ({ cls := "XactKernelModel", name := "isNamed", desc := "(I)Z" } : Jvm.MethodName)) ∈ lw_all := lw_g (lw_at lw_m7 80 rfl) rfl
theorem q1578 : (Jvm.Cond.privateMethod ({ cls := "XactKernelModel", name := "isNamed", desc := "(I)Z" } : Jvm.MethodName)) ∈ lw_tbl := lw_at lw_m7 81 rfl
theorem q1579 : (Jvm.Cond.instanceMethod ({ cls := "XactKernelModel", name := "isNamed", desc := "(I)Z" } : Jvm.MethodName)) ∈ lw_all := lw_g (lw_at lw_m7 82 rfl) rfl
theorem q1580 : (Jvm.Cond.code ({ cls := "XactKernelModel", name := "isNamed", desc := "(I)Z" } : Jvm.MethodName) prog_12_method_14_code (3 : Nat) (Option.some Jvm.ClassFile.FieldType.boolean)) ∈ lw_all := lw_g (lw_at lw_m7 83 rfl) rfl
theorem q1582 : (Jvm.Cond.instanceMethod ({ cls := "XactKernelModel", name := "open", desc := "(III)I" } : Jvm.MethodName)) ∈ lw_all := lw_g (lw_at lw_m7 85 rfl) rfl
theorem q1583 : (Jvm.Cond.selects "XactKernelModel" ({ cls := "XactKernelModel", name := "open", desc := "(III)I" } : Jvm.MethodName) ({ cls := "XactKernelModel", name := "open", desc := "(III)I" } : Jvm.MethodName)) ∈ lw_all := lw_g (lw_at lw_m7 86 rfl) rfl
theorem q1584 : (Jvm.Cond.code ({ cls := "XactKernelModel", name := "open", desc := "(III)I" } : Jvm.MethodName) prog_12_method_35_code (7 : Nat) (Option.some Jvm.ClassFile.FieldType.int)) ∈ lw_all := lw_g (lw_at lw_m7 87 rfl) rfl
theorem q1585 : (Jvm.Cond.methodLink "XactKernelModel" (187 : Nat) ({ cls := "XactKernelModel", name := "isPath", desc := "(I)Z" } : Jvm.MethodName)) ∈ lw_all := lw_g (lw_at lw_m7 88 rfl) rfl
theorem q1586 : (Jvm.Cond.static ({ cls := "XactKernelModel", name := "isPath", desc := "(I)Z" } : Jvm.MethodName)) ∈ lw_all := lw_g (lw_at lw_m7 89 rfl) rfl
theorem q1587 : (Jvm.Cond.code ({ cls := "XactKernelModel", name := "isPath", desc := "(I)Z" } : Jvm.MethodName) prog_12_method_23_code (4 : Nat) (Option.some Jvm.ClassFile.FieldType.boolean)) ∈ lw_all := lw_g (lw_at lw_m7 90 rfl) rfl
theorem q1588 : (Jvm.Cond.methodLink "XactKernelModel" (190 : Nat) ({ cls := "XactKernelModel", name := "toHolder", desc := "(IIII)I" } : Jvm.MethodName)) ∈ lw_all := lw_g (lw_at lw_m7 91 rfl) rfl
theorem q1589 : (Jvm.Cond.privateMethod ({ cls := "XactKernelModel", name := "toHolder", desc := "(IIII)I" } : Jvm.MethodName)) ∈ lw_tbl := lw_at lw_m7 92 rfl
theorem q1590 : (Jvm.Cond.instanceMethod ({ cls := "XactKernelModel", name := "toHolder", desc := "(IIII)I" } : Jvm.MethodName)) ∈ lw_all := lw_g (lw_at lw_m7 93 rfl) rfl
theorem q1591 : (Jvm.Cond.code ({ cls := "XactKernelModel", name := "toHolder", desc := "(IIII)I" } : Jvm.MethodName) prog_12_method_27_code (7 : Nat) (Option.some Jvm.ClassFile.FieldType.int)) ∈ lw_all := lw_g (lw_at lw_m7 94 rfl) rfl
theorem q1592 : (Jvm.Cond.methodLink "XactKernelModel" (148 : Nat) ({ cls := "XactKernelModel", name := "length", desc := "(I)I" } : Jvm.MethodName)) ∈ lw_all := lw_g (lw_at lw_m7 95 rfl) rfl
theorem q1593 : (Jvm.Cond.static ({ cls := "XactKernelModel", name := "length", desc := "(I)I" } : Jvm.MethodName)) ∈ lw_all := lw_g (lw_at lw_m7 96 rfl) rfl
theorem q1594 : (Jvm.Cond.code ({ cls := "XactKernelModel", name := "length", desc := "(I)I" } : Jvm.MethodName) prog_12_method_24_code (2 : Nat) (Option.some Jvm.ClassFile.FieldType.int)) ∈ lw_all := lw_g (lw_at lw_m7 97 rfl) rfl
theorem q1595 : (Jvm.Cond.methodLink "XactKernelModel" (151 : Nat) ({ cls := "XactKernelModel", name := "walk", desc := "(IIIII)I" } : Jvm.MethodName)) ∈ lw_all := lw_g (lw_at lw_m7 98 rfl) rfl
theorem q1596 : (Jvm.Cond.privateMethod ({ cls := "XactKernelModel", name := "walk", desc := "(IIIII)I" } : Jvm.MethodName)) ∈ lw_tbl := lw_at lw_m7 99 rfl
theorem q1597 : (Jvm.Cond.instanceMethod ({ cls := "XactKernelModel", name := "walk", desc := "(IIIII)I" } : Jvm.MethodName)) ∈ lw_all := lw_g (lw_at lw_m7 100 rfl) rfl
theorem q1598 : (Jvm.Cond.code ({ cls := "XactKernelModel", name := "walk", desc := "(IIIII)I" } : Jvm.MethodName) prog_12_method_26_code (7 : Nat) (Option.some Jvm.ClassFile.FieldType.int)) ∈ lw_all := lw_g (lw_at lw_m7 101 rfl) rfl
theorem q1599 : (Jvm.Cond.methodLink "XactKernelModel" (140 : Nat) ({ cls := "XactKernelModel", name := "reads", desc := "(II)Z" } : Jvm.MethodName)) ∈ lw_all := lw_g (lw_at lw_m7 102 rfl) rfl
theorem q1600 : (Jvm.Cond.privateMethod ({ cls := "XactKernelModel", name := "reads", desc := "(II)Z" } : Jvm.MethodName)) ∈ lw_tbl := lw_at lw_m7 103 rfl
theorem q1601 : (Jvm.Cond.instanceMethod ({ cls := "XactKernelModel", name := "reads", desc := "(II)Z" } : Jvm.MethodName)) ∈ lw_all := lw_g (lw_at lw_m7 104 rfl) rfl
theorem q1602 : (Jvm.Cond.code ({ cls := "XactKernelModel", name := "reads", desc := "(II)Z" } : Jvm.MethodName) prog_12_method_10_code (3 : Nat) (Option.some Jvm.ClassFile.FieldType.boolean)) ∈ lw_all := lw_g (lw_at lw_m7 105 rfl) rfl
theorem q1603 : (Jvm.Cond.methodLink "XactKernelModel" (97 : Nat) ({ cls := "XactKernelModel", name := "meet", desc := "(IIZ)Z" } : Jvm.MethodName)) ∈ lw_all := lw_g (lw_at lw_m7 106 rfl) rfl
theorem q1604 : (Jvm.Cond.privateMethod ({ cls := "XactKernelModel", name := "meet", desc := "(IIZ)Z" } : Jvm.MethodName)) ∈ lw_tbl := lw_at lw_m7 107 rfl
theorem q1605 : (Jvm.Cond.instanceMethod ({ cls := "XactKernelModel", name := "meet", desc := "(IIZ)Z" } : Jvm.MethodName)) ∈ lw_all := lw_g (lw_at lw_m7 108 rfl) rfl
theorem q1606 : (Jvm.Cond.code ({ cls := "XactKernelModel", name := "meet", desc := "(IIZ)Z" } : Jvm.MethodName) prog_12_method_9_code (5 : Nat) (Option.some Jvm.ClassFile.FieldType.boolean)) ∈ lw_all := lw_g (lw_at lw_m7 109 rfl) rfl
theorem q1607 : (Jvm.Cond.methodLink "XactKernelModel" (133 : Nat) ({ cls := "XactKernelModel", name := "of", desc := "(II)I" } : Jvm.MethodName)) ∈ lw_all := lw_g (lw_at lw_m7 110 rfl) rfl
theorem q1608 : (Jvm.Cond.privateMethod ({ cls := "XactKernelModel", name := "of", desc := "(II)I" } : Jvm.MethodName)) ∈ lw_tbl := lw_at lw_m7 111 rfl
theorem q1609 : (Jvm.Cond.instanceMethod ({ cls := "XactKernelModel", name := "of", desc := "(II)I" } : Jvm.MethodName)) ∈ lw_all := lw_g (lw_at lw_m7 112 rfl) rfl
theorem q1610 : (Jvm.Cond.code ({ cls := "XactKernelModel", name := "of", desc := "(II)I" } : Jvm.MethodName) prog_12_method_5_code (3 : Nat) (Option.some Jvm.ClassFile.FieldType.int)) ∈ lw_all := lw_g (lw_at lw_m7 113 rfl) rfl
theorem q1611 : (Jvm.Cond.methodLink "XactKernelModel" (144 : Nat) ({ cls := "XactKernelModel", name := "under", desc := "(III)I" } : Jvm.MethodName)) ∈ lw_all := lw_g (lw_at lw_m7 114 rfl) rfl
theorem q1612 : (Jvm.Cond.privateMethod ({ cls := "XactKernelModel", name := "under", desc := "(III)I" } : Jvm.MethodName)) ∈ lw_tbl := lw_at lw_m7 115 rfl
theorem q1613 : (Jvm.Cond.instanceMethod ({ cls := "XactKernelModel", name := "under", desc := "(III)I" } : Jvm.MethodName)) ∈ lw_all := lw_g (lw_at lw_m7 116 rfl) rfl
theorem q1614 : (Jvm.Cond.code ({ cls := "XactKernelModel", name := "under", desc := "(III)I" } : Jvm.MethodName) prog_12_method_25_code (6 : Nat) (Option.some Jvm.ClassFile.FieldType.int)) ∈ lw_all := lw_g (lw_at lw_m7 117 rfl) rfl
theorem q1615 : (Jvm.Cond.methodLink "XactKernelModel" (193 : Nat) ({ cls := "XactKernelModel", name := "fail", desc := "(II)I" } : Jvm.MethodName)) ∈ lw_all := lw_g (lw_at lw_m7 118 rfl) rfl
theorem q1616 : (Jvm.Cond.privateMethod ({ cls := "XactKernelModel", name := "fail", desc := "(II)I" } : Jvm.MethodName)) ∈ lw_tbl := lw_at lw_m7 119 rfl
theorem q1617 : (Jvm.Cond.instanceMethod ({ cls := "XactKernelModel", name := "fail", desc := "(II)I" } : Jvm.MethodName)) ∈ lw_all := lw_g (lw_at lw_m7 120 rfl) rfl
theorem q1618 : (Jvm.Cond.code ({ cls := "XactKernelModel", name := "fail", desc := "(II)I" } : Jvm.MethodName) prog_12_method_17_code (4 : Nat) (Option.some Jvm.ClassFile.FieldType.int)) ∈ lw_all := lw_g (lw_at lw_m7 121 rfl) rfl
theorem q1619 : (Jvm.Cond.methodLink "XactKernelModel" (196 : Nat) ({ cls := "XactKernelModel", name := "freeDescriptor", desc := "(II)I" } : Jvm.MethodName)) ∈ lw_all := lw_g (lw_at lw_m7 122 rfl) rfl
theorem q1620 : (Jvm.Cond.privateMethod ({ cls := "XactKernelModel", name := "freeDescriptor", desc := "(II)I" } : Jvm.MethodName)) ∈ lw_tbl := lw_at lw_m7 123 rfl
theorem q1621 : (Jvm.Cond.instanceMethod ({ cls := "XactKernelModel", name := "freeDescriptor", desc := "(II)I" } : Jvm.MethodName)) ∈ lw_all := lw_g (lw_at lw_m7 124 rfl) rfl
theorem q1622 : (Jvm.Cond.code ({ cls := "XactKernelModel", name := "freeDescriptor", desc := "(II)I" } : Jvm.MethodName) prog_12_method_30_code (4 : Nat) (Option.some Jvm.ClassFile.FieldType.int)) ∈ lw_all := lw_g (lw_at lw_m7 125 rfl) rfl
theorem q1623 : (Jvm.Cond.methodLink "XactKernelModel" (199 : Nat) ({ cls := "XactKernelModel", name := "make", desc := "(II)I" } : Jvm.MethodName)) ∈ lw_all := lw_g (lw_at lw_m7 126 rfl) rfl
theorem q1624 : (Jvm.Cond.privateMethod ({ cls := "XactKernelModel", name := "make", desc := "(II)I" } : Jvm.MethodName)) ∈ lw_tbl := lw_at lw_m7 127 rfl
theorem q1625 : (Jvm.Cond.instanceMethod ({ cls := "XactKernelModel", name := "make", desc := "(II)I" } : Jvm.MethodName)) ∈ lw_all := lw_g (lw_at lw_m7 128 rfl) rfl
theorem q1626 : (Jvm.Cond.code ({ cls := "XactKernelModel", name := "make", desc := "(II)I" } : Jvm.MethodName) prog_12_method_34_code (4 : Nat) (Option.some Jvm.ClassFile.FieldType.int)) ∈ lw_all := lw_g (lw_at lw_m7 129 rfl) rfl
theorem q1627 : (Jvm.Cond.methodLink "XactKernelModel" (174 : Nat) ({ cls := "XactKernelModel", name := "spare", desc := "(II)I" } : Jvm.MethodName)) ∈ lw_all := lw_g (lw_at lw_m7 130 rfl) rfl
theorem q1628 : (Jvm.Cond.privateMethod ({ cls := "XactKernelModel", name := "spare", desc := "(II)I" } : Jvm.MethodName)) ∈ lw_tbl := lw_at lw_m7 131 rfl
theorem q1629 : (Jvm.Cond.instanceMethod ({ cls := "XactKernelModel", name := "spare", desc := "(II)I" } : Jvm.MethodName)) ∈ lw_all := lw_g (lw_at lw_m7 132 rfl) rfl
theorem q1630 : (Jvm.Cond.code ({ cls := "XactKernelModel", name := "spare", desc := "(II)I" } : Jvm.MethodName) prog_12_method_12_code (6 : Nat) (Option.some Jvm.ClassFile.FieldType.int)) ∈ lw_all := lw_g (lw_at lw_m7 133 rfl) rfl
theorem q1631 : (Jvm.Cond.methodLink "XactKernelModel" (177 : Nat) ({ cls := "XactKernelModel", name := "writes", desc := "(II)Z" } : Jvm.MethodName)) ∈ lw_all := lw_g (lw_at lw_m7 134 rfl) rfl
theorem q1632 : (Jvm.Cond.privateMethod ({ cls := "XactKernelModel", name := "writes", desc := "(II)Z" } : Jvm.MethodName)) ∈ lw_tbl := lw_at lw_m7 135 rfl
theorem q1633 : (Jvm.Cond.instanceMethod ({ cls := "XactKernelModel", name := "writes", desc := "(II)Z" } : Jvm.MethodName)) ∈ lw_all := lw_g (lw_at lw_m7 136 rfl) rfl
theorem q1634 : (Jvm.Cond.code ({ cls := "XactKernelModel", name := "writes", desc := "(II)Z" } : Jvm.MethodName) prog_12_method_11_code (3 : Nat) (Option.some Jvm.ClassFile.FieldType.boolean)) ∈ lw_all := lw_g (lw_at lw_m7 137 rfl) rfl
theorem q1635 : (Jvm.Cond.methodLink "XactKernelModel" (180 : Nat) ({ cls := "XactKernelModel", name := "create", desc := "(III)I" } : Jvm.MethodName)) ∈ lw_all := lw_g (lw_at lw_m7 138 rfl) rfl
theorem q1636 : (Jvm.Cond.privateMethod ({ cls := "XactKernelModel", name := "create", desc := "(III)I" } : Jvm.MethodName)) ∈ lw_tbl := lw_at lw_m7 139 rfl
theorem q1637 : (Jvm.Cond.instanceMethod ({ cls := "XactKernelModel", name := "create", desc := "(III)I" } : Jvm.MethodName)) ∈ lw_all := lw_g (lw_at lw_m7 140 rfl) rfl
theorem q1638 : (Jvm.Cond.code ({ cls := "XactKernelModel", name := "create", desc := "(III)I" } : Jvm.MethodName) prog_12_method_13_code (5 : Nat) (Option.some Jvm.ClassFile.FieldType.int)) ∈ lw_all := lw_g (lw_at lw_m7 141 rfl) rfl
theorem q1639 : (Jvm.Cond.methodLink "XactKernelModel" (183 : Nat) ({ cls := "XactKernelModel", name := "append", desc := "(IIII)V" } : Jvm.MethodName)) ∈ lw_all := lw_g (lw_at lw_m7 142 rfl) rfl
theorem q1640 : (Jvm.Cond.privateMethod ({ cls := "XactKernelModel", name := "append", desc := "(IIII)V" } : Jvm.MethodName)) ∈ lw_tbl := lw_at lw_m7 143 rfl
theorem q1641 : (Jvm.Cond.instanceMethod ({ cls := "XactKernelModel", name := "append", desc := "(IIII)V" } : Jvm.MethodName)) ∈ lw_all := lw_g (lw_at lw_m7 144 rfl) rfl
theorem q1642 : (Jvm.Cond.code ({ cls := "XactKernelModel", name := "append", desc := "(IIII)V" } : Jvm.MethodName) prog_12_method_28_code (7 : Nat) (Option.none : Option Jvm.ClassFile.FieldType)) ∈ lw_all := lw_g (lw_at lw_m7 145 rfl) rfl
theorem q1644 : (Jvm.Cond.instanceMethod ({ cls := "XactKernelModel", name := "close", desc := "(II)I" } : Jvm.MethodName)) ∈ lw_all := lw_g (lw_at lw_m7 147 rfl) rfl
theorem q1645 : (Jvm.Cond.selects "XactKernelModel" ({ cls := "XactKernelModel", name := "close", desc := "(II)I" } : Jvm.MethodName) ({ cls := "XactKernelModel", name := "close", desc := "(II)I" } : Jvm.MethodName)) ∈ lw_all := lw_g (lw_at lw_m7 148 rfl) rfl
theorem q1646 : (Jvm.Cond.code ({ cls := "XactKernelModel", name := "close", desc := "(II)I" } : Jvm.MethodName) prog_12_method_36_code (3 : Nat) (Option.some Jvm.ClassFile.FieldType.int)) ∈ lw_all := lw_g (lw_at lw_m7 149 rfl) rfl
theorem q1647 : (Jvm.Cond.methodLink "XactKernelModel" (202 : Nat) ({ cls := "XactKernelModel", name := "isHeld", desc := "(II)Z" } : Jvm.MethodName)) ∈ lw_all := lw_g (lw_at lw_m7 150 rfl) rfl
theorem q1648 : (Jvm.Cond.privateMethod ({ cls := "XactKernelModel", name := "isHeld", desc := "(II)Z" } : Jvm.MethodName)) ∈ lw_tbl := lw_at lw_m7 151 rfl
theorem q1649 : (Jvm.Cond.instanceMethod ({ cls := "XactKernelModel", name := "isHeld", desc := "(II)Z" } : Jvm.MethodName)) ∈ lw_all := lw_g (lw_at lw_m7 152 rfl) rfl
theorem q1650 : (Jvm.Cond.code ({ cls := "XactKernelModel", name := "isHeld", desc := "(II)Z" } : Jvm.MethodName) prog_12_method_22_code (3 : Nat) (Option.some Jvm.ClassFile.FieldType.boolean)) ∈ lw_all := lw_g (lw_at lw_m7 153 rfl) rfl
theorem q1652 : (Jvm.Cond.instanceMethod ({ cls := "XactKernelModel", name := "read", desc := "(II)I" } : Jvm.MethodName)) ∈ lw_all := lw_g (lw_at lw_m7 155 rfl) rfl
theorem q1653 : (Jvm.Cond.selects "XactKernelModel" ({ cls := "XactKernelModel", name := "read", desc := "(II)I" } : Jvm.MethodName) ({ cls := "XactKernelModel", name := "read", desc := "(II)I" } : Jvm.MethodName)) ∈ lw_all := lw_g (lw_at lw_m7 156 rfl) rfl
theorem q1654 : (Jvm.Cond.code ({ cls := "XactKernelModel", name := "read", desc := "(II)I" } : Jvm.MethodName) prog_12_method_37_code (8 : Nat) (Option.some Jvm.ClassFile.FieldType.int)) ∈ lw_all := lw_g (lw_at lw_m7 157 rfl) rfl
theorem q1656 : (Jvm.Cond.instanceMethod ({ cls := "XactKernelModel", name := "write", desc := "(III)I" } : Jvm.MethodName)) ∈ lw_all := lw_g (lw_at lw_m7 159 rfl) rfl
theorem q1657 : (Jvm.Cond.selects "XactKernelModel" ({ cls := "XactKernelModel", name := "write", desc := "(III)I" } : Jvm.MethodName) ({ cls := "XactKernelModel", name := "write", desc := "(III)I" } : Jvm.MethodName)) ∈ lw_all := lw_g (lw_at lw_m7 160 rfl) rfl
theorem q1658 : (Jvm.Cond.code ({ cls := "XactKernelModel", name := "write", desc := "(III)I" } : Jvm.MethodName) prog_12_method_38_code (10 : Nat) (Option.some Jvm.ClassFile.FieldType.int)) ∈ lw_all := lw_g (lw_at lw_m7 161 rfl) rfl
theorem q1660 : (Jvm.Cond.instanceMethod ({ cls := "XactKernelModel", name := "seek", desc := "(III)I" } : Jvm.MethodName)) ∈ lw_all := lw_g (lw_at lw_m7 163 rfl) rfl
theorem q1661 : (Jvm.Cond.selects "XactKernelModel" ({ cls := "XactKernelModel", name := "seek", desc := "(III)I" } : Jvm.MethodName) ({ cls := "XactKernelModel", name := "seek", desc := "(III)I" } : Jvm.MethodName)) ∈ lw_all := lw_g (lw_at lw_m7 164 rfl) rfl
theorem q1662 : (Jvm.Cond.code ({ cls := "XactKernelModel", name := "seek", desc := "(III)I" } : Jvm.MethodName) prog_12_method_39_code (6 : Nat) (Option.some Jvm.ClassFile.FieldType.int)) ∈ lw_all := lw_g (lw_at lw_m7 165 rfl) rfl
theorem q1664 : (Jvm.Cond.instanceMethod ({ cls := "XactKernelModel", name := "truncate", desc := "(III)I" } : Jvm.MethodName)) ∈ lw_all := lw_g (lw_at lw_m7 167 rfl) rfl
theorem q1665 : (Jvm.Cond.selects "XactKernelModel" ({ cls := "XactKernelModel", name := "truncate", desc := "(III)I" } : Jvm.MethodName) ({ cls := "XactKernelModel", name := "truncate", desc := "(III)I" } : Jvm.MethodName)) ∈ lw_all := lw_g (lw_at lw_m7 168 rfl) rfl
theorem q1666 : (Jvm.Cond.code ({ cls := "XactKernelModel", name := "truncate", desc := "(III)I" } : Jvm.MethodName) prog_12_method_40_code (8 : Nat) (Option.some Jvm.ClassFile.FieldType.int)) ∈ lw_all := lw_g (lw_at lw_m7 169 rfl) rfl
theorem q1668 : (Jvm.Cond.instanceMethod ({ cls := "XactKernelModel", name := "directory", desc := "(II)I" } : Jvm.MethodName)) ∈ lw_all := lw_g (lw_at lw_m7 171 rfl) rfl
theorem q1669 : (Jvm.Cond.selects "XactKernelModel" ({ cls := "XactKernelModel", name := "directory", desc := "(II)I" } : Jvm.MethodName) ({ cls := "XactKernelModel", name := "directory", desc := "(II)I" } : Jvm.MethodName)) ∈ lw_all := lw_g (lw_at lw_m7 172 rfl) rfl
theorem q1670 : (Jvm.Cond.code ({ cls := "XactKernelModel", name := "directory", desc := "(II)I" } : Jvm.MethodName) prog_12_method_41_code (5 : Nat) (Option.some Jvm.ClassFile.FieldType.int)) ∈ lw_all := lw_g (lw_at lw_m7 173 rfl) rfl
theorem q1672 : (Jvm.Cond.instanceMethod ({ cls := "XactKernelModel", name := "link", desc := "(III)I" } : Jvm.MethodName)) ∈ lw_all := lw_g (lw_at lw_m7 175 rfl) rfl
theorem q1673 : (Jvm.Cond.selects "XactKernelModel" ({ cls := "XactKernelModel", name := "link", desc := "(III)I" } : Jvm.MethodName) ({ cls := "XactKernelModel", name := "link", desc := "(III)I" } : Jvm.MethodName)) ∈ lw_all := lw_g (lw_at lw_m7 176 rfl) rfl
theorem q1674 : (Jvm.Cond.code ({ cls := "XactKernelModel", name := "link", desc := "(III)I" } : Jvm.MethodName) prog_12_method_42_code (7 : Nat) (Option.some Jvm.ClassFile.FieldType.int)) ∈ lw_all := lw_g (lw_at lw_m7 177 rfl) rfl
theorem q1676 : (Jvm.Cond.instanceMethod ({ cls := "XactKernelModel", name := "unlink", desc := "(II)I" } : Jvm.MethodName)) ∈ lw_all := lw_g (lw_at lw_m7 179 rfl) rfl
theorem q1677 : (Jvm.Cond.selects "XactKernelModel" ({ cls := "XactKernelModel", name := "unlink", desc := "(II)I" } : Jvm.MethodName) ({ cls := "XactKernelModel", name := "unlink", desc := "(II)I" } : Jvm.MethodName)) ∈ lw_all := lw_g (lw_at lw_m7 180 rfl) rfl
theorem q1678 : (Jvm.Cond.code ({ cls := "XactKernelModel", name := "unlink", desc := "(II)I" } : Jvm.MethodName) prog_12_method_43_code (8 : Nat) (Option.some Jvm.ClassFile.FieldType.int)) ∈ lw_all := lw_g (lw_at lw_m7 181 rfl) rfl
theorem q1679 : (Jvm.Cond.methodLink "XactKernelModel" (205 : Nat) ({ cls := "XactKernelModel", name := "remove", desc := "(III)V" } : Jvm.MethodName)) ∈ lw_all := lw_g (lw_at lw_m7 182 rfl) rfl
theorem q1680 : (Jvm.Cond.privateMethod ({ cls := "XactKernelModel", name := "remove", desc := "(III)V" } : Jvm.MethodName)) ∈ lw_tbl := lw_at lw_m7 183 rfl
theorem q1681 : (Jvm.Cond.instanceMethod ({ cls := "XactKernelModel", name := "remove", desc := "(III)V" } : Jvm.MethodName)) ∈ lw_all := lw_g (lw_at lw_m7 184 rfl) rfl
theorem q1682 : (Jvm.Cond.code ({ cls := "XactKernelModel", name := "remove", desc := "(III)V" } : Jvm.MethodName) prog_12_method_29_code (7 : Nat) (Option.none : Option Jvm.ClassFile.FieldType)) ∈ lw_all := lw_g (lw_at lw_m7 185 rfl) rfl
theorem q1684 : (Jvm.Cond.instanceMethod ({ cls := "XactKernelModel", name := "rename", desc := "(III)I" } : Jvm.MethodName)) ∈ lw_all := lw_g (lw_at lw_m7 187 rfl) rfl
theorem q1685 : (Jvm.Cond.selects "XactKernelModel" ({ cls := "XactKernelModel", name := "rename", desc := "(III)I" } : Jvm.MethodName) ({ cls := "XactKernelModel", name := "rename", desc := "(III)I" } : Jvm.MethodName)) ∈ lw_all := lw_g (lw_at lw_m7 188 rfl) rfl
theorem q1686 : (Jvm.Cond.code ({ cls := "XactKernelModel", name := "rename", desc := "(III)I" } : Jvm.MethodName) prog_12_method_44_code (9 : Nat) (Option.some Jvm.ClassFile.FieldType.int)) ∈ lw_all := lw_g (lw_at lw_m7 189 rfl) rfl
theorem q1688 : (Jvm.Cond.instanceMethod ({ cls := "XactKernelModel", name := "size", desc := "(II)I" } : Jvm.MethodName)) ∈ lw_all := lw_g (lw_at lw_m7 191 rfl) rfl
theorem q1689 : (Jvm.Cond.selects "XactKernelModel" ({ cls := "XactKernelModel", name := "size", desc := "(II)I" } : Jvm.MethodName) ({ cls := "XactKernelModel", name := "size", desc := "(II)I" } : Jvm.MethodName)) ∈ lw_all := lw_g (lw_at lw_m7 192 rfl) rfl
theorem q1690 : (Jvm.Cond.code ({ cls := "XactKernelModel", name := "size", desc := "(II)I" } : Jvm.MethodName) prog_12_method_45_code (4 : Nat) (Option.some Jvm.ClassFile.FieldType.int)) ∈ lw_all := lw_g (lw_at lw_m7 193 rfl) rfl
theorem q1692 : (Jvm.Cond.instanceMethod ({ cls := "XactKernelModel", name := "pipe", desc := "(I)I" } : Jvm.MethodName)) ∈ lw_all := lw_g (lw_at lw_m7 195 rfl) rfl
theorem q1693 : (Jvm.Cond.selects "XactKernelModel" ({ cls := "XactKernelModel", name := "pipe", desc := "(I)I" } : Jvm.MethodName) ({ cls := "XactKernelModel", name := "pipe", desc := "(I)I" } : Jvm.MethodName)) ∈ lw_all := lw_g (lw_at lw_m7 196 rfl) rfl
theorem q1694 : (Jvm.Cond.code ({ cls := "XactKernelModel", name := "pipe", desc := "(I)I" } : Jvm.MethodName) prog_12_method_46_code (5 : Nat) (Option.some Jvm.ClassFile.FieldType.int)) ∈ lw_all := lw_g (lw_at lw_m7 197 rfl) rfl
theorem q1696 : (Jvm.Cond.instanceMethod ({ cls := "XactKernelModel", name := "abort", desc := "(I)I" } : Jvm.MethodName)) ∈ lw_all := lw_g (lw_at lw_m7 199 rfl) rfl
theorem q1697 : (Jvm.Cond.selects "XactKernelModel" ({ cls := "XactKernelModel", name := "abort", desc := "(I)I" } : Jvm.MethodName) ({ cls := "XactKernelModel", name := "abort", desc := "(I)I" } : Jvm.MethodName)) ∈ lw_all := lw_g (lw_at lw_m7 200 rfl) rfl
theorem q1698 : (Jvm.Cond.code ({ cls := "XactKernelModel", name := "abort", desc := "(I)I" } : Jvm.MethodName) prog_12_method_47_code (3 : Nat) (Option.some Jvm.ClassFile.FieldType.int)) ∈ lw_all := lw_g (lw_at lw_m7 201 rfl) rfl
theorem q1700 : (Jvm.Cond.instanceMethod ({ cls := "XactKernelModel", name := "fork", desc := "(I)I" } : Jvm.MethodName)) ∈ lw_all := lw_g (lw_at lw_m7 203 rfl) rfl
theorem q1701 : (Jvm.Cond.selects "XactKernelModel" ({ cls := "XactKernelModel", name := "fork", desc := "(I)I" } : Jvm.MethodName) ({ cls := "XactKernelModel", name := "fork", desc := "(I)I" } : Jvm.MethodName)) ∈ lw_all := lw_g (lw_at lw_m7 204 rfl) rfl
theorem q1702 : (Jvm.Cond.code ({ cls := "XactKernelModel", name := "fork", desc := "(I)I" } : Jvm.MethodName) prog_12_method_48_code (4 : Nat) (Option.some Jvm.ClassFile.FieldType.int)) ∈ lw_all := lw_g (lw_at lw_m7 205 rfl) rfl
theorem q1704 : (Jvm.Cond.instanceMethod ({ cls := "XactKernelModel", name := "exit", desc := "(I)I" } : Jvm.MethodName)) ∈ lw_all := lw_g (lw_at lw_m7 207 rfl) rfl
theorem q1705 : (Jvm.Cond.selects "XactKernelModel" ({ cls := "XactKernelModel", name := "exit", desc := "(I)I" } : Jvm.MethodName) ({ cls := "XactKernelModel", name := "exit", desc := "(I)I" } : Jvm.MethodName)) ∈ lw_all := lw_g (lw_at lw_m7 208 rfl) rfl
theorem q1706 : (Jvm.Cond.code ({ cls := "XactKernelModel", name := "exit", desc := "(I)I" } : Jvm.MethodName) prog_12_method_49_code (3 : Nat) (Option.some Jvm.ClassFile.FieldType.int)) ∈ lw_all := lw_g (lw_at lw_m7 209 rfl) rfl
theorem q1707 : (Jvm.Cond.methodLink "XactKernelModel" (209 : Nat) ({ cls := "XactKernelModel", name := "processes", desc := "()I" } : Jvm.MethodName)) ∈ lw_all := lw_g (lw_at lw_m7 210 rfl) rfl
theorem q1708 : (Jvm.Cond.privateMethod ({ cls := "XactKernelModel", name := "processes", desc := "()I" } : Jvm.MethodName)) ∈ lw_tbl := lw_at lw_m7 211 rfl
theorem q1709 : (Jvm.Cond.instanceMethod ({ cls := "XactKernelModel", name := "processes", desc := "()I" } : Jvm.MethodName)) ∈ lw_all := lw_g (lw_at lw_m7 212 rfl) rfl
theorem q1710 : (Jvm.Cond.code ({ cls := "XactKernelModel", name := "processes", desc := "()I" } : Jvm.MethodName) prog_12_method_50_code (3 : Nat) (Option.some Jvm.ClassFile.FieldType.int)) ∈ lw_all := lw_g (lw_at lw_m7 213 rfl) rfl
theorem q1712 : (Jvm.Cond.instanceMethod ({ cls := "XactKernelModel", name := "signal", desc := "(III)I" } : Jvm.MethodName)) ∈ lw_all := lw_g (lw_at lw_m7 215 rfl) rfl
theorem q1713 : (Jvm.Cond.selects "XactKernelModel" ({ cls := "XactKernelModel", name := "signal", desc := "(III)I" } : Jvm.MethodName) ({ cls := "XactKernelModel", name := "signal", desc := "(III)I" } : Jvm.MethodName)) ∈ lw_all := lw_g (lw_at lw_m7 216 rfl) rfl
theorem q1714 : (Jvm.Cond.code ({ cls := "XactKernelModel", name := "signal", desc := "(III)I" } : Jvm.MethodName) prog_12_method_51_code (4 : Nat) (Option.some Jvm.ClassFile.FieldType.int)) ∈ lw_all := lw_g (lw_at lw_m7 217 rfl) rfl
theorem q1716 : (Jvm.Cond.instanceMethod ({ cls := "XactKernelModel", name := "take", desc := "(I)I" } : Jvm.MethodName)) ∈ lw_all := lw_g (lw_at lw_m7 219 rfl) rfl
theorem q1717 : (Jvm.Cond.selects "XactKernelModel" ({ cls := "XactKernelModel", name := "take", desc := "(I)I" } : Jvm.MethodName) ({ cls := "XactKernelModel", name := "take", desc := "(I)I" } : Jvm.MethodName)) ∈ lw_all := lw_g (lw_at lw_m7 220 rfl) rfl
theorem q1718 : (Jvm.Cond.code ({ cls := "XactKernelModel", name := "take", desc := "(I)I" } : Jvm.MethodName) prog_12_method_52_code (4 : Nat) (Option.some Jvm.ClassFile.FieldType.int)) ∈ lw_all := lw_g (lw_at lw_m7 221 rfl) rfl
theorem q1720 : (Jvm.Cond.instanceMethod ({ cls := "XactKernelModel", name := "log", desc := "(I)I" } : Jvm.MethodName)) ∈ lw_all := lw_g (lw_at lw_m7 223 rfl) rfl
theorem q1721 : (Jvm.Cond.selects "XactKernelModel" ({ cls := "XactKernelModel", name := "log", desc := "(I)I" } : Jvm.MethodName) ({ cls := "XactKernelModel", name := "log", desc := "(I)I" } : Jvm.MethodName)) ∈ lw_all := lw_g (lw_at lw_m7 224 rfl) rfl
theorem q1722 : (Jvm.Cond.code ({ cls := "XactKernelModel", name := "log", desc := "(I)I" } : Jvm.MethodName) prog_12_method_53_code (3 : Nat) (Option.some Jvm.ClassFile.FieldType.int)) ∈ lw_all := lw_g (lw_at lw_m7 225 rfl) rfl
theorem q1724 : (Jvm.Cond.instanceMethod ({ cls := "XactKernelModel", name := "cut", desc := "(I)I" } : Jvm.MethodName)) ∈ lw_all := lw_g (lw_at lw_m7 227 rfl) rfl
theorem q1725 : (Jvm.Cond.selects "XactKernelModel" ({ cls := "XactKernelModel", name := "cut", desc := "(I)I" } : Jvm.MethodName) ({ cls := "XactKernelModel", name := "cut", desc := "(I)I" } : Jvm.MethodName)) ∈ lw_all := lw_g (lw_at lw_m7 228 rfl) rfl
theorem q1726 : (Jvm.Cond.code ({ cls := "XactKernelModel", name := "cut", desc := "(I)I" } : Jvm.MethodName) prog_12_method_54_code (3 : Nat) (Option.some Jvm.ClassFile.FieldType.int)) ∈ lw_all := lw_g (lw_at lw_m7 229 rfl) rfl
theorem q1728 : (Jvm.Cond.instanceMethod ({ cls := "XactKernelModel", name := "item", desc := "(II)I" } : Jvm.MethodName)) ∈ lw_all := lw_g (lw_at lw_m7 231 rfl) rfl
theorem q1729 : (Jvm.Cond.selects "XactKernelModel" ({ cls := "XactKernelModel", name := "item", desc := "(II)I" } : Jvm.MethodName) ({ cls := "XactKernelModel", name := "item", desc := "(II)I" } : Jvm.MethodName)) ∈ lw_all := lw_g (lw_at lw_m7 232 rfl) rfl
theorem q1730 : (Jvm.Cond.code ({ cls := "XactKernelModel", name := "item", desc := "(II)I" } : Jvm.MethodName) prog_12_method_55_code (5 : Nat) (Option.some Jvm.ClassFile.FieldType.int)) ∈ lw_all := lw_g (lw_at lw_m7 233 rfl) rfl
theorem q1732 : (Jvm.Cond.instanceMethod ({ cls := "XactKernelModel", name := "cell", desc := "(II)I" } : Jvm.MethodName)) ∈ lw_all := lw_g (lw_at lw_m7 235 rfl) rfl
theorem q1733 : (Jvm.Cond.selects "XactKernelModel" ({ cls := "XactKernelModel", name := "cell", desc := "(II)I" } : Jvm.MethodName) ({ cls := "XactKernelModel", name := "cell", desc := "(II)I" } : Jvm.MethodName)) ∈ lw_all := lw_g (lw_at lw_m7 236 rfl) rfl
theorem q1734 : (Jvm.Cond.code ({ cls := "XactKernelModel", name := "cell", desc := "(II)I" } : Jvm.MethodName) prog_12_method_56_code (3 : Nat) (Option.some Jvm.ClassFile.FieldType.int)) ∈ lw_all := lw_g (lw_at lw_m7 237 rfl) rfl
theorem q1736 : (Jvm.Cond.instanceMethod ({ cls := "XactKernelModel", name := "look", desc := "(II)I" } : Jvm.MethodName)) ∈ lw_all := lw_g (lw_at lw_m7 239 rfl) rfl
theorem q1737 : (Jvm.Cond.selects "XactKernelModel" ({ cls := "XactKernelModel", name := "look", desc := "(II)I" } : Jvm.MethodName) ({ cls := "XactKernelModel", name := "look", desc := "(II)I" } : Jvm.MethodName)) ∈ lw_all := lw_g (lw_at lw_m8 0 rfl) rfl
theorem q1738 : (Jvm.Cond.code ({ cls := "XactKernelModel", name := "look", desc := "(II)I" } : Jvm.MethodName) prog_12_method_57_code (3 : Nat) (Option.some Jvm.ClassFile.FieldType.int)) ∈ lw_all := lw_g (lw_at lw_m8 1 rfl) rfl
theorem q1740 : (Jvm.Cond.instanceMethod ({ cls := "XactKernelModel", name := "count", desc := "(I)I" } : Jvm.MethodName)) ∈ lw_all := lw_g (lw_at lw_m8 3 rfl) rfl
theorem q1741 : (Jvm.Cond.selects "XactKernelModel" ({ cls := "XactKernelModel", name := "count", desc := "(I)I" } : Jvm.MethodName) ({ cls := "XactKernelModel", name := "count", desc := "(I)I" } : Jvm.MethodName)) ∈ lw_all := lw_g (lw_at lw_m8 4 rfl) rfl
theorem q1742 : (Jvm.Cond.code ({ cls := "XactKernelModel", name := "count", desc := "(I)I" } : Jvm.MethodName) prog_12_method_58_code (4 : Nat) (Option.some Jvm.ClassFile.FieldType.int)) ∈ lw_all := lw_g (lw_at lw_m8 5 rfl) rfl
theorem q1769 : (Jvm.Cond.castable "XactKernelModel" "java/lang/Object") ∈ lw_tbl := lw_at lw_m8 32 rfl
theorem in_X5 : ∀ w ∈ wsX50, w ∈ lw_all := lw_in wsX50 [1455, 1457, 1459, 1461, 1463, 1465, 1467, 1469, 1471, 1473, 1475, 1477, 1479, 1481, 1483, 1485, 1487, 1489, 1491, 1493, 1495, 1497, 1499, 1501, 1503, 1505, 1507, 1509, 1511, 1513, 1515] (by decide +kernel) (by decide +kernel)
/-! java/lang/IndexOutOfBoundsException -/
def RJ18 : String := "java/lang/IndexOutOfBoundsException"
def TJ18 : u_T := fun k => match k with
  | 0 => ("java/lang/Throwable", "cause", "Ljava/lang/Throwable;", false)
  | 1 => ("java/lang/Throwable", "stackTrace", "[Ljava/lang/StackTraceElement;", false)
  | 2 => ("java/lang/Throwable", "suppressedExceptions", "Ljava/util/List;", false)
  | 3 => ("java/lang/Throwable", "detailMessage", "Ljava/lang/String;", false)
  | 4 => ("java/lang/Throwable", "backtrace", "Ljava/lang/Object;", false)
  | _ => ("java/lang/Throwable", "depth", "I", false)
def tyJ18 : Nat → FieldType := fun k => match k with
  | 0 => .object "java/lang/Throwable"
  | 1 => .array (.object "java/lang/StackTraceElement")
  | 2 => .object "java/util/List"
  | 3 => .object "java/lang/String"
  | 4 => .object "java/lang/Object"
  | _ => .int
abbrev wsJ180 : List Cond := u_ws RJ18 TJ18 6
theorem nmJ18 : ∀ a, a < 6 → ∀ b, b < 6 → a ≠ b → (TJ18 a).2.1 ≠ (TJ18 b).2.1 := by decide +kernel
theorem tyJ18_ok : ∀ k, k < 6 → parseFieldDescriptor (TJ18 k).2.2.1 = some (tyJ18 k) := by decide +kernel
abbrev cJ18_init : ByteArray := prog_23_method_2_code
def yJ18_init : MethodName := ⟨RJ18, "<init>", "(Ljava/lang/String;)V"⟩
abbrev cJ18_init_2 : ByteArray := prog_23_method_1_code
def yJ18_init_2 : MethodName := ⟨RJ18, "<init>", "()V"⟩
theorem q82 : (Jvm.Cond.initialized "java/lang/IndexOutOfBoundsException") ∈ lw_all := lw_g (lw_at lw_m1 25 rfl) rfl
theorem q189 : (Jvm.Cond.selects "java/lang/IndexOutOfBoundsException" ({ cls := "java/lang/Throwable", name := "fillInStackTrace", desc := "()Ljava/lang/Throwable;" } : Jvm.MethodName) ({ cls := "java/lang/Throwable", name := "fillInStackTrace", desc := "()Ljava/lang/Throwable;" } : Jvm.MethodName)) ∈ lw_all := lw_g (lw_at lw_m1 132 rfl) rfl
theorem q540 : (Jvm.Cond.instanceMethod ({ cls := "java/lang/IndexOutOfBoundsException", name := "<init>", desc := "(Ljava/lang/String;)V" } : Jvm.MethodName)) ∈ lw_all := lw_g (lw_at lw_m3 3 rfl) rfl
theorem q541 : (Jvm.Cond.code ({ cls := "java/lang/IndexOutOfBoundsException", name := "<init>", desc := "(Ljava/lang/String;)V" } : Jvm.MethodName) prog_23_method_2_code (2 : Nat) (Option.none : Option Jvm.ClassFile.FieldType)) ∈ lw_all := lw_g (lw_at lw_m3 4 rfl) rfl
theorem q542 : (Jvm.Cond.methodLink "java/lang/IndexOutOfBoundsException" (7 : Nat) ({ cls := "java/lang/RuntimeException", name := "<init>", desc := "(Ljava/lang/String;)V" } : Jvm.MethodName)) ∈ lw_all := lw_g (lw_at lw_m3 5 rfl) rfl
theorem q551 : (Jvm.Cond.declares ({ cls := "java/lang/IndexOutOfBoundsException", name := "<init>", desc := "()V" } : Jvm.MethodName)) ∈ lw_tbl := lw_at lw_m3 14 rfl
theorem q552 : (Jvm.Cond.declares ({ cls := "java/lang/IndexOutOfBoundsException", name := "<init>", desc := "(Ljava/lang/String;)V" } : Jvm.MethodName)) ∈ lw_tbl := lw_at lw_m3 15 rfl
theorem q601 : (Jvm.Cond.instantiable "java/lang/IndexOutOfBoundsException" (6 : Nat)) ∈ lw_all := lw_g (lw_at lw_m3 64 rfl) rfl
theorem q602 : (Jvm.Cond.castable "java/lang/IndexOutOfBoundsException" "java/lang/IndexOutOfBoundsException") ∈ lw_tbl := lw_at lw_m3 65 rfl
theorem q603 : (Jvm.Cond.selects "java/lang/IndexOutOfBoundsException" ({ cls := "java/lang/Throwable", name := "fillInStackTrace", desc := "(I)Ljava/lang/Throwable;" } : Jvm.MethodName) ({ cls := "java/lang/Throwable", name := "fillInStackTrace", desc := "(I)Ljava/lang/Throwable;" } : Jvm.MethodName)) ∈ lw_all := lw_g (lw_at lw_m3 66 rfl) rfl
theorem q604 : (Jvm.Cond.lays "java/lang/IndexOutOfBoundsException" "java/lang/Throwable" "cause" "Ljava/lang/Throwable;") ∈ lw_all := lw_g (lw_at lw_m3 67 rfl) rfl
theorem q605 : (Jvm.Cond.lays "java/lang/IndexOutOfBoundsException" "java/lang/Throwable" "stackTrace" "[Ljava/lang/StackTraceElement;") ∈ lw_all := lw_g (lw_at lw_m3 68 rfl) rfl
theorem q606 : (Jvm.Cond.lays "java/lang/IndexOutOfBoundsException" "java/lang/Throwable" "suppressedExceptions" "Ljava/util/List;") ∈ lw_all := lw_g (lw_at lw_m3 69 rfl) rfl
theorem q607 : (Jvm.Cond.lays "java/lang/IndexOutOfBoundsException" "java/lang/Throwable" "detailMessage" "Ljava/lang/String;") ∈ lw_all := lw_g (lw_at lw_m3 70 rfl) rfl
theorem q608 : (Jvm.Cond.lays "java/lang/IndexOutOfBoundsException" "java/lang/Throwable" "backtrace" "Ljava/lang/Object;") ∈ lw_all := lw_g (lw_at lw_m3 71 rfl) rfl
theorem q610 : (Jvm.Cond.instanceMethod ({ cls := "java/lang/IndexOutOfBoundsException", name := "<init>", desc := "()V" } : Jvm.MethodName)) ∈ lw_all := lw_g (lw_at lw_m3 73 rfl) rfl
theorem q611 : (Jvm.Cond.code ({ cls := "java/lang/IndexOutOfBoundsException", name := "<init>", desc := "()V" } : Jvm.MethodName) prog_23_method_1_code (1 : Nat) (Option.none : Option Jvm.ClassFile.FieldType)) ∈ lw_all := lw_g (lw_at lw_m3 74 rfl) rfl
theorem q612 : (Jvm.Cond.methodLink "java/lang/IndexOutOfBoundsException" (1 : Nat) ({ cls := "java/lang/RuntimeException", name := "<init>", desc := "()V" } : Jvm.MethodName)) ∈ lw_all := lw_g (lw_at lw_m3 75 rfl) rfl
theorem q613 : (Jvm.Cond.lays "java/lang/IndexOutOfBoundsException" "java/lang/Throwable" "depth" "I") ∈ lw_all := lw_g (lw_at lw_m3 76 rfl) rfl
theorem q614 : (Jvm.Cond.superclass "java/lang/IndexOutOfBoundsException" "java/lang/RuntimeException") ∈ lw_all := lw_g (lw_at lw_m3 77 rfl) rfl
theorem q720 : (Jvm.Cond.selects "java/lang/IndexOutOfBoundsException" ({ cls := "java/lang/Object", name := "getClass", desc := "()Ljava/lang/Class;" } : Jvm.MethodName) ({ cls := "java/lang/Object", name := "getClass", desc := "()Ljava/lang/Class;" } : Jvm.MethodName)) ∈ lw_all := lw_g (lw_at lw_m3 183 rfl) rfl
theorem q803 : (Jvm.Cond.selects "java/lang/IndexOutOfBoundsException" ({ cls := "java/lang/Object", name := "equals", desc := "(Ljava/lang/Object;)Z" } : Jvm.MethodName) ({ cls := "java/lang/Object", name := "equals", desc := "(Ljava/lang/Object;)Z" } : Jvm.MethodName)) ∈ lw_all := lw_g (lw_at lw_m4 26 rfl) rfl
theorem q1772 : (Jvm.Cond.castable "java/lang/IndexOutOfBoundsException" "java/lang/Object") ∈ lw_tbl := lw_at lw_m8 35 rfl
theorem in_J18 : ∀ w ∈ wsJ180, w ∈ lw_all := lw_in wsJ180 [604, 605, 606, 607, 608, 613] (by decide +kernel) (by decide +kernel)
/-! java/lang/ArrayIndexOutOfBoundsException -/
def RJ19 : String := "java/lang/ArrayIndexOutOfBoundsException"
def TJ19 : u_T := fun k => match k with
  | 0 => ("java/lang/Throwable", "backtrace", "Ljava/lang/Object;", false)
  | 1 => ("java/lang/Throwable", "detailMessage", "Ljava/lang/String;", false)
  | 2 => ("java/lang/Throwable", "cause", "Ljava/lang/Throwable;", false)
  | 3 => ("java/lang/Throwable", "stackTrace", "[Ljava/lang/StackTraceElement;", false)
  | 4 => ("java/lang/Throwable", "depth", "I", false)
  | _ => ("java/lang/Throwable", "suppressedExceptions", "Ljava/util/List;", false)
def tyJ19 : Nat → FieldType := fun k => match k with
  | 0 => .object "java/lang/Object"
  | 1 => .object "java/lang/String"
  | 2 => .object "java/lang/Throwable"
  | 3 => .array (.object "java/lang/StackTraceElement")
  | 4 => .int
  | _ => .object "java/util/List"
abbrev wsJ190 : List Cond := u_ws RJ19 TJ19 6
theorem nmJ19 : ∀ a, a < 6 → ∀ b, b < 6 → a ≠ b → (TJ19 a).2.1 ≠ (TJ19 b).2.1 := by decide +kernel
theorem tyJ19_ok : ∀ k, k < 6 → parseFieldDescriptor (TJ19 k).2.2.1 = some (tyJ19 k) := by decide +kernel
abbrev cJ19_init : ByteArray := prog_16_method_2_code
def yJ19_init : MethodName := ⟨RJ19, "<init>", "(Ljava/lang/String;)V"⟩
theorem q83 : (Jvm.Cond.initialized "java/lang/ArrayIndexOutOfBoundsException") ∈ lw_all := lw_g (lw_at lw_m1 26 rfl) rfl
theorem q187 : (Jvm.Cond.selects "java/lang/ArrayIndexOutOfBoundsException" ({ cls := "java/lang/Throwable", name := "fillInStackTrace", desc := "()Ljava/lang/Throwable;" } : Jvm.MethodName) ({ cls := "java/lang/Throwable", name := "fillInStackTrace", desc := "()Ljava/lang/Throwable;" } : Jvm.MethodName)) ∈ lw_all := lw_g (lw_at lw_m1 130 rfl) rfl
theorem q536 : (Jvm.Cond.instantiable "java/lang/ArrayIndexOutOfBoundsException" (6 : Nat)) ∈ lw_all := lw_g (lw_at lw_m2 239 rfl) rfl
theorem q537 : (Jvm.Cond.instanceMethod ({ cls := "java/lang/ArrayIndexOutOfBoundsException", name := "<init>", desc := "(Ljava/lang/String;)V" } : Jvm.MethodName)) ∈ lw_all := lw_g (lw_at lw_m3 0 rfl) rfl
theorem q538 : (Jvm.Cond.code ({ cls := "java/lang/ArrayIndexOutOfBoundsException", name := "<init>", desc := "(Ljava/lang/String;)V" } : Jvm.MethodName) prog_16_method_2_code (2 : Nat) (Option.none : Option Jvm.ClassFile.FieldType)) ∈ lw_all := lw_g (lw_at lw_m3 1 rfl) rfl
theorem q539 : (Jvm.Cond.methodLink "java/lang/ArrayIndexOutOfBoundsException" (7 : Nat) ({ cls := "java/lang/IndexOutOfBoundsException", name := "<init>", desc := "(Ljava/lang/String;)V" } : Jvm.MethodName)) ∈ lw_all := lw_g (lw_at lw_m3 2 rfl) rfl
theorem q543 : (Jvm.Cond.lays "java/lang/ArrayIndexOutOfBoundsException" "java/lang/Throwable" "backtrace" "Ljava/lang/Object;") ∈ lw_all := lw_g (lw_at lw_m3 6 rfl) rfl
theorem q544 : (Jvm.Cond.lays "java/lang/ArrayIndexOutOfBoundsException" "java/lang/Throwable" "detailMessage" "Ljava/lang/String;") ∈ lw_all := lw_g (lw_at lw_m3 7 rfl) rfl
theorem q545 : (Jvm.Cond.lays "java/lang/ArrayIndexOutOfBoundsException" "java/lang/Throwable" "cause" "Ljava/lang/Throwable;") ∈ lw_all := lw_g (lw_at lw_m3 8 rfl) rfl
theorem q546 : (Jvm.Cond.lays "java/lang/ArrayIndexOutOfBoundsException" "java/lang/Throwable" "stackTrace" "[Ljava/lang/StackTraceElement;") ∈ lw_all := lw_g (lw_at lw_m3 9 rfl) rfl
theorem q547 : (Jvm.Cond.lays "java/lang/ArrayIndexOutOfBoundsException" "java/lang/Throwable" "depth" "I") ∈ lw_all := lw_g (lw_at lw_m3 10 rfl) rfl
theorem q548 : (Jvm.Cond.lays "java/lang/ArrayIndexOutOfBoundsException" "java/lang/Throwable" "suppressedExceptions" "Ljava/util/List;") ∈ lw_all := lw_g (lw_at lw_m3 11 rfl) rfl
theorem q549 : (Jvm.Cond.superclass "java/lang/ArrayIndexOutOfBoundsException" "java/lang/IndexOutOfBoundsException") ∈ lw_all := lw_g (lw_at lw_m3 12 rfl) rfl
theorem q550 : (Jvm.Cond.castable "java/lang/ArrayIndexOutOfBoundsException" "java/lang/ArrayIndexOutOfBoundsException") ∈ lw_tbl := lw_at lw_m3 13 rfl
theorem q553 : (Jvm.Cond.selects "java/lang/ArrayIndexOutOfBoundsException" ({ cls := "java/lang/Throwable", name := "fillInStackTrace", desc := "(I)Ljava/lang/Throwable;" } : Jvm.MethodName) ({ cls := "java/lang/Throwable", name := "fillInStackTrace", desc := "(I)Ljava/lang/Throwable;" } : Jvm.MethodName)) ∈ lw_all := lw_g (lw_at lw_m3 16 rfl) rfl
theorem q717 : (Jvm.Cond.selects "java/lang/ArrayIndexOutOfBoundsException" ({ cls := "java/lang/Object", name := "getClass", desc := "()Ljava/lang/Class;" } : Jvm.MethodName) ({ cls := "java/lang/Object", name := "getClass", desc := "()Ljava/lang/Class;" } : Jvm.MethodName)) ∈ lw_all := lw_g (lw_at lw_m3 180 rfl) rfl
theorem q800 : (Jvm.Cond.selects "java/lang/ArrayIndexOutOfBoundsException" ({ cls := "java/lang/Object", name := "equals", desc := "(Ljava/lang/Object;)Z" } : Jvm.MethodName) ({ cls := "java/lang/Object", name := "equals", desc := "(Ljava/lang/Object;)Z" } : Jvm.MethodName)) ∈ lw_all := lw_g (lw_at lw_m4 23 rfl) rfl
theorem q1753 : (Jvm.Cond.castable "java/lang/ArrayIndexOutOfBoundsException" "java/lang/IndexOutOfBoundsException") ∈ lw_tbl := lw_at lw_m8 16 rfl
theorem q1770 : (Jvm.Cond.castable "java/lang/ArrayIndexOutOfBoundsException" "java/lang/Object") ∈ lw_tbl := lw_at lw_m8 33 rfl
theorem in_J19 : ∀ w ∈ wsJ190, w ∈ lw_all := lw_in wsJ190 [543, 544, 545, 546, 547, 548] (by decide +kernel) (by decide +kernel)
/-! java/lang/IllegalStateException -/
def RJ20 : String := "java/lang/IllegalStateException"
def TJ20 : u_T := fun k => match k with
  | 0 => ("java/lang/Throwable", "cause", "Ljava/lang/Throwable;", false)
  | 1 => ("java/lang/Throwable", "stackTrace", "[Ljava/lang/StackTraceElement;", false)
  | 2 => ("java/lang/Throwable", "suppressedExceptions", "Ljava/util/List;", false)
  | 3 => ("java/lang/Throwable", "detailMessage", "Ljava/lang/String;", false)
  | 4 => ("java/lang/Throwable", "backtrace", "Ljava/lang/Object;", false)
  | _ => ("java/lang/Throwable", "depth", "I", false)
def tyJ20 : Nat → FieldType := fun k => match k with
  | 0 => .object "java/lang/Throwable"
  | 1 => .array (.object "java/lang/StackTraceElement")
  | 2 => .object "java/util/List"
  | 3 => .object "java/lang/String"
  | 4 => .object "java/lang/Object"
  | _ => .int
abbrev wsJ200 : List Cond := u_ws RJ20 TJ20 6
theorem nmJ20 : ∀ a, a < 6 → ∀ b, b < 6 → a ≠ b → (TJ20 a).2.1 ≠ (TJ20 b).2.1 := by decide +kernel
theorem tyJ20_ok : ∀ k, k < 6 → parseFieldDescriptor (TJ20 k).2.2.1 = some (tyJ20 k) := by decide +kernel
abbrev cJ20_init : ByteArray := prog_22_method_1_code
def yJ20_init : MethodName := ⟨RJ20, "<init>", "()V"⟩
theorem q84 : (Jvm.Cond.initialized "java/lang/IllegalStateException") ∈ lw_all := lw_g (lw_at lw_m1 27 rfl) rfl
theorem q188 : (Jvm.Cond.selects "java/lang/IllegalStateException" ({ cls := "java/lang/Throwable", name := "fillInStackTrace", desc := "()Ljava/lang/Throwable;" } : Jvm.MethodName) ({ cls := "java/lang/Throwable", name := "fillInStackTrace", desc := "()Ljava/lang/Throwable;" } : Jvm.MethodName)) ∈ lw_all := lw_g (lw_at lw_m1 131 rfl) rfl
theorem q583 : (Jvm.Cond.instantiable "java/lang/IllegalStateException" (6 : Nat)) ∈ lw_all := lw_g (lw_at lw_m3 46 rfl) rfl
theorem q584 : (Jvm.Cond.castable "java/lang/IllegalStateException" "java/lang/IllegalStateException") ∈ lw_tbl := lw_at lw_m3 47 rfl
theorem q585 : (Jvm.Cond.selects "java/lang/IllegalStateException" ({ cls := "java/lang/Throwable", name := "fillInStackTrace", desc := "(I)Ljava/lang/Throwable;" } : Jvm.MethodName) ({ cls := "java/lang/Throwable", name := "fillInStackTrace", desc := "(I)Ljava/lang/Throwable;" } : Jvm.MethodName)) ∈ lw_all := lw_g (lw_at lw_m3 48 rfl) rfl
theorem q586 : (Jvm.Cond.lays "java/lang/IllegalStateException" "java/lang/Throwable" "cause" "Ljava/lang/Throwable;") ∈ lw_all := lw_g (lw_at lw_m3 49 rfl) rfl
theorem q587 : (Jvm.Cond.lays "java/lang/IllegalStateException" "java/lang/Throwable" "stackTrace" "[Ljava/lang/StackTraceElement;") ∈ lw_all := lw_g (lw_at lw_m3 50 rfl) rfl
theorem q588 : (Jvm.Cond.lays "java/lang/IllegalStateException" "java/lang/Throwable" "suppressedExceptions" "Ljava/util/List;") ∈ lw_all := lw_g (lw_at lw_m3 51 rfl) rfl
theorem q589 : (Jvm.Cond.lays "java/lang/IllegalStateException" "java/lang/Throwable" "detailMessage" "Ljava/lang/String;") ∈ lw_all := lw_g (lw_at lw_m3 52 rfl) rfl
theorem q590 : (Jvm.Cond.lays "java/lang/IllegalStateException" "java/lang/Throwable" "backtrace" "Ljava/lang/Object;") ∈ lw_all := lw_g (lw_at lw_m3 53 rfl) rfl
theorem q592 : (Jvm.Cond.instanceMethod ({ cls := "java/lang/IllegalStateException", name := "<init>", desc := "()V" } : Jvm.MethodName)) ∈ lw_all := lw_g (lw_at lw_m3 55 rfl) rfl
theorem q593 : (Jvm.Cond.code ({ cls := "java/lang/IllegalStateException", name := "<init>", desc := "()V" } : Jvm.MethodName) prog_22_method_1_code (1 : Nat) (Option.none : Option Jvm.ClassFile.FieldType)) ∈ lw_all := lw_g (lw_at lw_m3 56 rfl) rfl
theorem q594 : (Jvm.Cond.methodLink "java/lang/IllegalStateException" (1 : Nat) ({ cls := "java/lang/RuntimeException", name := "<init>", desc := "()V" } : Jvm.MethodName)) ∈ lw_all := lw_g (lw_at lw_m3 57 rfl) rfl
theorem q595 : (Jvm.Cond.lays "java/lang/IllegalStateException" "java/lang/Throwable" "depth" "I") ∈ lw_all := lw_g (lw_at lw_m3 58 rfl) rfl
theorem q596 : (Jvm.Cond.superclass "java/lang/IllegalStateException" "java/lang/RuntimeException") ∈ lw_all := lw_g (lw_at lw_m3 59 rfl) rfl
theorem q719 : (Jvm.Cond.selects "java/lang/IllegalStateException" ({ cls := "java/lang/Object", name := "getClass", desc := "()Ljava/lang/Class;" } : Jvm.MethodName) ({ cls := "java/lang/Object", name := "getClass", desc := "()Ljava/lang/Class;" } : Jvm.MethodName)) ∈ lw_all := lw_g (lw_at lw_m3 182 rfl) rfl
theorem q802 : (Jvm.Cond.selects "java/lang/IllegalStateException" ({ cls := "java/lang/Object", name := "equals", desc := "(Ljava/lang/Object;)Z" } : Jvm.MethodName) ({ cls := "java/lang/Object", name := "equals", desc := "(Ljava/lang/Object;)Z" } : Jvm.MethodName)) ∈ lw_all := lw_g (lw_at lw_m4 25 rfl) rfl
theorem q1771 : (Jvm.Cond.castable "java/lang/IllegalStateException" "java/lang/Object") ∈ lw_tbl := lw_at lw_m8 34 rfl
theorem in_J20 : ∀ w ∈ wsJ200, w ∈ lw_all := lw_in wsJ200 [586, 587, 588, 589, 590, 595] (by decide +kernel) (by decide +kernel)
/-! XactKernel$Transaction -/
def RX6 : String := "XactKernel$Transaction"
def TX6 : u_T := fun k => match k with
  | 0 => ("XactKernel$Transaction", "process", "LXactKernel$Process;", true)
  | 1 => ("XactKernel$Transaction", "alone", "Z", true)
  | 2 => ("XactKernel$Transaction", "copies", "[LXactKernel$Item;", true)
  | 3 => ("XactKernel$Transaction", "reads", "[Z", true)
  | 4 => ("XactKernel$Transaction", "frees", "[Z", true)
  | 5 => ("XactKernel$Transaction", "signals", "Ljava/util/List;", true)
  | _ => ("XactKernel$Transaction", "before", "[LXactKernel$Descriptor;", true)
def tyX6 : Nat → FieldType := fun k => match k with
  | 0 => .object "XactKernel$Process"
  | 1 => .boolean
  | 2 => .array (.object "XactKernel$Item")
  | 3 => .array .boolean
  | 4 => .array .boolean
  | 5 => .object "java/util/List"
  | _ => .array (.object "XactKernel$Descriptor")
abbrev wsX60 : List Cond := u_ws RX6 TX6 7
theorem nmX6 : ∀ a, a < 7 → ∀ b, b < 7 → a ≠ b → (TX6 a).2.1 ≠ (TX6 b).2.1 := by decide +kernel
theorem tyX6_ok : ∀ k, k < 7 → parseFieldDescriptor (TX6 k).2.2.1 = some (tyX6 k) := by decide +kernel
abbrev cX6_init : ByteArray := prog_10_method_1_code
def yX6_init : MethodName := ⟨RX6, "<init>", "(LXactKernel$Process;Z)V"⟩
abbrev cX6_wrote : ByteArray := prog_10_method_2_code
def yX6_wrote : MethodName := ⟨RX6, "wrote", "(I)Z"⟩
theorem q85 : (Jvm.Cond.initialized "XactKernel$Transaction") ∈ lw_all := lw_g (lw_at lw_m1 28 rfl) rfl
theorem q484 : (Jvm.Cond.fieldLink "XactKernel$Transaction" (47 : Nat) "XactKernel$Process" "descriptors" "[LXactKernel$Descriptor;") ∈ lw_all := lw_g (lw_at lw_m2 187 rfl) rfl
theorem q616 : (Jvm.Cond.instantiable "XactKernel$Transaction" (7 : Nat)) ∈ lw_all := lw_g (lw_at lw_m3 79 rfl) rfl
theorem q618 : (Jvm.Cond.instanceMethod ({ cls := "XactKernel$Transaction", name := "<init>", desc := "(LXactKernel$Process;Z)V" } : Jvm.MethodName)) ∈ lw_all := lw_g (lw_at lw_m3 81 rfl) rfl
theorem q619 : (Jvm.Cond.code ({ cls := "XactKernel$Transaction", name := "<init>", desc := "(LXactKernel$Process;Z)V" } : Jvm.MethodName) prog_10_method_1_code (4 : Nat) (Option.none : Option Jvm.ClassFile.FieldType)) ∈ lw_all := lw_g (lw_at lw_m3 82 rfl) rfl
theorem q620 : (Jvm.Cond.methodLink "XactKernel$Transaction" (3 : Nat) ({ cls := "java/lang/Object", name := "<init>", desc := "()V" } : Jvm.MethodName)) ∈ lw_all := lw_g (lw_at lw_m3 83 rfl) rfl
theorem q621 : (Jvm.Cond.classLink "XactKernel$Transaction" (9 : Nat) "XactKernel$Item") ∈ lw_all := lw_g (lw_at lw_m3 84 rfl) rfl
theorem q622 : (Jvm.Cond.classLink "XactKernel$Transaction" (24 : Nat) "java/util/ArrayList") ∈ lw_all := lw_g (lw_at lw_m3 85 rfl) rfl
theorem q623 : (Jvm.Cond.methodLink "XactKernel$Transaction" (26 : Nat) ({ cls := "java/util/ArrayList", name := "<init>", desc := "(I)V" } : Jvm.MethodName)) ∈ lw_all := lw_g (lw_at lw_m3 86 rfl) rfl
theorem q624 : (Jvm.Cond.classLink "XactKernel$Transaction" (33 : Nat) "XactKernel$Descriptor") ∈ lw_all := lw_g (lw_at lw_m3 87 rfl) rfl
theorem q625 : (Jvm.Cond.methodLink "XactKernel$Transaction" (52 : Nat) ({ cls := "XactKernel$Descriptor", name := "copy", desc := "()LXactKernel$Descriptor;" } : Jvm.MethodName)) ∈ lw_all := lw_g (lw_at lw_m3 88 rfl) rfl
theorem q649 : (Jvm.Cond.fieldLink "XactKernel$Transaction" (39 : Nat) "XactKernel$Transaction" "process" "LXactKernel$Process;") ∈ lw_all := lw_g (lw_at lw_m3 112 rfl) rfl
theorem q651 : (Jvm.Cond.fieldLink "XactKernel$Transaction" (43 : Nat) "XactKernel$Transaction" "alone" "Z") ∈ lw_all := lw_g (lw_at lw_m3 114 rfl) rfl
theorem q653 : (Jvm.Cond.fieldLink "XactKernel$Transaction" (11 : Nat) "XactKernel$Transaction" "copies" "[LXactKernel$Item;") ∈ lw_all := lw_g (lw_at lw_m3 116 rfl) rfl
theorem q655 : (Jvm.Cond.fieldLink "XactKernel$Transaction" (17 : Nat) "XactKernel$Transaction" "reads" "[Z") ∈ lw_all := lw_g (lw_at lw_m3 118 rfl) rfl
theorem q657 : (Jvm.Cond.fieldLink "XactKernel$Transaction" (21 : Nat) "XactKernel$Transaction" "frees" "[Z") ∈ lw_all := lw_g (lw_at lw_m3 120 rfl) rfl
theorem q659 : (Jvm.Cond.fieldLink "XactKernel$Transaction" (29 : Nat) "XactKernel$Transaction" "signals" "Ljava/util/List;") ∈ lw_all := lw_g (lw_at lw_m3 122 rfl) rfl
theorem q661 : (Jvm.Cond.fieldLink "XactKernel$Transaction" (35 : Nat) "XactKernel$Transaction" "before" "[LXactKernel$Descriptor;") ∈ lw_all := lw_g (lw_at lw_m3 124 rfl) rfl
theorem q663 : (Jvm.Cond.laysFinal "XactKernel$Transaction" "XactKernel$Transaction" "process" "LXactKernel$Process;") ∈ lw_all := lw_g (lw_at lw_m3 126 rfl) rfl
theorem q664 : (Jvm.Cond.soleField "XactKernel$Transaction" "process") ∈ lw_all := lw_g (lw_at lw_m3 127 rfl) rfl
theorem q665 : (Jvm.Cond.laysFinal "XactKernel$Transaction" "XactKernel$Transaction" "alone" "Z") ∈ lw_all := lw_g (lw_at lw_m3 128 rfl) rfl
theorem q666 : (Jvm.Cond.soleField "XactKernel$Transaction" "alone") ∈ lw_all := lw_g (lw_at lw_m3 129 rfl) rfl
theorem q667 : (Jvm.Cond.laysFinal "XactKernel$Transaction" "XactKernel$Transaction" "copies" "[LXactKernel$Item;") ∈ lw_all := lw_g (lw_at lw_m3 130 rfl) rfl
theorem q668 : (Jvm.Cond.soleField "XactKernel$Transaction" "copies") ∈ lw_all := lw_g (lw_at lw_m3 131 rfl) rfl
theorem q669 : (Jvm.Cond.laysFinal "XactKernel$Transaction" "XactKernel$Transaction" "reads" "[Z") ∈ lw_all := lw_g (lw_at lw_m3 132 rfl) rfl
theorem q670 : (Jvm.Cond.soleField "XactKernel$Transaction" "reads") ∈ lw_all := lw_g (lw_at lw_m3 133 rfl) rfl
theorem q671 : (Jvm.Cond.laysFinal "XactKernel$Transaction" "XactKernel$Transaction" "frees" "[Z") ∈ lw_all := lw_g (lw_at lw_m3 134 rfl) rfl
theorem q672 : (Jvm.Cond.soleField "XactKernel$Transaction" "frees") ∈ lw_all := lw_g (lw_at lw_m3 135 rfl) rfl
theorem q673 : (Jvm.Cond.laysFinal "XactKernel$Transaction" "XactKernel$Transaction" "signals" "Ljava/util/List;") ∈ lw_all := lw_g (lw_at lw_m3 136 rfl) rfl
theorem q674 : (Jvm.Cond.soleField "XactKernel$Transaction" "signals") ∈ lw_all := lw_g (lw_at lw_m3 137 rfl) rfl
theorem q675 : (Jvm.Cond.laysFinal "XactKernel$Transaction" "XactKernel$Transaction" "before" "[LXactKernel$Descriptor;") ∈ lw_all := lw_g (lw_at lw_m3 138 rfl) rfl
theorem q676 : (Jvm.Cond.soleField "XactKernel$Transaction" "before") ∈ lw_all := lw_g (lw_at lw_m3 139 rfl) rfl
theorem q677 : (Jvm.Cond.superclass "XactKernel$Transaction" "java/lang/Object") ∈ lw_all := lw_g (lw_at lw_m3 140 rfl) rfl
theorem q715 : (Jvm.Cond.selects "XactKernel$Transaction" ({ cls := "java/lang/Object", name := "getClass", desc := "()Ljava/lang/Class;" } : Jvm.MethodName) ({ cls := "java/lang/Object", name := "getClass", desc := "()Ljava/lang/Class;" } : Jvm.MethodName)) ∈ lw_all := lw_g (lw_at lw_m3 178 rfl) rfl
theorem q770 : (Jvm.Cond.instanceMethod ({ cls := "XactKernel$Transaction", name := "wrote", desc := "(I)Z" } : Jvm.MethodName)) ∈ lw_all := lw_g (lw_at lw_m3 233 rfl) rfl
theorem q771 : (Jvm.Cond.selects "XactKernel$Transaction" ({ cls := "XactKernel$Transaction", name := "wrote", desc := "(I)Z" } : Jvm.MethodName) ({ cls := "XactKernel$Transaction", name := "wrote", desc := "(I)Z" } : Jvm.MethodName)) ∈ lw_all := lw_g (lw_at lw_m3 234 rfl) rfl
theorem q772 : (Jvm.Cond.code ({ cls := "XactKernel$Transaction", name := "wrote", desc := "(I)Z" } : Jvm.MethodName) prog_10_method_2_code (2 : Nat) (Option.some Jvm.ClassFile.FieldType.boolean)) ∈ lw_all := lw_g (lw_at lw_m3 235 rfl) rfl
theorem q798 : (Jvm.Cond.selects "XactKernel$Transaction" ({ cls := "java/lang/Object", name := "equals", desc := "(Ljava/lang/Object;)Z" } : Jvm.MethodName) ({ cls := "java/lang/Object", name := "equals", desc := "(Ljava/lang/Object;)Z" } : Jvm.MethodName)) ∈ lw_all := lw_g (lw_at lw_m4 21 rfl) rfl
theorem q1773 : (Jvm.Cond.castable "XactKernel$Transaction" "java/lang/Object") ∈ lw_tbl := lw_at lw_m8 36 rfl
theorem in_X6 : ∀ w ∈ wsX60, w ∈ lw_all := lw_in wsX60 [663, 665, 667, 669, 671, 673, 675] (by decide +kernel) (by decide +kernel)
/-! XactKernel$Descriptor -/
def RX7 : String := "XactKernel$Descriptor"
def TX7 : u_T := fun k => match k with
  | 0 => ("XactKernel$Descriptor", "item", "I", true)
  | 1 => ("XactKernel$Descriptor", "writes", "Z", true)
  | _ => ("XactKernel$Descriptor", "place", "I", false)
def tyX7 : Nat → FieldType := fun k => match k with
  | 0 => .int
  | 1 => .boolean
  | _ => .int
abbrev wsX70 : List Cond := u_ws RX7 TX7 3
theorem nmX7 : ∀ a, a < 3 → ∀ b, b < 3 → a ≠ b → (TX7 a).2.1 ≠ (TX7 b).2.1 := by decide +kernel
theorem tyX7_ok : ∀ k, k < 3 → parseFieldDescriptor (TX7 k).2.2.1 = some (tyX7 k) := by decide +kernel
abbrev cX7_copy : ByteArray := prog_2_method_2_code
def yX7_copy : MethodName := ⟨RX7, "copy", "()LXactKernel$Descriptor;"⟩
abbrev cX7_init : ByteArray := prog_2_method_1_code
def yX7_init : MethodName := ⟨RX7, "<init>", "(IZI)V"⟩
theorem q86 : (Jvm.Cond.initialized "XactKernel$Descriptor") ∈ lw_all := lw_g (lw_at lw_m1 29 rfl) rfl
theorem q626 : (Jvm.Cond.instanceMethod ({ cls := "XactKernel$Descriptor", name := "copy", desc := "()LXactKernel$Descriptor;" } : Jvm.MethodName)) ∈ lw_all := lw_g (lw_at lw_m3 89 rfl) rfl
theorem q627 : (Jvm.Cond.selects "XactKernel$Descriptor" ({ cls := "XactKernel$Descriptor", name := "copy", desc := "()LXactKernel$Descriptor;" } : Jvm.MethodName) ({ cls := "XactKernel$Descriptor", name := "copy", desc := "()LXactKernel$Descriptor;" } : Jvm.MethodName)) ∈ lw_all := lw_g (lw_at lw_m3 90 rfl) rfl
theorem q628 : (Jvm.Cond.code ({ cls := "XactKernel$Descriptor", name := "copy", desc := "()LXactKernel$Descriptor;" } : Jvm.MethodName) prog_2_method_2_code (1 : Nat) (Option.some (Jvm.ClassFile.FieldType.object "XactKernel$Descriptor"))) ∈ lw_all := lw_g (lw_at lw_m3 91 rfl) rfl
theorem q629 : (Jvm.Cond.classLink "XactKernel$Descriptor" (8 : Nat) "XactKernel$Descriptor") ∈ lw_all := lw_g (lw_at lw_m3 92 rfl) rfl
theorem q630 : (Jvm.Cond.instantiable "XactKernel$Descriptor" (3 : Nat)) ∈ lw_all := lw_g (lw_at lw_m3 93 rfl) rfl
theorem q631 : (Jvm.Cond.methodLink "XactKernel$Descriptor" (20 : Nat) ({ cls := "XactKernel$Descriptor", name := "<init>", desc := "(IZI)V" } : Jvm.MethodName)) ∈ lw_all := lw_g (lw_at lw_m3 94 rfl) rfl
theorem q632 : (Jvm.Cond.instanceMethod ({ cls := "XactKernel$Descriptor", name := "<init>", desc := "(IZI)V" } : Jvm.MethodName)) ∈ lw_all := lw_g (lw_at lw_m3 95 rfl) rfl
theorem q633 : (Jvm.Cond.code ({ cls := "XactKernel$Descriptor", name := "<init>", desc := "(IZI)V" } : Jvm.MethodName) prog_2_method_1_code (4 : Nat) (Option.none : Option Jvm.ClassFile.FieldType)) ∈ lw_all := lw_g (lw_at lw_m3 96 rfl) rfl
theorem q634 : (Jvm.Cond.methodLink "XactKernel$Descriptor" (1 : Nat) ({ cls := "java/lang/Object", name := "<init>", desc := "()V" } : Jvm.MethodName)) ∈ lw_all := lw_g (lw_at lw_m3 97 rfl) rfl
theorem q635 : (Jvm.Cond.fieldLink "XactKernel$Descriptor" (7 : Nat) "XactKernel$Descriptor" "item" "I") ∈ lw_all := lw_g (lw_at lw_m3 98 rfl) rfl
theorem q637 : (Jvm.Cond.fieldLink "XactKernel$Descriptor" (13 : Nat) "XactKernel$Descriptor" "writes" "Z") ∈ lw_all := lw_g (lw_at lw_m3 100 rfl) rfl
theorem q639 : (Jvm.Cond.fieldLink "XactKernel$Descriptor" (17 : Nat) "XactKernel$Descriptor" "place" "I") ∈ lw_all := lw_g (lw_at lw_m3 102 rfl) rfl
theorem q641 : (Jvm.Cond.laysFinal "XactKernel$Descriptor" "XactKernel$Descriptor" "item" "I") ∈ lw_all := lw_g (lw_at lw_m3 104 rfl) rfl
theorem q642 : (Jvm.Cond.soleField "XactKernel$Descriptor" "item") ∈ lw_all := lw_g (lw_at lw_m3 105 rfl) rfl
theorem q643 : (Jvm.Cond.laysFinal "XactKernel$Descriptor" "XactKernel$Descriptor" "writes" "Z") ∈ lw_all := lw_g (lw_at lw_m3 106 rfl) rfl
theorem q644 : (Jvm.Cond.soleField "XactKernel$Descriptor" "writes") ∈ lw_all := lw_g (lw_at lw_m3 107 rfl) rfl
theorem q645 : (Jvm.Cond.lays "XactKernel$Descriptor" "XactKernel$Descriptor" "place" "I") ∈ lw_all := lw_g (lw_at lw_m3 108 rfl) rfl
theorem q646 : (Jvm.Cond.soleField "XactKernel$Descriptor" "place") ∈ lw_all := lw_g (lw_at lw_m3 109 rfl) rfl
theorem q647 : (Jvm.Cond.superclass "XactKernel$Descriptor" "java/lang/Object") ∈ lw_all := lw_g (lw_at lw_m3 110 rfl) rfl
theorem q708 : (Jvm.Cond.selects "XactKernel$Descriptor" ({ cls := "java/lang/Object", name := "getClass", desc := "()Ljava/lang/Class;" } : Jvm.MethodName) ({ cls := "java/lang/Object", name := "getClass", desc := "()Ljava/lang/Class;" } : Jvm.MethodName)) ∈ lw_all := lw_g (lw_at lw_m3 171 rfl) rfl
theorem q791 : (Jvm.Cond.selects "XactKernel$Descriptor" ({ cls := "java/lang/Object", name := "equals", desc := "(Ljava/lang/Object;)Z" } : Jvm.MethodName) ({ cls := "java/lang/Object", name := "equals", desc := "(Ljava/lang/Object;)Z" } : Jvm.MethodName)) ∈ lw_all := lw_g (lw_at lw_m4 14 rfl) rfl
theorem q1756 : (Jvm.Cond.castable "XactKernel$Descriptor" "java/lang/Object") ∈ lw_tbl := lw_at lw_m8 19 rfl
theorem in_X7 : ∀ w ∈ wsX70, w ∈ lw_all := lw_in wsX70 [641, 643, 645] (by decide +kernel) (by decide +kernel)
/-! java/util/NoSuchElementException -/
def RJ21 : String := "java/util/NoSuchElementException"
def TJ21 : u_T := fun k => match k with
  | 0 => ("java/lang/Throwable", "cause", "Ljava/lang/Throwable;", false)
  | 1 => ("java/lang/Throwable", "stackTrace", "[Ljava/lang/StackTraceElement;", false)
  | 2 => ("java/lang/Throwable", "suppressedExceptions", "Ljava/util/List;", false)
  | 3 => ("java/lang/Throwable", "detailMessage", "Ljava/lang/String;", false)
  | 4 => ("java/lang/Throwable", "backtrace", "Ljava/lang/Object;", false)
  | _ => ("java/lang/Throwable", "depth", "I", false)
def tyJ21 : Nat → FieldType := fun k => match k with
  | 0 => .object "java/lang/Throwable"
  | 1 => .array (.object "java/lang/StackTraceElement")
  | 2 => .object "java/util/List"
  | 3 => .object "java/lang/String"
  | 4 => .object "java/lang/Object"
  | _ => .int
abbrev wsJ210 : List Cond := u_ws RJ21 TJ21 6
theorem nmJ21 : ∀ a, a < 6 → ∀ b, b < 6 → a ≠ b → (TJ21 a).2.1 ≠ (TJ21 b).2.1 := by decide +kernel
theorem tyJ21_ok : ∀ k, k < 6 → parseFieldDescriptor (TJ21 k).2.2.1 = some (tyJ21 k) := by decide +kernel
abbrev cJ21_init : ByteArray := prog_47_method_1_code
def yJ21_init : MethodName := ⟨RJ21, "<init>", "()V"⟩
theorem q87 : (Jvm.Cond.initialized "java/util/NoSuchElementException") ∈ lw_all := lw_g (lw_at lw_m1 30 rfl) rfl
theorem q191 : (Jvm.Cond.selects "java/util/NoSuchElementException" ({ cls := "java/lang/Throwable", name := "fillInStackTrace", desc := "()Ljava/lang/Throwable;" } : Jvm.MethodName) ({ cls := "java/lang/Throwable", name := "fillInStackTrace", desc := "()Ljava/lang/Throwable;" } : Jvm.MethodName)) ∈ lw_all := lw_g (lw_at lw_m1 134 rfl) rfl
theorem q727 : (Jvm.Cond.selects "java/util/NoSuchElementException" ({ cls := "java/lang/Object", name := "getClass", desc := "()Ljava/lang/Class;" } : Jvm.MethodName) ({ cls := "java/lang/Object", name := "getClass", desc := "()Ljava/lang/Class;" } : Jvm.MethodName)) ∈ lw_all := lw_g (lw_at lw_m3 190 rfl) rfl
theorem q748 : (Jvm.Cond.instantiable "java/util/NoSuchElementException" (6 : Nat)) ∈ lw_all := lw_g (lw_at lw_m3 211 rfl) rfl
theorem q749 : (Jvm.Cond.castable "java/util/NoSuchElementException" "java/util/NoSuchElementException") ∈ lw_tbl := lw_at lw_m3 212 rfl
theorem q750 : (Jvm.Cond.selects "java/util/NoSuchElementException" ({ cls := "java/lang/Throwable", name := "fillInStackTrace", desc := "(I)Ljava/lang/Throwable;" } : Jvm.MethodName) ({ cls := "java/lang/Throwable", name := "fillInStackTrace", desc := "(I)Ljava/lang/Throwable;" } : Jvm.MethodName)) ∈ lw_all := lw_g (lw_at lw_m3 213 rfl) rfl
theorem q751 : (Jvm.Cond.lays "java/util/NoSuchElementException" "java/lang/Throwable" "cause" "Ljava/lang/Throwable;") ∈ lw_all := lw_g (lw_at lw_m3 214 rfl) rfl
theorem q752 : (Jvm.Cond.lays "java/util/NoSuchElementException" "java/lang/Throwable" "stackTrace" "[Ljava/lang/StackTraceElement;") ∈ lw_all := lw_g (lw_at lw_m3 215 rfl) rfl
theorem q753 : (Jvm.Cond.lays "java/util/NoSuchElementException" "java/lang/Throwable" "suppressedExceptions" "Ljava/util/List;") ∈ lw_all := lw_g (lw_at lw_m3 216 rfl) rfl
theorem q754 : (Jvm.Cond.lays "java/util/NoSuchElementException" "java/lang/Throwable" "detailMessage" "Ljava/lang/String;") ∈ lw_all := lw_g (lw_at lw_m3 217 rfl) rfl
theorem q755 : (Jvm.Cond.lays "java/util/NoSuchElementException" "java/lang/Throwable" "backtrace" "Ljava/lang/Object;") ∈ lw_all := lw_g (lw_at lw_m3 218 rfl) rfl
theorem q757 : (Jvm.Cond.instanceMethod ({ cls := "java/util/NoSuchElementException", name := "<init>", desc := "()V" } : Jvm.MethodName)) ∈ lw_all := lw_g (lw_at lw_m3 220 rfl) rfl
theorem q758 : (Jvm.Cond.code ({ cls := "java/util/NoSuchElementException", name := "<init>", desc := "()V" } : Jvm.MethodName) prog_47_method_1_code (1 : Nat) (Option.none : Option Jvm.ClassFile.FieldType)) ∈ lw_all := lw_g (lw_at lw_m3 221 rfl) rfl
theorem q759 : (Jvm.Cond.methodLink "java/util/NoSuchElementException" (1 : Nat) ({ cls := "java/lang/RuntimeException", name := "<init>", desc := "()V" } : Jvm.MethodName)) ∈ lw_all := lw_g (lw_at lw_m3 222 rfl) rfl
theorem q760 : (Jvm.Cond.lays "java/util/NoSuchElementException" "java/lang/Throwable" "depth" "I") ∈ lw_all := lw_g (lw_at lw_m3 223 rfl) rfl
theorem q761 : (Jvm.Cond.superclass "java/util/NoSuchElementException" "java/lang/RuntimeException") ∈ lw_all := lw_g (lw_at lw_m3 224 rfl) rfl
theorem q1774 : (Jvm.Cond.castable "java/util/NoSuchElementException" "java/lang/Object") ∈ lw_tbl := lw_at lw_m8 37 rfl
theorem in_J21 : ∀ w ∈ wsJ210, w ∈ lw_all := lw_in wsJ210 [751, 752, 753, 754, 755, 760] (by decide +kernel) (by decide +kernel)
/-! java/util/ArrayList$Itr -/
def RJ22 : String := "java/util/ArrayList$Itr"
def TJ22 : u_T := fun k => match k with
  | 0 => ("java/util/ArrayList$Itr", "cursor", "I", false)
  | 1 => ("java/util/ArrayList$Itr", "lastRet", "I", false)
  | 2 => ("java/util/ArrayList$Itr", "expectedModCount", "I", false)
  | _ => ("java/util/ArrayList$Itr", "this$0", "Ljava/util/ArrayList;", true)
def tyJ22 : Nat → FieldType := fun k => match k with
  | 0 => .int
  | 1 => .int
  | 2 => .int
  | _ => .object "java/util/ArrayList"
abbrev wsJ220 : List Cond := u_ws RJ22 TJ22 4
theorem nmJ22 : ∀ a, a < 4 → ∀ b, b < 4 → a ≠ b → (TJ22 a).2.1 ≠ (TJ22 b).2.1 := by decide +kernel
theorem tyJ22_ok : ∀ k, k < 4 → parseFieldDescriptor (TJ22 k).2.2.1 = some (tyJ22 k) := by decide +kernel
abbrev cJ22_init : ByteArray := prog_42_method_1_code
def yJ22_init : MethodName := ⟨RJ22, "<init>", "(Ljava/util/ArrayList;)V"⟩
abbrev cJ22_hasNext : ByteArray := prog_42_method_2_code
def yJ22_hasNext : MethodName := ⟨RJ22, "hasNext", "()Z"⟩
abbrev cJ22_next : ByteArray := prog_42_method_3_code
def yJ22_next : MethodName := ⟨RJ22, "next", "()Ljava/lang/Object;"⟩
abbrev cJ22_checkForComodification : ByteArray := prog_42_method_6_code
def yJ22_checkForComodification : MethodName := ⟨RJ22, "checkForComodification", "()V"⟩
theorem q88 : (Jvm.Cond.initialized "java/util/ArrayList$Itr") ∈ lw_all := lw_g (lw_at lw_m1 31 rfl) rfl
theorem q123 : (Jvm.Cond.fieldLink "java/util/ArrayList$Itr" (37 : Nat) "java/util/ArrayList" "elementData" "[Ljava/lang/Object;") ∈ lw_all := lw_g (lw_at lw_m1 66 rfl) rfl
theorem q124 : (Jvm.Cond.fieldLinkNest "java/util/ArrayList$Itr" (28 : Nat) "java/util/ArrayList" "size" "I" "java/util/ArrayList") ∈ lw_tbl := lw_at lw_m1 67 rfl
theorem q127 : (Jvm.Cond.fieldLink "java/util/ArrayList$Itr" (17 : Nat) "java/util/ArrayList" "modCount" "I") ∈ lw_all := lw_g (lw_at lw_m1 70 rfl) rfl
theorem q726 : (Jvm.Cond.selects "java/util/ArrayList$Itr" ({ cls := "java/lang/Object", name := "getClass", desc := "()Ljava/lang/Class;" } : Jvm.MethodName) ({ cls := "java/lang/Object", name := "getClass", desc := "()Ljava/lang/Class;" } : Jvm.MethodName)) ∈ lw_all := lw_g (lw_at lw_m3 189 rfl) rfl
theorem q841 : (Jvm.Cond.instantiable "java/util/ArrayList$Itr" (4 : Nat)) ∈ lw_all := lw_g (lw_at lw_m4 64 rfl) rfl
theorem q843 : (Jvm.Cond.instanceMethod ({ cls := "java/util/ArrayList$Itr", name := "<init>", desc := "(Ljava/util/ArrayList;)V" } : Jvm.MethodName)) ∈ lw_all := lw_g (lw_at lw_m4 66 rfl) rfl
theorem q844 : (Jvm.Cond.code ({ cls := "java/util/ArrayList$Itr", name := "<init>", desc := "(Ljava/util/ArrayList;)V" } : Jvm.MethodName) prog_42_method_1_code (2 : Nat) (Option.none : Option Jvm.ClassFile.FieldType)) ∈ lw_all := lw_g (lw_at lw_m4 67 rfl) rfl
theorem q845 : (Jvm.Cond.methodLink "java/util/ArrayList$Itr" (7 : Nat) ({ cls := "java/lang/Object", name := "<init>", desc := "()V" } : Jvm.MethodName)) ∈ lw_all := lw_g (lw_at lw_m4 68 rfl) rfl
theorem q846 : (Jvm.Cond.fieldLink "java/util/ArrayList$Itr" (25 : Nat) "java/util/ArrayList$Itr" "cursor" "I") ∈ lw_all := lw_g (lw_at lw_m4 69 rfl) rfl
theorem q847 : (Jvm.Cond.fieldLink "java/util/ArrayList$Itr" (13 : Nat) "java/util/ArrayList$Itr" "lastRet" "I") ∈ lw_all := lw_g (lw_at lw_m4 70 rfl) rfl
theorem q848 : (Jvm.Cond.fieldLink "java/util/ArrayList$Itr" (22 : Nat) "java/util/ArrayList$Itr" "expectedModCount" "I") ∈ lw_all := lw_g (lw_at lw_m4 71 rfl) rfl
theorem q849 : (Jvm.Cond.fieldLink "java/util/ArrayList$Itr" (1 : Nat) "java/util/ArrayList$Itr" "this$0" "Ljava/util/ArrayList;") ∈ lw_all := lw_g (lw_at lw_m4 72 rfl) rfl
theorem q850 : (Jvm.Cond.lays "java/util/ArrayList$Itr" "java/util/ArrayList$Itr" "cursor" "I") ∈ lw_all := lw_g (lw_at lw_m4 73 rfl) rfl
theorem q851 : (Jvm.Cond.soleField "java/util/ArrayList$Itr" "cursor") ∈ lw_all := lw_g (lw_at lw_m4 74 rfl) rfl
theorem q852 : (Jvm.Cond.lays "java/util/ArrayList$Itr" "java/util/ArrayList$Itr" "lastRet" "I") ∈ lw_all := lw_g (lw_at lw_m4 75 rfl) rfl
theorem q853 : (Jvm.Cond.soleField "java/util/ArrayList$Itr" "lastRet") ∈ lw_all := lw_g (lw_at lw_m4 76 rfl) rfl
theorem q854 : (Jvm.Cond.lays "java/util/ArrayList$Itr" "java/util/ArrayList$Itr" "expectedModCount" "I") ∈ lw_all := lw_g (lw_at lw_m4 77 rfl) rfl
theorem q855 : (Jvm.Cond.soleField "java/util/ArrayList$Itr" "expectedModCount") ∈ lw_all := lw_g (lw_at lw_m4 78 rfl) rfl
theorem q856 : (Jvm.Cond.laysFinal "java/util/ArrayList$Itr" "java/util/ArrayList$Itr" "this$0" "Ljava/util/ArrayList;") ∈ lw_all := lw_g (lw_at lw_m4 79 rfl) rfl
theorem q857 : (Jvm.Cond.soleField "java/util/ArrayList$Itr" "this$0") ∈ lw_all := lw_g (lw_at lw_m4 80 rfl) rfl
theorem q858 : (Jvm.Cond.superclass "java/util/ArrayList$Itr" "java/lang/Object") ∈ lw_all := lw_g (lw_at lw_m4 81 rfl) rfl
theorem q863 : (Jvm.Cond.castable "java/util/ArrayList$Itr" "java/util/Iterator") ∈ lw_tbl := lw_at lw_m4 86 rfl
theorem q864 : (Jvm.Cond.selects "java/util/ArrayList$Itr" ({ cls := "java/util/Iterator", name := "hasNext", desc := "()Z" } : Jvm.MethodName) ({ cls := "java/util/ArrayList$Itr", name := "hasNext", desc := "()Z" } : Jvm.MethodName)) ∈ lw_all := lw_g (lw_at lw_m4 87 rfl) rfl
theorem q865 : (Jvm.Cond.unhidden "java/util/ArrayList$Itr" "hasNext" "()Z") ∈ lw_tbl := lw_at lw_m4 88 rfl
theorem q866 : (Jvm.Cond.instanceMethod ({ cls := "java/util/ArrayList$Itr", name := "hasNext", desc := "()Z" } : Jvm.MethodName)) ∈ lw_all := lw_g (lw_at lw_m4 89 rfl) rfl
theorem q867 : (Jvm.Cond.publicMethod ({ cls := "java/util/ArrayList$Itr", name := "hasNext", desc := "()Z" } : Jvm.MethodName)) ∈ lw_tbl := lw_at lw_m4 90 rfl
theorem q868 : (Jvm.Cond.code ({ cls := "java/util/ArrayList$Itr", name := "hasNext", desc := "()Z" } : Jvm.MethodName) prog_42_method_2_code (1 : Nat) (Option.some Jvm.ClassFile.FieldType.boolean)) ∈ lw_all := lw_g (lw_at lw_m4 91 rfl) rfl
theorem q873 : (Jvm.Cond.selects "java/util/ArrayList$Itr" ({ cls := "java/util/Iterator", name := "next", desc := "()Ljava/lang/Object;" } : Jvm.MethodName) ({ cls := "java/util/ArrayList$Itr", name := "next", desc := "()Ljava/lang/Object;" } : Jvm.MethodName)) ∈ lw_all := lw_g (lw_at lw_m4 96 rfl) rfl
theorem q874 : (Jvm.Cond.unhidden "java/util/ArrayList$Itr" "next" "()Ljava/lang/Object;") ∈ lw_tbl := lw_at lw_m4 97 rfl
theorem q875 : (Jvm.Cond.instanceMethod ({ cls := "java/util/ArrayList$Itr", name := "next", desc := "()Ljava/lang/Object;" } : Jvm.MethodName)) ∈ lw_all := lw_g (lw_at lw_m4 98 rfl) rfl
theorem q876 : (Jvm.Cond.publicMethod ({ cls := "java/util/ArrayList$Itr", name := "next", desc := "()Ljava/lang/Object;" } : Jvm.MethodName)) ∈ lw_tbl := lw_at lw_m4 99 rfl
theorem q877 : (Jvm.Cond.code ({ cls := "java/util/ArrayList$Itr", name := "next", desc := "()Ljava/lang/Object;" } : Jvm.MethodName) prog_42_method_3_code (3 : Nat) (Option.some (Jvm.ClassFile.FieldType.object "java/lang/Object"))) ∈ lw_all := lw_g (lw_at lw_m4 100 rfl) rfl
theorem q878 : (Jvm.Cond.methodLink "java/util/ArrayList$Itr" (31 : Nat) ({ cls := "java/util/ArrayList$Itr", name := "checkForComodification", desc := "()V" } : Jvm.MethodName)) ∈ lw_all := lw_g (lw_at lw_m4 101 rfl) rfl
theorem q879 : (Jvm.Cond.instanceMethod ({ cls := "java/util/ArrayList$Itr", name := "checkForComodification", desc := "()V" } : Jvm.MethodName)) ∈ lw_all := lw_g (lw_at lw_m4 102 rfl) rfl
theorem q880 : (Jvm.Cond.selects "java/util/ArrayList$Itr" ({ cls := "java/util/ArrayList$Itr", name := "checkForComodification", desc := "()V" } : Jvm.MethodName) ({ cls := "java/util/ArrayList$Itr", name := "checkForComodification", desc := "()V" } : Jvm.MethodName)) ∈ lw_all := lw_g (lw_at lw_m4 103 rfl) rfl
theorem q881 : (Jvm.Cond.code ({ cls := "java/util/ArrayList$Itr", name := "checkForComodification", desc := "()V" } : Jvm.MethodName) prog_42_method_6_code (1 : Nat) (Option.none : Option Jvm.ClassFile.FieldType)) ∈ lw_all := lw_g (lw_at lw_m4 104 rfl) rfl
theorem q882 : (Jvm.Cond.classLink "java/util/ArrayList$Itr" (34 : Nat) "java/util/NoSuchElementException") ∈ lw_all := lw_g (lw_at lw_m4 105 rfl) rfl
theorem q883 : (Jvm.Cond.methodLink "java/util/ArrayList$Itr" (36 : Nat) ({ cls := "java/util/NoSuchElementException", name := "<init>", desc := "()V" } : Jvm.MethodName)) ∈ lw_all := lw_g (lw_at lw_m4 106 rfl) rfl
theorem q1775 : (Jvm.Cond.castable "java/util/ArrayList$Itr" "java/lang/Object") ∈ lw_tbl := lw_at lw_m8 38 rfl
theorem in_J22 : ∀ w ∈ wsJ220, w ∈ lw_all := lw_in wsJ220 [850, 852, 854, 856] (by decide +kernel) (by decide +kernel)
/-! java/lang/UnsupportedOperationException -/
def RJ23 : String := "java/lang/UnsupportedOperationException"
def TJ23 : u_T := fun k => match k with
  | 0 => ("java/lang/Throwable", "cause", "Ljava/lang/Throwable;", false)
  | 1 => ("java/lang/Throwable", "stackTrace", "[Ljava/lang/StackTraceElement;", false)
  | 2 => ("java/lang/Throwable", "suppressedExceptions", "Ljava/util/List;", false)
  | 3 => ("java/lang/Throwable", "detailMessage", "Ljava/lang/String;", false)
  | 4 => ("java/lang/Throwable", "backtrace", "Ljava/lang/Object;", false)
  | _ => ("java/lang/Throwable", "depth", "I", false)
def tyJ23 : Nat → FieldType := fun k => match k with
  | 0 => .object "java/lang/Throwable"
  | 1 => .array (.object "java/lang/StackTraceElement")
  | 2 => .object "java/util/List"
  | 3 => .object "java/lang/String"
  | 4 => .object "java/lang/Object"
  | _ => .int
abbrev wsJ230 : List Cond := u_ws RJ23 TJ23 6
theorem nmJ23 : ∀ a, a < 6 → ∀ b, b < 6 → a ≠ b → (TJ23 a).2.1 ≠ (TJ23 b).2.1 := by decide +kernel
theorem tyJ23_ok : ∀ k, k < 6 → parseFieldDescriptor (TJ23 k).2.2.1 = some (tyJ23 k) := by decide +kernel
abbrev cJ23_init : ByteArray := prog_36_method_1_code
def yJ23_init : MethodName := ⟨RJ23, "<init>", "()V"⟩
theorem q89 : (Jvm.Cond.initialized "java/lang/UnsupportedOperationException") ∈ lw_all := lw_g (lw_at lw_m1 32 rfl) rfl
theorem q190 : (Jvm.Cond.selects "java/lang/UnsupportedOperationException" ({ cls := "java/lang/Throwable", name := "fillInStackTrace", desc := "()Ljava/lang/Throwable;" } : Jvm.MethodName) ({ cls := "java/lang/Throwable", name := "fillInStackTrace", desc := "()Ljava/lang/Throwable;" } : Jvm.MethodName)) ∈ lw_all := lw_g (lw_at lw_m1 133 rfl) rfl
theorem q724 : (Jvm.Cond.selects "java/lang/UnsupportedOperationException" ({ cls := "java/lang/Object", name := "getClass", desc := "()Ljava/lang/Class;" } : Jvm.MethodName) ({ cls := "java/lang/Object", name := "getClass", desc := "()Ljava/lang/Class;" } : Jvm.MethodName)) ∈ lw_all := lw_g (lw_at lw_m3 187 rfl) rfl
theorem q820 : (Jvm.Cond.selects "java/lang/UnsupportedOperationException" ({ cls := "java/lang/Object", name := "equals", desc := "(Ljava/lang/Object;)Z" } : Jvm.MethodName) ({ cls := "java/lang/Object", name := "equals", desc := "(Ljava/lang/Object;)Z" } : Jvm.MethodName)) ∈ lw_all := lw_g (lw_at lw_m4 43 rfl) rfl
theorem q899 : (Jvm.Cond.instantiable "java/lang/UnsupportedOperationException" (6 : Nat)) ∈ lw_all := lw_g (lw_at lw_m4 122 rfl) rfl
theorem q900 : (Jvm.Cond.castable "java/lang/UnsupportedOperationException" "java/lang/UnsupportedOperationException") ∈ lw_tbl := lw_at lw_m4 123 rfl
theorem q901 : (Jvm.Cond.selects "java/lang/UnsupportedOperationException" ({ cls := "java/lang/Throwable", name := "fillInStackTrace", desc := "(I)Ljava/lang/Throwable;" } : Jvm.MethodName) ({ cls := "java/lang/Throwable", name := "fillInStackTrace", desc := "(I)Ljava/lang/Throwable;" } : Jvm.MethodName)) ∈ lw_all := lw_g (lw_at lw_m4 124 rfl) rfl
theorem q902 : (Jvm.Cond.lays "java/lang/UnsupportedOperationException" "java/lang/Throwable" "cause" "Ljava/lang/Throwable;") ∈ lw_all := lw_g (lw_at lw_m4 125 rfl) rfl
theorem q903 : (Jvm.Cond.lays "java/lang/UnsupportedOperationException" "java/lang/Throwable" "stackTrace" "[Ljava/lang/StackTraceElement;") ∈ lw_all := lw_g (lw_at lw_m4 126 rfl) rfl
theorem q904 : (Jvm.Cond.lays "java/lang/UnsupportedOperationException" "java/lang/Throwable" "suppressedExceptions" "Ljava/util/List;") ∈ lw_all := lw_g (lw_at lw_m4 127 rfl) rfl
theorem q905 : (Jvm.Cond.lays "java/lang/UnsupportedOperationException" "java/lang/Throwable" "detailMessage" "Ljava/lang/String;") ∈ lw_all := lw_g (lw_at lw_m4 128 rfl) rfl
theorem q906 : (Jvm.Cond.lays "java/lang/UnsupportedOperationException" "java/lang/Throwable" "backtrace" "Ljava/lang/Object;") ∈ lw_all := lw_g (lw_at lw_m4 129 rfl) rfl
theorem q908 : (Jvm.Cond.instanceMethod ({ cls := "java/lang/UnsupportedOperationException", name := "<init>", desc := "()V" } : Jvm.MethodName)) ∈ lw_all := lw_g (lw_at lw_m4 131 rfl) rfl
theorem q909 : (Jvm.Cond.code ({ cls := "java/lang/UnsupportedOperationException", name := "<init>", desc := "()V" } : Jvm.MethodName) prog_36_method_1_code (1 : Nat) (Option.none : Option Jvm.ClassFile.FieldType)) ∈ lw_all := lw_g (lw_at lw_m4 132 rfl) rfl
theorem q910 : (Jvm.Cond.methodLink "java/lang/UnsupportedOperationException" (1 : Nat) ({ cls := "java/lang/RuntimeException", name := "<init>", desc := "()V" } : Jvm.MethodName)) ∈ lw_all := lw_g (lw_at lw_m4 133 rfl) rfl
theorem q911 : (Jvm.Cond.lays "java/lang/UnsupportedOperationException" "java/lang/Throwable" "depth" "I") ∈ lw_all := lw_g (lw_at lw_m4 134 rfl) rfl
theorem q912 : (Jvm.Cond.superclass "java/lang/UnsupportedOperationException" "java/lang/RuntimeException") ∈ lw_all := lw_g (lw_at lw_m4 135 rfl) rfl
theorem q1776 : (Jvm.Cond.castable "java/lang/UnsupportedOperationException" "java/lang/Object") ∈ lw_tbl := lw_at lw_m8 39 rfl
theorem in_J23 : ∀ w ∈ wsJ230, w ∈ lw_all := lw_in wsJ230 [902, 903, 904, 905, 906, 911] (by decide +kernel) (by decide +kernel)
/-! java/util/Objects -/
def RJ24 : String := "java/util/Objects"
abbrev cJ24_checkIndex : ByteArray := prog_48_method_17_code
def yJ24_checkIndex : MethodName := ⟨RJ24, "checkIndex", "(II)I"⟩
theorem q91 : (Jvm.Cond.initialized "java/util/Objects") ∈ lw_all := lw_g (lw_at lw_m1 34 rfl) rfl
theorem q1029 : (Jvm.Cond.static ({ cls := "java/util/Objects", name := "checkIndex", desc := "(II)I" } : Jvm.MethodName)) ∈ lw_all := lw_g (lw_at lw_m5 12 rfl) rfl
theorem q1030 : (Jvm.Cond.code ({ cls := "java/util/Objects", name := "checkIndex", desc := "(II)I" } : Jvm.MethodName) prog_48_method_17_code (2 : Nat) (Option.some Jvm.ClassFile.FieldType.int)) ∈ lw_all := lw_g (lw_at lw_m5 13 rfl) rfl
theorem q1031 : (Jvm.Cond.methodLink "java/util/Objects" (105 : Nat) ({ cls := "jdk/internal/util/Preconditions", name := "checkIndex", desc := "(IILjava/util/function/BiFunction;)I" } : Jvm.MethodName)) ∈ lw_all := lw_g (lw_at lw_m5 14 rfl) rfl
/-! XactKernel$FileItem -/
def RX8 : String := "XactKernel$FileItem"
def TX8 : u_T := fun k => match k with
  | 0 => ("XactKernel$FileItem", "cells", "[I", true)
  | 1 => ("XactKernel$FileItem", "size", "I", false)
  | _ => ("XactKernel$FileItem", "links", "I", false)
def tyX8 : Nat → FieldType := fun k => match k with
  | 0 => .array .int
  | 1 => .int
  | _ => .int
abbrev wsX80 : List Cond := u_ws RX8 TX8 3
theorem nmX8 : ∀ a, a < 3 → ∀ b, b < 3 → a ≠ b → (TX8 a).2.1 ≠ (TX8 b).2.1 := by decide +kernel
theorem tyX8_ok : ∀ k, k < 3 → parseFieldDescriptor (TX8 k).2.2.1 = some (tyX8 k) := by decide +kernel
abbrev cX8_init : ByteArray := prog_5_method_1_code
def yX8_init : MethodName := ⟨RX8, "<init>", "()V"⟩
abbrev cX8_size : ByteArray := prog_5_method_3_code
def yX8_size : MethodName := ⟨RX8, "size", "()I"⟩
abbrev cX8_copy : ByteArray := prog_5_method_5_code
def yX8_copy : MethodName := ⟨RX8, "copy", "()LXactKernel$Item;"⟩
abbrev cX8_cell : ByteArray := prog_5_method_4_code
def yX8_cell : MethodName := ⟨RX8, "cell", "(I)I"⟩
abbrev cX8_cut : ByteArray := prog_5_method_6_code
def yX8_cut : MethodName := ⟨RX8, "cut", "(I)V"⟩
abbrev cX8_kind : ByteArray := prog_5_method_2_code
def yX8_kind : MethodName := ⟨RX8, "kind", "()I"⟩
theorem q92 : (Jvm.Cond.initialized "XactKernel$FileItem") ∈ lw_all := lw_g (lw_at lw_m1 35 rfl) rfl
theorem q711 : (Jvm.Cond.selects "XactKernel$FileItem" ({ cls := "java/lang/Object", name := "getClass", desc := "()Ljava/lang/Class;" } : Jvm.MethodName) ({ cls := "java/lang/Object", name := "getClass", desc := "()Ljava/lang/Class;" } : Jvm.MethodName)) ∈ lw_all := lw_g (lw_at lw_m3 174 rfl) rfl
theorem q794 : (Jvm.Cond.selects "XactKernel$FileItem" ({ cls := "java/lang/Object", name := "equals", desc := "(Ljava/lang/Object;)Z" } : Jvm.MethodName) ({ cls := "java/lang/Object", name := "equals", desc := "(Ljava/lang/Object;)Z" } : Jvm.MethodName)) ∈ lw_all := lw_g (lw_at lw_m4 17 rfl) rfl
theorem q1063 : (Jvm.Cond.instantiable "XactKernel$FileItem" (3 : Nat)) ∈ lw_all := lw_g (lw_at lw_m5 46 rfl) rfl
theorem q1065 : (Jvm.Cond.instanceMethod ({ cls := "XactKernel$FileItem", name := "<init>", desc := "()V" } : Jvm.MethodName)) ∈ lw_all := lw_g (lw_at lw_m5 48 rfl) rfl
theorem q1066 : (Jvm.Cond.code ({ cls := "XactKernel$FileItem", name := "<init>", desc := "()V" } : Jvm.MethodName) prog_5_method_1_code (1 : Nat) (Option.none : Option Jvm.ClassFile.FieldType)) ∈ lw_all := lw_g (lw_at lw_m5 49 rfl) rfl
theorem q1067 : (Jvm.Cond.methodLinkNest "XactKernel$FileItem" (3 : Nat) ({ cls := "XactKernel$Item", name := "<init>", desc := "()V" } : Jvm.MethodName) "XactKernel") ∈ lw_tbl := lw_at lw_m5 50 rfl
theorem q1068 : (Jvm.Cond.fieldLink "XactKernel$FileItem" (9 : Nat) "XactKernel$FileItem" "cells" "[I") ∈ lw_all := lw_g (lw_at lw_m5 51 rfl) rfl
theorem q1070 : (Jvm.Cond.fieldLink "XactKernel$FileItem" (15 : Nat) "XactKernel$FileItem" "size" "I") ∈ lw_all := lw_g (lw_at lw_m5 53 rfl) rfl
theorem q1072 : (Jvm.Cond.fieldLink "XactKernel$FileItem" (20 : Nat) "XactKernel$FileItem" "links" "I") ∈ lw_all := lw_g (lw_at lw_m5 55 rfl) rfl
theorem q1074 : (Jvm.Cond.laysFinal "XactKernel$FileItem" "XactKernel$FileItem" "cells" "[I") ∈ lw_all := lw_g (lw_at lw_m5 57 rfl) rfl
theorem q1075 : (Jvm.Cond.soleField "XactKernel$FileItem" "cells") ∈ lw_all := lw_g (lw_at lw_m5 58 rfl) rfl
theorem q1076 : (Jvm.Cond.lays "XactKernel$FileItem" "XactKernel$FileItem" "size" "I") ∈ lw_all := lw_g (lw_at lw_m5 59 rfl) rfl
theorem q1077 : (Jvm.Cond.soleField "XactKernel$FileItem" "size") ∈ lw_all := lw_g (lw_at lw_m5 60 rfl) rfl
theorem q1078 : (Jvm.Cond.lays "XactKernel$FileItem" "XactKernel$FileItem" "links" "I") ∈ lw_all := lw_g (lw_at lw_m5 61 rfl) rfl
theorem q1079 : (Jvm.Cond.soleField "XactKernel$FileItem" "links") ∈ lw_all := lw_g (lw_at lw_m5 62 rfl) rfl
theorem q1080 : (Jvm.Cond.superclass "XactKernel$FileItem" "XactKernel$Item") ∈ lw_all := lw_g (lw_at lw_m5 63 rfl) rfl
theorem q1106 : (Jvm.Cond.selects "XactKernel$FileItem" ({ cls := "XactKernel$Item", name := "size", desc := "()I" } : Jvm.MethodName) ({ cls := "XactKernel$FileItem", name := "size", desc := "()I" } : Jvm.MethodName)) ∈ lw_all := lw_g (lw_at lw_m5 89 rfl) rfl
theorem q1107 : (Jvm.Cond.instanceMethod ({ cls := "XactKernel$FileItem", name := "size", desc := "()I" } : Jvm.MethodName)) ∈ lw_all := lw_g (lw_at lw_m5 90 rfl) rfl
theorem q1108 : (Jvm.Cond.code ({ cls := "XactKernel$FileItem", name := "size", desc := "()I" } : Jvm.MethodName) prog_5_method_3_code (1 : Nat) (Option.some Jvm.ClassFile.FieldType.int)) ∈ lw_all := lw_g (lw_at lw_m5 91 rfl) rfl
theorem q1132 : (Jvm.Cond.selects "XactKernel$FileItem" ({ cls := "XactKernel$Item", name := "copy", desc := "()LXactKernel$Item;" } : Jvm.MethodName) ({ cls := "XactKernel$FileItem", name := "copy", desc := "()LXactKernel$Item;" } : Jvm.MethodName)) ∈ lw_all := lw_g (lw_at lw_m5 115 rfl) rfl
theorem q1133 : (Jvm.Cond.instanceMethod ({ cls := "XactKernel$FileItem", name := "copy", desc := "()LXactKernel$Item;" } : Jvm.MethodName)) ∈ lw_all := lw_g (lw_at lw_m5 116 rfl) rfl
theorem q1134 : (Jvm.Cond.code ({ cls := "XactKernel$FileItem", name := "copy", desc := "()LXactKernel$Item;" } : Jvm.MethodName) prog_5_method_5_code (3 : Nat) (Option.some (Jvm.ClassFile.FieldType.object "XactKernel$Item"))) ∈ lw_all := lw_g (lw_at lw_m5 117 rfl) rfl
theorem q1135 : (Jvm.Cond.classLink "XactKernel$FileItem" (10 : Nat) "XactKernel$FileItem") ∈ lw_all := lw_g (lw_at lw_m5 118 rfl) rfl
theorem q1136 : (Jvm.Cond.methodLink "XactKernel$FileItem" (19 : Nat) ({ cls := "XactKernel$FileItem", name := "<init>", desc := "()V" } : Jvm.MethodName)) ∈ lw_all := lw_g (lw_at lw_m5 119 rfl) rfl
theorem q1212 : (Jvm.Cond.selects "XactKernel$FileItem" ({ cls := "XactKernel$Item", name := "cell", desc := "(I)I" } : Jvm.MethodName) ({ cls := "XactKernel$FileItem", name := "cell", desc := "(I)I" } : Jvm.MethodName)) ∈ lw_all := lw_g (lw_at lw_m5 195 rfl) rfl
theorem q1213 : (Jvm.Cond.instanceMethod ({ cls := "XactKernel$FileItem", name := "cell", desc := "(I)I" } : Jvm.MethodName)) ∈ lw_all := lw_g (lw_at lw_m5 196 rfl) rfl
theorem q1214 : (Jvm.Cond.code ({ cls := "XactKernel$FileItem", name := "cell", desc := "(I)I" } : Jvm.MethodName) prog_5_method_4_code (2 : Nat) (Option.some Jvm.ClassFile.FieldType.int)) ∈ lw_all := lw_g (lw_at lw_m5 197 rfl) rfl
theorem q1255 : (Jvm.Cond.instanceMethod ({ cls := "XactKernel$FileItem", name := "cut", desc := "(I)V" } : Jvm.MethodName)) ∈ lw_all := lw_g (lw_at lw_m5 238 rfl) rfl
theorem q1256 : (Jvm.Cond.selects "XactKernel$FileItem" ({ cls := "XactKernel$FileItem", name := "cut", desc := "(I)V" } : Jvm.MethodName) ({ cls := "XactKernel$FileItem", name := "cut", desc := "(I)V" } : Jvm.MethodName)) ∈ lw_all := lw_g (lw_at lw_m5 239 rfl) rfl
theorem q1257 : (Jvm.Cond.code ({ cls := "XactKernel$FileItem", name := "cut", desc := "(I)V" } : Jvm.MethodName) prog_5_method_6_code (3 : Nat) (Option.none : Option Jvm.ClassFile.FieldType)) ∈ lw_all := lw_g (lw_at lw_m6 0 rfl) rfl
theorem q1394 : (Jvm.Cond.selects "XactKernel$FileItem" ({ cls := "XactKernel$Item", name := "kind", desc := "()I" } : Jvm.MethodName) ({ cls := "XactKernel$FileItem", name := "kind", desc := "()I" } : Jvm.MethodName)) ∈ lw_all := lw_g (lw_at lw_m6 137 rfl) rfl
theorem q1395 : (Jvm.Cond.instanceMethod ({ cls := "XactKernel$FileItem", name := "kind", desc := "()I" } : Jvm.MethodName)) ∈ lw_all := lw_g (lw_at lw_m6 138 rfl) rfl
theorem q1396 : (Jvm.Cond.code ({ cls := "XactKernel$FileItem", name := "kind", desc := "()I" } : Jvm.MethodName) prog_5_method_2_code (1 : Nat) (Option.some Jvm.ClassFile.FieldType.int)) ∈ lw_all := lw_g (lw_at lw_m6 139 rfl) rfl
theorem q1758 : (Jvm.Cond.castable "XactKernel$FileItem" "XactKernel$Item") ∈ lw_tbl := lw_at lw_m8 21 rfl
theorem q1778 : (Jvm.Cond.castable "XactKernel$FileItem" "java/lang/Object") ∈ lw_tbl := lw_at lw_m8 41 rfl
theorem in_X8 : ∀ w ∈ wsX80, w ∈ lw_all := lw_in wsX80 [1074, 1076, 1078] (by decide +kernel) (by decide +kernel)
/-! XactKernel$PipeItem -/
def RX9 : String := "XactKernel$PipeItem"
def TX9 : u_T := fun k => match k with
  | _ => ("XactKernel$PipeItem", "row", "Ljava/util/List;", true)
def tyX9 : Nat → FieldType := fun k => match k with
  | _ => .object "java/util/List"
abbrev wsX90 : List Cond := u_ws RX9 TX9 1
theorem nmX9 : ∀ a, a < 1 → ∀ b, b < 1 → a ≠ b → (TX9 a).2.1 ≠ (TX9 b).2.1 := by decide +kernel
theorem tyX9_ok : ∀ k, k < 1 → parseFieldDescriptor (TX9 k).2.2.1 = some (tyX9 k) := by decide +kernel
abbrev cX9_size : ByteArray := prog_7_method_3_code
def yX9_size : MethodName := ⟨RX9, "size", "()I"⟩
abbrev cX9_copy : ByteArray := prog_7_method_5_code
def yX9_copy : MethodName := ⟨RX9, "copy", "()LXactKernel$Item;"⟩
abbrev cX9_init : ByteArray := prog_7_method_1_code
def yX9_init : MethodName := ⟨RX9, "<init>", "()V"⟩
abbrev cX9_cell : ByteArray := prog_7_method_4_code
def yX9_cell : MethodName := ⟨RX9, "cell", "(I)I"⟩
abbrev cX9_kind : ByteArray := prog_7_method_2_code
def yX9_kind : MethodName := ⟨RX9, "kind", "()I"⟩
theorem q93 : (Jvm.Cond.initialized "XactKernel$PipeItem") ∈ lw_all := lw_g (lw_at lw_m1 36 rfl) rfl
theorem q712 : (Jvm.Cond.selects "XactKernel$PipeItem" ({ cls := "java/lang/Object", name := "getClass", desc := "()Ljava/lang/Class;" } : Jvm.MethodName) ({ cls := "java/lang/Object", name := "getClass", desc := "()Ljava/lang/Class;" } : Jvm.MethodName)) ∈ lw_all := lw_g (lw_at lw_m3 175 rfl) rfl
theorem q795 : (Jvm.Cond.selects "XactKernel$PipeItem" ({ cls := "java/lang/Object", name := "equals", desc := "(Ljava/lang/Object;)Z" } : Jvm.MethodName) ({ cls := "java/lang/Object", name := "equals", desc := "(Ljava/lang/Object;)Z" } : Jvm.MethodName)) ∈ lw_all := lw_g (lw_at lw_m4 18 rfl) rfl
theorem q1109 : (Jvm.Cond.selects "XactKernel$PipeItem" ({ cls := "XactKernel$Item", name := "size", desc := "()I" } : Jvm.MethodName) ({ cls := "XactKernel$PipeItem", name := "size", desc := "()I" } : Jvm.MethodName)) ∈ lw_all := lw_g (lw_at lw_m5 92 rfl) rfl
theorem q1110 : (Jvm.Cond.instanceMethod ({ cls := "XactKernel$PipeItem", name := "size", desc := "()I" } : Jvm.MethodName)) ∈ lw_all := lw_g (lw_at lw_m5 93 rfl) rfl
theorem q1111 : (Jvm.Cond.code ({ cls := "XactKernel$PipeItem", name := "size", desc := "()I" } : Jvm.MethodName) prog_7_method_3_code (1 : Nat) (Option.some Jvm.ClassFile.FieldType.int)) ∈ lw_all := lw_g (lw_at lw_m5 94 rfl) rfl
theorem q1112 : (Jvm.Cond.interfaceEntry "XactKernel$PipeItem" (20 : Nat)) ∈ lw_tbl := lw_at lw_m5 95 rfl
theorem q1113 : (Jvm.Cond.methodLink "XactKernel$PipeItem" (20 : Nat) ({ cls := "java/util/List", name := "size", desc := "()I" } : Jvm.MethodName)) ∈ lw_all := lw_g (lw_at lw_m5 96 rfl) rfl
theorem q1137 : (Jvm.Cond.selects "XactKernel$PipeItem" ({ cls := "XactKernel$Item", name := "copy", desc := "()LXactKernel$Item;" } : Jvm.MethodName) ({ cls := "XactKernel$PipeItem", name := "copy", desc := "()LXactKernel$Item;" } : Jvm.MethodName)) ∈ lw_all := lw_g (lw_at lw_m5 120 rfl) rfl
theorem q1138 : (Jvm.Cond.instanceMethod ({ cls := "XactKernel$PipeItem", name := "copy", desc := "()LXactKernel$Item;" } : Jvm.MethodName)) ∈ lw_all := lw_g (lw_at lw_m5 121 rfl) rfl
theorem q1139 : (Jvm.Cond.code ({ cls := "XactKernel$PipeItem", name := "copy", desc := "()LXactKernel$Item;" } : Jvm.MethodName) prog_7_method_5_code (4 : Nat) (Option.some (Jvm.ClassFile.FieldType.object "XactKernel$Item"))) ∈ lw_all := lw_g (lw_at lw_m5 122 rfl) rfl
theorem q1140 : (Jvm.Cond.classLink "XactKernel$PipeItem" (15 : Nat) "XactKernel$PipeItem") ∈ lw_all := lw_g (lw_at lw_m5 123 rfl) rfl
theorem q1141 : (Jvm.Cond.instantiable "XactKernel$PipeItem" (1 : Nat)) ∈ lw_all := lw_g (lw_at lw_m5 124 rfl) rfl
theorem q1142 : (Jvm.Cond.methodLink "XactKernel$PipeItem" (35 : Nat) ({ cls := "XactKernel$PipeItem", name := "<init>", desc := "()V" } : Jvm.MethodName)) ∈ lw_all := lw_g (lw_at lw_m5 125 rfl) rfl
theorem q1143 : (Jvm.Cond.instanceMethod ({ cls := "XactKernel$PipeItem", name := "<init>", desc := "()V" } : Jvm.MethodName)) ∈ lw_all := lw_g (lw_at lw_m5 126 rfl) rfl
theorem q1144 : (Jvm.Cond.code ({ cls := "XactKernel$PipeItem", name := "<init>", desc := "()V" } : Jvm.MethodName) prog_7_method_1_code (1 : Nat) (Option.none : Option Jvm.ClassFile.FieldType)) ∈ lw_all := lw_g (lw_at lw_m5 127 rfl) rfl
theorem q1145 : (Jvm.Cond.methodLinkNest "XactKernel$PipeItem" (3 : Nat) ({ cls := "XactKernel$Item", name := "<init>", desc := "()V" } : Jvm.MethodName) "XactKernel") ∈ lw_tbl := lw_at lw_m5 128 rfl
theorem q1146 : (Jvm.Cond.classLink "XactKernel$PipeItem" (9 : Nat) "java/util/ArrayList") ∈ lw_all := lw_g (lw_at lw_m5 129 rfl) rfl
theorem q1147 : (Jvm.Cond.methodLink "XactKernel$PipeItem" (11 : Nat) ({ cls := "java/util/ArrayList", name := "<init>", desc := "(I)V" } : Jvm.MethodName)) ∈ lw_all := lw_g (lw_at lw_m5 130 rfl) rfl
theorem q1148 : (Jvm.Cond.fieldLink "XactKernel$PipeItem" (14 : Nat) "XactKernel$PipeItem" "row" "Ljava/util/List;") ∈ lw_all := lw_g (lw_at lw_m5 131 rfl) rfl
theorem q1150 : (Jvm.Cond.laysFinal "XactKernel$PipeItem" "XactKernel$PipeItem" "row" "Ljava/util/List;") ∈ lw_all := lw_g (lw_at lw_m5 133 rfl) rfl
theorem q1151 : (Jvm.Cond.soleField "XactKernel$PipeItem" "row") ∈ lw_all := lw_g (lw_at lw_m5 134 rfl) rfl
theorem q1152 : (Jvm.Cond.superclass "XactKernel$PipeItem" "XactKernel$Item") ∈ lw_all := lw_g (lw_at lw_m5 135 rfl) rfl
theorem q1153 : (Jvm.Cond.interfaceEntry "XactKernel$PipeItem" (36 : Nat)) ∈ lw_tbl := lw_at lw_m5 136 rfl
theorem q1154 : (Jvm.Cond.methodLink "XactKernel$PipeItem" (36 : Nat) ({ cls := "java/util/List", name := "iterator", desc := "()Ljava/util/Iterator;" } : Jvm.MethodName)) ∈ lw_all := lw_g (lw_at lw_m5 137 rfl) rfl
theorem q1155 : (Jvm.Cond.interfaceEntry "XactKernel$PipeItem" (40 : Nat)) ∈ lw_tbl := lw_at lw_m5 138 rfl
theorem q1156 : (Jvm.Cond.methodLink "XactKernel$PipeItem" (40 : Nat) ({ cls := "java/util/Iterator", name := "hasNext", desc := "()Z" } : Jvm.MethodName)) ∈ lw_all := lw_g (lw_at lw_m5 139 rfl) rfl
theorem q1157 : (Jvm.Cond.interfaceEntry "XactKernel$PipeItem" (46 : Nat)) ∈ lw_tbl := lw_at lw_m5 140 rfl
theorem q1158 : (Jvm.Cond.methodLink "XactKernel$PipeItem" (46 : Nat) ({ cls := "java/util/Iterator", name := "next", desc := "()Ljava/lang/Object;" } : Jvm.MethodName)) ∈ lw_all := lw_g (lw_at lw_m5 141 rfl) rfl
theorem q1159 : (Jvm.Cond.classLink "XactKernel$PipeItem" (30 : Nat) "java/lang/Integer") ∈ lw_all := lw_g (lw_at lw_m5 142 rfl) rfl
theorem q1160 : (Jvm.Cond.interfaceEntry "XactKernel$PipeItem" (50 : Nat)) ∈ lw_tbl := lw_at lw_m5 143 rfl
theorem q1161 : (Jvm.Cond.methodLink "XactKernel$PipeItem" (50 : Nat) ({ cls := "java/util/List", name := "add", desc := "(Ljava/lang/Object;)Z" } : Jvm.MethodName)) ∈ lw_all := lw_g (lw_at lw_m5 144 rfl) rfl
theorem q1215 : (Jvm.Cond.selects "XactKernel$PipeItem" ({ cls := "XactKernel$Item", name := "cell", desc := "(I)I" } : Jvm.MethodName) ({ cls := "XactKernel$PipeItem", name := "cell", desc := "(I)I" } : Jvm.MethodName)) ∈ lw_all := lw_g (lw_at lw_m5 198 rfl) rfl
theorem q1216 : (Jvm.Cond.instanceMethod ({ cls := "XactKernel$PipeItem", name := "cell", desc := "(I)I" } : Jvm.MethodName)) ∈ lw_all := lw_g (lw_at lw_m5 199 rfl) rfl
theorem q1217 : (Jvm.Cond.code ({ cls := "XactKernel$PipeItem", name := "cell", desc := "(I)I" } : Jvm.MethodName) prog_7_method_4_code (2 : Nat) (Option.some Jvm.ClassFile.FieldType.int)) ∈ lw_all := lw_g (lw_at lw_m5 200 rfl) rfl
theorem q1218 : (Jvm.Cond.interfaceEntry "XactKernel$PipeItem" (26 : Nat)) ∈ lw_tbl := lw_at lw_m5 201 rfl
theorem q1219 : (Jvm.Cond.methodLink "XactKernel$PipeItem" (26 : Nat) ({ cls := "java/util/List", name := "get", desc := "(I)Ljava/lang/Object;" } : Jvm.MethodName)) ∈ lw_all := lw_g (lw_at lw_m5 202 rfl) rfl
theorem q1220 : (Jvm.Cond.methodLink "XactKernel$PipeItem" (32 : Nat) ({ cls := "java/lang/Integer", name := "intValue", desc := "()I" } : Jvm.MethodName)) ∈ lw_all := lw_g (lw_at lw_m5 203 rfl) rfl
theorem q1397 : (Jvm.Cond.selects "XactKernel$PipeItem" ({ cls := "XactKernel$Item", name := "kind", desc := "()I" } : Jvm.MethodName) ({ cls := "XactKernel$PipeItem", name := "kind", desc := "()I" } : Jvm.MethodName)) ∈ lw_all := lw_g (lw_at lw_m6 140 rfl) rfl
theorem q1398 : (Jvm.Cond.instanceMethod ({ cls := "XactKernel$PipeItem", name := "kind", desc := "()I" } : Jvm.MethodName)) ∈ lw_all := lw_g (lw_at lw_m6 141 rfl) rfl
theorem q1399 : (Jvm.Cond.code ({ cls := "XactKernel$PipeItem", name := "kind", desc := "()I" } : Jvm.MethodName) prog_7_method_2_code (1 : Nat) (Option.some Jvm.ClassFile.FieldType.int)) ∈ lw_all := lw_g (lw_at lw_m6 142 rfl) rfl
theorem q1759 : (Jvm.Cond.castable "XactKernel$PipeItem" "XactKernel$Item") ∈ lw_tbl := lw_at lw_m8 22 rfl
theorem q1780 : (Jvm.Cond.castable "XactKernel$PipeItem" "java/lang/Object") ∈ lw_tbl := lw_at lw_m8 43 rfl
theorem in_X9 : ∀ w ∈ wsX90, w ∈ lw_all := lw_in wsX90 [1150] (by decide +kernel) (by decide +kernel)
/-! XactKernel$Entry -/
def RX10 : String := "XactKernel$Entry"
def TX10 : u_T := fun k => match k with
  | 0 => ("XactKernel$Entry", "name", "I", true)
  | _ => ("XactKernel$Entry", "item", "I", true)
def tyX10 : Nat → FieldType := fun k => match k with
  | 0 => .int
  | _ => .int
abbrev wsX100 : List Cond := u_ws RX10 TX10 2
theorem nmX10 : ∀ a, a < 2 → ∀ b, b < 2 → a ≠ b → (TX10 a).2.1 ≠ (TX10 b).2.1 := by decide +kernel
theorem tyX10_ok : ∀ k, k < 2 → parseFieldDescriptor (TX10 k).2.2.1 = some (tyX10 k) := by decide +kernel
abbrev cX10_init : ByteArray := prog_4_method_1_code
def yX10_init : MethodName := ⟨RX10, "<init>", "(II)V"⟩
theorem q94 : (Jvm.Cond.initialized "XactKernel$Entry") ∈ lw_all := lw_g (lw_at lw_m1 37 rfl) rfl
theorem q710 : (Jvm.Cond.selects "XactKernel$Entry" ({ cls := "java/lang/Object", name := "getClass", desc := "()Ljava/lang/Class;" } : Jvm.MethodName) ({ cls := "java/lang/Object", name := "getClass", desc := "()Ljava/lang/Class;" } : Jvm.MethodName)) ∈ lw_all := lw_g (lw_at lw_m3 173 rfl) rfl
theorem q793 : (Jvm.Cond.selects "XactKernel$Entry" ({ cls := "java/lang/Object", name := "equals", desc := "(Ljava/lang/Object;)Z" } : Jvm.MethodName) ({ cls := "java/lang/Object", name := "equals", desc := "(Ljava/lang/Object;)Z" } : Jvm.MethodName)) ∈ lw_all := lw_g (lw_at lw_m4 16 rfl) rfl
theorem q1163 : (Jvm.Cond.instantiable "XactKernel$Entry" (2 : Nat)) ∈ lw_all := lw_g (lw_at lw_m5 146 rfl) rfl
theorem q1165 : (Jvm.Cond.instanceMethod ({ cls := "XactKernel$Entry", name := "<init>", desc := "(II)V" } : Jvm.MethodName)) ∈ lw_all := lw_g (lw_at lw_m5 148 rfl) rfl
theorem q1166 : (Jvm.Cond.code ({ cls := "XactKernel$Entry", name := "<init>", desc := "(II)V" } : Jvm.MethodName) prog_4_method_1_code (3 : Nat) (Option.none : Option Jvm.ClassFile.FieldType)) ∈ lw_all := lw_g (lw_at lw_m5 149 rfl) rfl
theorem q1167 : (Jvm.Cond.methodLink "XactKernel$Entry" (1 : Nat) ({ cls := "java/lang/Object", name := "<init>", desc := "()V" } : Jvm.MethodName)) ∈ lw_all := lw_g (lw_at lw_m5 150 rfl) rfl
theorem q1168 : (Jvm.Cond.fieldLink "XactKernel$Entry" (7 : Nat) "XactKernel$Entry" "name" "I") ∈ lw_all := lw_g (lw_at lw_m5 151 rfl) rfl
theorem q1170 : (Jvm.Cond.fieldLink "XactKernel$Entry" (13 : Nat) "XactKernel$Entry" "item" "I") ∈ lw_all := lw_g (lw_at lw_m5 153 rfl) rfl
theorem q1172 : (Jvm.Cond.laysFinal "XactKernel$Entry" "XactKernel$Entry" "name" "I") ∈ lw_all := lw_g (lw_at lw_m5 155 rfl) rfl
theorem q1173 : (Jvm.Cond.soleField "XactKernel$Entry" "name") ∈ lw_all := lw_g (lw_at lw_m5 156 rfl) rfl
theorem q1174 : (Jvm.Cond.laysFinal "XactKernel$Entry" "XactKernel$Entry" "item" "I") ∈ lw_all := lw_g (lw_at lw_m5 157 rfl) rfl
theorem q1175 : (Jvm.Cond.soleField "XactKernel$Entry" "item") ∈ lw_all := lw_g (lw_at lw_m5 158 rfl) rfl
theorem q1176 : (Jvm.Cond.superclass "XactKernel$Entry" "java/lang/Object") ∈ lw_all := lw_g (lw_at lw_m5 159 rfl) rfl
theorem q1779 : (Jvm.Cond.castable "XactKernel$Entry" "java/lang/Object") ∈ lw_tbl := lw_at lw_m8 42 rfl
theorem in_X10 : ∀ w ∈ wsX100, w ∈ lw_all := lw_in wsX100 [1172, 1174] (by decide +kernel) (by decide +kernel)
/-! XactKernel$Signal -/
def RX11 : String := "XactKernel$Signal"
def TX11 : u_T := fun k => match k with
  | 0 => ("XactKernel$Signal", "to", "I", true)
  | _ => ("XactKernel$Signal", "n", "I", true)
def tyX11 : Nat → FieldType := fun k => match k with
  | 0 => .int
  | _ => .int
abbrev wsX110 : List Cond := u_ws RX11 TX11 2
theorem nmX11 : ∀ a, a < 2 → ∀ b, b < 2 → a ≠ b → (TX11 a).2.1 ≠ (TX11 b).2.1 := by decide +kernel
theorem tyX11_ok : ∀ k, k < 2 → parseFieldDescriptor (TX11 k).2.2.1 = some (tyX11 k) := by decide +kernel
abbrev cX11_init : ByteArray := prog_9_method_1_code
def yX11_init : MethodName := ⟨RX11, "<init>", "(II)V"⟩
theorem q95 : (Jvm.Cond.initialized "XactKernel$Signal") ∈ lw_all := lw_g (lw_at lw_m1 38 rfl) rfl
theorem q714 : (Jvm.Cond.selects "XactKernel$Signal" ({ cls := "java/lang/Object", name := "getClass", desc := "()Ljava/lang/Class;" } : Jvm.MethodName) ({ cls := "java/lang/Object", name := "getClass", desc := "()Ljava/lang/Class;" } : Jvm.MethodName)) ∈ lw_all := lw_g (lw_at lw_m3 177 rfl) rfl
theorem q797 : (Jvm.Cond.selects "XactKernel$Signal" ({ cls := "java/lang/Object", name := "equals", desc := "(Ljava/lang/Object;)Z" } : Jvm.MethodName) ({ cls := "java/lang/Object", name := "equals", desc := "(Ljava/lang/Object;)Z" } : Jvm.MethodName)) ∈ lw_all := lw_g (lw_at lw_m4 20 rfl) rfl
theorem q1337 : (Jvm.Cond.instantiable "XactKernel$Signal" (2 : Nat)) ∈ lw_all := lw_g (lw_at lw_m6 80 rfl) rfl
theorem q1339 : (Jvm.Cond.instanceMethod ({ cls := "XactKernel$Signal", name := "<init>", desc := "(II)V" } : Jvm.MethodName)) ∈ lw_all := lw_g (lw_at lw_m6 82 rfl) rfl
theorem q1340 : (Jvm.Cond.code ({ cls := "XactKernel$Signal", name := "<init>", desc := "(II)V" } : Jvm.MethodName) prog_9_method_1_code (3 : Nat) (Option.none : Option Jvm.ClassFile.FieldType)) ∈ lw_all := lw_g (lw_at lw_m6 83 rfl) rfl
theorem q1341 : (Jvm.Cond.methodLink "XactKernel$Signal" (1 : Nat) ({ cls := "java/lang/Object", name := "<init>", desc := "()V" } : Jvm.MethodName)) ∈ lw_all := lw_g (lw_at lw_m6 84 rfl) rfl
theorem q1342 : (Jvm.Cond.fieldLink "XactKernel$Signal" (7 : Nat) "XactKernel$Signal" "to" "I") ∈ lw_all := lw_g (lw_at lw_m6 85 rfl) rfl
theorem q1344 : (Jvm.Cond.fieldLink "XactKernel$Signal" (13 : Nat) "XactKernel$Signal" "n" "I") ∈ lw_all := lw_g (lw_at lw_m6 87 rfl) rfl
theorem q1346 : (Jvm.Cond.laysFinal "XactKernel$Signal" "XactKernel$Signal" "to" "I") ∈ lw_all := lw_g (lw_at lw_m6 89 rfl) rfl
theorem q1347 : (Jvm.Cond.soleField "XactKernel$Signal" "to") ∈ lw_all := lw_g (lw_at lw_m6 90 rfl) rfl
theorem q1348 : (Jvm.Cond.laysFinal "XactKernel$Signal" "XactKernel$Signal" "n" "I") ∈ lw_all := lw_g (lw_at lw_m6 91 rfl) rfl
theorem q1349 : (Jvm.Cond.soleField "XactKernel$Signal" "n") ∈ lw_all := lw_g (lw_at lw_m6 92 rfl) rfl
theorem q1350 : (Jvm.Cond.superclass "XactKernel$Signal" "java/lang/Object") ∈ lw_all := lw_g (lw_at lw_m6 93 rfl) rfl
theorem q1781 : (Jvm.Cond.castable "XactKernel$Signal" "java/lang/Object") ∈ lw_tbl := lw_at lw_m8 44 rfl
theorem in_X11 : ∀ w ∈ wsX110, w ∈ lw_all := lw_in wsX110 [1346, 1348] (by decide +kernel) (by decide +kernel)
/-! java/lang/Object -/
def RJ25 : String := "java/lang/Object"
abbrev cJ25_init : ByteArray := object_method_1_code
def yJ25_init : MethodName := ⟨RJ25, "<init>", "()V"⟩
abbrev cJ25_equals : ByteArray := object_method_4_code
def yJ25_equals : MethodName := ⟨RJ25, "equals", "(Ljava/lang/Object;)Z"⟩
theorem q102 : (Jvm.Cond.instanceMethod ({ cls := "java/lang/Object", name := "<init>", desc := "()V" } : Jvm.MethodName)) ∈ lw_all := lw_g (lw_at lw_m1 45 rfl) rfl
theorem q103 : (Jvm.Cond.code ({ cls := "java/lang/Object", name := "<init>", desc := "()V" } : Jvm.MethodName) object_method_1_code (1 : Nat) (Option.none : Option Jvm.ClassFile.FieldType)) ∈ lw_all := lw_g (lw_at lw_m1 46 rfl) rfl
theorem q266 : (Jvm.Cond.native ({ cls := "java/lang/Object", name := "clone", desc := "()Ljava/lang/Object;" } : Jvm.MethodName)) ∈ lw_all := lw_g (lw_at lw_m1 209 rfl) rfl
theorem q267 : (Jvm.Cond.instanceMethod ({ cls := "java/lang/Object", name := "clone", desc := "()Ljava/lang/Object;" } : Jvm.MethodName)) ∈ lw_all := lw_g (lw_at lw_m1 210 rfl) rfl
theorem q705 : (Jvm.Cond.instanceMethod ({ cls := "java/lang/Object", name := "getClass", desc := "()Ljava/lang/Class;" } : Jvm.MethodName)) ∈ lw_all := lw_g (lw_at lw_m3 168 rfl) rfl
theorem q706 : (Jvm.Cond.sameMethod "java/lang/Object" "java/lang/Object" "getClass" "()Ljava/lang/Class;") ∈ lw_all := lw_g (lw_at lw_m3 169 rfl) rfl
theorem q728 : (Jvm.Cond.native ({ cls := "java/lang/Object", name := "getClass", desc := "()Ljava/lang/Class;" } : Jvm.MethodName)) ∈ lw_all := lw_g (lw_at lw_m3 191 rfl) rfl
theorem q786 : (Jvm.Cond.declares ({ cls := "java/lang/Object", name := "equals", desc := "(Ljava/lang/Object;)Z" } : Jvm.MethodName)) ∈ lw_tbl := lw_at lw_m4 9 rfl
theorem q788 : (Jvm.Cond.instanceMethod ({ cls := "java/lang/Object", name := "equals", desc := "(Ljava/lang/Object;)Z" } : Jvm.MethodName)) ∈ lw_all := lw_g (lw_at lw_m4 11 rfl) rfl
theorem q789 : (Jvm.Cond.sameMethod "java/lang/Object" "java/lang/Object" "equals" "(Ljava/lang/Object;)Z") ∈ lw_all := lw_g (lw_at lw_m4 12 rfl) rfl
theorem q821 : (Jvm.Cond.code ({ cls := "java/lang/Object", name := "equals", desc := "(Ljava/lang/Object;)Z" } : Jvm.MethodName) object_method_4_code (2 : Nat) (Option.some Jvm.ClassFile.FieldType.boolean)) ∈ lw_all := lw_g (lw_at lw_m4 44 rfl) rfl
theorem q1762 : (Jvm.Cond.declares ({ cls := "java/lang/Object", name := "getClass", desc := "()Ljava/lang/Class;" } : Jvm.MethodName)) ∈ lw_tbl := lw_at lw_m8 25 rfl
theorem q105 : (Jvm.Cond.arrayOver (Jvm.ClassFile.FieldType.object "XactKernel$Item")) ∈ lw_tbl := lw_at lw_m1 48 rfl
theorem q107 : (Jvm.Cond.arrayOver (Jvm.ClassFile.FieldType.object "XactKernel$Process")) ∈ lw_tbl := lw_at lw_m1 50 rfl
theorem q151 : (Jvm.Cond.arrayOver (Jvm.ClassFile.FieldType.object "java/lang/Object")) ∈ lw_tbl := lw_at lw_m1 94 rfl
theorem q229 : (Jvm.Cond.arrayClass Jvm.ClassFile.FieldType.byte) ∈ lw_all := lw_g (lw_at lw_m1 172 rfl) rfl
theorem q480 : (Jvm.Cond.arrayOver (Jvm.ClassFile.FieldType.object "XactKernel$Descriptor")) ∈ lw_tbl := lw_at lw_m2 183 rfl
theorem q648 : (Jvm.Cond.arrayClass Jvm.ClassFile.FieldType.boolean) ∈ lw_all := lw_g (lw_at lw_m3 111 rfl) rfl
theorem q1081 : (Jvm.Cond.arrayClass Jvm.ClassFile.FieldType.int) ∈ lw_all := lw_g (lw_at lw_m5 64 rfl) rfl
theorem q1743 : (Jvm.Cond.arrayClass Jvm.ClassFile.FieldType.long) ∈ lw_all := lw_g (lw_at lw_m8 6 rfl) rfl
theorem q75 : (Jvm.Cond.initialized "java/lang/System") ∈ lw_all := lw_g (lw_at lw_m1 18 rfl) rfl
theorem q275 : (Jvm.Cond.static ({ cls := "java/lang/System", name := "arraycopy", desc := "(Ljava/lang/Object;ILjava/lang/Object;II)V" } : Jvm.MethodName)) ∈ lw_all := lw_g (lw_at lw_m1 218 rfl) rfl
theorem q276 : (Jvm.Cond.native ({ cls := "java/lang/System", name := "arraycopy", desc := "(Ljava/lang/Object;ILjava/lang/Object;II)V" } : Jvm.MethodName)) ∈ lw_all := lw_g (lw_at lw_m1 219 rfl) rfl
theorem q90 : (Jvm.Cond.initialized "java/lang/Integer$IntegerCache") ∈ lw_all := lw_g (lw_at lw_m1 33 rfl) rfl
theorem q944 : (Jvm.Cond.laysStatic "java/lang/Integer$IntegerCache" "high" "I") ∈ lw_tbl := lw_at lw_m4 167 rfl
theorem q946 : (Jvm.Cond.laysStatic "java/lang/Integer$IntegerCache" "cache" "[Ljava/lang/Integer;") ∈ lw_tbl := lw_at lw_m4 169 rfl
theorem q265 : (Jvm.Cond.sameMethod "[B" "java/lang/Object" "clone" "()Ljava/lang/Object;") ∈ lw_all := lw_g (lw_at lw_m1 208 rfl) rfl
theorem q268 : (Jvm.Cond.selects "[B" ({ cls := "[B", name := "clone", desc := "()Ljava/lang/Object;" } : Jvm.MethodName) ({ cls := "java/lang/Object", name := "clone", desc := "()Ljava/lang/Object;" } : Jvm.MethodName)) ∈ lw_all := lw_g (lw_at lw_m1 211 rfl) rfl
theorem q269 : (Jvm.Cond.castable "[B" "java/lang/Cloneable") ∈ lw_tbl := lw_at lw_m1 212 rfl
theorem q1786 : (Jvm.Cond.castable "[B" "java/lang/Object") ∈ lw_tbl := lw_at lw_m8 49 rfl
theorem q680 : (Jvm.Cond.interfaceMethod "java/util/List" "java/util/List" "add" "(Ljava/lang/Object;)Z") ∈ lw_tbl := lw_at lw_m3 143 rfl
theorem q681 : (Jvm.Cond.declares ({ cls := "java/util/List", name := "add", desc := "(Ljava/lang/Object;)Z" } : Jvm.MethodName)) ∈ lw_tbl := lw_at lw_m3 144 rfl
theorem q779 : (Jvm.Cond.interfaceMethod "java/util/List" "java/util/List" "remove" "(Ljava/lang/Object;)Z") ∈ lw_tbl := lw_at lw_m4 2 rfl
theorem q780 : (Jvm.Cond.declares ({ cls := "java/util/List", name := "remove", desc := "(Ljava/lang/Object;)Z" } : Jvm.MethodName)) ∈ lw_tbl := lw_at lw_m4 3 rfl
theorem q833 : (Jvm.Cond.interfaceMethod "java/util/List" "java/util/List" "iterator" "()Ljava/util/Iterator;") ∈ lw_tbl := lw_at lw_m4 56 rfl
theorem q834 : (Jvm.Cond.declares ({ cls := "java/util/List", name := "iterator", desc := "()Ljava/util/Iterator;" } : Jvm.MethodName)) ∈ lw_tbl := lw_at lw_m4 57 rfl
theorem q923 : (Jvm.Cond.interfaceMethod "java/util/List" "java/util/List" "clear" "()V") ∈ lw_tbl := lw_at lw_m4 146 rfl
theorem q924 : (Jvm.Cond.declares ({ cls := "java/util/List", name := "clear", desc := "()V" } : Jvm.MethodName)) ∈ lw_tbl := lw_at lw_m4 147 rfl
theorem q933 : (Jvm.Cond.interfaceMethod "java/util/List" "java/util/List" "size" "()I") ∈ lw_tbl := lw_at lw_m4 156 rfl
theorem q934 : (Jvm.Cond.declares ({ cls := "java/util/List", name := "size", desc := "()I" } : Jvm.MethodName)) ∈ lw_tbl := lw_at lw_m4 157 rfl
theorem q1008 : (Jvm.Cond.interfaceMethod "java/util/List" "java/util/List" "indexOf" "(Ljava/lang/Object;)I") ∈ lw_tbl := lw_at lw_m4 231 rfl
theorem q1009 : (Jvm.Cond.declares ({ cls := "java/util/List", name := "indexOf", desc := "(Ljava/lang/Object;)I" } : Jvm.MethodName)) ∈ lw_tbl := lw_at lw_m4 232 rfl
theorem q1021 : (Jvm.Cond.interfaceMethod "java/util/List" "java/util/List" "get" "(I)Ljava/lang/Object;") ∈ lw_tbl := lw_at lw_m5 4 rfl
theorem q1022 : (Jvm.Cond.declares ({ cls := "java/util/List", name := "get", desc := "(I)Ljava/lang/Object;" } : Jvm.MethodName)) ∈ lw_tbl := lw_at lw_m5 5 rfl
theorem q1223 : (Jvm.Cond.interfaceMethod "java/util/List" "java/util/List" "remove" "(I)Ljava/lang/Object;") ∈ lw_tbl := lw_at lw_m5 206 rfl
theorem q1224 : (Jvm.Cond.declares ({ cls := "java/util/List", name := "remove", desc := "(I)Ljava/lang/Object;" } : Jvm.MethodName)) ∈ lw_tbl := lw_at lw_m5 207 rfl
theorem q1360 : (Jvm.Cond.interfaceMethod "java/util/List" "java/util/List" "isEmpty" "()Z") ∈ lw_tbl := lw_at lw_m6 103 rfl
theorem q1361 : (Jvm.Cond.declares ({ cls := "java/util/List", name := "isEmpty", desc := "()Z" } : Jvm.MethodName)) ∈ lw_tbl := lw_at lw_m6 104 rfl
theorem q861 : (Jvm.Cond.interfaceMethod "java/util/Iterator" "java/util/Iterator" "hasNext" "()Z") ∈ lw_tbl := lw_at lw_m4 84 rfl
theorem q862 : (Jvm.Cond.declares ({ cls := "java/util/Iterator", name := "hasNext", desc := "()Z" } : Jvm.MethodName)) ∈ lw_tbl := lw_at lw_m4 85 rfl
theorem q871 : (Jvm.Cond.interfaceMethod "java/util/Iterator" "java/util/Iterator" "next" "()Ljava/lang/Object;") ∈ lw_tbl := lw_at lw_m4 94 rfl
theorem q872 : (Jvm.Cond.declares ({ cls := "java/util/Iterator", name := "next", desc := "()Ljava/lang/Object;" } : Jvm.MethodName)) ∈ lw_tbl := lw_at lw_m4 95 rfl
theorem q1760 : (Jvm.Cond.sameMethod "[Ljava/lang/Object;" "java/lang/Object" "getClass" "()Ljava/lang/Class;") ∈ lw_all := lw_g (lw_at lw_m8 23 rfl) rfl
theorem q1761 : (Jvm.Cond.selects "[Ljava/lang/Object;" ({ cls := "java/lang/Object", name := "getClass", desc := "()Ljava/lang/Class;" } : Jvm.MethodName) ({ cls := "java/lang/Object", name := "getClass", desc := "()Ljava/lang/Class;" } : Jvm.MethodName)) ∈ lw_all := lw_g (lw_at lw_m8 24 rfl) rfl
theorem q1785 : (Jvm.Cond.castable "[Ljava/lang/Object;" "java/lang/Object") ∈ lw_tbl := lw_at lw_m8 48 rfl
theorem q1783 : (Jvm.Cond.castable "[LXactKernel$Item;" "java/lang/Object") ∈ lw_tbl := lw_at lw_m8 46 rfl
theorem q1784 : (Jvm.Cond.castable "[LXactKernel$Process;" "java/lang/Object") ∈ lw_tbl := lw_at lw_m8 47 rfl
theorem q1787 : (Jvm.Cond.castable "[LXactKernel$Descriptor;" "java/lang/Object") ∈ lw_tbl := lw_at lw_m8 50 rfl
theorem q1788 : (Jvm.Cond.castable "[Z" "java/lang/Object") ∈ lw_tbl := lw_at lw_m8 51 rfl
theorem q1789 : (Jvm.Cond.castable "[I" "java/lang/Object") ∈ lw_tbl := lw_at lw_m8 52 rfl
theorem q1790 : (Jvm.Cond.castable "[J" "java/lang/Object") ∈ lw_tbl := lw_at lw_m8 53 rfl
