set_option maxRecDepth 100000
/-! CouncilStoreLaw -/
def RX0 : String := "CouncilStoreLaw"
abbrev cX0_nodes : ByteArray := method_3_code
def yX0_nodes : MethodName := ⟨RX0, "nodes", "(LCouncilStore;I)I"⟩
abbrev cX0_feed : ByteArray := method_4_code
def yX0_feed : MethodName := ⟨RX0, "feed", "(LCouncilStore;IIIII[J)I"⟩
abbrev cX0_end : ByteArray := method_5_code
def yX0_end : MethodName := ⟨RX0, "end", "(LCouncilStore;I[J)I"⟩
abbrev cX0_when : ByteArray := method_6_code
def yX0_when : MethodName := ⟨RX0, "when", "(LCouncilStore;III)I"⟩
abbrev cX0_put : ByteArray := method_7_code
def yX0_put : MethodName := ⟨RX0, "put", "(LCouncilStore;II)I"⟩
abbrev cX0_erase : ByteArray := method_8_code
def yX0_erase : MethodName := ⟨RX0, "erase", "(LCouncilStore;I)I"⟩
abbrev cX0_lease : ByteArray := method_9_code
def yX0_lease : MethodName := ⟨RX0, "lease", "(LCouncilStore;IIZ)I"⟩
abbrev cX0_propose : ByteArray := method_10_code
def yX0_propose : MethodName := ⟨RX0, "propose", "(LCouncilStore;I[J)I"⟩
abbrev cX0_rise : ByteArray := method_11_code
def yX0_rise : MethodName := ⟨RX0, "rise", "(LCouncilStore;I)I"⟩
abbrev cX0_beat : ByteArray := method_12_code
def yX0_beat : MethodName := ⟨RX0, "beat", "(LCouncilStore;I)I"⟩
abbrev cX0_sync : ByteArray := method_13_code
def yX0_sync : MethodName := ⟨RX0, "sync", "(LCouncilStore;I[J)I"⟩
abbrev cX0_crash : ByteArray := method_14_code
def yX0_crash : MethodName := ⟨RX0, "crash", "(LCouncilStore;II)I"⟩
abbrev cX0_start : ByteArray := method_15_code
def yX0_start : MethodName := ⟨RX0, "start", "(LCouncilStore;I)I"⟩
abbrev cX0_deliver : ByteArray := method_16_code
def yX0_deliver : MethodName := ⟨RX0, "deliver", "(LCouncilStore;IZ)I"⟩
abbrev cX0_lose : ByteArray := method_17_code
def yX0_lose : MethodName := ⟨RX0, "lose", "(LCouncilStore;I)I"⟩
abbrev cX0_snapshot : ByteArray := method_18_code
def yX0_snapshot : MethodName := ⟨RX0, "snapshot", "(LCouncilStore;I[J)I"⟩
abbrev cX0_read : ByteArray := method_19_code
def yX0_read : MethodName := ⟨RX0, "read", "(LCouncilStore;I[J)I"⟩
abbrev cX0_answer : ByteArray := method_20_code
def yX0_answer : MethodName := ⟨RX0, "answer", "(LCouncilStore;III[J)I"⟩
abbrev cX0_pair : ByteArray := method_21_code
def yX0_pair : MethodName := ⟨RX0, "pair", "(LCouncilStore;III[J)I"⟩
abbrev cX0_range : ByteArray := method_22_code
def yX0_range : MethodName := ⟨RX0, "range", "(LCouncilStore;IIIII[J)I"⟩
abbrev cX0_event : ByteArray := method_23_code
def yX0_event : MethodName := ⟨RX0, "event", "(LCouncilStore;IIIII[J)I"⟩
abbrev cX0_compact : ByteArray := method_24_code
def yX0_compact : MethodName := ⟨RX0, "compact", "(LCouncilStore;II)I"⟩
abbrev cX0_outcome : ByteArray := method_25_code
def yX0_outcome : MethodName := ⟨RX0, "outcome", "(LCouncilStore;III[J)I"⟩
abbrev cX0_message : ByteArray := method_26_code
def yX0_message : MethodName := ⟨RX0, "message", "(LCouncilStore;II[J)I"⟩
abbrev cX0_told : ByteArray := method_27_code
def yX0_told : MethodName := ⟨RX0, "told", "(LCouncilStore;II[J)I"⟩
theorem q100 : (Jvm.Cond.initialized "CouncilStoreLaw") ∈ lw_all := lw_g (lw_at lw_m1 0 rfl) rfl
theorem q130 : (Jvm.Cond.classLink "CouncilStoreLaw" (8 : Nat) "CouncilStore") ∈ lw_all := lw_g (lw_at lw_m1 30 rfl) rfl
theorem q132 : (Jvm.Cond.methodLink "CouncilStoreLaw" (101 : Nat) ({ cls := "CouncilStore", name := "<init>", desc := "()V" } : Jvm.MethodName)) ∈ lw_all := lw_g (lw_at lw_m1 32 rfl) rfl
theorem q722 : (Jvm.Cond.methodLink "CouncilStoreLaw" (141 : Nat) ({ cls := "CouncilStore", name := "forget", desc := "()V" } : Jvm.MethodName)) ∈ lw_all := lw_g (lw_at lw_m3 142 rfl) rfl
theorem q732 : (Jvm.Cond.methodLink "CouncilStoreLaw" (199 : Nat) ({ cls := "CouncilStore", name := "count", desc := "(I)I" } : Jvm.MethodName)) ∈ lw_all := lw_g (lw_at lw_m3 152 rfl) rfl
theorem q748 : (Jvm.Cond.methodLink "CouncilStoreLaw" (105 : Nat) ({ cls := "CouncilStoreLaw", name := "nodes", desc := "(LCouncilStore;I)I" } : Jvm.MethodName)) ∈ lw_all := lw_g (lw_at lw_m3 168 rfl) rfl
theorem q749 : (Jvm.Cond.static ({ cls := "CouncilStoreLaw", name := "nodes", desc := "(LCouncilStore;I)I" } : Jvm.MethodName)) ∈ lw_all := lw_g (lw_at lw_m3 169 rfl) rfl
theorem q750 : (Jvm.Cond.codeWith ({ cls := "CouncilStoreLaw", name := "nodes", desc := "(LCouncilStore;I)I" } : Jvm.MethodName) method_3_code (3 : Nat) (Option.some Jvm.ClassFile.FieldType.int) [((0 : Nat), (5 : Nat), (8 : Nat), (13 : Nat))]) ∈ lw_all := lw_g (lw_at lw_m3 170 rfl) rfl
theorem q751 : (Jvm.Cond.classLink "CouncilStoreLaw" (13 : Nat) "java/lang/IllegalArgumentException") ∈ lw_all := lw_g (lw_at lw_m3 171 rfl) rfl
theorem q752 : (Jvm.Cond.methodLink "CouncilStoreLaw" (7 : Nat) ({ cls := "CouncilStore", name := "nodes", desc := "(I)V" } : Jvm.MethodName)) ∈ lw_all := lw_g (lw_at lw_m3 172 rfl) rfl
theorem q870 : (Jvm.Cond.methodLink "CouncilStoreLaw" (115 : Nat) ({ cls := "CouncilStoreLaw", name := "feed", desc := "(LCouncilStore;IIIII[J)I" } : Jvm.MethodName)) ∈ lw_all := lw_g (lw_at lw_m4 50 rfl) rfl
theorem q871 : (Jvm.Cond.static ({ cls := "CouncilStoreLaw", name := "feed", desc := "(LCouncilStore;IIIII[J)I" } : Jvm.MethodName)) ∈ lw_all := lw_g (lw_at lw_m4 51 rfl) rfl
theorem q872 : (Jvm.Cond.codeWith ({ cls := "CouncilStoreLaw", name := "feed", desc := "(LCouncilStore;IIIII[J)I" } : Jvm.MethodName) method_4_code (8 : Nat) (Option.some Jvm.ClassFile.FieldType.int) [((0 : Nat), (16 : Nat), (19 : Nat), (19 : Nat))]) ∈ lw_all := lw_g (lw_at lw_m4 52 rfl) rfl
theorem q873 : (Jvm.Cond.classLink "CouncilStoreLaw" (19 : Nat) "java/lang/IndexOutOfBoundsException") ∈ lw_all := lw_g (lw_at lw_m4 53 rfl) rfl
theorem q905 : (Jvm.Cond.methodLink "CouncilStoreLaw" (15 : Nat) ({ cls := "CouncilStore", name := "feed", desc := "(IIIII)I" } : Jvm.MethodName)) ∈ lw_all := lw_g (lw_at lw_m4 85 rfl) rfl
theorem q932 : (Jvm.Cond.methodLink "CouncilStoreLaw" (119 : Nat) ({ cls := "CouncilStoreLaw", name := "end", desc := "(LCouncilStore;I[J)I" } : Jvm.MethodName)) ∈ lw_all := lw_g (lw_at lw_m4 112 rfl) rfl
theorem q933 : (Jvm.Cond.static ({ cls := "CouncilStoreLaw", name := "end", desc := "(LCouncilStore;I[J)I" } : Jvm.MethodName)) ∈ lw_all := lw_g (lw_at lw_m4 113 rfl) rfl
theorem q934 : (Jvm.Cond.codeWith ({ cls := "CouncilStoreLaw", name := "end", desc := "(LCouncilStore;I[J)I" } : Jvm.MethodName) method_5_code (4 : Nat) (Option.some Jvm.ClassFile.FieldType.int) [((0 : Nat), (9 : Nat), (12 : Nat), (13 : Nat))]) ∈ lw_all := lw_g (lw_at lw_m4 114 rfl) rfl
theorem q935 : (Jvm.Cond.methodLink "CouncilStoreLaw" (21 : Nat) ({ cls := "CouncilStore", name := "end", desc := "(I)I" } : Jvm.MethodName)) ∈ lw_all := lw_g (lw_at lw_m4 115 rfl) rfl
theorem q944 : (Jvm.Cond.methodLink "CouncilStoreLaw" (123 : Nat) ({ cls := "CouncilStoreLaw", name := "when", desc := "(LCouncilStore;III)I" } : Jvm.MethodName)) ∈ lw_all := lw_g (lw_at lw_m4 124 rfl) rfl
theorem q945 : (Jvm.Cond.static ({ cls := "CouncilStoreLaw", name := "when", desc := "(LCouncilStore;III)I" } : Jvm.MethodName)) ∈ lw_all := lw_g (lw_at lw_m4 125 rfl) rfl
theorem q946 : (Jvm.Cond.codeWith ({ cls := "CouncilStoreLaw", name := "when", desc := "(LCouncilStore;III)I" } : Jvm.MethodName) method_6_code (5 : Nat) (Option.some Jvm.ClassFile.FieldType.int) [((0 : Nat), (7 : Nat), (10 : Nat), (13 : Nat)), ((0 : Nat), (7 : Nat), (14 : Nat), (19 : Nat))]) ∈ lw_all := lw_g (lw_at lw_m4 126 rfl) rfl
theorem q947 : (Jvm.Cond.methodLink "CouncilStoreLaw" (25 : Nat) ({ cls := "CouncilStore", name := "when", desc := "(III)V" } : Jvm.MethodName)) ∈ lw_all := lw_g (lw_at lw_m4 127 rfl) rfl
theorem q962 : (Jvm.Cond.methodLink "CouncilStoreLaw" (127 : Nat) ({ cls := "CouncilStoreLaw", name := "put", desc := "(LCouncilStore;II)I" } : Jvm.MethodName)) ∈ lw_all := lw_g (lw_at lw_m4 142 rfl) rfl
theorem q963 : (Jvm.Cond.static ({ cls := "CouncilStoreLaw", name := "put", desc := "(LCouncilStore;II)I" } : Jvm.MethodName)) ∈ lw_all := lw_g (lw_at lw_m4 143 rfl) rfl
theorem q964 : (Jvm.Cond.codeWith ({ cls := "CouncilStoreLaw", name := "put", desc := "(LCouncilStore;II)I" } : Jvm.MethodName) method_7_code (4 : Nat) (Option.some Jvm.ClassFile.FieldType.int) [((0 : Nat), (6 : Nat), (9 : Nat), (13 : Nat)), ((0 : Nat), (6 : Nat), (12 : Nat), (19 : Nat))]) ∈ lw_all := lw_g (lw_at lw_m4 144 rfl) rfl
theorem q965 : (Jvm.Cond.methodLink "CouncilStoreLaw" (29 : Nat) ({ cls := "CouncilStore", name := "put", desc := "(II)V" } : Jvm.MethodName)) ∈ lw_all := lw_g (lw_at lw_m4 145 rfl) rfl
theorem q980 : (Jvm.Cond.methodLink "CouncilStoreLaw" (131 : Nat) ({ cls := "CouncilStoreLaw", name := "erase", desc := "(LCouncilStore;I)I" } : Jvm.MethodName)) ∈ lw_all := lw_g (lw_at lw_m4 160 rfl) rfl
theorem q981 : (Jvm.Cond.static ({ cls := "CouncilStoreLaw", name := "erase", desc := "(LCouncilStore;I)I" } : Jvm.MethodName)) ∈ lw_all := lw_g (lw_at lw_m4 161 rfl) rfl
theorem q982 : (Jvm.Cond.codeWith ({ cls := "CouncilStoreLaw", name := "erase", desc := "(LCouncilStore;I)I" } : Jvm.MethodName) method_8_code (3 : Nat) (Option.some Jvm.ClassFile.FieldType.int) [((0 : Nat), (5 : Nat), (8 : Nat), (13 : Nat)), ((0 : Nat), (5 : Nat), (11 : Nat), (19 : Nat))]) ∈ lw_all := lw_g (lw_at lw_m4 162 rfl) rfl
theorem q983 : (Jvm.Cond.methodLink "CouncilStoreLaw" (33 : Nat) ({ cls := "CouncilStore", name := "erase", desc := "(I)V" } : Jvm.MethodName)) ∈ lw_all := lw_g (lw_at lw_m4 163 rfl) rfl
theorem q987 : (Jvm.Cond.methodLink "CouncilStoreLaw" (134 : Nat) ({ cls := "CouncilStoreLaw", name := "lease", desc := "(LCouncilStore;IIZ)I" } : Jvm.MethodName)) ∈ lw_all := lw_g (lw_at lw_m4 167 rfl) rfl
theorem q988 : (Jvm.Cond.static ({ cls := "CouncilStoreLaw", name := "lease", desc := "(LCouncilStore;IIZ)I" } : Jvm.MethodName)) ∈ lw_all := lw_g (lw_at lw_m4 168 rfl) rfl
theorem q989 : (Jvm.Cond.codeWith ({ cls := "CouncilStoreLaw", name := "lease", desc := "(LCouncilStore;IIZ)I" } : Jvm.MethodName) method_9_code (5 : Nat) (Option.some Jvm.ClassFile.FieldType.int) [((0 : Nat), (7 : Nat), (10 : Nat), (13 : Nat)), ((0 : Nat), (7 : Nat), (14 : Nat), (19 : Nat))]) ∈ lw_all := lw_g (lw_at lw_m4 169 rfl) rfl
theorem q990 : (Jvm.Cond.methodLink "CouncilStoreLaw" (36 : Nat) ({ cls := "CouncilStore", name := "lease", desc := "(IIZ)V" } : Jvm.MethodName)) ∈ lw_all := lw_g (lw_at lw_m4 170 rfl) rfl
theorem q994 : (Jvm.Cond.methodLink "CouncilStoreLaw" (138 : Nat) ({ cls := "CouncilStoreLaw", name := "propose", desc := "(LCouncilStore;I[J)I" } : Jvm.MethodName)) ∈ lw_all := lw_g (lw_at lw_m4 174 rfl) rfl
theorem q995 : (Jvm.Cond.static ({ cls := "CouncilStoreLaw", name := "propose", desc := "(LCouncilStore;I[J)I" } : Jvm.MethodName)) ∈ lw_all := lw_g (lw_at lw_m4 175 rfl) rfl
theorem q996 : (Jvm.Cond.codeWith ({ cls := "CouncilStoreLaw", name := "propose", desc := "(LCouncilStore;I[J)I" } : Jvm.MethodName) method_10_code (4 : Nat) (Option.some Jvm.ClassFile.FieldType.int) [((0 : Nat), (9 : Nat), (12 : Nat), (43 : Nat)), ((0 : Nat), (9 : Nat), (15 : Nat), (45 : Nat)), ((0 : Nat), (9 : Nat), (18 : Nat), (19 : Nat))]) ∈ lw_all := lw_g (lw_at lw_m4 176 rfl) rfl
theorem q997 : (Jvm.Cond.classLink "CouncilStoreLaw" (43 : Nat) "java/lang/IllegalStateException") ∈ lw_all := lw_g (lw_at lw_m4 177 rfl) rfl
theorem q998 : (Jvm.Cond.classLink "CouncilStoreLaw" (45 : Nat) "java/util/NoSuchElementException") ∈ lw_all := lw_g (lw_at lw_m4 178 rfl) rfl
theorem q999 : (Jvm.Cond.methodLink "CouncilStoreLaw" (40 : Nat) ({ cls := "CouncilStore", name := "propose", desc := "(I)I" } : Jvm.MethodName)) ∈ lw_all := lw_g (lw_at lw_m4 179 rfl) rfl
theorem q1182 : (Jvm.Cond.methodLink "CouncilStoreLaw" (145 : Nat) ({ cls := "CouncilStoreLaw", name := "rise", desc := "(LCouncilStore;I)I" } : Jvm.MethodName)) ∈ lw_all := lw_g (lw_at lw_m5 122 rfl) rfl
theorem q1183 : (Jvm.Cond.static ({ cls := "CouncilStoreLaw", name := "rise", desc := "(LCouncilStore;I)I" } : Jvm.MethodName)) ∈ lw_all := lw_g (lw_at lw_m5 123 rfl) rfl
theorem q1184 : (Jvm.Cond.codeWith ({ cls := "CouncilStoreLaw", name := "rise", desc := "(LCouncilStore;I)I" } : Jvm.MethodName) method_11_code (3 : Nat) (Option.some Jvm.ClassFile.FieldType.int) [((0 : Nat), (5 : Nat), (8 : Nat), (43 : Nat)), ((0 : Nat), (5 : Nat), (11 : Nat), (45 : Nat)), ((0 : Nat), (5 : Nat), (14 : Nat), (19 : Nat))]) ∈ lw_all := lw_g (lw_at lw_m5 124 rfl) rfl
theorem q1185 : (Jvm.Cond.methodLink "CouncilStoreLaw" (47 : Nat) ({ cls := "CouncilStore", name := "rise", desc := "(I)V" } : Jvm.MethodName)) ∈ lw_all := lw_g (lw_at lw_m5 125 rfl) rfl
theorem q1230 : (Jvm.Cond.methodLink "CouncilStoreLaw" (148 : Nat) ({ cls := "CouncilStoreLaw", name := "beat", desc := "(LCouncilStore;I)I" } : Jvm.MethodName)) ∈ lw_all := lw_g (lw_at lw_m5 170 rfl) rfl
theorem q1231 : (Jvm.Cond.static ({ cls := "CouncilStoreLaw", name := "beat", desc := "(LCouncilStore;I)I" } : Jvm.MethodName)) ∈ lw_all := lw_g (lw_at lw_m5 171 rfl) rfl
theorem q1232 : (Jvm.Cond.codeWith ({ cls := "CouncilStoreLaw", name := "beat", desc := "(LCouncilStore;I)I" } : Jvm.MethodName) method_12_code (3 : Nat) (Option.some Jvm.ClassFile.FieldType.int) [((0 : Nat), (5 : Nat), (8 : Nat), (43 : Nat)), ((0 : Nat), (5 : Nat), (11 : Nat), (45 : Nat))]) ∈ lw_all := lw_g (lw_at lw_m5 172 rfl) rfl
theorem q1233 : (Jvm.Cond.methodLink "CouncilStoreLaw" (50 : Nat) ({ cls := "CouncilStore", name := "beat", desc := "(I)V" } : Jvm.MethodName)) ∈ lw_all := lw_g (lw_at lw_m5 173 rfl) rfl
theorem q1238 : (Jvm.Cond.methodLink "CouncilStoreLaw" (151 : Nat) ({ cls := "CouncilStoreLaw", name := "sync", desc := "(LCouncilStore;I[J)I" } : Jvm.MethodName)) ∈ lw_all := lw_g (lw_at lw_m5 178 rfl) rfl
theorem q1239 : (Jvm.Cond.static ({ cls := "CouncilStoreLaw", name := "sync", desc := "(LCouncilStore;I[J)I" } : Jvm.MethodName)) ∈ lw_all := lw_g (lw_at lw_m5 179 rfl) rfl
theorem q1240 : (Jvm.Cond.codeWith ({ cls := "CouncilStoreLaw", name := "sync", desc := "(LCouncilStore;I[J)I" } : Jvm.MethodName) method_13_code (4 : Nat) (Option.some Jvm.ClassFile.FieldType.int) [((0 : Nat), (9 : Nat), (12 : Nat), (45 : Nat))]) ∈ lw_all := lw_g (lw_at lw_m5 180 rfl) rfl
theorem q1241 : (Jvm.Cond.methodLink "CouncilStoreLaw" (53 : Nat) ({ cls := "CouncilStore", name := "sync", desc := "(I)I" } : Jvm.MethodName)) ∈ lw_all := lw_g (lw_at lw_m5 181 rfl) rfl
theorem q1370 : (Jvm.Cond.methodLink "CouncilStoreLaw" (154 : Nat) ({ cls := "CouncilStoreLaw", name := "crash", desc := "(LCouncilStore;II)I" } : Jvm.MethodName)) ∈ lw_all := lw_g (lw_at lw_m6 70 rfl) rfl
theorem q1371 : (Jvm.Cond.static ({ cls := "CouncilStoreLaw", name := "crash", desc := "(LCouncilStore;II)I" } : Jvm.MethodName)) ∈ lw_all := lw_g (lw_at lw_m6 71 rfl) rfl
theorem q1372 : (Jvm.Cond.codeWith ({ cls := "CouncilStoreLaw", name := "crash", desc := "(LCouncilStore;II)I" } : Jvm.MethodName) method_14_code (4 : Nat) (Option.some Jvm.ClassFile.FieldType.int) [((0 : Nat), (6 : Nat), (9 : Nat), (13 : Nat)), ((0 : Nat), (6 : Nat), (12 : Nat), (45 : Nat))]) ∈ lw_all := lw_g (lw_at lw_m6 72 rfl) rfl
theorem q1373 : (Jvm.Cond.methodLink "CouncilStoreLaw" (56 : Nat) ({ cls := "CouncilStore", name := "crash", desc := "(II)V" } : Jvm.MethodName)) ∈ lw_all := lw_g (lw_at lw_m6 73 rfl) rfl
theorem q1382 : (Jvm.Cond.methodLink "CouncilStoreLaw" (157 : Nat) ({ cls := "CouncilStoreLaw", name := "start", desc := "(LCouncilStore;I)I" } : Jvm.MethodName)) ∈ lw_all := lw_g (lw_at lw_m6 82 rfl) rfl
theorem q1383 : (Jvm.Cond.static ({ cls := "CouncilStoreLaw", name := "start", desc := "(LCouncilStore;I)I" } : Jvm.MethodName)) ∈ lw_all := lw_g (lw_at lw_m6 83 rfl) rfl
theorem q1384 : (Jvm.Cond.codeWith ({ cls := "CouncilStoreLaw", name := "start", desc := "(LCouncilStore;I)I" } : Jvm.MethodName) method_15_code (3 : Nat) (Option.some Jvm.ClassFile.FieldType.int) [((0 : Nat), (5 : Nat), (8 : Nat), (45 : Nat))]) ∈ lw_all := lw_g (lw_at lw_m6 84 rfl) rfl
theorem q1385 : (Jvm.Cond.methodLink "CouncilStoreLaw" (59 : Nat) ({ cls := "CouncilStore", name := "start", desc := "(I)V" } : Jvm.MethodName)) ∈ lw_all := lw_g (lw_at lw_m6 85 rfl) rfl
theorem q1390 : (Jvm.Cond.methodLink "CouncilStoreLaw" (160 : Nat) ({ cls := "CouncilStoreLaw", name := "deliver", desc := "(LCouncilStore;IZ)I" } : Jvm.MethodName)) ∈ lw_all := lw_g (lw_at lw_m6 90 rfl) rfl
theorem q1391 : (Jvm.Cond.static ({ cls := "CouncilStoreLaw", name := "deliver", desc := "(LCouncilStore;IZ)I" } : Jvm.MethodName)) ∈ lw_all := lw_g (lw_at lw_m6 91 rfl) rfl
theorem q1392 : (Jvm.Cond.codeWith ({ cls := "CouncilStoreLaw", name := "deliver", desc := "(LCouncilStore;IZ)I" } : Jvm.MethodName) method_16_code (4 : Nat) (Option.some Jvm.ClassFile.FieldType.int) [((0 : Nat), (6 : Nat), (9 : Nat), (45 : Nat)), ((0 : Nat), (6 : Nat), (12 : Nat), (19 : Nat))]) ∈ lw_all := lw_g (lw_at lw_m6 92 rfl) rfl
theorem q1393 : (Jvm.Cond.methodLink "CouncilStoreLaw" (62 : Nat) ({ cls := "CouncilStore", name := "deliver", desc := "(IZ)V" } : Jvm.MethodName)) ∈ lw_all := lw_g (lw_at lw_m6 93 rfl) rfl
theorem q1461 : (Jvm.Cond.methodLink "CouncilStoreLaw" (164 : Nat) ({ cls := "CouncilStoreLaw", name := "lose", desc := "(LCouncilStore;I)I" } : Jvm.MethodName)) ∈ lw_all := lw_g (lw_at lw_m6 161 rfl) rfl
theorem q1462 : (Jvm.Cond.static ({ cls := "CouncilStoreLaw", name := "lose", desc := "(LCouncilStore;I)I" } : Jvm.MethodName)) ∈ lw_all := lw_g (lw_at lw_m6 162 rfl) rfl
theorem q1463 : (Jvm.Cond.codeWith ({ cls := "CouncilStoreLaw", name := "lose", desc := "(LCouncilStore;I)I" } : Jvm.MethodName) method_17_code (3 : Nat) (Option.some Jvm.ClassFile.FieldType.int) [((0 : Nat), (5 : Nat), (8 : Nat), (45 : Nat))]) ∈ lw_all := lw_g (lw_at lw_m6 163 rfl) rfl
theorem q1464 : (Jvm.Cond.methodLink "CouncilStoreLaw" (66 : Nat) ({ cls := "CouncilStore", name := "lose", desc := "(I)V" } : Jvm.MethodName)) ∈ lw_all := lw_g (lw_at lw_m6 164 rfl) rfl
theorem q1468 : (Jvm.Cond.methodLink "CouncilStoreLaw" (167 : Nat) ({ cls := "CouncilStoreLaw", name := "snapshot", desc := "(LCouncilStore;I[J)I" } : Jvm.MethodName)) ∈ lw_all := lw_g (lw_at lw_m6 168 rfl) rfl
theorem q1469 : (Jvm.Cond.static ({ cls := "CouncilStoreLaw", name := "snapshot", desc := "(LCouncilStore;I[J)I" } : Jvm.MethodName)) ∈ lw_all := lw_g (lw_at lw_m6 169 rfl) rfl
theorem q1470 : (Jvm.Cond.codeWith ({ cls := "CouncilStoreLaw", name := "snapshot", desc := "(LCouncilStore;I[J)I" } : Jvm.MethodName) method_18_code (4 : Nat) (Option.some Jvm.ClassFile.FieldType.int) [((0 : Nat), (9 : Nat), (12 : Nat), (43 : Nat)), ((0 : Nat), (9 : Nat), (15 : Nat), (45 : Nat))]) ∈ lw_all := lw_g (lw_at lw_m6 170 rfl) rfl
theorem q1471 : (Jvm.Cond.methodLink "CouncilStoreLaw" (69 : Nat) ({ cls := "CouncilStore", name := "snapshot", desc := "(I)I" } : Jvm.MethodName)) ∈ lw_all := lw_g (lw_at lw_m6 171 rfl) rfl
theorem q1479 : (Jvm.Cond.methodLink "CouncilStoreLaw" (170 : Nat) ({ cls := "CouncilStoreLaw", name := "read", desc := "(LCouncilStore;I[J)I" } : Jvm.MethodName)) ∈ lw_all := lw_g (lw_at lw_m6 179 rfl) rfl
theorem q1480 : (Jvm.Cond.static ({ cls := "CouncilStoreLaw", name := "read", desc := "(LCouncilStore;I[J)I" } : Jvm.MethodName)) ∈ lw_all := lw_g (lw_at lw_m6 180 rfl) rfl
theorem q1481 : (Jvm.Cond.codeWith ({ cls := "CouncilStoreLaw", name := "read", desc := "(LCouncilStore;I[J)I" } : Jvm.MethodName) method_19_code (4 : Nat) (Option.some Jvm.ClassFile.FieldType.int) [((0 : Nat), (9 : Nat), (12 : Nat), (13 : Nat)), ((0 : Nat), (9 : Nat), (15 : Nat), (43 : Nat)), ((0 : Nat), (9 : Nat), (18 : Nat), (45 : Nat)), ((0 : Nat), (9 : Nat), (21 : Nat), (19 : Nat))]) ∈ lw_all := lw_g (lw_at lw_m6 181 rfl) rfl
theorem q1482 : (Jvm.Cond.methodLink "CouncilStoreLaw" (72 : Nat) ({ cls := "CouncilStore", name := "read", desc := "(I)I" } : Jvm.MethodName)) ∈ lw_all := lw_g (lw_at lw_m6 182 rfl) rfl
theorem q1527 : (Jvm.Cond.methodLink "CouncilStoreLaw" (173 : Nat) ({ cls := "CouncilStoreLaw", name := "answer", desc := "(LCouncilStore;III[J)I" } : Jvm.MethodName)) ∈ lw_all := lw_g (lw_at lw_m6 227 rfl) rfl
theorem q1528 : (Jvm.Cond.static ({ cls := "CouncilStoreLaw", name := "answer", desc := "(LCouncilStore;III[J)I" } : Jvm.MethodName)) ∈ lw_all := lw_g (lw_at lw_m6 228 rfl) rfl
theorem q1529 : (Jvm.Cond.codeWith ({ cls := "CouncilStoreLaw", name := "answer", desc := "(LCouncilStore;III[J)I" } : Jvm.MethodName) method_20_code (6 : Nat) (Option.some Jvm.ClassFile.FieldType.int) [((0 : Nat), (12 : Nat), (15 : Nat), (13 : Nat)), ((0 : Nat), (12 : Nat), (19 : Nat), (45 : Nat))]) ∈ lw_all := lw_g (lw_at lw_m6 229 rfl) rfl
theorem q1530 : (Jvm.Cond.methodLink "CouncilStoreLaw" (75 : Nat) ({ cls := "CouncilStore", name := "answer", desc := "(III)I" } : Jvm.MethodName)) ∈ lw_all := lw_g (lw_at lw_m6 230 rfl) rfl
theorem q1542 : (Jvm.Cond.methodLink "CouncilStoreLaw" (177 : Nat) ({ cls := "CouncilStoreLaw", name := "pair", desc := "(LCouncilStore;III[J)I" } : Jvm.MethodName)) ∈ lw_all := lw_g (lw_at lw_m7 2 rfl) rfl
theorem q1543 : (Jvm.Cond.static ({ cls := "CouncilStoreLaw", name := "pair", desc := "(LCouncilStore;III[J)I" } : Jvm.MethodName)) ∈ lw_all := lw_g (lw_at lw_m7 3 rfl) rfl
theorem q1544 : (Jvm.Cond.codeWith ({ cls := "CouncilStoreLaw", name := "pair", desc := "(LCouncilStore;III[J)I" } : Jvm.MethodName) method_21_code (6 : Nat) (Option.some Jvm.ClassFile.FieldType.int) [((0 : Nat), (12 : Nat), (15 : Nat), (13 : Nat)), ((0 : Nat), (12 : Nat), (19 : Nat), (43 : Nat)), ((0 : Nat), (12 : Nat), (23 : Nat), (45 : Nat))]) ∈ lw_all := lw_g (lw_at lw_m7 4 rfl) rfl
theorem q1545 : (Jvm.Cond.methodLink "CouncilStoreLaw" (79 : Nat) ({ cls := "CouncilStore", name := "pair", desc := "(III)I" } : Jvm.MethodName)) ∈ lw_all := lw_g (lw_at lw_m7 5 rfl) rfl
theorem q1563 : (Jvm.Cond.methodLink "CouncilStoreLaw" (180 : Nat) ({ cls := "CouncilStoreLaw", name := "range", desc := "(LCouncilStore;IIIII[J)I" } : Jvm.MethodName)) ∈ lw_all := lw_g (lw_at lw_m7 23 rfl) rfl
theorem q1564 : (Jvm.Cond.static ({ cls := "CouncilStoreLaw", name := "range", desc := "(LCouncilStore;IIIII[J)I" } : Jvm.MethodName)) ∈ lw_all := lw_g (lw_at lw_m7 24 rfl) rfl
theorem q1565 : (Jvm.Cond.codeWith ({ cls := "CouncilStoreLaw", name := "range", desc := "(LCouncilStore;IIIII[J)I" } : Jvm.MethodName) method_22_code (8 : Nat) (Option.some Jvm.ClassFile.FieldType.int) [((0 : Nat), (16 : Nat), (19 : Nat), (13 : Nat)), ((0 : Nat), (16 : Nat), (23 : Nat), (43 : Nat)), ((0 : Nat), (16 : Nat), (27 : Nat), (45 : Nat))]) ∈ lw_all := lw_g (lw_at lw_m7 25 rfl) rfl
theorem q1566 : (Jvm.Cond.methodLink "CouncilStoreLaw" (82 : Nat) ({ cls := "CouncilStore", name := "range", desc := "(IIIII)I" } : Jvm.MethodName)) ∈ lw_all := lw_g (lw_at lw_m7 26 rfl) rfl
theorem q1577 : (Jvm.Cond.methodLink "CouncilStoreLaw" (183 : Nat) ({ cls := "CouncilStoreLaw", name := "event", desc := "(LCouncilStore;IIIII[J)I" } : Jvm.MethodName)) ∈ lw_all := lw_g (lw_at lw_m7 37 rfl) rfl
theorem q1578 : (Jvm.Cond.static ({ cls := "CouncilStoreLaw", name := "event", desc := "(LCouncilStore;IIIII[J)I" } : Jvm.MethodName)) ∈ lw_all := lw_g (lw_at lw_m7 38 rfl) rfl
theorem q1579 : (Jvm.Cond.codeWith ({ cls := "CouncilStoreLaw", name := "event", desc := "(LCouncilStore;IIIII[J)I" } : Jvm.MethodName) method_23_code (8 : Nat) (Option.some Jvm.ClassFile.FieldType.int) [((0 : Nat), (16 : Nat), (19 : Nat), (13 : Nat)), ((0 : Nat), (16 : Nat), (23 : Nat), (43 : Nat)), ((0 : Nat), (16 : Nat), (27 : Nat), (45 : Nat))]) ∈ lw_all := lw_g (lw_at lw_m7 39 rfl) rfl
theorem q1580 : (Jvm.Cond.methodLink "CouncilStoreLaw" (85 : Nat) ({ cls := "CouncilStore", name := "event", desc := "(IIIII)I" } : Jvm.MethodName)) ∈ lw_all := lw_g (lw_at lw_m7 40 rfl) rfl
theorem q1597 : (Jvm.Cond.methodLink "CouncilStoreLaw" (186 : Nat) ({ cls := "CouncilStoreLaw", name := "compact", desc := "(LCouncilStore;II)I" } : Jvm.MethodName)) ∈ lw_all := lw_g (lw_at lw_m7 57 rfl) rfl
theorem q1598 : (Jvm.Cond.static ({ cls := "CouncilStoreLaw", name := "compact", desc := "(LCouncilStore;II)I" } : Jvm.MethodName)) ∈ lw_all := lw_g (lw_at lw_m7 58 rfl) rfl
theorem q1599 : (Jvm.Cond.codeWith ({ cls := "CouncilStoreLaw", name := "compact", desc := "(LCouncilStore;II)I" } : Jvm.MethodName) method_24_code (4 : Nat) (Option.some Jvm.ClassFile.FieldType.int) [((0 : Nat), (6 : Nat), (9 : Nat), (43 : Nat)), ((0 : Nat), (6 : Nat), (12 : Nat), (45 : Nat))]) ∈ lw_all := lw_g (lw_at lw_m7 59 rfl) rfl
theorem q1600 : (Jvm.Cond.methodLink "CouncilStoreLaw" (88 : Nat) ({ cls := "CouncilStore", name := "compact", desc := "(II)V" } : Jvm.MethodName)) ∈ lw_all := lw_g (lw_at lw_m7 60 rfl) rfl
theorem q1608 : (Jvm.Cond.methodLink "CouncilStoreLaw" (189 : Nat) ({ cls := "CouncilStoreLaw", name := "outcome", desc := "(LCouncilStore;III[J)I" } : Jvm.MethodName)) ∈ lw_all := lw_g (lw_at lw_m7 68 rfl) rfl
theorem q1609 : (Jvm.Cond.static ({ cls := "CouncilStoreLaw", name := "outcome", desc := "(LCouncilStore;III[J)I" } : Jvm.MethodName)) ∈ lw_all := lw_g (lw_at lw_m7 69 rfl) rfl
theorem q1610 : (Jvm.Cond.codeWith ({ cls := "CouncilStoreLaw", name := "outcome", desc := "(LCouncilStore;III[J)I" } : Jvm.MethodName) method_25_code (6 : Nat) (Option.some Jvm.ClassFile.FieldType.int) [((0 : Nat), (12 : Nat), (15 : Nat), (13 : Nat)), ((0 : Nat), (12 : Nat), (19 : Nat), (45 : Nat))]) ∈ lw_all := lw_g (lw_at lw_m7 70 rfl) rfl
theorem q1611 : (Jvm.Cond.methodLink "CouncilStoreLaw" (91 : Nat) ({ cls := "CouncilStore", name := "outcome", desc := "(III)I" } : Jvm.MethodName)) ∈ lw_all := lw_g (lw_at lw_m7 71 rfl) rfl
theorem q1627 : (Jvm.Cond.methodLink "CouncilStoreLaw" (192 : Nat) ({ cls := "CouncilStoreLaw", name := "message", desc := "(LCouncilStore;II[J)I" } : Jvm.MethodName)) ∈ lw_all := lw_g (lw_at lw_m7 87 rfl) rfl
theorem q1628 : (Jvm.Cond.static ({ cls := "CouncilStoreLaw", name := "message", desc := "(LCouncilStore;II[J)I" } : Jvm.MethodName)) ∈ lw_all := lw_g (lw_at lw_m7 88 rfl) rfl
theorem q1629 : (Jvm.Cond.codeWith ({ cls := "CouncilStoreLaw", name := "message", desc := "(LCouncilStore;II[J)I" } : Jvm.MethodName) method_26_code (5 : Nat) (Option.some Jvm.ClassFile.FieldType.int) [((0 : Nat), (10 : Nat), (13 : Nat), (13 : Nat)), ((0 : Nat), (10 : Nat), (17 : Nat), (45 : Nat))]) ∈ lw_all := lw_g (lw_at lw_m7 89 rfl) rfl
theorem q1630 : (Jvm.Cond.methodLink "CouncilStoreLaw" (94 : Nat) ({ cls := "CouncilStore", name := "message", desc := "(II)I" } : Jvm.MethodName)) ∈ lw_all := lw_g (lw_at lw_m7 90 rfl) rfl
theorem q1634 : (Jvm.Cond.methodLink "CouncilStoreLaw" (196 : Nat) ({ cls := "CouncilStoreLaw", name := "told", desc := "(LCouncilStore;II[J)I" } : Jvm.MethodName)) ∈ lw_all := lw_g (lw_at lw_m7 94 rfl) rfl
theorem q1635 : (Jvm.Cond.static ({ cls := "CouncilStoreLaw", name := "told", desc := "(LCouncilStore;II[J)I" } : Jvm.MethodName)) ∈ lw_all := lw_g (lw_at lw_m7 95 rfl) rfl
theorem q1636 : (Jvm.Cond.codeWith ({ cls := "CouncilStoreLaw", name := "told", desc := "(LCouncilStore;II[J)I" } : Jvm.MethodName) method_27_code (5 : Nat) (Option.some Jvm.ClassFile.FieldType.int) [((0 : Nat), (10 : Nat), (13 : Nat), (13 : Nat)), ((0 : Nat), (10 : Nat), (17 : Nat), (45 : Nat))]) ∈ lw_all := lw_g (lw_at lw_m7 96 rfl) rfl
theorem q1637 : (Jvm.Cond.methodLink "CouncilStoreLaw" (98 : Nat) ({ cls := "CouncilStore", name := "told", desc := "(II)I" } : Jvm.MethodName)) ∈ lw_all := lw_g (lw_at lw_m7 97 rfl) rfl
theorem q1660 : (Jvm.Cond.classLink "CouncilStoreLaw" (102 : Nat) "CouncilStoreModel") ∈ lw_all := lw_g (lw_at lw_m7 120 rfl) rfl
theorem q1662 : (Jvm.Cond.methodLink "CouncilStoreLaw" (104 : Nat) ({ cls := "CouncilStoreModel", name := "<init>", desc := "()V" } : Jvm.MethodName)) ∈ lw_all := lw_g (lw_at lw_m7 122 rfl) rfl
theorem q2042 : (Jvm.Cond.methodLink "CouncilStoreLaw" (111 : Nat) ({ cls := "CouncilStoreModel", name := "thrown", desc := "()I" } : Jvm.MethodName)) ∈ lw_all := lw_g (lw_at lw_m9 22 rfl) rfl
theorem q2046 : (Jvm.Cond.methodLink "CouncilStoreLaw" (110 : Nat) ({ cls := "CouncilStoreModel", name := "nodes", desc := "(I)V" } : Jvm.MethodName)) ∈ lw_all := lw_g (lw_at lw_m9 26 rfl) rfl
theorem q2058 : (Jvm.Cond.methodLink "CouncilStoreLaw" (118 : Nat) ({ cls := "CouncilStoreModel", name := "feed", desc := "(IIIII)I" } : Jvm.MethodName)) ∈ lw_all := lw_g (lw_at lw_m9 38 rfl) rfl
theorem q2066 : (Jvm.Cond.methodLink "CouncilStoreLaw" (122 : Nat) ({ cls := "CouncilStoreModel", name := "end", desc := "(I)I" } : Jvm.MethodName)) ∈ lw_all := lw_g (lw_at lw_m9 46 rfl) rfl
theorem q2070 : (Jvm.Cond.methodLink "CouncilStoreLaw" (126 : Nat) ({ cls := "CouncilStoreModel", name := "when", desc := "(III)V" } : Jvm.MethodName)) ∈ lw_all := lw_g (lw_at lw_m9 50 rfl) rfl
theorem q2089 : (Jvm.Cond.methodLink "CouncilStoreLaw" (130 : Nat) ({ cls := "CouncilStoreModel", name := "put", desc := "(II)V" } : Jvm.MethodName)) ∈ lw_all := lw_g (lw_at lw_m9 69 rfl) rfl
theorem q2097 : (Jvm.Cond.methodLink "CouncilStoreLaw" (133 : Nat) ({ cls := "CouncilStoreModel", name := "erase", desc := "(I)V" } : Jvm.MethodName)) ∈ lw_all := lw_g (lw_at lw_m9 77 rfl) rfl
theorem q2101 : (Jvm.Cond.methodLink "CouncilStoreLaw" (137 : Nat) ({ cls := "CouncilStoreModel", name := "lease", desc := "(IIZ)V" } : Jvm.MethodName)) ∈ lw_all := lw_g (lw_at lw_m9 81 rfl) rfl
theorem q2105 : (Jvm.Cond.methodLink "CouncilStoreLaw" (144 : Nat) ({ cls := "CouncilStoreModel", name := "forget", desc := "()V" } : Jvm.MethodName)) ∈ lw_all := lw_g (lw_at lw_m9 85 rfl) rfl
theorem q2109 : (Jvm.Cond.methodLink "CouncilStoreLaw" (140 : Nat) ({ cls := "CouncilStoreModel", name := "propose", desc := "(I)I" } : Jvm.MethodName)) ∈ lw_all := lw_g (lw_at lw_m9 89 rfl) rfl
theorem q2154 : (Jvm.Cond.methodLink "CouncilStoreLaw" (147 : Nat) ({ cls := "CouncilStoreModel", name := "rise", desc := "(I)V" } : Jvm.MethodName)) ∈ lw_all := lw_g (lw_at lw_m9 134 rfl) rfl
theorem q2170 : (Jvm.Cond.methodLink "CouncilStoreLaw" (150 : Nat) ({ cls := "CouncilStoreModel", name := "beat", desc := "(I)V" } : Jvm.MethodName)) ∈ lw_all := lw_g (lw_at lw_m9 150 rfl) rfl
theorem q2174 : (Jvm.Cond.methodLink "CouncilStoreLaw" (153 : Nat) ({ cls := "CouncilStoreModel", name := "sync", desc := "(I)I" } : Jvm.MethodName)) ∈ lw_all := lw_g (lw_at lw_m9 154 rfl) rfl
theorem q2201 : (Jvm.Cond.methodLink "CouncilStoreLaw" (156 : Nat) ({ cls := "CouncilStoreModel", name := "crash", desc := "(II)V" } : Jvm.MethodName)) ∈ lw_all := lw_g (lw_at lw_m9 181 rfl) rfl
theorem q2209 : (Jvm.Cond.methodLink "CouncilStoreLaw" (159 : Nat) ({ cls := "CouncilStoreModel", name := "start", desc := "(I)V" } : Jvm.MethodName)) ∈ lw_all := lw_g (lw_at lw_m9 189 rfl) rfl
theorem q2213 : (Jvm.Cond.methodLink "CouncilStoreLaw" (163 : Nat) ({ cls := "CouncilStoreModel", name := "deliver", desc := "(IZ)V" } : Jvm.MethodName)) ∈ lw_all := lw_g (lw_at lw_m9 193 rfl) rfl
theorem q2319 : (Jvm.Cond.methodLink "CouncilStoreLaw" (166 : Nat) ({ cls := "CouncilStoreModel", name := "lose", desc := "(I)V" } : Jvm.MethodName)) ∈ lw_all := lw_g (lw_at lw_m10 59 rfl) rfl
theorem q2323 : (Jvm.Cond.methodLink "CouncilStoreLaw" (169 : Nat) ({ cls := "CouncilStoreModel", name := "snapshot", desc := "(I)I" } : Jvm.MethodName)) ∈ lw_all := lw_g (lw_at lw_m10 63 rfl) rfl
theorem q2327 : (Jvm.Cond.methodLink "CouncilStoreLaw" (172 : Nat) ({ cls := "CouncilStoreModel", name := "read", desc := "(I)I" } : Jvm.MethodName)) ∈ lw_all := lw_g (lw_at lw_m10 67 rfl) rfl
theorem q2335 : (Jvm.Cond.methodLink "CouncilStoreLaw" (176 : Nat) ({ cls := "CouncilStoreModel", name := "answer", desc := "(III)I" } : Jvm.MethodName)) ∈ lw_all := lw_g (lw_at lw_m10 75 rfl) rfl
theorem q2339 : (Jvm.Cond.methodLink "CouncilStoreLaw" (179 : Nat) ({ cls := "CouncilStoreModel", name := "pair", desc := "(III)I" } : Jvm.MethodName)) ∈ lw_all := lw_g (lw_at lw_m10 79 rfl) rfl
theorem q2347 : (Jvm.Cond.methodLink "CouncilStoreLaw" (182 : Nat) ({ cls := "CouncilStoreModel", name := "range", desc := "(IIIII)I" } : Jvm.MethodName)) ∈ lw_all := lw_g (lw_at lw_m10 87 rfl) rfl
theorem q2351 : (Jvm.Cond.methodLink "CouncilStoreLaw" (185 : Nat) ({ cls := "CouncilStoreModel", name := "event", desc := "(IIIII)I" } : Jvm.MethodName)) ∈ lw_all := lw_g (lw_at lw_m10 91 rfl) rfl
theorem q2367 : (Jvm.Cond.methodLink "CouncilStoreLaw" (188 : Nat) ({ cls := "CouncilStoreModel", name := "compact", desc := "(II)V" } : Jvm.MethodName)) ∈ lw_all := lw_g (lw_at lw_m10 107 rfl) rfl
theorem q2371 : (Jvm.Cond.methodLink "CouncilStoreLaw" (191 : Nat) ({ cls := "CouncilStoreModel", name := "outcome", desc := "(III)I" } : Jvm.MethodName)) ∈ lw_all := lw_g (lw_at lw_m10 111 rfl) rfl
theorem q2375 : (Jvm.Cond.methodLink "CouncilStoreLaw" (195 : Nat) ({ cls := "CouncilStoreModel", name := "message", desc := "(II)I" } : Jvm.MethodName)) ∈ lw_all := lw_g (lw_at lw_m10 115 rfl) rfl
theorem q2379 : (Jvm.Cond.methodLink "CouncilStoreLaw" (198 : Nat) ({ cls := "CouncilStoreModel", name := "told", desc := "(II)I" } : Jvm.MethodName)) ∈ lw_all := lw_g (lw_at lw_m10 119 rfl) rfl
theorem q2387 : (Jvm.Cond.methodLink "CouncilStoreLaw" (202 : Nat) ({ cls := "CouncilStoreModel", name := "count", desc := "(I)I" } : Jvm.MethodName)) ∈ lw_all := lw_g (lw_at lw_m10 127 rfl) rfl
/-! CouncilStore -/
def RX1 : String := "CouncilStore"
def TX1 : u_T := fun k => match k with
  | 0 => ("CouncilStore", "world", "LCouncilStore$World;", true)
  | 1 => ("CouncilStore", "nodes", "[LCouncilStore$Node;", true)
  | 2 => ("CouncilStore", "draft", "LCouncilStore$Draft;", true)
  | 3 => ("CouncilStore", "input", "LCouncilStore$Bytes;", true)
  | 4 => ("CouncilStore", "first", "LCouncilStore$Bytes;", false)
  | 5 => ("CouncilStore", "second", "LCouncilStore$Bytes;", false)
  | 6 => ("CouncilStore", "given", "I", false)
  | _ => ("CouncilStore", "found", "LCouncilStore$Pairs;", true)
def tyX1 : Nat → FieldType := fun k => match k with
  | 0 => .object "CouncilStore$World"
  | 1 => .array (.object "CouncilStore$Node")
  | 2 => .object "CouncilStore$Draft"
  | 3 => .object "CouncilStore$Bytes"
  | 4 => .object "CouncilStore$Bytes"
  | 5 => .object "CouncilStore$Bytes"
  | 6 => .int
  | _ => .object "CouncilStore$Pairs"
abbrev wsX10 : List Cond := u_ws RX1 TX1 8
theorem nmX1 : ∀ a, a < 8 → ∀ b, b < 8 → a ≠ b → (TX1 a).2.1 ≠ (TX1 b).2.1 := by decide +kernel
theorem tyX1_ok : ∀ k, k < 8 → parseFieldDescriptor (TX1 k).2.2.1 = some (tyX1 k) := by decide +kernel
abbrev cX1_init : ByteArray := prog_1_method_6_code
def yX1_init : MethodName := ⟨RX1, "<init>", "()V"⟩
abbrev cX1_forget : ByteArray := prog_1_method_20_code
def yX1_forget : MethodName := ⟨RX1, "forget", "()V"⟩
abbrev cX1_count : ByteArray := prog_1_method_42_code
def yX1_count : MethodName := ⟨RX1, "count", "(I)I"⟩
abbrev cX1_nodes : ByteArray := prog_1_method_7_code
def yX1_nodes : MethodName := ⟨RX1, "nodes", "(I)V"⟩
abbrev cX1_in : ByteArray := prog_1_method_5_code
def yX1_in : MethodName := ⟨RX1, "in", "(III)Z"⟩
abbrev cX1_good : ByteArray := prog_1_method_1_code
def yX1_good : MethodName := ⟨RX1, "good", "(Z)V"⟩
abbrev cX1_feed : ByteArray := prog_1_method_10_code
def yX1_feed : MethodName := ⟨RX1, "feed", "(IIIII)I"⟩
abbrev cX1_room : ByteArray := prog_1_method_4_code
def yX1_room : MethodName := ⟨RX1, "room", "(Z)V"⟩
abbrev cX1_end : ByteArray := prog_1_method_11_code
def yX1_end : MethodName := ⟨RX1, "end", "(I)I"⟩
abbrev cX1_when : ByteArray := prog_1_method_13_code
def yX1_when : MethodName := ⟨RX1, "when", "(III)V"⟩
abbrev cX1_take : ByteArray := prog_1_method_12_code
def yX1_take : MethodName := ⟨RX1, "take", "(I)V"⟩
abbrev cX1_put : ByteArray := prog_1_method_17_code
def yX1_put : MethodName := ⟨RX1, "put", "(II)V"⟩
abbrev cX1_branch : ByteArray := prog_1_method_14_code
def yX1_branch : MethodName := ⟨RX1, "branch", "(I)LCouncilStore$Ints;"⟩
abbrev cX1_fits : ByteArray := prog_1_method_15_code
def yX1_fits : MethodName := ⟨RX1, "fits", "(LCouncilStore$Ints;)V"⟩
abbrev cX1_step : ByteArray := prog_1_method_16_code
def yX1_step : MethodName := ⟨RX1, "step", "(LCouncilStore$Ints;II)V"⟩
abbrev cX1_erase : ByteArray := prog_1_method_18_code
def yX1_erase : MethodName := ⟨RX1, "erase", "(I)V"⟩
abbrev cX1_lease : ByteArray := prog_1_method_19_code
def yX1_lease : MethodName := ⟨RX1, "lease", "(IIZ)V"⟩
abbrev cX1_propose : ByteArray := prog_1_method_21_code
def yX1_propose : MethodName := ⟨RX1, "propose", "(I)I"⟩
abbrev cX1_up : ByteArray := prog_1_method_9_code
def yX1_up : MethodName := ⟨RX1, "up", "(I)LCouncilStore$Node;"⟩
abbrev cX1_node : ByteArray := prog_1_method_8_code
def yX1_node : MethodName := ⟨RX1, "node", "(I)LCouncilStore$Node;"⟩
abbrev cX1_there : ByteArray := prog_1_method_2_code
def yX1_there : MethodName := ⟨RX1, "there", "(Z)V"⟩
abbrev cX1_allowed : ByteArray := prog_1_method_3_code
def yX1_allowed : MethodName := ⟨RX1, "allowed", "(Z)V"⟩
abbrev cX1_rise : ByteArray := prog_1_method_22_code
def yX1_rise : MethodName := ⟨RX1, "rise", "(I)V"⟩
abbrev cX1_beat : ByteArray := prog_1_method_23_code
def yX1_beat : MethodName := ⟨RX1, "beat", "(I)V"⟩
abbrev cX1_sync : ByteArray := prog_1_method_24_code
def yX1_sync : MethodName := ⟨RX1, "sync", "(I)I"⟩
abbrev cX1_crash : ByteArray := prog_1_method_25_code
def yX1_crash : MethodName := ⟨RX1, "crash", "(II)V"⟩
abbrev cX1_start : ByteArray := prog_1_method_26_code
def yX1_start : MethodName := ⟨RX1, "start", "(I)V"⟩
abbrev cX1_deliver : ByteArray := prog_1_method_27_code
def yX1_deliver : MethodName := ⟨RX1, "deliver", "(IZ)V"⟩
abbrev cX1_lose : ByteArray := prog_1_method_28_code
def yX1_lose : MethodName := ⟨RX1, "lose", "(I)V"⟩
abbrev cX1_snapshot : ByteArray := prog_1_method_29_code
def yX1_snapshot : MethodName := ⟨RX1, "snapshot", "(I)I"⟩
abbrev cX1_read : ByteArray := prog_1_method_30_code
def yX1_read : MethodName := ⟨RX1, "read", "(I)I"⟩
abbrev cX1_answer : ByteArray := prog_1_method_31_code
def yX1_answer : MethodName := ⟨RX1, "answer", "(III)I"⟩
abbrev cX1_pair : ByteArray := prog_1_method_33_code
def yX1_pair : MethodName := ⟨RX1, "pair", "(III)I"⟩
abbrev cX1_stateAt : ByteArray := prog_1_method_32_code
def yX1_stateAt : MethodName := ⟨RX1, "stateAt", "(LCouncilStore$Node;I)I"⟩
abbrev cX1_range : ByteArray := prog_1_method_34_code
def yX1_range : MethodName := ⟨RX1, "range", "(IIIII)I"⟩
abbrev cX1_letter : ByteArray := prog_1_method_35_code
def yX1_letter : MethodName := ⟨RX1, "letter", "(III)I"⟩
abbrev cX1_event : ByteArray := prog_1_method_36_code
def yX1_event : MethodName := ⟨RX1, "event", "(IIIII)I"⟩
abbrev cX1_compact : ByteArray := prog_1_method_37_code
def yX1_compact : MethodName := ⟨RX1, "compact", "(II)V"⟩
abbrev cX1_outcome : ByteArray := prog_1_method_38_code
def yX1_outcome : MethodName := ⟨RX1, "outcome", "(III)I"⟩
abbrev cX1_message : ByteArray := prog_1_method_39_code
def yX1_message : MethodName := ⟨RX1, "message", "(II)I"⟩
abbrev cX1_told : ByteArray := prog_1_method_40_code
def yX1_told : MethodName := ⟨RX1, "told", "(II)I"⟩
abbrev cX1_more : ByteArray := prog_1_method_41_code
def yX1_more : MethodName := ⟨RX1, "more", "(LCouncilStore$Node;I)I"⟩
theorem q101 : (Jvm.Cond.initialized "CouncilStore") ∈ lw_all := lw_g (lw_at lw_m1 1 rfl) rfl
theorem q131 : (Jvm.Cond.instantiable "CouncilStore" (8 : Nat)) ∈ lw_all := lw_g (lw_at lw_m1 31 rfl) rfl
theorem q133 : (Jvm.Cond.instanceMethod ({ cls := "CouncilStore", name := "<init>", desc := "()V" } : Jvm.MethodName)) ∈ lw_all := lw_g (lw_at lw_m1 33 rfl) rfl
theorem q134 : (Jvm.Cond.code ({ cls := "CouncilStore", name := "<init>", desc := "()V" } : Jvm.MethodName) prog_1_method_6_code (2 : Nat) (Option.none : Option Jvm.ClassFile.FieldType)) ∈ lw_all := lw_g (lw_at lw_m1 34 rfl) rfl
theorem q135 : (Jvm.Cond.methodLink "CouncilStore" (16 : Nat) ({ cls := "java/lang/Object", name := "<init>", desc := "()V" } : Jvm.MethodName)) ∈ lw_all := lw_g (lw_at lw_m1 35 rfl) rfl
theorem q138 : (Jvm.Cond.classLink "CouncilStore" (19 : Nat) "CouncilStore$World") ∈ lw_all := lw_g (lw_at lw_m1 38 rfl) rfl
theorem q140 : (Jvm.Cond.methodLinkNest "CouncilStore" (21 : Nat) ({ cls := "CouncilStore$World", name := "<init>", desc := "()V" } : Jvm.MethodName) "CouncilStore") ∈ lw_tbl := lw_at lw_m1 40 rfl
theorem q162 : (Jvm.Cond.fieldLink "CouncilStore" (94 : Nat) "CouncilStore$Bytes" "size" "I") ∈ lw_all := lw_g (lw_at lw_m1 62 rfl) rfl
theorem q183 : (Jvm.Cond.fieldLink "CouncilStore" (118 : Nat) "CouncilStore$Ints" "size" "I") ∈ lw_all := lw_g (lw_at lw_m1 83 rfl) rfl
theorem q193 : (Jvm.Cond.fieldLink "CouncilStore" (255 : Nat) "CouncilStore$Commands" "letters" "LCouncilStore$Bytes;") ∈ lw_all := lw_g (lw_at lw_m1 93 rfl) rfl
theorem q246 : (Jvm.Cond.fieldLink "CouncilStore" (317 : Nat) "CouncilStore$Pairs" "size" "I") ∈ lw_all := lw_g (lw_at lw_m1 146 rfl) rfl
theorem q260 : (Jvm.Cond.fieldLink "CouncilStore" (324 : Nat) "CouncilStore$Pair" "keyFrom" "I") ∈ lw_all := lw_g (lw_at lw_m1 160 rfl) rfl
theorem q263 : (Jvm.Cond.fieldLink "CouncilStore" (321 : Nat) "CouncilStore$Pair" "keyTo" "I") ∈ lw_all := lw_g (lw_at lw_m1 163 rfl) rfl
theorem q266 : (Jvm.Cond.fieldLink "CouncilStore" (343 : Nat) "CouncilStore$Pair" "there" "Z") ∈ lw_all := lw_g (lw_at lw_m1 166 rfl) rfl
theorem q269 : (Jvm.Cond.fieldLink "CouncilStore" (310 : Nat) "CouncilStore$Pair" "valueFrom" "I") ∈ lw_all := lw_g (lw_at lw_m1 169 rfl) rfl
theorem q272 : (Jvm.Cond.fieldLink "CouncilStore" (307 : Nat) "CouncilStore$Pair" "valueTo" "I") ∈ lw_all := lw_g (lw_at lw_m1 172 rfl) rfl
theorem q275 : (Jvm.Cond.fieldLink "CouncilStore" (293 : Nat) "CouncilStore$Pair" "created" "I") ∈ lw_all := lw_g (lw_at lw_m1 175 rfl) rfl
theorem q278 : (Jvm.Cond.fieldLink "CouncilStore" (298 : Nat) "CouncilStore$Pair" "changed" "I") ∈ lw_all := lw_g (lw_at lw_m1 178 rfl) rfl
theorem q282 : (Jvm.Cond.fieldLink "CouncilStore" (301 : Nat) "CouncilStore$Pair" "version" "I") ∈ lw_all := lw_g (lw_at lw_m1 182 rfl) rfl
theorem q286 : (Jvm.Cond.fieldLink "CouncilStore" (304 : Nat) "CouncilStore$Pair" "lease" "I") ∈ lw_all := lw_g (lw_at lw_m1 186 rfl) rfl
theorem q382 : (Jvm.Cond.fieldLink "CouncilStore" (207 : Nat) "CouncilStore$Messages" "size" "I") ∈ lw_all := lw_g (lw_at lw_m2 42 rfl) rfl
theorem q389 : (Jvm.Cond.fieldLink "CouncilStore" (201 : Nat) "CouncilStore$Net" "row" "LCouncilStore$Messages;") ∈ lw_all := lw_g (lw_at lw_m2 49 rfl) rfl
theorem q403 : (Jvm.Cond.fieldLink "CouncilStore" (157 : Nat) "CouncilStore$World" "commands" "LCouncilStore$Commands;") ∈ lw_all := lw_g (lw_at lw_m2 63 rfl) rfl
theorem q408 : (Jvm.Cond.fieldLink "CouncilStore" (267 : Nat) "CouncilStore$World" "states" "LCouncilStore$States;") ∈ lw_all := lw_g (lw_at lw_m2 68 rfl) rfl
theorem q411 : (Jvm.Cond.fieldLink "CouncilStore" (197 : Nat) "CouncilStore$World" "net" "LCouncilStore$Net;") ∈ lw_all := lw_g (lw_at lw_m2 71 rfl) rfl
theorem q413 : (Jvm.Cond.fieldLink "CouncilStore" (80 : Nat) "CouncilStore$World" "nodes" "I") ∈ lw_all := lw_g (lw_at lw_m2 73 rfl) rfl
theorem q417 : (Jvm.Cond.fieldLink "CouncilStore" (416 : Nat) "CouncilStore$World" "wrong" "I") ∈ lw_all := lw_g (lw_at lw_m2 77 rfl) rfl
theorem q441 : (Jvm.Cond.classLink "CouncilStore" (28 : Nat) "CouncilStore$Node") ∈ lw_all := lw_g (lw_at lw_m2 101 rfl) rfl
theorem q443 : (Jvm.Cond.classLink "CouncilStore" (34 : Nat) "CouncilStore$Draft") ∈ lw_all := lw_g (lw_at lw_m2 103 rfl) rfl
theorem q445 : (Jvm.Cond.methodLinkNest "CouncilStore" (36 : Nat) ({ cls := "CouncilStore$Draft", name := "<init>", desc := "()V" } : Jvm.MethodName) "CouncilStore") ∈ lw_tbl := lw_at lw_m2 105 rfl
theorem q455 : (Jvm.Cond.fieldLink "CouncilStore" (161 : Nat) "CouncilStore$Draft" "letters" "LCouncilStore$Bytes;") ∈ lw_all := lw_g (lw_at lw_m2 115 rfl) rfl
theorem q458 : (Jvm.Cond.fieldLink "CouncilStore" (114 : Nat) "CouncilStore$Draft" "conditions" "LCouncilStore$Ints;") ∈ lw_all := lw_g (lw_at lw_m2 118 rfl) rfl
theorem q461 : (Jvm.Cond.fieldLink "CouncilStore" (130 : Nat) "CouncilStore$Draft" "yes" "LCouncilStore$Ints;") ∈ lw_all := lw_g (lw_at lw_m2 121 rfl) rfl
theorem q464 : (Jvm.Cond.fieldLink "CouncilStore" (133 : Nat) "CouncilStore$Draft" "no" "LCouncilStore$Ints;") ∈ lw_all := lw_g (lw_at lw_m2 124 rfl) rfl
theorem q474 : (Jvm.Cond.classLink "CouncilStore" (41 : Nat) "CouncilStore$Bytes") ∈ lw_all := lw_g (lw_at lw_m2 134 rfl) rfl
theorem q475 : (Jvm.Cond.methodLink "CouncilStore" (43 : Nat) ({ cls := "CouncilStore$Bytes", name := "<init>", desc := "(I)V" } : Jvm.MethodName)) ∈ lw_all := lw_g (lw_at lw_m2 135 rfl) rfl
theorem q476 : (Jvm.Cond.classLink "CouncilStore" (56 : Nat) "CouncilStore$Pairs") ∈ lw_all := lw_g (lw_at lw_m2 136 rfl) rfl
theorem q477 : (Jvm.Cond.methodLinkNest "CouncilStore" (58 : Nat) ({ cls := "CouncilStore$Pairs", name := "<init>", desc := "()V" } : Jvm.MethodName) "CouncilStore") ∈ lw_tbl := lw_at lw_m2 137 rfl
theorem q479 : (Jvm.Cond.methodLink "CouncilStore" (63 : Nat) ({ cls := "CouncilStore$Node", name := "<init>", desc := "(LCouncilStore$World;I)V" } : Jvm.MethodName)) ∈ lw_all := lw_g (lw_at lw_m2 139 rfl) rfl
theorem q508 : (Jvm.Cond.fieldLink "CouncilStore" (240 : Nat) "CouncilStore$Log" "base" "I") ∈ lw_all := lw_g (lw_at lw_m2 168 rfl) rfl
theorem q527 : (Jvm.Cond.fieldLink "CouncilStore" (379 : Nat) "CouncilStore$Disk" "term" "I") ∈ lw_all := lw_g (lw_at lw_m2 187 rfl) rfl
theorem q530 : (Jvm.Cond.fieldLink "CouncilStore" (381 : Nat) "CouncilStore$Disk" "vote" "I") ∈ lw_all := lw_g (lw_at lw_m2 190 rfl) rfl
theorem q533 : (Jvm.Cond.fieldLink "CouncilStore" (378 : Nat) "CouncilStore$Disk" "log" "LCouncilStore$Log;") ∈ lw_all := lw_g (lw_at lw_m2 193 rfl) rfl
theorem q549 : (Jvm.Cond.fieldLink "CouncilStore" (182 : Nat) "CouncilStore$Node" "disk" "LCouncilStore$Disk;") ∈ lw_all := lw_g (lw_at lw_m2 209 rfl) rfl
theorem q551 : (Jvm.Cond.fieldLink "CouncilStore" (380 : Nat) "CouncilStore$Node" "term" "I") ∈ lw_all := lw_g (lw_at lw_m2 211 rfl) rfl
theorem q553 : (Jvm.Cond.fieldLink "CouncilStore" (384 : Nat) "CouncilStore$Node" "vote" "I") ∈ lw_all := lw_g (lw_at lw_m2 213 rfl) rfl
theorem q555 : (Jvm.Cond.fieldLink "CouncilStore" (236 : Nat) "CouncilStore$Node" "log" "LCouncilStore$Log;") ∈ lw_all := lw_g (lw_at lw_m2 215 rfl) rfl
theorem q558 : (Jvm.Cond.fieldLink "CouncilStore" (90 : Nat) "CouncilStore$Node" "down" "Z") ∈ lw_all := lw_g (lw_at lw_m2 218 rfl) rfl
theorem q560 : (Jvm.Cond.fieldLink "CouncilStore" (151 : Nat) "CouncilStore$Node" "role" "I") ∈ lw_all := lw_g (lw_at lw_m2 220 rfl) rfl
theorem q562 : (Jvm.Cond.fieldLink "CouncilStore" (385 : Nat) "CouncilStore$Node" "leader" "I") ∈ lw_all := lw_g (lw_at lw_m2 222 rfl) rfl
theorem q564 : (Jvm.Cond.fieldLink "CouncilStore" (233 : Nat) "CouncilStore$Node" "commit" "I") ∈ lw_all := lw_g (lw_at lw_m2 224 rfl) rfl
theorem q566 : (Jvm.Cond.fieldLink "CouncilStore" (271 : Nat) "CouncilStore$Node" "state" "I") ∈ lw_all := lw_g (lw_at lw_m2 226 rfl) rfl
theorem q625 : (Jvm.Cond.methodLink "CouncilStore" (66 : Nat) ({ cls := "CouncilStore$World", name := "clear", desc := "(I)V" } : Jvm.MethodName)) ∈ lw_all := lw_g (lw_at lw_m3 45 rfl) rfl
theorem q697 : (Jvm.Cond.fieldLink "CouncilStore" (22 : Nat) "CouncilStore" "world" "LCouncilStore$World;") ∈ lw_all := lw_g (lw_at lw_m3 117 rfl) rfl
theorem q698 : (Jvm.Cond.fieldLink "CouncilStore" (30 : Nat) "CouncilStore" "nodes" "[LCouncilStore$Node;") ∈ lw_all := lw_g (lw_at lw_m3 118 rfl) rfl
theorem q699 : (Jvm.Cond.fieldLink "CouncilStore" (37 : Nat) "CouncilStore" "draft" "LCouncilStore$Draft;") ∈ lw_all := lw_g (lw_at lw_m3 119 rfl) rfl
theorem q700 : (Jvm.Cond.fieldLink "CouncilStore" (46 : Nat) "CouncilStore" "input" "LCouncilStore$Bytes;") ∈ lw_all := lw_g (lw_at lw_m3 120 rfl) rfl
theorem q701 : (Jvm.Cond.fieldLink "CouncilStore" (50 : Nat) "CouncilStore" "first" "LCouncilStore$Bytes;") ∈ lw_all := lw_g (lw_at lw_m3 121 rfl) rfl
theorem q702 : (Jvm.Cond.fieldLink "CouncilStore" (53 : Nat) "CouncilStore" "second" "LCouncilStore$Bytes;") ∈ lw_all := lw_g (lw_at lw_m3 122 rfl) rfl
theorem q703 : (Jvm.Cond.fieldLink "CouncilStore" (97 : Nat) "CouncilStore" "given" "I") ∈ lw_all := lw_g (lw_at lw_m3 123 rfl) rfl
theorem q704 : (Jvm.Cond.fieldLink "CouncilStore" (59 : Nat) "CouncilStore" "found" "LCouncilStore$Pairs;") ∈ lw_all := lw_g (lw_at lw_m3 124 rfl) rfl
theorem q705 : (Jvm.Cond.laysFinal "CouncilStore" "CouncilStore" "world" "LCouncilStore$World;") ∈ lw_all := lw_g (lw_at lw_m3 125 rfl) rfl
theorem q706 : (Jvm.Cond.soleField "CouncilStore" "world") ∈ lw_all := lw_g (lw_at lw_m3 126 rfl) rfl
theorem q707 : (Jvm.Cond.laysFinal "CouncilStore" "CouncilStore" "nodes" "[LCouncilStore$Node;") ∈ lw_all := lw_g (lw_at lw_m3 127 rfl) rfl
theorem q708 : (Jvm.Cond.soleField "CouncilStore" "nodes") ∈ lw_all := lw_g (lw_at lw_m3 128 rfl) rfl
theorem q709 : (Jvm.Cond.laysFinal "CouncilStore" "CouncilStore" "draft" "LCouncilStore$Draft;") ∈ lw_all := lw_g (lw_at lw_m3 129 rfl) rfl
theorem q710 : (Jvm.Cond.soleField "CouncilStore" "draft") ∈ lw_all := lw_g (lw_at lw_m3 130 rfl) rfl
theorem q711 : (Jvm.Cond.laysFinal "CouncilStore" "CouncilStore" "input" "LCouncilStore$Bytes;") ∈ lw_all := lw_g (lw_at lw_m3 131 rfl) rfl
theorem q712 : (Jvm.Cond.soleField "CouncilStore" "input") ∈ lw_all := lw_g (lw_at lw_m3 132 rfl) rfl
theorem q713 : (Jvm.Cond.lays "CouncilStore" "CouncilStore" "first" "LCouncilStore$Bytes;") ∈ lw_all := lw_g (lw_at lw_m3 133 rfl) rfl
theorem q714 : (Jvm.Cond.soleField "CouncilStore" "first") ∈ lw_all := lw_g (lw_at lw_m3 134 rfl) rfl
theorem q715 : (Jvm.Cond.lays "CouncilStore" "CouncilStore" "second" "LCouncilStore$Bytes;") ∈ lw_all := lw_g (lw_at lw_m3 135 rfl) rfl
theorem q716 : (Jvm.Cond.soleField "CouncilStore" "second") ∈ lw_all := lw_g (lw_at lw_m3 136 rfl) rfl
theorem q717 : (Jvm.Cond.lays "CouncilStore" "CouncilStore" "given" "I") ∈ lw_all := lw_g (lw_at lw_m3 137 rfl) rfl
theorem q718 : (Jvm.Cond.soleField "CouncilStore" "given") ∈ lw_all := lw_g (lw_at lw_m3 138 rfl) rfl
theorem q719 : (Jvm.Cond.laysFinal "CouncilStore" "CouncilStore" "found" "LCouncilStore$Pairs;") ∈ lw_all := lw_g (lw_at lw_m3 139 rfl) rfl
theorem q720 : (Jvm.Cond.soleField "CouncilStore" "found") ∈ lw_all := lw_g (lw_at lw_m3 140 rfl) rfl
theorem q721 : (Jvm.Cond.superclass "CouncilStore" "java/lang/Object") ∈ lw_all := lw_g (lw_at lw_m3 141 rfl) rfl
theorem q723 : (Jvm.Cond.instanceMethod ({ cls := "CouncilStore", name := "forget", desc := "()V" } : Jvm.MethodName)) ∈ lw_all := lw_g (lw_at lw_m3 143 rfl) rfl
theorem q724 : (Jvm.Cond.selects "CouncilStore" ({ cls := "CouncilStore", name := "forget", desc := "()V" } : Jvm.MethodName) ({ cls := "CouncilStore", name := "forget", desc := "()V" } : Jvm.MethodName)) ∈ lw_all := lw_g (lw_at lw_m3 144 rfl) rfl
theorem q725 : (Jvm.Cond.code ({ cls := "CouncilStore", name := "forget", desc := "()V" } : Jvm.MethodName) prog_1_method_20_code (1 : Nat) (Option.none : Option Jvm.ClassFile.FieldType)) ∈ lw_all := lw_g (lw_at lw_m3 145 rfl) rfl
theorem q726 : (Jvm.Cond.methodLink "CouncilStore" (79 : Nat) ({ cls := "CouncilStore$Draft", name := "clear", desc := "()V" } : Jvm.MethodName)) ∈ lw_all := lw_g (lw_at lw_m3 146 rfl) rfl
theorem q733 : (Jvm.Cond.instanceMethod ({ cls := "CouncilStore", name := "count", desc := "(I)I" } : Jvm.MethodName)) ∈ lw_all := lw_g (lw_at lw_m3 153 rfl) rfl
theorem q734 : (Jvm.Cond.selects "CouncilStore" ({ cls := "CouncilStore", name := "count", desc := "(I)I" } : Jvm.MethodName) ({ cls := "CouncilStore", name := "count", desc := "(I)I" } : Jvm.MethodName)) ∈ lw_all := lw_g (lw_at lw_m3 154 rfl) rfl
theorem q735 : (Jvm.Cond.code ({ cls := "CouncilStore", name := "count", desc := "(I)I" } : Jvm.MethodName) prog_1_method_42_code (2 : Nat) (Option.some Jvm.ClassFile.FieldType.int)) ∈ lw_all := lw_g (lw_at lw_m3 155 rfl) rfl
theorem q736 : (Jvm.Cond.methodLink "CouncilStore" (409 : Nat) ({ cls := "CouncilStore$Net", name := "lost", desc := "()I" } : Jvm.MethodName)) ∈ lw_all := lw_g (lw_at lw_m3 156 rfl) rfl
theorem q740 : (Jvm.Cond.methodLink "CouncilStore" (412 : Nat) ({ cls := "CouncilStore$Draft", name := "size", desc := "()I" } : Jvm.MethodName)) ∈ lw_all := lw_g (lw_at lw_m3 160 rfl) rfl
theorem q744 : (Jvm.Cond.methodLink "CouncilStore" (414 : Nat) ({ cls := "CouncilStore$Commands", name := "many", desc := "()I" } : Jvm.MethodName)) ∈ lw_all := lw_g (lw_at lw_m3 164 rfl) rfl
theorem q753 : (Jvm.Cond.instanceMethod ({ cls := "CouncilStore", name := "nodes", desc := "(I)V" } : Jvm.MethodName)) ∈ lw_all := lw_g (lw_at lw_m3 173 rfl) rfl
theorem q754 : (Jvm.Cond.selects "CouncilStore" ({ cls := "CouncilStore", name := "nodes", desc := "(I)V" } : Jvm.MethodName) ({ cls := "CouncilStore", name := "nodes", desc := "(I)V" } : Jvm.MethodName)) ∈ lw_all := lw_g (lw_at lw_m3 174 rfl) rfl
theorem q755 : (Jvm.Cond.code ({ cls := "CouncilStore", name := "nodes", desc := "(I)V" } : Jvm.MethodName) prog_1_method_7_code (6 : Nat) (Option.none : Option Jvm.ClassFile.FieldType)) ∈ lw_all := lw_g (lw_at lw_m3 175 rfl) rfl
theorem q756 : (Jvm.Cond.methodLink "CouncilStore" (69 : Nat) ({ cls := "CouncilStore", name := "in", desc := "(III)Z" } : Jvm.MethodName)) ∈ lw_all := lw_g (lw_at lw_m3 176 rfl) rfl
theorem q757 : (Jvm.Cond.static ({ cls := "CouncilStore", name := "in", desc := "(III)Z" } : Jvm.MethodName)) ∈ lw_all := lw_g (lw_at lw_m3 177 rfl) rfl
theorem q758 : (Jvm.Cond.code ({ cls := "CouncilStore", name := "in", desc := "(III)Z" } : Jvm.MethodName) prog_1_method_5_code (3 : Nat) (Option.some Jvm.ClassFile.FieldType.boolean)) ∈ lw_all := lw_g (lw_at lw_m3 178 rfl) rfl
theorem q759 : (Jvm.Cond.methodLink "CouncilStore" (73 : Nat) ({ cls := "CouncilStore", name := "good", desc := "(Z)V" } : Jvm.MethodName)) ∈ lw_all := lw_g (lw_at lw_m3 179 rfl) rfl
theorem q760 : (Jvm.Cond.static ({ cls := "CouncilStore", name := "good", desc := "(Z)V" } : Jvm.MethodName)) ∈ lw_all := lw_g (lw_at lw_m3 180 rfl) rfl
theorem q761 : (Jvm.Cond.code ({ cls := "CouncilStore", name := "good", desc := "(Z)V" } : Jvm.MethodName) prog_1_method_1_code (1 : Nat) (Option.none : Option Jvm.ClassFile.FieldType)) ∈ lw_all := lw_g (lw_at lw_m3 181 rfl) rfl
theorem q762 : (Jvm.Cond.classLink "CouncilStore" (1 : Nat) "java/lang/IllegalArgumentException") ∈ lw_all := lw_g (lw_at lw_m3 182 rfl) rfl
theorem q805 : (Jvm.Cond.methodLink "CouncilStore" (3 : Nat) ({ cls := "java/lang/IllegalArgumentException", name := "<init>", desc := "()V" } : Jvm.MethodName)) ∈ lw_all := lw_g (lw_at lw_m3 225 rfl) rfl
theorem q828 : (Jvm.Cond.methodLink "CouncilStore" (77 : Nat) ({ cls := "CouncilStore$Node", name := "clear", desc := "()V" } : Jvm.MethodName)) ∈ lw_all := lw_g (lw_at lw_m4 8 rfl) rfl
theorem q906 : (Jvm.Cond.instanceMethod ({ cls := "CouncilStore", name := "feed", desc := "(IIIII)I" } : Jvm.MethodName)) ∈ lw_all := lw_g (lw_at lw_m4 86 rfl) rfl
theorem q907 : (Jvm.Cond.selects "CouncilStore" ({ cls := "CouncilStore", name := "feed", desc := "(IIIII)I" } : Jvm.MethodName) ({ cls := "CouncilStore", name := "feed", desc := "(IIIII)I" } : Jvm.MethodName)) ∈ lw_all := lw_g (lw_at lw_m4 87 rfl) rfl
theorem q908 : (Jvm.Cond.code ({ cls := "CouncilStore", name := "feed", desc := "(IIIII)I" } : Jvm.MethodName) prog_1_method_10_code (6 : Nat) (Option.some Jvm.ClassFile.FieldType.int)) ∈ lw_all := lw_g (lw_at lw_m4 88 rfl) rfl
theorem q909 : (Jvm.Cond.methodLink "CouncilStore" (100 : Nat) ({ cls := "CouncilStore", name := "room", desc := "(Z)V" } : Jvm.MethodName)) ∈ lw_all := lw_g (lw_at lw_m4 89 rfl) rfl
theorem q910 : (Jvm.Cond.static ({ cls := "CouncilStore", name := "room", desc := "(Z)V" } : Jvm.MethodName)) ∈ lw_all := lw_g (lw_at lw_m4 90 rfl) rfl
theorem q911 : (Jvm.Cond.code ({ cls := "CouncilStore", name := "room", desc := "(Z)V" } : Jvm.MethodName) prog_1_method_4_code (1 : Nat) (Option.none : Option Jvm.ClassFile.FieldType)) ∈ lw_all := lw_g (lw_at lw_m4 91 rfl) rfl
theorem q912 : (Jvm.Cond.classLink "CouncilStore" (13 : Nat) "java/lang/IndexOutOfBoundsException") ∈ lw_all := lw_g (lw_at lw_m4 92 rfl) rfl
theorem q921 : (Jvm.Cond.methodLink "CouncilStore" (15 : Nat) ({ cls := "java/lang/IndexOutOfBoundsException", name := "<init>", desc := "()V" } : Jvm.MethodName)) ∈ lw_all := lw_g (lw_at lw_m4 101 rfl) rfl
theorem q927 : (Jvm.Cond.methodLink "CouncilStore" (103 : Nat) ({ cls := "CouncilStore$Bytes", name := "addInt", desc := "(I)V" } : Jvm.MethodName)) ∈ lw_all := lw_g (lw_at lw_m4 107 rfl) rfl
theorem q936 : (Jvm.Cond.instanceMethod ({ cls := "CouncilStore", name := "end", desc := "(I)I" } : Jvm.MethodName)) ∈ lw_all := lw_g (lw_at lw_m4 116 rfl) rfl
theorem q937 : (Jvm.Cond.selects "CouncilStore" ({ cls := "CouncilStore", name := "end", desc := "(I)I" } : Jvm.MethodName) ({ cls := "CouncilStore", name := "end", desc := "(I)I" } : Jvm.MethodName)) ∈ lw_all := lw_g (lw_at lw_m4 117 rfl) rfl
theorem q938 : (Jvm.Cond.code ({ cls := "CouncilStore", name := "end", desc := "(I)I" } : Jvm.MethodName) prog_1_method_11_code (3 : Nat) (Option.some Jvm.ClassFile.FieldType.int)) ∈ lw_all := lw_g (lw_at lw_m4 118 rfl) rfl
theorem q939 : (Jvm.Cond.methodLink "CouncilStore" (106 : Nat) ({ cls := "CouncilStore$Bytes", name := "clear", desc := "()V" } : Jvm.MethodName)) ∈ lw_all := lw_g (lw_at lw_m4 119 rfl) rfl
theorem q940 : (Jvm.Cond.methodLink "CouncilStore" (107 : Nat) ({ cls := "CouncilStore$Bytes", name := "addAll", desc := "(LCouncilStore$Bytes;II)V" } : Jvm.MethodName)) ∈ lw_all := lw_g (lw_at lw_m4 120 rfl) rfl
theorem q948 : (Jvm.Cond.instanceMethod ({ cls := "CouncilStore", name := "when", desc := "(III)V" } : Jvm.MethodName)) ∈ lw_all := lw_g (lw_at lw_m4 128 rfl) rfl
theorem q949 : (Jvm.Cond.selects "CouncilStore" ({ cls := "CouncilStore", name := "when", desc := "(III)V" } : Jvm.MethodName) ({ cls := "CouncilStore", name := "when", desc := "(III)V" } : Jvm.MethodName)) ∈ lw_all := lw_g (lw_at lw_m4 129 rfl) rfl
theorem q950 : (Jvm.Cond.code ({ cls := "CouncilStore", name := "when", desc := "(III)V" } : Jvm.MethodName) prog_1_method_13_code (4 : Nat) (Option.none : Option Jvm.ClassFile.FieldType)) ∈ lw_all := lw_g (lw_at lw_m4 130 rfl) rfl
theorem q951 : (Jvm.Cond.methodLink "CouncilStore" (111 : Nat) ({ cls := "CouncilStore", name := "take", desc := "(I)V" } : Jvm.MethodName)) ∈ lw_all := lw_g (lw_at lw_m4 131 rfl) rfl
theorem q952 : (Jvm.Cond.privateMethod ({ cls := "CouncilStore", name := "take", desc := "(I)V" } : Jvm.MethodName)) ∈ lw_tbl := lw_at lw_m4 132 rfl
theorem q953 : (Jvm.Cond.instanceMethod ({ cls := "CouncilStore", name := "take", desc := "(I)V" } : Jvm.MethodName)) ∈ lw_all := lw_g (lw_at lw_m4 133 rfl) rfl
theorem q954 : (Jvm.Cond.code ({ cls := "CouncilStore", name := "take", desc := "(I)V" } : Jvm.MethodName) prog_1_method_12_code (3 : Nat) (Option.none : Option Jvm.ClassFile.FieldType)) ∈ lw_all := lw_g (lw_at lw_m4 134 rfl) rfl
theorem q955 : (Jvm.Cond.methodLink "CouncilStore" (123 : Nat) ({ cls := "CouncilStore$Draft", name := "letters", desc := "(LCouncilStore$Ints;LCouncilStore$Bytes;)V" } : Jvm.MethodName)) ∈ lw_all := lw_g (lw_at lw_m4 135 rfl) rfl
theorem q961 : (Jvm.Cond.methodLink "CouncilStore" (127 : Nat) ({ cls := "CouncilStore$Ints", name := "add", desc := "(I)V" } : Jvm.MethodName)) ∈ lw_all := lw_g (lw_at lw_m4 141 rfl) rfl
theorem q966 : (Jvm.Cond.instanceMethod ({ cls := "CouncilStore", name := "put", desc := "(II)V" } : Jvm.MethodName)) ∈ lw_all := lw_g (lw_at lw_m4 146 rfl) rfl
theorem q967 : (Jvm.Cond.selects "CouncilStore" ({ cls := "CouncilStore", name := "put", desc := "(II)V" } : Jvm.MethodName) ({ cls := "CouncilStore", name := "put", desc := "(II)V" } : Jvm.MethodName)) ∈ lw_all := lw_g (lw_at lw_m4 147 rfl) rfl
theorem q968 : (Jvm.Cond.code ({ cls := "CouncilStore", name := "put", desc := "(II)V" } : Jvm.MethodName) prog_1_method_17_code (4 : Nat) (Option.none : Option Jvm.ClassFile.FieldType)) ∈ lw_all := lw_g (lw_at lw_m4 148 rfl) rfl
theorem q969 : (Jvm.Cond.methodLink "CouncilStore" (136 : Nat) ({ cls := "CouncilStore", name := "branch", desc := "(I)LCouncilStore$Ints;" } : Jvm.MethodName)) ∈ lw_all := lw_g (lw_at lw_m4 149 rfl) rfl
theorem q970 : (Jvm.Cond.privateMethod ({ cls := "CouncilStore", name := "branch", desc := "(I)LCouncilStore$Ints;" } : Jvm.MethodName)) ∈ lw_tbl := lw_at lw_m4 150 rfl
theorem q971 : (Jvm.Cond.instanceMethod ({ cls := "CouncilStore", name := "branch", desc := "(I)LCouncilStore$Ints;" } : Jvm.MethodName)) ∈ lw_all := lw_g (lw_at lw_m4 151 rfl) rfl
theorem q972 : (Jvm.Cond.code ({ cls := "CouncilStore", name := "branch", desc := "(I)LCouncilStore$Ints;" } : Jvm.MethodName) prog_1_method_14_code (2 : Nat) (Option.some (Jvm.ClassFile.FieldType.object "CouncilStore$Ints"))) ∈ lw_all := lw_g (lw_at lw_m4 152 rfl) rfl
theorem q973 : (Jvm.Cond.methodLink "CouncilStore" (140 : Nat) ({ cls := "CouncilStore", name := "fits", desc := "(LCouncilStore$Ints;)V" } : Jvm.MethodName)) ∈ lw_all := lw_g (lw_at lw_m4 153 rfl) rfl
theorem q974 : (Jvm.Cond.static ({ cls := "CouncilStore", name := "fits", desc := "(LCouncilStore$Ints;)V" } : Jvm.MethodName)) ∈ lw_all := lw_g (lw_at lw_m4 154 rfl) rfl
theorem q975 : (Jvm.Cond.code ({ cls := "CouncilStore", name := "fits", desc := "(LCouncilStore$Ints;)V" } : Jvm.MethodName) prog_1_method_15_code (1 : Nat) (Option.none : Option Jvm.ClassFile.FieldType)) ∈ lw_all := lw_g (lw_at lw_m4 155 rfl) rfl
theorem q976 : (Jvm.Cond.methodLink "CouncilStore" (144 : Nat) ({ cls := "CouncilStore", name := "step", desc := "(LCouncilStore$Ints;II)V" } : Jvm.MethodName)) ∈ lw_all := lw_g (lw_at lw_m4 156 rfl) rfl
theorem q977 : (Jvm.Cond.privateMethod ({ cls := "CouncilStore", name := "step", desc := "(LCouncilStore$Ints;II)V" } : Jvm.MethodName)) ∈ lw_tbl := lw_at lw_m4 157 rfl
theorem q978 : (Jvm.Cond.instanceMethod ({ cls := "CouncilStore", name := "step", desc := "(LCouncilStore$Ints;II)V" } : Jvm.MethodName)) ∈ lw_all := lw_g (lw_at lw_m4 158 rfl) rfl
theorem q979 : (Jvm.Cond.code ({ cls := "CouncilStore", name := "step", desc := "(LCouncilStore$Ints;II)V" } : Jvm.MethodName) prog_1_method_16_code (4 : Nat) (Option.none : Option Jvm.ClassFile.FieldType)) ∈ lw_all := lw_g (lw_at lw_m4 159 rfl) rfl
theorem q984 : (Jvm.Cond.instanceMethod ({ cls := "CouncilStore", name := "erase", desc := "(I)V" } : Jvm.MethodName)) ∈ lw_all := lw_g (lw_at lw_m4 164 rfl) rfl
theorem q985 : (Jvm.Cond.selects "CouncilStore" ({ cls := "CouncilStore", name := "erase", desc := "(I)V" } : Jvm.MethodName) ({ cls := "CouncilStore", name := "erase", desc := "(I)V" } : Jvm.MethodName)) ∈ lw_all := lw_g (lw_at lw_m4 165 rfl) rfl
theorem q986 : (Jvm.Cond.code ({ cls := "CouncilStore", name := "erase", desc := "(I)V" } : Jvm.MethodName) prog_1_method_18_code (3 : Nat) (Option.none : Option Jvm.ClassFile.FieldType)) ∈ lw_all := lw_g (lw_at lw_m4 166 rfl) rfl
theorem q991 : (Jvm.Cond.instanceMethod ({ cls := "CouncilStore", name := "lease", desc := "(IIZ)V" } : Jvm.MethodName)) ∈ lw_all := lw_g (lw_at lw_m4 171 rfl) rfl
theorem q992 : (Jvm.Cond.selects "CouncilStore" ({ cls := "CouncilStore", name := "lease", desc := "(IIZ)V" } : Jvm.MethodName) ({ cls := "CouncilStore", name := "lease", desc := "(IIZ)V" } : Jvm.MethodName)) ∈ lw_all := lw_g (lw_at lw_m4 172 rfl) rfl
theorem q993 : (Jvm.Cond.code ({ cls := "CouncilStore", name := "lease", desc := "(IIZ)V" } : Jvm.MethodName) prog_1_method_19_code (6 : Nat) (Option.none : Option Jvm.ClassFile.FieldType)) ∈ lw_all := lw_g (lw_at lw_m4 173 rfl) rfl
theorem q1000 : (Jvm.Cond.instanceMethod ({ cls := "CouncilStore", name := "propose", desc := "(I)I" } : Jvm.MethodName)) ∈ lw_all := lw_g (lw_at lw_m4 180 rfl) rfl
theorem q1001 : (Jvm.Cond.selects "CouncilStore" ({ cls := "CouncilStore", name := "propose", desc := "(I)I" } : Jvm.MethodName) ({ cls := "CouncilStore", name := "propose", desc := "(I)I" } : Jvm.MethodName)) ∈ lw_all := lw_g (lw_at lw_m4 181 rfl) rfl
theorem q1002 : (Jvm.Cond.code ({ cls := "CouncilStore", name := "propose", desc := "(I)I" } : Jvm.MethodName) prog_1_method_21_code (4 : Nat) (Option.some Jvm.ClassFile.FieldType.int)) ∈ lw_all := lw_g (lw_at lw_m4 182 rfl) rfl
theorem q1003 : (Jvm.Cond.methodLink "CouncilStore" (148 : Nat) ({ cls := "CouncilStore", name := "up", desc := "(I)LCouncilStore$Node;" } : Jvm.MethodName)) ∈ lw_all := lw_g (lw_at lw_m4 183 rfl) rfl
theorem q1004 : (Jvm.Cond.privateMethod ({ cls := "CouncilStore", name := "up", desc := "(I)LCouncilStore$Node;" } : Jvm.MethodName)) ∈ lw_tbl := lw_at lw_m4 184 rfl
theorem q1005 : (Jvm.Cond.instanceMethod ({ cls := "CouncilStore", name := "up", desc := "(I)LCouncilStore$Node;" } : Jvm.MethodName)) ∈ lw_all := lw_g (lw_at lw_m4 185 rfl) rfl
theorem q1006 : (Jvm.Cond.code ({ cls := "CouncilStore", name := "up", desc := "(I)LCouncilStore$Node;" } : Jvm.MethodName) prog_1_method_9_code (3 : Nat) (Option.some (Jvm.ClassFile.FieldType.object "CouncilStore$Node"))) ∈ lw_all := lw_g (lw_at lw_m4 186 rfl) rfl
theorem q1007 : (Jvm.Cond.methodLink "CouncilStore" (86 : Nat) ({ cls := "CouncilStore", name := "node", desc := "(I)LCouncilStore$Node;" } : Jvm.MethodName)) ∈ lw_all := lw_g (lw_at lw_m4 187 rfl) rfl
theorem q1008 : (Jvm.Cond.privateMethod ({ cls := "CouncilStore", name := "node", desc := "(I)LCouncilStore$Node;" } : Jvm.MethodName)) ∈ lw_tbl := lw_at lw_m4 188 rfl
theorem q1009 : (Jvm.Cond.instanceMethod ({ cls := "CouncilStore", name := "node", desc := "(I)LCouncilStore$Node;" } : Jvm.MethodName)) ∈ lw_all := lw_g (lw_at lw_m4 189 rfl) rfl
theorem q1010 : (Jvm.Cond.code ({ cls := "CouncilStore", name := "node", desc := "(I)LCouncilStore$Node;" } : Jvm.MethodName) prog_1_method_8_code (2 : Nat) (Option.some (Jvm.ClassFile.FieldType.object "CouncilStore$Node"))) ∈ lw_all := lw_g (lw_at lw_m4 190 rfl) rfl
theorem q1011 : (Jvm.Cond.methodLink "CouncilStore" (83 : Nat) ({ cls := "CouncilStore", name := "there", desc := "(Z)V" } : Jvm.MethodName)) ∈ lw_all := lw_g (lw_at lw_m4 191 rfl) rfl
theorem q1012 : (Jvm.Cond.static ({ cls := "CouncilStore", name := "there", desc := "(Z)V" } : Jvm.MethodName)) ∈ lw_all := lw_g (lw_at lw_m4 192 rfl) rfl
theorem q1013 : (Jvm.Cond.code ({ cls := "CouncilStore", name := "there", desc := "(Z)V" } : Jvm.MethodName) prog_1_method_2_code (1 : Nat) (Option.none : Option Jvm.ClassFile.FieldType)) ∈ lw_all := lw_g (lw_at lw_m4 193 rfl) rfl
theorem q1014 : (Jvm.Cond.classLink "CouncilStore" (7 : Nat) "java/util/NoSuchElementException") ∈ lw_all := lw_g (lw_at lw_m4 194 rfl) rfl
theorem q1023 : (Jvm.Cond.methodLink "CouncilStore" (9 : Nat) ({ cls := "java/util/NoSuchElementException", name := "<init>", desc := "()V" } : Jvm.MethodName)) ∈ lw_all := lw_g (lw_at lw_m4 203 rfl) rfl
theorem q1029 : (Jvm.Cond.methodLink "CouncilStore" (154 : Nat) ({ cls := "CouncilStore", name := "allowed", desc := "(Z)V" } : Jvm.MethodName)) ∈ lw_all := lw_g (lw_at lw_m4 209 rfl) rfl
theorem q1030 : (Jvm.Cond.static ({ cls := "CouncilStore", name := "allowed", desc := "(Z)V" } : Jvm.MethodName)) ∈ lw_all := lw_g (lw_at lw_m4 210 rfl) rfl
theorem q1031 : (Jvm.Cond.code ({ cls := "CouncilStore", name := "allowed", desc := "(Z)V" } : Jvm.MethodName) prog_1_method_3_code (1 : Nat) (Option.none : Option Jvm.ClassFile.FieldType)) ∈ lw_all := lw_g (lw_at lw_m4 211 rfl) rfl
theorem q1032 : (Jvm.Cond.classLink "CouncilStore" (10 : Nat) "java/lang/IllegalStateException") ∈ lw_all := lw_g (lw_at lw_m4 212 rfl) rfl
theorem q1041 : (Jvm.Cond.methodLink "CouncilStore" (12 : Nat) ({ cls := "java/lang/IllegalStateException", name := "<init>", desc := "()V" } : Jvm.MethodName)) ∈ lw_all := lw_g (lw_at lw_m4 221 rfl) rfl
theorem q1047 : (Jvm.Cond.methodLink "CouncilStore" (163 : Nat) ({ cls := "CouncilStore$Commands", name := "fits", desc := "(II)Z" } : Jvm.MethodName)) ∈ lw_all := lw_g (lw_at lw_m4 227 rfl) rfl
theorem q1052 : (Jvm.Cond.methodLink "CouncilStore" (166 : Nat) ({ cls := "CouncilStore$Commands", name := "add", desc := "(LCouncilStore$Draft;)I" } : Jvm.MethodName)) ∈ lw_all := lw_g (lw_at lw_m4 232 rfl) rfl
theorem q1062 : (Jvm.Cond.methodLink "CouncilStore" (169 : Nat) ({ cls := "CouncilStore$Node", name := "add", desc := "(I)I" } : Jvm.MethodName)) ∈ lw_all := lw_g (lw_at lw_m5 2 rfl) rfl
theorem q1116 : (Jvm.Cond.fieldLink "CouncilStore" (356 : Nat) "CouncilStore$Message" "sort" "I") ∈ lw_all := lw_g (lw_at lw_m5 56 rfl) rfl
theorem q1118 : (Jvm.Cond.fieldLink "CouncilStore" (359 : Nat) "CouncilStore$Message" "from" "I") ∈ lw_all := lw_g (lw_at lw_m5 58 rfl) rfl
theorem q1120 : (Jvm.Cond.fieldLink "CouncilStore" (214 : Nat) "CouncilStore$Message" "to" "I") ∈ lw_all := lw_g (lw_at lw_m5 60 rfl) rfl
theorem q1122 : (Jvm.Cond.fieldLink "CouncilStore" (362 : Nat) "CouncilStore$Message" "term" "I") ∈ lw_all := lw_g (lw_at lw_m5 62 rfl) rfl
theorem q1124 : (Jvm.Cond.fieldLink "CouncilStore" (365 : Nat) "CouncilStore$Message" "index" "I") ∈ lw_all := lw_g (lw_at lw_m5 64 rfl) rfl
theorem q1126 : (Jvm.Cond.fieldLink "CouncilStore" (368 : Nat) "CouncilStore$Message" "mark" "I") ∈ lw_all := lw_g (lw_at lw_m5 66 rfl) rfl
theorem q1128 : (Jvm.Cond.fieldLink "CouncilStore" (377 : Nat) "CouncilStore$Message" "commit" "I") ∈ lw_all := lw_g (lw_at lw_m5 68 rfl) rfl
theorem q1130 : (Jvm.Cond.fieldLink "CouncilStore" (374 : Nat) "CouncilStore$Message" "round" "I") ∈ lw_all := lw_g (lw_at lw_m5 70 rfl) rfl
theorem q1133 : (Jvm.Cond.fieldLink "CouncilStore" (371 : Nat) "CouncilStore$Message" "many" "I") ∈ lw_all := lw_g (lw_at lw_m5 73 rfl) rfl
theorem q1186 : (Jvm.Cond.instanceMethod ({ cls := "CouncilStore", name := "rise", desc := "(I)V" } : Jvm.MethodName)) ∈ lw_all := lw_g (lw_at lw_m5 126 rfl) rfl
theorem q1187 : (Jvm.Cond.selects "CouncilStore" ({ cls := "CouncilStore", name := "rise", desc := "(I)V" } : Jvm.MethodName) ({ cls := "CouncilStore", name := "rise", desc := "(I)V" } : Jvm.MethodName)) ∈ lw_all := lw_g (lw_at lw_m5 127 rfl) rfl
theorem q1188 : (Jvm.Cond.code ({ cls := "CouncilStore", name := "rise", desc := "(I)V" } : Jvm.MethodName) prog_1_method_22_code (3 : Nat) (Option.none : Option Jvm.ClassFile.FieldType)) ∈ lw_all := lw_g (lw_at lw_m5 128 rfl) rfl
theorem q1189 : (Jvm.Cond.methodLink "CouncilStore" (172 : Nat) ({ cls := "CouncilStore$Node", name := "stand", desc := "()V" } : Jvm.MethodName)) ∈ lw_all := lw_g (lw_at lw_m5 129 rfl) rfl
theorem q1234 : (Jvm.Cond.instanceMethod ({ cls := "CouncilStore", name := "beat", desc := "(I)V" } : Jvm.MethodName)) ∈ lw_all := lw_g (lw_at lw_m5 174 rfl) rfl
theorem q1235 : (Jvm.Cond.selects "CouncilStore" ({ cls := "CouncilStore", name := "beat", desc := "(I)V" } : Jvm.MethodName) ({ cls := "CouncilStore", name := "beat", desc := "(I)V" } : Jvm.MethodName)) ∈ lw_all := lw_g (lw_at lw_m5 175 rfl) rfl
theorem q1236 : (Jvm.Cond.code ({ cls := "CouncilStore", name := "beat", desc := "(I)V" } : Jvm.MethodName) prog_1_method_23_code (3 : Nat) (Option.none : Option Jvm.ClassFile.FieldType)) ∈ lw_all := lw_g (lw_at lw_m5 176 rfl) rfl
theorem q1237 : (Jvm.Cond.methodLink "CouncilStore" (175 : Nat) ({ cls := "CouncilStore$Node", name := "tellAll", desc := "()V" } : Jvm.MethodName)) ∈ lw_all := lw_g (lw_at lw_m5 177 rfl) rfl
theorem q1242 : (Jvm.Cond.instanceMethod ({ cls := "CouncilStore", name := "sync", desc := "(I)I" } : Jvm.MethodName)) ∈ lw_all := lw_g (lw_at lw_m5 182 rfl) rfl
theorem q1243 : (Jvm.Cond.selects "CouncilStore" ({ cls := "CouncilStore", name := "sync", desc := "(I)I" } : Jvm.MethodName) ({ cls := "CouncilStore", name := "sync", desc := "(I)I" } : Jvm.MethodName)) ∈ lw_all := lw_g (lw_at lw_m5 183 rfl) rfl
theorem q1244 : (Jvm.Cond.code ({ cls := "CouncilStore", name := "sync", desc := "(I)I" } : Jvm.MethodName) prog_1_method_24_code (2 : Nat) (Option.some Jvm.ClassFile.FieldType.int)) ∈ lw_all := lw_g (lw_at lw_m5 184 rfl) rfl
theorem q1245 : (Jvm.Cond.methodLink "CouncilStore" (178 : Nat) ({ cls := "CouncilStore$Node", name := "sync", desc := "()I" } : Jvm.MethodName)) ∈ lw_all := lw_g (lw_at lw_m5 185 rfl) rfl
theorem q1374 : (Jvm.Cond.instanceMethod ({ cls := "CouncilStore", name := "crash", desc := "(II)V" } : Jvm.MethodName)) ∈ lw_all := lw_g (lw_at lw_m6 74 rfl) rfl
theorem q1375 : (Jvm.Cond.selects "CouncilStore" ({ cls := "CouncilStore", name := "crash", desc := "(II)V" } : Jvm.MethodName) ({ cls := "CouncilStore", name := "crash", desc := "(II)V" } : Jvm.MethodName)) ∈ lw_all := lw_g (lw_at lw_m6 75 rfl) rfl
theorem q1376 : (Jvm.Cond.code ({ cls := "CouncilStore", name := "crash", desc := "(II)V" } : Jvm.MethodName) prog_1_method_25_code (4 : Nat) (Option.none : Option Jvm.ClassFile.FieldType)) ∈ lw_all := lw_g (lw_at lw_m6 76 rfl) rfl
theorem q1377 : (Jvm.Cond.methodLink "CouncilStore" (186 : Nat) ({ cls := "CouncilStore$Disk", name := "unsynced", desc := "()I" } : Jvm.MethodName)) ∈ lw_all := lw_g (lw_at lw_m6 77 rfl) rfl
theorem q1378 : (Jvm.Cond.methodLink "CouncilStore" (191 : Nat) ({ cls := "CouncilStore$Node", name := "fall", desc := "(I)V" } : Jvm.MethodName)) ∈ lw_all := lw_g (lw_at lw_m6 78 rfl) rfl
theorem q1386 : (Jvm.Cond.instanceMethod ({ cls := "CouncilStore", name := "start", desc := "(I)V" } : Jvm.MethodName)) ∈ lw_all := lw_g (lw_at lw_m6 86 rfl) rfl
theorem q1387 : (Jvm.Cond.selects "CouncilStore" ({ cls := "CouncilStore", name := "start", desc := "(I)V" } : Jvm.MethodName) ({ cls := "CouncilStore", name := "start", desc := "(I)V" } : Jvm.MethodName)) ∈ lw_all := lw_g (lw_at lw_m6 87 rfl) rfl
theorem q1388 : (Jvm.Cond.code ({ cls := "CouncilStore", name := "start", desc := "(I)V" } : Jvm.MethodName) prog_1_method_26_code (3 : Nat) (Option.none : Option Jvm.ClassFile.FieldType)) ∈ lw_all := lw_g (lw_at lw_m6 88 rfl) rfl
theorem q1389 : (Jvm.Cond.methodLink "CouncilStore" (194 : Nat) ({ cls := "CouncilStore$Node", name := "rise", desc := "()V" } : Jvm.MethodName)) ∈ lw_all := lw_g (lw_at lw_m6 89 rfl) rfl
theorem q1394 : (Jvm.Cond.instanceMethod ({ cls := "CouncilStore", name := "deliver", desc := "(IZ)V" } : Jvm.MethodName)) ∈ lw_all := lw_g (lw_at lw_m6 94 rfl) rfl
theorem q1395 : (Jvm.Cond.selects "CouncilStore" ({ cls := "CouncilStore", name := "deliver", desc := "(IZ)V" } : Jvm.MethodName) ({ cls := "CouncilStore", name := "deliver", desc := "(IZ)V" } : Jvm.MethodName)) ∈ lw_all := lw_g (lw_at lw_m6 95 rfl) rfl
theorem q1396 : (Jvm.Cond.code ({ cls := "CouncilStore", name := "deliver", desc := "(IZ)V" } : Jvm.MethodName) prog_1_method_27_code (5 : Nat) (Option.none : Option Jvm.ClassFile.FieldType)) ∈ lw_all := lw_g (lw_at lw_m6 96 rfl) rfl
theorem q1397 : (Jvm.Cond.methodLink "CouncilStore" (210 : Nat) ({ cls := "CouncilStore$Messages", name := "get", desc := "(I)LCouncilStore$Message;" } : Jvm.MethodName)) ∈ lw_all := lw_g (lw_at lw_m6 97 rfl) rfl
theorem q1398 : (Jvm.Cond.methodLink "CouncilStore" (219 : Nat) ({ cls := "CouncilStore$Node", name := "wouldLead", desc := "(LCouncilStore$Message;)Z" } : Jvm.MethodName)) ∈ lw_all := lw_g (lw_at lw_m6 98 rfl) rfl
theorem q1402 : (Jvm.Cond.methodLink "CouncilStore" (223 : Nat) ({ cls := "CouncilStore$Messages", name := "remove", desc := "(I)LCouncilStore$Message;" } : Jvm.MethodName)) ∈ lw_all := lw_g (lw_at lw_m6 102 rfl) rfl
theorem q1406 : (Jvm.Cond.methodLink "CouncilStore" (226 : Nat) ({ cls := "CouncilStore$Node", name := "receive", desc := "(LCouncilStore$Message;)V" } : Jvm.MethodName)) ∈ lw_all := lw_g (lw_at lw_m6 106 rfl) rfl
theorem q1460 : (Jvm.Cond.methodLink "CouncilStore" (230 : Nat) ({ cls := "CouncilStore$Net", name := "leave", desc := "(LCouncilStore$Message;)V" } : Jvm.MethodName)) ∈ lw_all := lw_g (lw_at lw_m6 160 rfl) rfl
theorem q1465 : (Jvm.Cond.instanceMethod ({ cls := "CouncilStore", name := "lose", desc := "(I)V" } : Jvm.MethodName)) ∈ lw_all := lw_g (lw_at lw_m6 165 rfl) rfl
theorem q1466 : (Jvm.Cond.selects "CouncilStore" ({ cls := "CouncilStore", name := "lose", desc := "(I)V" } : Jvm.MethodName) ({ cls := "CouncilStore", name := "lose", desc := "(I)V" } : Jvm.MethodName)) ∈ lw_all := lw_g (lw_at lw_m6 166 rfl) rfl
theorem q1467 : (Jvm.Cond.code ({ cls := "CouncilStore", name := "lose", desc := "(I)V" } : Jvm.MethodName) prog_1_method_28_code (2 : Nat) (Option.none : Option Jvm.ClassFile.FieldType)) ∈ lw_all := lw_g (lw_at lw_m6 167 rfl) rfl
theorem q1472 : (Jvm.Cond.instanceMethod ({ cls := "CouncilStore", name := "snapshot", desc := "(I)I" } : Jvm.MethodName)) ∈ lw_all := lw_g (lw_at lw_m6 172 rfl) rfl
theorem q1473 : (Jvm.Cond.selects "CouncilStore" ({ cls := "CouncilStore", name := "snapshot", desc := "(I)I" } : Jvm.MethodName) ({ cls := "CouncilStore", name := "snapshot", desc := "(I)I" } : Jvm.MethodName)) ∈ lw_all := lw_g (lw_at lw_m6 173 rfl) rfl
theorem q1474 : (Jvm.Cond.code ({ cls := "CouncilStore", name := "snapshot", desc := "(I)I" } : Jvm.MethodName) prog_1_method_29_code (3 : Nat) (Option.some Jvm.ClassFile.FieldType.int)) ∈ lw_all := lw_g (lw_at lw_m6 174 rfl) rfl
theorem q1475 : (Jvm.Cond.methodLink "CouncilStore" (245 : Nat) ({ cls := "CouncilStore$Node", name := "snapshot", desc := "()V" } : Jvm.MethodName)) ∈ lw_all := lw_g (lw_at lw_m6 175 rfl) rfl
theorem q1483 : (Jvm.Cond.instanceMethod ({ cls := "CouncilStore", name := "read", desc := "(I)I" } : Jvm.MethodName)) ∈ lw_all := lw_g (lw_at lw_m6 183 rfl) rfl
theorem q1484 : (Jvm.Cond.selects "CouncilStore" ({ cls := "CouncilStore", name := "read", desc := "(I)I" } : Jvm.MethodName) ({ cls := "CouncilStore", name := "read", desc := "(I)I" } : Jvm.MethodName)) ∈ lw_all := lw_g (lw_at lw_m6 184 rfl) rfl
theorem q1485 : (Jvm.Cond.code ({ cls := "CouncilStore", name := "read", desc := "(I)I" } : Jvm.MethodName) prog_1_method_30_code (5 : Nat) (Option.some Jvm.ClassFile.FieldType.int)) ∈ lw_all := lw_g (lw_at lw_m6 185 rfl) rfl
theorem q1486 : (Jvm.Cond.methodLink "CouncilStore" (248 : Nat) ({ cls := "CouncilStore$Node", name := "mayRead", desc := "()Z" } : Jvm.MethodName)) ∈ lw_all := lw_g (lw_at lw_m6 186 rfl) rfl
theorem q1490 : (Jvm.Cond.methodLink "CouncilStore" (252 : Nat) ({ cls := "CouncilStore$Node", name := "readsFit", desc := "()Z" } : Jvm.MethodName)) ∈ lw_all := lw_g (lw_at lw_m6 190 rfl) rfl
theorem q1498 : (Jvm.Cond.methodLink "CouncilStore" (256 : Nat) ({ cls := "CouncilStore$Node", name := "read", desc := "(II)I" } : Jvm.MethodName)) ∈ lw_all := lw_g (lw_at lw_m6 198 rfl) rfl
theorem q1531 : (Jvm.Cond.instanceMethod ({ cls := "CouncilStore", name := "answer", desc := "(III)I" } : Jvm.MethodName)) ∈ lw_all := lw_g (lw_at lw_m6 231 rfl) rfl
theorem q1532 : (Jvm.Cond.selects "CouncilStore" ({ cls := "CouncilStore", name := "answer", desc := "(III)I" } : Jvm.MethodName) ({ cls := "CouncilStore", name := "answer", desc := "(III)I" } : Jvm.MethodName)) ∈ lw_all := lw_g (lw_at lw_m6 232 rfl) rfl
theorem q1533 : (Jvm.Cond.code ({ cls := "CouncilStore", name := "answer", desc := "(III)I" } : Jvm.MethodName) prog_1_method_31_code (5 : Nat) (Option.some Jvm.ClassFile.FieldType.int)) ∈ lw_all := lw_g (lw_at lw_m6 233 rfl) rfl
theorem q1534 : (Jvm.Cond.methodLink "CouncilStore" (260 : Nat) ({ cls := "CouncilStore$Node", name := "isDone", desc := "(I)Z" } : Jvm.MethodName)) ∈ lw_all := lw_g (lw_at lw_m6 234 rfl) rfl
theorem q1538 : (Jvm.Cond.methodLink "CouncilStore" (264 : Nat) ({ cls := "CouncilStore$Node", name := "answer", desc := "(II)I" } : Jvm.MethodName)) ∈ lw_all := lw_g (lw_at lw_m6 238 rfl) rfl
theorem q1546 : (Jvm.Cond.instanceMethod ({ cls := "CouncilStore", name := "pair", desc := "(III)I" } : Jvm.MethodName)) ∈ lw_all := lw_g (lw_at lw_m7 6 rfl) rfl
theorem q1547 : (Jvm.Cond.selects "CouncilStore" ({ cls := "CouncilStore", name := "pair", desc := "(III)I" } : Jvm.MethodName) ({ cls := "CouncilStore", name := "pair", desc := "(III)I" } : Jvm.MethodName)) ∈ lw_all := lw_g (lw_at lw_m7 7 rfl) rfl
theorem q1548 : (Jvm.Cond.code ({ cls := "CouncilStore", name := "pair", desc := "(III)I" } : Jvm.MethodName) prog_1_method_33_code (8 : Nat) (Option.some Jvm.ClassFile.FieldType.int)) ∈ lw_all := lw_g (lw_at lw_m7 8 rfl) rfl
theorem q1549 : (Jvm.Cond.methodLink "CouncilStore" (285 : Nat) ({ cls := "CouncilStore", name := "stateAt", desc := "(LCouncilStore$Node;I)I" } : Jvm.MethodName)) ∈ lw_all := lw_g (lw_at lw_m7 9 rfl) rfl
theorem q1550 : (Jvm.Cond.privateMethod ({ cls := "CouncilStore", name := "stateAt", desc := "(LCouncilStore$Node;I)I" } : Jvm.MethodName)) ∈ lw_tbl := lw_at lw_m7 10 rfl
theorem q1551 : (Jvm.Cond.instanceMethod ({ cls := "CouncilStore", name := "stateAt", desc := "(LCouncilStore$Node;I)I" } : Jvm.MethodName)) ∈ lw_all := lw_g (lw_at lw_m7 11 rfl) rfl
theorem q1552 : (Jvm.Cond.code ({ cls := "CouncilStore", name := "stateAt", desc := "(LCouncilStore$Node;I)I" } : Jvm.MethodName) prog_1_method_32_code (4 : Nat) (Option.some Jvm.ClassFile.FieldType.int)) ∈ lw_all := lw_g (lw_at lw_m7 12 rfl) rfl
theorem q1553 : (Jvm.Cond.methodLink "CouncilStore" (274 : Nat) ({ cls := "CouncilStore$States", name := "revision", desc := "(I)I" } : Jvm.MethodName)) ∈ lw_all := lw_g (lw_at lw_m7 13 rfl) rfl
theorem q1554 : (Jvm.Cond.methodLink "CouncilStore" (279 : Nat) ({ cls := "CouncilStore$Node", name := "compacted", desc := "()I" } : Jvm.MethodName)) ∈ lw_all := lw_g (lw_at lw_m7 14 rfl) rfl
theorem q1558 : (Jvm.Cond.methodLink "CouncilStore" (282 : Nat) ({ cls := "CouncilStore$States", name := "at", desc := "(II)I" } : Jvm.MethodName)) ∈ lw_all := lw_g (lw_at lw_m7 18 rfl) rfl
theorem q1562 : (Jvm.Cond.methodLink "CouncilStore" (289 : Nat) ({ cls := "CouncilStore$States", name := "find", desc := "(III)LCouncilStore$Pair;" } : Jvm.MethodName)) ∈ lw_all := lw_g (lw_at lw_m7 22 rfl) rfl
theorem q1567 : (Jvm.Cond.instanceMethod ({ cls := "CouncilStore", name := "range", desc := "(IIIII)I" } : Jvm.MethodName)) ∈ lw_all := lw_g (lw_at lw_m7 27 rfl) rfl
theorem q1568 : (Jvm.Cond.selects "CouncilStore" ({ cls := "CouncilStore", name := "range", desc := "(IIIII)I" } : Jvm.MethodName) ({ cls := "CouncilStore", name := "range", desc := "(IIIII)I" } : Jvm.MethodName)) ∈ lw_all := lw_g (lw_at lw_m7 28 rfl) rfl
theorem q1569 : (Jvm.Cond.code ({ cls := "CouncilStore", name := "range", desc := "(IIIII)I" } : Jvm.MethodName) prog_1_method_34_code (11 : Nat) (Option.some Jvm.ClassFile.FieldType.int)) ∈ lw_all := lw_g (lw_at lw_m7 29 rfl) rfl
theorem q1570 : (Jvm.Cond.methodLink "CouncilStore" (313 : Nat) ({ cls := "CouncilStore$States", name := "range", desc := "(IIIIILCouncilStore$Pairs;)V" } : Jvm.MethodName)) ∈ lw_all := lw_g (lw_at lw_m7 30 rfl) rfl
theorem q1571 : (Jvm.Cond.methodLink "CouncilStore" (318 : Nat) ({ cls := "CouncilStore$Pairs", name := "get", desc := "(I)LCouncilStore$Pair;" } : Jvm.MethodName)) ∈ lw_all := lw_g (lw_at lw_m7 31 rfl) rfl
theorem q1572 : (Jvm.Cond.methodLink "CouncilStore" (327 : Nat) ({ cls := "CouncilStore", name := "letter", desc := "(III)I" } : Jvm.MethodName)) ∈ lw_all := lw_g (lw_at lw_m7 32 rfl) rfl
theorem q1573 : (Jvm.Cond.privateMethod ({ cls := "CouncilStore", name := "letter", desc := "(III)I" } : Jvm.MethodName)) ∈ lw_tbl := lw_at lw_m7 33 rfl
theorem q1574 : (Jvm.Cond.instanceMethod ({ cls := "CouncilStore", name := "letter", desc := "(III)I" } : Jvm.MethodName)) ∈ lw_all := lw_g (lw_at lw_m7 34 rfl) rfl
theorem q1575 : (Jvm.Cond.code ({ cls := "CouncilStore", name := "letter", desc := "(III)I" } : Jvm.MethodName) prog_1_method_35_code (4 : Nat) (Option.some Jvm.ClassFile.FieldType.int)) ∈ lw_all := lw_g (lw_at lw_m7 35 rfl) rfl
theorem q1576 : (Jvm.Cond.methodLink "CouncilStore" (331 : Nat) ({ cls := "CouncilStore$Bytes", name := "get", desc := "(I)I" } : Jvm.MethodName)) ∈ lw_all := lw_g (lw_at lw_m7 36 rfl) rfl
theorem q1581 : (Jvm.Cond.instanceMethod ({ cls := "CouncilStore", name := "event", desc := "(IIIII)I" } : Jvm.MethodName)) ∈ lw_all := lw_g (lw_at lw_m7 41 rfl) rfl
theorem q1582 : (Jvm.Cond.selects "CouncilStore" ({ cls := "CouncilStore", name := "event", desc := "(IIIII)I" } : Jvm.MethodName) ({ cls := "CouncilStore", name := "event", desc := "(IIIII)I" } : Jvm.MethodName)) ∈ lw_all := lw_g (lw_at lw_m7 42 rfl) rfl
theorem q1583 : (Jvm.Cond.code ({ cls := "CouncilStore", name := "event", desc := "(IIIII)I" } : Jvm.MethodName) prog_1_method_36_code (9 : Nat) (Option.some Jvm.ClassFile.FieldType.int)) ∈ lw_all := lw_g (lw_at lw_m7 43 rfl) rfl
theorem q1584 : (Jvm.Cond.methodLink "CouncilStore" (333 : Nat) ({ cls := "CouncilStore$States", name := "maker", desc := "(II)I" } : Jvm.MethodName)) ∈ lw_all := lw_g (lw_at lw_m7 44 rfl) rfl
theorem q1589 : (Jvm.Cond.methodLink "CouncilStore" (336 : Nat) ({ cls := "CouncilStore$States", name := "changes", desc := "(I)I" } : Jvm.MethodName)) ∈ lw_all := lw_g (lw_at lw_m7 49 rfl) rfl
theorem q1593 : (Jvm.Cond.methodLink "CouncilStore" (339 : Nat) ({ cls := "CouncilStore$States", name := "change", desc := "(II)LCouncilStore$Pair;" } : Jvm.MethodName)) ∈ lw_all := lw_g (lw_at lw_m7 53 rfl) rfl
theorem q1601 : (Jvm.Cond.instanceMethod ({ cls := "CouncilStore", name := "compact", desc := "(II)V" } : Jvm.MethodName)) ∈ lw_all := lw_g (lw_at lw_m7 61 rfl) rfl
theorem q1602 : (Jvm.Cond.selects "CouncilStore" ({ cls := "CouncilStore", name := "compact", desc := "(II)V" } : Jvm.MethodName) ({ cls := "CouncilStore", name := "compact", desc := "(II)V" } : Jvm.MethodName)) ∈ lw_all := lw_g (lw_at lw_m7 62 rfl) rfl
theorem q1603 : (Jvm.Cond.code ({ cls := "CouncilStore", name := "compact", desc := "(II)V" } : Jvm.MethodName) prog_1_method_37_code (4 : Nat) (Option.none : Option Jvm.ClassFile.FieldType)) ∈ lw_all := lw_g (lw_at lw_m7 63 rfl) rfl
theorem q1604 : (Jvm.Cond.methodLink "CouncilStore" (345 : Nat) ({ cls := "CouncilStore$Node", name := "compact", desc := "(I)V" } : Jvm.MethodName)) ∈ lw_all := lw_g (lw_at lw_m7 64 rfl) rfl
theorem q1612 : (Jvm.Cond.instanceMethod ({ cls := "CouncilStore", name := "outcome", desc := "(III)I" } : Jvm.MethodName)) ∈ lw_all := lw_g (lw_at lw_m7 72 rfl) rfl
theorem q1613 : (Jvm.Cond.selects "CouncilStore" ({ cls := "CouncilStore", name := "outcome", desc := "(III)I" } : Jvm.MethodName) ({ cls := "CouncilStore", name := "outcome", desc := "(III)I" } : Jvm.MethodName)) ∈ lw_all := lw_g (lw_at lw_m7 73 rfl) rfl
theorem q1614 : (Jvm.Cond.code ({ cls := "CouncilStore", name := "outcome", desc := "(III)I" } : Jvm.MethodName) prog_1_method_38_code (5 : Nat) (Option.some Jvm.ClassFile.FieldType.int)) ∈ lw_all := lw_g (lw_at lw_m7 74 rfl) rfl
theorem q1615 : (Jvm.Cond.methodLink "CouncilStore" (348 : Nat) ({ cls := "CouncilStore$Node", name := "stateAt", desc := "(I)I" } : Jvm.MethodName)) ∈ lw_all := lw_g (lw_at lw_m7 75 rfl) rfl
theorem q1619 : (Jvm.Cond.methodLink "CouncilStore" (350 : Nat) ({ cls := "CouncilStore$States", name := "outcome", desc := "(I)I" } : Jvm.MethodName)) ∈ lw_all := lw_g (lw_at lw_m7 79 rfl) rfl
theorem q1623 : (Jvm.Cond.methodLink "CouncilStore" (353 : Nat) ({ cls := "CouncilStore$States", name := "deleted", desc := "(I)I" } : Jvm.MethodName)) ∈ lw_all := lw_g (lw_at lw_m7 83 rfl) rfl
theorem q1631 : (Jvm.Cond.instanceMethod ({ cls := "CouncilStore", name := "message", desc := "(II)I" } : Jvm.MethodName)) ∈ lw_all := lw_g (lw_at lw_m7 91 rfl) rfl
theorem q1632 : (Jvm.Cond.selects "CouncilStore" ({ cls := "CouncilStore", name := "message", desc := "(II)I" } : Jvm.MethodName) ({ cls := "CouncilStore", name := "message", desc := "(II)I" } : Jvm.MethodName)) ∈ lw_all := lw_g (lw_at lw_m7 92 rfl) rfl
theorem q1633 : (Jvm.Cond.code ({ cls := "CouncilStore", name := "message", desc := "(II)I" } : Jvm.MethodName) prog_1_method_39_code (4 : Nat) (Option.some Jvm.ClassFile.FieldType.int)) ∈ lw_all := lw_g (lw_at lw_m7 93 rfl) rfl
theorem q1638 : (Jvm.Cond.instanceMethod ({ cls := "CouncilStore", name := "told", desc := "(II)I" } : Jvm.MethodName)) ∈ lw_all := lw_g (lw_at lw_m7 98 rfl) rfl
theorem q1639 : (Jvm.Cond.selects "CouncilStore" ({ cls := "CouncilStore", name := "told", desc := "(II)I" } : Jvm.MethodName) ({ cls := "CouncilStore", name := "told", desc := "(II)I" } : Jvm.MethodName)) ∈ lw_all := lw_g (lw_at lw_m7 99 rfl) rfl
theorem q1640 : (Jvm.Cond.code ({ cls := "CouncilStore", name := "told", desc := "(II)I" } : Jvm.MethodName) prog_1_method_40_code (5 : Nat) (Option.some Jvm.ClassFile.FieldType.int)) ∈ lw_all := lw_g (lw_at lw_m7 100 rfl) rfl
theorem q1641 : (Jvm.Cond.methodLink "CouncilStore" (388 : Nat) ({ cls := "CouncilStore$Log", name := "last", desc := "()I" } : Jvm.MethodName)) ∈ lw_all := lw_g (lw_at lw_m7 101 rfl) rfl
theorem q1642 : (Jvm.Cond.methodLink "CouncilStore" (391 : Nat) ({ cls := "CouncilStore$Log", name := "lastTerm", desc := "()I" } : Jvm.MethodName)) ∈ lw_all := lw_g (lw_at lw_m7 102 rfl) rfl
theorem q1643 : (Jvm.Cond.methodLink "CouncilStore" (394 : Nat) ({ cls := "CouncilStore", name := "more", desc := "(LCouncilStore$Node;I)I" } : Jvm.MethodName)) ∈ lw_all := lw_g (lw_at lw_m7 103 rfl) rfl
theorem q1644 : (Jvm.Cond.privateMethod ({ cls := "CouncilStore", name := "more", desc := "(LCouncilStore$Node;I)I" } : Jvm.MethodName)) ∈ lw_tbl := lw_at lw_m7 104 rfl
theorem q1645 : (Jvm.Cond.instanceMethod ({ cls := "CouncilStore", name := "more", desc := "(LCouncilStore$Node;I)I" } : Jvm.MethodName)) ∈ lw_all := lw_g (lw_at lw_m7 105 rfl) rfl
theorem q1646 : (Jvm.Cond.code ({ cls := "CouncilStore", name := "more", desc := "(LCouncilStore$Node;I)I" } : Jvm.MethodName) prog_1_method_41_code (3 : Nat) (Option.some Jvm.ClassFile.FieldType.int)) ∈ lw_all := lw_g (lw_at lw_m7 106 rfl) rfl
theorem q1647 : (Jvm.Cond.methodLink "CouncilStore" (397 : Nat) ({ cls := "CouncilStore$Node", name := "waiting", desc := "()I" } : Jvm.MethodName)) ∈ lw_all := lw_g (lw_at lw_m7 107 rfl) rfl
theorem q1651 : (Jvm.Cond.methodLink "CouncilStore" (400 : Nat) ({ cls := "CouncilStore$States", name := "count", desc := "(I)I" } : Jvm.MethodName)) ∈ lw_all := lw_g (lw_at lw_m7 111 rfl) rfl
theorem q1655 : (Jvm.Cond.methodLink "CouncilStore" (403 : Nat) ({ cls := "CouncilStore$Node", name := "readsWaiting", desc := "()I" } : Jvm.MethodName)) ∈ lw_all := lw_g (lw_at lw_m7 115 rfl) rfl
theorem q1656 : (Jvm.Cond.methodLink "CouncilStore" (406 : Nat) ({ cls := "CouncilStore$States", name := "leases", desc := "(I)I" } : Jvm.MethodName)) ∈ lw_all := lw_g (lw_at lw_m7 116 rfl) rfl
theorem in_X1 : ∀ w ∈ wsX10, w ∈ lw_all := lw_in wsX10 [705, 707, 709, 711, 713, 715, 717, 719] (by decide +kernel) (by decide +kernel)
/-! CouncilStore$World -/
def RX2 : String := "CouncilStore$World"
def TX2 : u_T := fun k => match k with
  | 0 => ("CouncilStore$World", "commands", "LCouncilStore$Commands;", true)
  | 1 => ("CouncilStore$World", "entries", "LCouncilStore$Entries;", true)
  | 2 => ("CouncilStore$World", "states", "LCouncilStore$States;", true)
  | 3 => ("CouncilStore$World", "net", "LCouncilStore$Net;", true)
  | 4 => ("CouncilStore$World", "nodes", "I", false)
  | 5 => ("CouncilStore$World", "wrong", "I", false)
  | 6 => ("CouncilStore$World", "most", "I", false)
  | 7 => ("CouncilStore$World", "leaders", "LCouncilStore$Ints;", true)
  | _ => ("CouncilStore$World", "applied", "LCouncilStore$Ints;", true)
def tyX2 : Nat → FieldType := fun k => match k with
  | 0 => .object "CouncilStore$Commands"
  | 1 => .object "CouncilStore$Entries"
  | 2 => .object "CouncilStore$States"
  | 3 => .object "CouncilStore$Net"
  | 4 => .int
  | 5 => .int
  | 6 => .int
  | 7 => .object "CouncilStore$Ints"
  | _ => .object "CouncilStore$Ints"
abbrev wsX20 : List Cond := u_ws RX2 TX2 9
theorem nmX2 : ∀ a, a < 9 → ∀ b, b < 9 → a ≠ b → (TX2 a).2.1 ≠ (TX2 b).2.1 := by decide +kernel
theorem tyX2_ok : ∀ k, k < 9 → parseFieldDescriptor (TX2 k).2.2.1 = some (tyX2 k) := by decide +kernel
abbrev cX2_init : ByteArray := prog_17_method_1_code
def yX2_init : MethodName := ⟨RX2, "<init>", "()V"⟩
abbrev cX2_clear : ByteArray := prog_17_method_2_code
def yX2_clear : MethodName := ⟨RX2, "clear", "(I)V"⟩
abbrev cX2_leads : ByteArray := prog_17_method_3_code
def yX2_leads : MethodName := ⟨RX2, "leads", "(II)V"⟩
abbrev cX2_applies : ByteArray := prog_17_method_4_code
def yX2_applies : MethodName := ⟨RX2, "applies", "(II)V"⟩
theorem q102 : (Jvm.Cond.initialized "CouncilStore$World") ∈ lw_all := lw_g (lw_at lw_m1 2 rfl) rfl
theorem q139 : (Jvm.Cond.instantiable "CouncilStore$World" (9 : Nat)) ∈ lw_all := lw_g (lw_at lw_m1 39 rfl) rfl
theorem q141 : (Jvm.Cond.instanceMethod ({ cls := "CouncilStore$World", name := "<init>", desc := "()V" } : Jvm.MethodName)) ∈ lw_all := lw_g (lw_at lw_m1 41 rfl) rfl
theorem q142 : (Jvm.Cond.code ({ cls := "CouncilStore$World", name := "<init>", desc := "()V" } : Jvm.MethodName) prog_17_method_1_code (1 : Nat) (Option.none : Option Jvm.ClassFile.FieldType)) ∈ lw_all := lw_g (lw_at lw_m1 42 rfl) rfl
theorem q143 : (Jvm.Cond.methodLink "CouncilStore$World" (1 : Nat) ({ cls := "java/lang/Object", name := "<init>", desc := "()V" } : Jvm.MethodName)) ∈ lw_all := lw_g (lw_at lw_m1 43 rfl) rfl
theorem q144 : (Jvm.Cond.classLink "CouncilStore$World" (7 : Nat) "CouncilStore$Commands") ∈ lw_all := lw_g (lw_at lw_m1 44 rfl) rfl
theorem q146 : (Jvm.Cond.methodLinkNest "CouncilStore$World" (9 : Nat) ({ cls := "CouncilStore$Commands", name := "<init>", desc := "()V" } : Jvm.MethodName) "CouncilStore") ∈ lw_tbl := lw_at lw_m1 46 rfl
theorem q159 : (Jvm.Cond.fieldLink "CouncilStore$World" (72 : Nat) "CouncilStore$Bytes" "size" "I") ∈ lw_all := lw_g (lw_at lw_m1 59 rfl) rfl
theorem q191 : (Jvm.Cond.fieldLink "CouncilStore$World" (68 : Nat) "CouncilStore$Commands" "letters" "LCouncilStore$Bytes;") ∈ lw_all := lw_g (lw_at lw_m1 91 rfl) rfl
theorem q209 : (Jvm.Cond.classLink "CouncilStore$World" (16 : Nat) "CouncilStore$Entries") ∈ lw_all := lw_g (lw_at lw_m1 109 rfl) rfl
theorem q211 : (Jvm.Cond.methodLinkNest "CouncilStore$World" (18 : Nat) ({ cls := "CouncilStore$Entries", name := "<init>", desc := "()V" } : Jvm.MethodName) "CouncilStore") ∈ lw_tbl := lw_at lw_m1 111 rfl
theorem q227 : (Jvm.Cond.classLink "CouncilStore$World" (23 : Nat) "CouncilStore$States") ∈ lw_all := lw_g (lw_at lw_m1 127 rfl) rfl
theorem q229 : (Jvm.Cond.methodLink "CouncilStore$World" (25 : Nat) ({ cls := "CouncilStore$States", name := "<init>", desc := "(LCouncilStore$Commands;)V" } : Jvm.MethodName)) ∈ lw_all := lw_g (lw_at lw_m1 129 rfl) rfl
theorem q364 : (Jvm.Cond.classLink "CouncilStore$World" (32 : Nat) "CouncilStore$Net") ∈ lw_all := lw_g (lw_at lw_m2 24 rfl) rfl
theorem q366 : (Jvm.Cond.methodLinkNest "CouncilStore$World" (34 : Nat) ({ cls := "CouncilStore$Net", name := "<init>", desc := "()V" } : Jvm.MethodName) "CouncilStore") ∈ lw_tbl := lw_at lw_m2 26 rfl
theorem q399 : (Jvm.Cond.classLink "CouncilStore$World" (39 : Nat) "CouncilStore$Ints") ∈ lw_all := lw_g (lw_at lw_m2 59 rfl) rfl
theorem q400 : (Jvm.Cond.methodLink "CouncilStore$World" (41 : Nat) ({ cls := "CouncilStore$Ints", name := "<init>", desc := "(I)V" } : Jvm.MethodName)) ∈ lw_all := lw_g (lw_at lw_m2 60 rfl) rfl
theorem q401 : (Jvm.Cond.fieldLink "CouncilStore$World" (10 : Nat) "CouncilStore$World" "commands" "LCouncilStore$Commands;") ∈ lw_all := lw_g (lw_at lw_m2 61 rfl) rfl
theorem q404 : (Jvm.Cond.fieldLink "CouncilStore$World" (19 : Nat) "CouncilStore$World" "entries" "LCouncilStore$Entries;") ∈ lw_all := lw_g (lw_at lw_m2 64 rfl) rfl
theorem q406 : (Jvm.Cond.fieldLink "CouncilStore$World" (28 : Nat) "CouncilStore$World" "states" "LCouncilStore$States;") ∈ lw_all := lw_g (lw_at lw_m2 66 rfl) rfl
theorem q409 : (Jvm.Cond.fieldLink "CouncilStore$World" (35 : Nat) "CouncilStore$World" "net" "LCouncilStore$Net;") ∈ lw_all := lw_g (lw_at lw_m2 69 rfl) rfl
theorem q412 : (Jvm.Cond.fieldLink "CouncilStore$World" (51 : Nat) "CouncilStore$World" "nodes" "I") ∈ lw_all := lw_g (lw_at lw_m2 72 rfl) rfl
theorem q415 : (Jvm.Cond.fieldLink "CouncilStore$World" (55 : Nat) "CouncilStore$World" "wrong" "I") ∈ lw_all := lw_g (lw_at lw_m2 75 rfl) rfl
theorem q418 : (Jvm.Cond.fieldLink "CouncilStore$World" (58 : Nat) "CouncilStore$World" "most" "I") ∈ lw_all := lw_g (lw_at lw_m2 78 rfl) rfl
theorem q420 : (Jvm.Cond.fieldLink "CouncilStore$World" (44 : Nat) "CouncilStore$World" "leaders" "LCouncilStore$Ints;") ∈ lw_all := lw_g (lw_at lw_m2 80 rfl) rfl
theorem q421 : (Jvm.Cond.fieldLink "CouncilStore$World" (48 : Nat) "CouncilStore$World" "applied" "LCouncilStore$Ints;") ∈ lw_all := lw_g (lw_at lw_m2 81 rfl) rfl
theorem q422 : (Jvm.Cond.laysFinal "CouncilStore$World" "CouncilStore$World" "commands" "LCouncilStore$Commands;") ∈ lw_all := lw_g (lw_at lw_m2 82 rfl) rfl
theorem q423 : (Jvm.Cond.soleField "CouncilStore$World" "commands") ∈ lw_all := lw_g (lw_at lw_m2 83 rfl) rfl
theorem q424 : (Jvm.Cond.laysFinal "CouncilStore$World" "CouncilStore$World" "entries" "LCouncilStore$Entries;") ∈ lw_all := lw_g (lw_at lw_m2 84 rfl) rfl
theorem q425 : (Jvm.Cond.soleField "CouncilStore$World" "entries") ∈ lw_all := lw_g (lw_at lw_m2 85 rfl) rfl
theorem q426 : (Jvm.Cond.laysFinal "CouncilStore$World" "CouncilStore$World" "states" "LCouncilStore$States;") ∈ lw_all := lw_g (lw_at lw_m2 86 rfl) rfl
theorem q427 : (Jvm.Cond.soleField "CouncilStore$World" "states") ∈ lw_all := lw_g (lw_at lw_m2 87 rfl) rfl
theorem q428 : (Jvm.Cond.laysFinal "CouncilStore$World" "CouncilStore$World" "net" "LCouncilStore$Net;") ∈ lw_all := lw_g (lw_at lw_m2 88 rfl) rfl
theorem q429 : (Jvm.Cond.soleField "CouncilStore$World" "net") ∈ lw_all := lw_g (lw_at lw_m2 89 rfl) rfl
theorem q430 : (Jvm.Cond.lays "CouncilStore$World" "CouncilStore$World" "nodes" "I") ∈ lw_all := lw_g (lw_at lw_m2 90 rfl) rfl
theorem q431 : (Jvm.Cond.soleField "CouncilStore$World" "nodes") ∈ lw_all := lw_g (lw_at lw_m2 91 rfl) rfl
theorem q432 : (Jvm.Cond.lays "CouncilStore$World" "CouncilStore$World" "wrong" "I") ∈ lw_all := lw_g (lw_at lw_m2 92 rfl) rfl
theorem q433 : (Jvm.Cond.soleField "CouncilStore$World" "wrong") ∈ lw_all := lw_g (lw_at lw_m2 93 rfl) rfl
theorem q434 : (Jvm.Cond.lays "CouncilStore$World" "CouncilStore$World" "most" "I") ∈ lw_all := lw_g (lw_at lw_m2 94 rfl) rfl
theorem q435 : (Jvm.Cond.soleField "CouncilStore$World" "most") ∈ lw_all := lw_g (lw_at lw_m2 95 rfl) rfl
theorem q436 : (Jvm.Cond.laysFinal "CouncilStore$World" "CouncilStore$World" "leaders" "LCouncilStore$Ints;") ∈ lw_all := lw_g (lw_at lw_m2 96 rfl) rfl
theorem q437 : (Jvm.Cond.soleField "CouncilStore$World" "leaders") ∈ lw_all := lw_g (lw_at lw_m2 97 rfl) rfl
theorem q438 : (Jvm.Cond.laysFinal "CouncilStore$World" "CouncilStore$World" "applied" "LCouncilStore$Ints;") ∈ lw_all := lw_g (lw_at lw_m2 98 rfl) rfl
theorem q439 : (Jvm.Cond.soleField "CouncilStore$World" "applied") ∈ lw_all := lw_g (lw_at lw_m2 99 rfl) rfl
theorem q440 : (Jvm.Cond.superclass "CouncilStore$World" "java/lang/Object") ∈ lw_all := lw_g (lw_at lw_m2 100 rfl) rfl
theorem q626 : (Jvm.Cond.instanceMethod ({ cls := "CouncilStore$World", name := "clear", desc := "(I)V" } : Jvm.MethodName)) ∈ lw_all := lw_g (lw_at lw_m3 46 rfl) rfl
theorem q627 : (Jvm.Cond.selects "CouncilStore$World" ({ cls := "CouncilStore$World", name := "clear", desc := "(I)V" } : Jvm.MethodName) ({ cls := "CouncilStore$World", name := "clear", desc := "(I)V" } : Jvm.MethodName)) ∈ lw_all := lw_g (lw_at lw_m3 47 rfl) rfl
theorem q628 : (Jvm.Cond.code ({ cls := "CouncilStore$World", name := "clear", desc := "(I)V" } : Jvm.MethodName) prog_17_method_2_code (2 : Nat) (Option.none : Option Jvm.ClassFile.FieldType)) ∈ lw_all := lw_g (lw_at lw_m3 48 rfl) rfl
theorem q629 : (Jvm.Cond.methodLink "CouncilStore$World" (61 : Nat) ({ cls := "CouncilStore$Commands", name := "clear", desc := "()V" } : Jvm.MethodName)) ∈ lw_all := lw_g (lw_at lw_m3 49 rfl) rfl
theorem q648 : (Jvm.Cond.methodLink "CouncilStore$World" (64 : Nat) ({ cls := "CouncilStore$Entries", name := "clear", desc := "()V" } : Jvm.MethodName)) ∈ lw_all := lw_g (lw_at lw_m3 68 rfl) rfl
theorem q653 : (Jvm.Cond.methodLink "CouncilStore$World" (65 : Nat) ({ cls := "CouncilStore$States", name := "clear", desc := "()V" } : Jvm.MethodName)) ∈ lw_all := lw_g (lw_at lw_m3 73 rfl) rfl
theorem q675 : (Jvm.Cond.methodLink "CouncilStore$World" (66 : Nat) ({ cls := "CouncilStore$Net", name := "clear", desc := "()V" } : Jvm.MethodName)) ∈ lw_all := lw_g (lw_at lw_m3 95 rfl) rfl
theorem q687 : (Jvm.Cond.methodLink "CouncilStore$World" (67 : Nat) ({ cls := "CouncilStore$Ints", name := "clear", desc := "()V" } : Jvm.MethodName)) ∈ lw_all := lw_g (lw_at lw_m3 107 rfl) rfl
theorem q688 : (Jvm.Cond.methodLink "CouncilStore$World" (77 : Nat) ({ cls := "CouncilStore$States", name := "zero", desc := "(I)V" } : Jvm.MethodName)) ∈ lw_all := lw_g (lw_at lw_m3 108 rfl) rfl
theorem q692 : (Jvm.Cond.methodLink "CouncilStore$World" (80 : Nat) ({ cls := "CouncilStore$Bytes", name := "add", desc := "(I)V" } : Jvm.MethodName)) ∈ lw_all := lw_g (lw_at lw_m3 112 rfl) rfl
theorem q1216 : (Jvm.Cond.instanceMethod ({ cls := "CouncilStore$World", name := "leads", desc := "(II)V" } : Jvm.MethodName)) ∈ lw_all := lw_g (lw_at lw_m5 156 rfl) rfl
theorem q1217 : (Jvm.Cond.selects "CouncilStore$World" ({ cls := "CouncilStore$World", name := "leads", desc := "(II)V" } : Jvm.MethodName) ({ cls := "CouncilStore$World", name := "leads", desc := "(II)V" } : Jvm.MethodName)) ∈ lw_all := lw_g (lw_at lw_m5 157 rfl) rfl
theorem q1218 : (Jvm.Cond.code ({ cls := "CouncilStore$World", name := "leads", desc := "(II)V" } : Jvm.MethodName) prog_17_method_3_code (3 : Nat) (Option.none : Option Jvm.ClassFile.FieldType)) ∈ lw_all := lw_g (lw_at lw_m5 158 rfl) rfl
theorem q1219 : (Jvm.Cond.methodLink "CouncilStore$World" (83 : Nat) ({ cls := "CouncilStore$Ints", name := "fit", desc := "(II)V" } : Jvm.MethodName)) ∈ lw_all := lw_g (lw_at lw_m5 159 rfl) rfl
theorem q1223 : (Jvm.Cond.methodLink "CouncilStore$World" (87 : Nat) ({ cls := "CouncilStore$Ints", name := "get", desc := "(I)I" } : Jvm.MethodName)) ∈ lw_all := lw_g (lw_at lw_m5 163 rfl) rfl
theorem q1224 : (Jvm.Cond.methodLink "CouncilStore$World" (91 : Nat) ({ cls := "CouncilStore$Ints", name := "set", desc := "(II)V" } : Jvm.MethodName)) ∈ lw_all := lw_g (lw_at lw_m5 164 rfl) rfl
theorem q1276 : (Jvm.Cond.instanceMethod ({ cls := "CouncilStore$World", name := "applies", desc := "(II)V" } : Jvm.MethodName)) ∈ lw_all := lw_g (lw_at lw_m5 216 rfl) rfl
theorem q1277 : (Jvm.Cond.selects "CouncilStore$World" ({ cls := "CouncilStore$World", name := "applies", desc := "(II)V" } : Jvm.MethodName) ({ cls := "CouncilStore$World", name := "applies", desc := "(II)V" } : Jvm.MethodName)) ∈ lw_all := lw_g (lw_at lw_m5 217 rfl) rfl
theorem q1278 : (Jvm.Cond.code ({ cls := "CouncilStore$World", name := "applies", desc := "(II)V" } : Jvm.MethodName) prog_17_method_4_code (3 : Nat) (Option.none : Option Jvm.ClassFile.FieldType)) ∈ lw_all := lw_g (lw_at lw_m5 218 rfl) rfl
theorem in_X2 : ∀ w ∈ wsX20, w ∈ lw_all := lw_in wsX20 [422, 424, 426, 428, 430, 432, 434, 436, 438] (by decide +kernel) (by decide +kernel)
/-! CouncilStore$Commands -/
def RX3 : String := "CouncilStore$Commands"
def TX3 : u_T := fun k => match k with
  | 0 => ("CouncilStore$Commands", "letters", "LCouncilStore$Bytes;", true)
  | 1 => ("CouncilStore$Commands", "begins", "LCouncilStore$Ints;", true)
  | 2 => ("CouncilStore$Commands", "parts", "LCouncilStore$Ints;", true)
  | 3 => ("CouncilStore$Commands", "many", "I", false)
  | _ => ("CouncilStore$Commands", "bytes", "I", false)
def tyX3 : Nat → FieldType := fun k => match k with
  | 0 => .object "CouncilStore$Bytes"
  | 1 => .object "CouncilStore$Ints"
  | 2 => .object "CouncilStore$Ints"
  | 3 => .int
  | _ => .int
abbrev wsX30 : List Cond := u_ws RX3 TX3 5
theorem nmX3 : ∀ a, a < 5 → ∀ b, b < 5 → a ≠ b → (TX3 a).2.1 ≠ (TX3 b).2.1 := by decide +kernel
theorem tyX3_ok : ∀ k, k < 5 → parseFieldDescriptor (TX3 k).2.2.1 = some (tyX3 k) := by decide +kernel
abbrev cX3_init : ByteArray := prog_3_method_1_code
def yX3_init : MethodName := ⟨RX3, "<init>", "()V"⟩
abbrev cX3_clear : ByteArray := prog_3_method_2_code
def yX3_clear : MethodName := ⟨RX3, "clear", "()V"⟩
abbrev cX3_many : ByteArray := prog_3_method_3_code
def yX3_many : MethodName := ⟨RX3, "many", "()I"⟩
abbrev cX3_fits : ByteArray := prog_3_method_4_code
def yX3_fits : MethodName := ⟨RX3, "fits", "(II)Z"⟩
abbrev cX3_add : ByteArray := prog_3_method_6_code
def yX3_add : MethodName := ⟨RX3, "add", "(LCouncilStore$Draft;)I"⟩
abbrev cX3_take : ByteArray := prog_3_method_7_code
def yX3_take : MethodName := ⟨RX3, "take", "(LCouncilStore$Ints;II)V"⟩
abbrev cX3_empty : ByteArray := prog_3_method_5_code
def yX3_empty : MethodName := ⟨RX3, "empty", "()I"⟩
abbrev cX3_begin : ByteArray := prog_3_method_8_code
def yX3_begin : MethodName := ⟨RX3, "begin", "(II)I"⟩
abbrev cX3_end : ByteArray := prog_3_method_9_code
def yX3_end : MethodName := ⟨RX3, "end", "(II)I"⟩
abbrev cX3_get : ByteArray := prog_3_method_10_code
def yX3_get : MethodName := ⟨RX3, "get", "(I)I"⟩
theorem q103 : (Jvm.Cond.initialized "CouncilStore$Commands") ∈ lw_all := lw_g (lw_at lw_m1 3 rfl) rfl
theorem q145 : (Jvm.Cond.instantiable "CouncilStore$Commands" (5 : Nat)) ∈ lw_all := lw_g (lw_at lw_m1 45 rfl) rfl
theorem q147 : (Jvm.Cond.instanceMethod ({ cls := "CouncilStore$Commands", name := "<init>", desc := "()V" } : Jvm.MethodName)) ∈ lw_all := lw_g (lw_at lw_m1 47 rfl) rfl
theorem q148 : (Jvm.Cond.code ({ cls := "CouncilStore$Commands", name := "<init>", desc := "()V" } : Jvm.MethodName) prog_3_method_1_code (1 : Nat) (Option.none : Option Jvm.ClassFile.FieldType)) ∈ lw_all := lw_g (lw_at lw_m1 48 rfl) rfl
theorem q149 : (Jvm.Cond.methodLink "CouncilStore$Commands" (3 : Nat) ({ cls := "java/lang/Object", name := "<init>", desc := "()V" } : Jvm.MethodName)) ∈ lw_all := lw_g (lw_at lw_m1 49 rfl) rfl
theorem q150 : (Jvm.Cond.classLink "CouncilStore$Commands" (9 : Nat) "CouncilStore$Bytes") ∈ lw_all := lw_g (lw_at lw_m1 50 rfl) rfl
theorem q152 : (Jvm.Cond.methodLink "CouncilStore$Commands" (11 : Nat) ({ cls := "CouncilStore$Bytes", name := "<init>", desc := "(I)V" } : Jvm.MethodName)) ∈ lw_all := lw_g (lw_at lw_m1 52 rfl) rfl
theorem q161 : (Jvm.Cond.fieldLink "CouncilStore$Commands" (48 : Nat) "CouncilStore$Bytes" "size" "I") ∈ lw_all := lw_g (lw_at lw_m1 61 rfl) rfl
theorem q169 : (Jvm.Cond.classLink "CouncilStore$Commands" (20 : Nat) "CouncilStore$Ints") ∈ lw_all := lw_g (lw_at lw_m1 69 rfl) rfl
theorem q171 : (Jvm.Cond.methodLink "CouncilStore$Commands" (22 : Nat) ({ cls := "CouncilStore$Ints", name := "<init>", desc := "(I)V" } : Jvm.MethodName)) ∈ lw_all := lw_g (lw_at lw_m1 71 rfl) rfl
theorem q182 : (Jvm.Cond.fieldLink "CouncilStore$Commands" (45 : Nat) "CouncilStore$Ints" "size" "I") ∈ lw_all := lw_g (lw_at lw_m1 82 rfl) rfl
theorem q190 : (Jvm.Cond.fieldLink "CouncilStore$Commands" (14 : Nat) "CouncilStore$Commands" "letters" "LCouncilStore$Bytes;") ∈ lw_all := lw_g (lw_at lw_m1 90 rfl) rfl
theorem q194 : (Jvm.Cond.fieldLink "CouncilStore$Commands" (23 : Nat) "CouncilStore$Commands" "begins" "LCouncilStore$Ints;") ∈ lw_all := lw_g (lw_at lw_m1 94 rfl) rfl
theorem q195 : (Jvm.Cond.fieldLink "CouncilStore$Commands" (27 : Nat) "CouncilStore$Commands" "parts" "LCouncilStore$Ints;") ∈ lw_all := lw_g (lw_at lw_m1 95 rfl) rfl
theorem q196 : (Jvm.Cond.fieldLink "CouncilStore$Commands" (38 : Nat) "CouncilStore$Commands" "many" "I") ∈ lw_all := lw_g (lw_at lw_m1 96 rfl) rfl
theorem q197 : (Jvm.Cond.fieldLink "CouncilStore$Commands" (30 : Nat) "CouncilStore$Commands" "bytes" "I") ∈ lw_all := lw_g (lw_at lw_m1 97 rfl) rfl
theorem q198 : (Jvm.Cond.laysFinal "CouncilStore$Commands" "CouncilStore$Commands" "letters" "LCouncilStore$Bytes;") ∈ lw_all := lw_g (lw_at lw_m1 98 rfl) rfl
theorem q199 : (Jvm.Cond.soleField "CouncilStore$Commands" "letters") ∈ lw_all := lw_g (lw_at lw_m1 99 rfl) rfl
theorem q200 : (Jvm.Cond.laysFinal "CouncilStore$Commands" "CouncilStore$Commands" "begins" "LCouncilStore$Ints;") ∈ lw_all := lw_g (lw_at lw_m1 100 rfl) rfl
theorem q201 : (Jvm.Cond.soleField "CouncilStore$Commands" "begins") ∈ lw_all := lw_g (lw_at lw_m1 101 rfl) rfl
theorem q202 : (Jvm.Cond.laysFinal "CouncilStore$Commands" "CouncilStore$Commands" "parts" "LCouncilStore$Ints;") ∈ lw_all := lw_g (lw_at lw_m1 102 rfl) rfl
theorem q203 : (Jvm.Cond.soleField "CouncilStore$Commands" "parts") ∈ lw_all := lw_g (lw_at lw_m1 103 rfl) rfl
theorem q204 : (Jvm.Cond.lays "CouncilStore$Commands" "CouncilStore$Commands" "many" "I") ∈ lw_all := lw_g (lw_at lw_m1 104 rfl) rfl
theorem q205 : (Jvm.Cond.soleField "CouncilStore$Commands" "many") ∈ lw_all := lw_g (lw_at lw_m1 105 rfl) rfl
theorem q206 : (Jvm.Cond.lays "CouncilStore$Commands" "CouncilStore$Commands" "bytes" "I") ∈ lw_all := lw_g (lw_at lw_m1 106 rfl) rfl
theorem q207 : (Jvm.Cond.soleField "CouncilStore$Commands" "bytes") ∈ lw_all := lw_g (lw_at lw_m1 107 rfl) rfl
theorem q208 : (Jvm.Cond.superclass "CouncilStore$Commands" "java/lang/Object") ∈ lw_all := lw_g (lw_at lw_m1 108 rfl) rfl
theorem q454 : (Jvm.Cond.fieldLink "CouncilStore$Commands" (49 : Nat) "CouncilStore$Draft" "letters" "LCouncilStore$Bytes;") ∈ lw_all := lw_g (lw_at lw_m2 114 rfl) rfl
theorem q457 : (Jvm.Cond.fieldLink "CouncilStore$Commands" (56 : Nat) "CouncilStore$Draft" "conditions" "LCouncilStore$Ints;") ∈ lw_all := lw_g (lw_at lw_m2 117 rfl) rfl
theorem q460 : (Jvm.Cond.fieldLink "CouncilStore$Commands" (63 : Nat) "CouncilStore$Draft" "yes" "LCouncilStore$Ints;") ∈ lw_all := lw_g (lw_at lw_m2 120 rfl) rfl
theorem q463 : (Jvm.Cond.fieldLink "CouncilStore$Commands" (66 : Nat) "CouncilStore$Draft" "no" "LCouncilStore$Ints;") ∈ lw_all := lw_g (lw_at lw_m2 123 rfl) rfl
theorem q630 : (Jvm.Cond.instanceMethod ({ cls := "CouncilStore$Commands", name := "clear", desc := "()V" } : Jvm.MethodName)) ∈ lw_all := lw_g (lw_at lw_m3 50 rfl) rfl
theorem q631 : (Jvm.Cond.selects "CouncilStore$Commands" ({ cls := "CouncilStore$Commands", name := "clear", desc := "()V" } : Jvm.MethodName) ({ cls := "CouncilStore$Commands", name := "clear", desc := "()V" } : Jvm.MethodName)) ∈ lw_all := lw_g (lw_at lw_m3 51 rfl) rfl
theorem q632 : (Jvm.Cond.code ({ cls := "CouncilStore$Commands", name := "clear", desc := "()V" } : Jvm.MethodName) prog_3_method_2_code (1 : Nat) (Option.none : Option Jvm.ClassFile.FieldType)) ∈ lw_all := lw_g (lw_at lw_m3 52 rfl) rfl
theorem q633 : (Jvm.Cond.methodLink "CouncilStore$Commands" (34 : Nat) ({ cls := "CouncilStore$Bytes", name := "clear", desc := "()V" } : Jvm.MethodName)) ∈ lw_all := lw_g (lw_at lw_m3 53 rfl) rfl
theorem q637 : (Jvm.Cond.methodLink "CouncilStore$Commands" (37 : Nat) ({ cls := "CouncilStore$Ints", name := "clear", desc := "()V" } : Jvm.MethodName)) ∈ lw_all := lw_g (lw_at lw_m3 57 rfl) rfl
theorem q641 : (Jvm.Cond.methodLink "CouncilStore$Commands" (41 : Nat) ({ cls := "CouncilStore$Ints", name := "add", desc := "(I)V" } : Jvm.MethodName)) ∈ lw_all := lw_g (lw_at lw_m3 61 rfl) rfl
theorem q745 : (Jvm.Cond.instanceMethod ({ cls := "CouncilStore$Commands", name := "many", desc := "()I" } : Jvm.MethodName)) ∈ lw_all := lw_g (lw_at lw_m3 165 rfl) rfl
theorem q746 : (Jvm.Cond.selects "CouncilStore$Commands" ({ cls := "CouncilStore$Commands", name := "many", desc := "()I" } : Jvm.MethodName) ({ cls := "CouncilStore$Commands", name := "many", desc := "()I" } : Jvm.MethodName)) ∈ lw_all := lw_g (lw_at lw_m3 166 rfl) rfl
theorem q747 : (Jvm.Cond.code ({ cls := "CouncilStore$Commands", name := "many", desc := "()I" } : Jvm.MethodName) prog_3_method_3_code (1 : Nat) (Option.some Jvm.ClassFile.FieldType.int)) ∈ lw_all := lw_g (lw_at lw_m3 167 rfl) rfl
theorem q1048 : (Jvm.Cond.instanceMethod ({ cls := "CouncilStore$Commands", name := "fits", desc := "(II)Z" } : Jvm.MethodName)) ∈ lw_all := lw_g (lw_at lw_m4 228 rfl) rfl
theorem q1049 : (Jvm.Cond.selects "CouncilStore$Commands" ({ cls := "CouncilStore$Commands", name := "fits", desc := "(II)Z" } : Jvm.MethodName) ({ cls := "CouncilStore$Commands", name := "fits", desc := "(II)Z" } : Jvm.MethodName)) ∈ lw_all := lw_g (lw_at lw_m4 229 rfl) rfl
theorem q1050 : (Jvm.Cond.code ({ cls := "CouncilStore$Commands", name := "fits", desc := "(II)Z" } : Jvm.MethodName) prog_3_method_4_code (3 : Nat) (Option.some Jvm.ClassFile.FieldType.boolean)) ∈ lw_all := lw_g (lw_at lw_m4 230 rfl) rfl
theorem q1051 : (Jvm.Cond.constant "CouncilStore$Commands" (44 : Nat) (40000 : Int32)) ∈ lw_all := lw_g (lw_at lw_m4 231 rfl) rfl
theorem q1053 : (Jvm.Cond.instanceMethod ({ cls := "CouncilStore$Commands", name := "add", desc := "(LCouncilStore$Draft;)I" } : Jvm.MethodName)) ∈ lw_all := lw_g (lw_at lw_m4 233 rfl) rfl
theorem q1054 : (Jvm.Cond.selects "CouncilStore$Commands" ({ cls := "CouncilStore$Commands", name := "add", desc := "(LCouncilStore$Draft;)I" } : Jvm.MethodName) ({ cls := "CouncilStore$Commands", name := "add", desc := "(LCouncilStore$Draft;)I" } : Jvm.MethodName)) ∈ lw_all := lw_g (lw_at lw_m4 234 rfl) rfl
theorem q1055 : (Jvm.Cond.code ({ cls := "CouncilStore$Commands", name := "add", desc := "(LCouncilStore$Draft;)I" } : Jvm.MethodName) prog_3_method_6_code (3 : Nat) (Option.some Jvm.ClassFile.FieldType.int)) ∈ lw_all := lw_g (lw_at lw_m4 235 rfl) rfl
theorem q1056 : (Jvm.Cond.methodLink "CouncilStore$Commands" (52 : Nat) ({ cls := "CouncilStore$Bytes", name := "addAll", desc := "(LCouncilStore$Bytes;II)V" } : Jvm.MethodName)) ∈ lw_all := lw_g (lw_at lw_m4 236 rfl) rfl
theorem q1057 : (Jvm.Cond.methodLink "CouncilStore$Commands" (59 : Nat) ({ cls := "CouncilStore$Commands", name := "take", desc := "(LCouncilStore$Ints;II)V" } : Jvm.MethodName)) ∈ lw_all := lw_g (lw_at lw_m4 237 rfl) rfl
theorem q1058 : (Jvm.Cond.privateMethod ({ cls := "CouncilStore$Commands", name := "take", desc := "(LCouncilStore$Ints;II)V" } : Jvm.MethodName)) ∈ lw_tbl := lw_at lw_m4 238 rfl
theorem q1059 : (Jvm.Cond.instanceMethod ({ cls := "CouncilStore$Commands", name := "take", desc := "(LCouncilStore$Ints;II)V" } : Jvm.MethodName)) ∈ lw_all := lw_g (lw_at lw_m4 239 rfl) rfl
theorem q1060 : (Jvm.Cond.code ({ cls := "CouncilStore$Commands", name := "take", desc := "(LCouncilStore$Ints;II)V" } : Jvm.MethodName) prog_3_method_7_code (5 : Nat) (Option.none : Option Jvm.ClassFile.FieldType)) ∈ lw_all := lw_g (lw_at lw_m5 0 rfl) rfl
theorem q1061 : (Jvm.Cond.methodLink "CouncilStore$Commands" (69 : Nat) ({ cls := "CouncilStore$Ints", name := "get", desc := "(I)I" } : Jvm.MethodName)) ∈ lw_all := lw_g (lw_at lw_m5 1 rfl) rfl
theorem q1226 : (Jvm.Cond.instanceMethod ({ cls := "CouncilStore$Commands", name := "empty", desc := "()I" } : Jvm.MethodName)) ∈ lw_all := lw_g (lw_at lw_m5 166 rfl) rfl
theorem q1227 : (Jvm.Cond.selects "CouncilStore$Commands" ({ cls := "CouncilStore$Commands", name := "empty", desc := "()I" } : Jvm.MethodName) ({ cls := "CouncilStore$Commands", name := "empty", desc := "()I" } : Jvm.MethodName)) ∈ lw_all := lw_g (lw_at lw_m5 167 rfl) rfl
theorem q1228 : (Jvm.Cond.code ({ cls := "CouncilStore$Commands", name := "empty", desc := "()I" } : Jvm.MethodName) prog_3_method_5_code (2 : Nat) (Option.some Jvm.ClassFile.FieldType.int)) ∈ lw_all := lw_g (lw_at lw_m5 168 rfl) rfl
theorem q1285 : (Jvm.Cond.instanceMethod ({ cls := "CouncilStore$Commands", name := "begin", desc := "(II)I" } : Jvm.MethodName)) ∈ lw_all := lw_g (lw_at lw_m5 225 rfl) rfl
theorem q1286 : (Jvm.Cond.selects "CouncilStore$Commands" ({ cls := "CouncilStore$Commands", name := "begin", desc := "(II)I" } : Jvm.MethodName) ({ cls := "CouncilStore$Commands", name := "begin", desc := "(II)I" } : Jvm.MethodName)) ∈ lw_all := lw_g (lw_at lw_m5 226 rfl) rfl
theorem q1287 : (Jvm.Cond.code ({ cls := "CouncilStore$Commands", name := "begin", desc := "(II)I" } : Jvm.MethodName) prog_3_method_8_code (3 : Nat) (Option.some Jvm.ClassFile.FieldType.int)) ∈ lw_all := lw_g (lw_at lw_m5 227 rfl) rfl
theorem q1289 : (Jvm.Cond.instanceMethod ({ cls := "CouncilStore$Commands", name := "end", desc := "(II)I" } : Jvm.MethodName)) ∈ lw_all := lw_g (lw_at lw_m5 229 rfl) rfl
theorem q1290 : (Jvm.Cond.selects "CouncilStore$Commands" ({ cls := "CouncilStore$Commands", name := "end", desc := "(II)I" } : Jvm.MethodName) ({ cls := "CouncilStore$Commands", name := "end", desc := "(II)I" } : Jvm.MethodName)) ∈ lw_all := lw_g (lw_at lw_m5 230 rfl) rfl
theorem q1291 : (Jvm.Cond.code ({ cls := "CouncilStore$Commands", name := "end", desc := "(II)I" } : Jvm.MethodName) prog_3_method_9_code (3 : Nat) (Option.some Jvm.ClassFile.FieldType.int)) ∈ lw_all := lw_g (lw_at lw_m5 231 rfl) rfl
theorem q1297 : (Jvm.Cond.instanceMethod ({ cls := "CouncilStore$Commands", name := "get", desc := "(I)I" } : Jvm.MethodName)) ∈ lw_all := lw_g (lw_at lw_m5 237 rfl) rfl
theorem q1298 : (Jvm.Cond.selects "CouncilStore$Commands" ({ cls := "CouncilStore$Commands", name := "get", desc := "(I)I" } : Jvm.MethodName) ({ cls := "CouncilStore$Commands", name := "get", desc := "(I)I" } : Jvm.MethodName)) ∈ lw_all := lw_g (lw_at lw_m5 238 rfl) rfl
theorem q1299 : (Jvm.Cond.code ({ cls := "CouncilStore$Commands", name := "get", desc := "(I)I" } : Jvm.MethodName) prog_3_method_10_code (2 : Nat) (Option.some Jvm.ClassFile.FieldType.int)) ∈ lw_all := lw_g (lw_at lw_m5 239 rfl) rfl
theorem in_X3 : ∀ w ∈ wsX30, w ∈ lw_all := lw_in wsX30 [198, 200, 202, 204, 206] (by decide +kernel) (by decide +kernel)
/-! CouncilStore$Bytes -/
def RX4 : String := "CouncilStore$Bytes"
def TX4 : u_T := fun k => match k with
  | 0 => ("CouncilStore$Bytes", "at", "[B", false)
  | _ => ("CouncilStore$Bytes", "size", "I", false)
def tyX4 : Nat → FieldType := fun k => match k with
  | 0 => .array .byte
  | _ => .int
abbrev wsX40 : List Cond := u_ws RX4 TX4 2
theorem nmX4 : ∀ a, a < 2 → ∀ b, b < 2 → a ≠ b → (TX4 a).2.1 ≠ (TX4 b).2.1 := by decide +kernel
theorem tyX4_ok : ∀ k, k < 2 → parseFieldDescriptor (TX4 k).2.2.1 = some (tyX4 k) := by decide +kernel
abbrev cX4_init : ByteArray := prog_2_method_1_code
def yX4_init : MethodName := ⟨RX4, "<init>", "(I)V"⟩
abbrev cX4_clear : ByteArray := prog_2_method_2_code
def yX4_clear : MethodName := ⟨RX4, "clear", "()V"⟩
abbrev cX4_add : ByteArray := prog_2_method_3_code
def yX4_add : MethodName := ⟨RX4, "add", "(I)V"⟩
abbrev cX4_addInt : ByteArray := prog_2_method_5_code
def yX4_addInt : MethodName := ⟨RX4, "addInt", "(I)V"⟩
abbrev cX4_addAll : ByteArray := prog_2_method_6_code
def yX4_addAll : MethodName := ⟨RX4, "addAll", "(LCouncilStore$Bytes;II)V"⟩
abbrev cX4_compare : ByteArray := prog_2_method_7_code
def yX4_compare : MethodName := ⟨RX4, "compare", "(IIII)I"⟩
abbrev cX4_get : ByteArray := prog_2_method_4_code
def yX4_get : MethodName := ⟨RX4, "get", "(I)I"⟩
theorem q104 : (Jvm.Cond.initialized "CouncilStore$Bytes") ∈ lw_all := lw_g (lw_at lw_m1 4 rfl) rfl
theorem q151 : (Jvm.Cond.instantiable "CouncilStore$Bytes" (2 : Nat)) ∈ lw_all := lw_g (lw_at lw_m1 51 rfl) rfl
theorem q153 : (Jvm.Cond.instanceMethod ({ cls := "CouncilStore$Bytes", name := "<init>", desc := "(I)V" } : Jvm.MethodName)) ∈ lw_all := lw_g (lw_at lw_m1 53 rfl) rfl
theorem q154 : (Jvm.Cond.code ({ cls := "CouncilStore$Bytes", name := "<init>", desc := "(I)V" } : Jvm.MethodName) prog_2_method_1_code (2 : Nat) (Option.none : Option Jvm.ClassFile.FieldType)) ∈ lw_all := lw_g (lw_at lw_m1 54 rfl) rfl
theorem q155 : (Jvm.Cond.methodLink "CouncilStore$Bytes" (1 : Nat) ({ cls := "java/lang/Object", name := "<init>", desc := "()V" } : Jvm.MethodName)) ∈ lw_all := lw_g (lw_at lw_m1 55 rfl) rfl
theorem q156 : (Jvm.Cond.fieldLink "CouncilStore$Bytes" (7 : Nat) "CouncilStore$Bytes" "at" "[B") ∈ lw_all := lw_g (lw_at lw_m1 56 rfl) rfl
theorem q158 : (Jvm.Cond.fieldLink "CouncilStore$Bytes" (13 : Nat) "CouncilStore$Bytes" "size" "I") ∈ lw_all := lw_g (lw_at lw_m1 58 rfl) rfl
theorem q163 : (Jvm.Cond.lays "CouncilStore$Bytes" "CouncilStore$Bytes" "at" "[B") ∈ lw_all := lw_g (lw_at lw_m1 63 rfl) rfl
theorem q164 : (Jvm.Cond.soleField "CouncilStore$Bytes" "at") ∈ lw_all := lw_g (lw_at lw_m1 64 rfl) rfl
theorem q165 : (Jvm.Cond.lays "CouncilStore$Bytes" "CouncilStore$Bytes" "size" "I") ∈ lw_all := lw_g (lw_at lw_m1 65 rfl) rfl
theorem q166 : (Jvm.Cond.soleField "CouncilStore$Bytes" "size") ∈ lw_all := lw_g (lw_at lw_m1 66 rfl) rfl
theorem q167 : (Jvm.Cond.superclass "CouncilStore$Bytes" "java/lang/Object") ∈ lw_all := lw_g (lw_at lw_m1 67 rfl) rfl
theorem q634 : (Jvm.Cond.instanceMethod ({ cls := "CouncilStore$Bytes", name := "clear", desc := "()V" } : Jvm.MethodName)) ∈ lw_all := lw_g (lw_at lw_m3 54 rfl) rfl
theorem q635 : (Jvm.Cond.selects "CouncilStore$Bytes" ({ cls := "CouncilStore$Bytes", name := "clear", desc := "()V" } : Jvm.MethodName) ({ cls := "CouncilStore$Bytes", name := "clear", desc := "()V" } : Jvm.MethodName)) ∈ lw_all := lw_g (lw_at lw_m3 55 rfl) rfl
theorem q636 : (Jvm.Cond.code ({ cls := "CouncilStore$Bytes", name := "clear", desc := "()V" } : Jvm.MethodName) prog_2_method_2_code (1 : Nat) (Option.none : Option Jvm.ClassFile.FieldType)) ∈ lw_all := lw_g (lw_at lw_m3 56 rfl) rfl
theorem q693 : (Jvm.Cond.instanceMethod ({ cls := "CouncilStore$Bytes", name := "add", desc := "(I)V" } : Jvm.MethodName)) ∈ lw_all := lw_g (lw_at lw_m3 113 rfl) rfl
theorem q694 : (Jvm.Cond.selects "CouncilStore$Bytes" ({ cls := "CouncilStore$Bytes", name := "add", desc := "(I)V" } : Jvm.MethodName) ({ cls := "CouncilStore$Bytes", name := "add", desc := "(I)V" } : Jvm.MethodName)) ∈ lw_all := lw_g (lw_at lw_m3 114 rfl) rfl
theorem q695 : (Jvm.Cond.code ({ cls := "CouncilStore$Bytes", name := "add", desc := "(I)V" } : Jvm.MethodName) prog_2_method_3_code (3 : Nat) (Option.none : Option Jvm.ClassFile.FieldType)) ∈ lw_all := lw_g (lw_at lw_m3 115 rfl) rfl
theorem q696 : (Jvm.Cond.methodLink "CouncilStore$Bytes" (17 : Nat) ({ cls := "java/lang/System", name := "arraycopy", desc := "(Ljava/lang/Object;ILjava/lang/Object;II)V" } : Jvm.MethodName)) ∈ lw_all := lw_g (lw_at lw_m3 116 rfl) rfl
theorem q928 : (Jvm.Cond.instanceMethod ({ cls := "CouncilStore$Bytes", name := "addInt", desc := "(I)V" } : Jvm.MethodName)) ∈ lw_all := lw_g (lw_at lw_m4 108 rfl) rfl
theorem q929 : (Jvm.Cond.selects "CouncilStore$Bytes" ({ cls := "CouncilStore$Bytes", name := "addInt", desc := "(I)V" } : Jvm.MethodName) ({ cls := "CouncilStore$Bytes", name := "addInt", desc := "(I)V" } : Jvm.MethodName)) ∈ lw_all := lw_g (lw_at lw_m4 109 rfl) rfl
theorem q930 : (Jvm.Cond.code ({ cls := "CouncilStore$Bytes", name := "addInt", desc := "(I)V" } : Jvm.MethodName) prog_2_method_5_code (3 : Nat) (Option.none : Option Jvm.ClassFile.FieldType)) ∈ lw_all := lw_g (lw_at lw_m4 110 rfl) rfl
theorem q931 : (Jvm.Cond.methodLink "CouncilStore$Bytes" (23 : Nat) ({ cls := "CouncilStore$Bytes", name := "add", desc := "(I)V" } : Jvm.MethodName)) ∈ lw_all := lw_g (lw_at lw_m4 111 rfl) rfl
theorem q941 : (Jvm.Cond.instanceMethod ({ cls := "CouncilStore$Bytes", name := "addAll", desc := "(LCouncilStore$Bytes;II)V" } : Jvm.MethodName)) ∈ lw_all := lw_g (lw_at lw_m4 121 rfl) rfl
theorem q942 : (Jvm.Cond.selects "CouncilStore$Bytes" ({ cls := "CouncilStore$Bytes", name := "addAll", desc := "(LCouncilStore$Bytes;II)V" } : Jvm.MethodName) ({ cls := "CouncilStore$Bytes", name := "addAll", desc := "(LCouncilStore$Bytes;II)V" } : Jvm.MethodName)) ∈ lw_all := lw_g (lw_at lw_m4 122 rfl) rfl
theorem q943 : (Jvm.Cond.code ({ cls := "CouncilStore$Bytes", name := "addAll", desc := "(LCouncilStore$Bytes;II)V" } : Jvm.MethodName) prog_2_method_6_code (5 : Nat) (Option.none : Option Jvm.ClassFile.FieldType)) ∈ lw_all := lw_g (lw_at lw_m4 123 rfl) rfl
theorem q1313 : (Jvm.Cond.instanceMethod ({ cls := "CouncilStore$Bytes", name := "compare", desc := "(IIII)I" } : Jvm.MethodName)) ∈ lw_all := lw_g (lw_at lw_m6 13 rfl) rfl
theorem q1314 : (Jvm.Cond.selects "CouncilStore$Bytes" ({ cls := "CouncilStore$Bytes", name := "compare", desc := "(IIII)I" } : Jvm.MethodName) ({ cls := "CouncilStore$Bytes", name := "compare", desc := "(IIII)I" } : Jvm.MethodName)) ∈ lw_all := lw_g (lw_at lw_m6 14 rfl) rfl
theorem q1315 : (Jvm.Cond.code ({ cls := "CouncilStore$Bytes", name := "compare", desc := "(IIII)I" } : Jvm.MethodName) prog_2_method_7_code (8 : Nat) (Option.some Jvm.ClassFile.FieldType.int)) ∈ lw_all := lw_g (lw_at lw_m6 15 rfl) rfl
theorem q1316 : (Jvm.Cond.methodLink "CouncilStore$Bytes" (27 : Nat) ({ cls := "CouncilStore$Bytes", name := "get", desc := "(I)I" } : Jvm.MethodName)) ∈ lw_all := lw_g (lw_at lw_m6 16 rfl) rfl
theorem q1317 : (Jvm.Cond.instanceMethod ({ cls := "CouncilStore$Bytes", name := "get", desc := "(I)I" } : Jvm.MethodName)) ∈ lw_all := lw_g (lw_at lw_m6 17 rfl) rfl
theorem q1318 : (Jvm.Cond.selects "CouncilStore$Bytes" ({ cls := "CouncilStore$Bytes", name := "get", desc := "(I)I" } : Jvm.MethodName) ({ cls := "CouncilStore$Bytes", name := "get", desc := "(I)I" } : Jvm.MethodName)) ∈ lw_all := lw_g (lw_at lw_m6 18 rfl) rfl
theorem q1319 : (Jvm.Cond.code ({ cls := "CouncilStore$Bytes", name := "get", desc := "(I)I" } : Jvm.MethodName) prog_2_method_4_code (2 : Nat) (Option.some Jvm.ClassFile.FieldType.int)) ∈ lw_all := lw_g (lw_at lw_m6 19 rfl) rfl
theorem in_X4 : ∀ w ∈ wsX40, w ∈ lw_all := lw_in wsX40 [163, 165] (by decide +kernel) (by decide +kernel)
/-! CouncilStore$Ints -/
def RX5 : String := "CouncilStore$Ints"
def TX5 : u_T := fun k => match k with
  | 0 => ("CouncilStore$Ints", "at", "[I", false)
  | _ => ("CouncilStore$Ints", "size", "I", false)
def tyX5 : Nat → FieldType := fun k => match k with
  | 0 => .array .int
  | _ => .int
abbrev wsX50 : List Cond := u_ws RX5 TX5 2
theorem nmX5 : ∀ a, a < 2 → ∀ b, b < 2 → a ≠ b → (TX5 a).2.1 ≠ (TX5 b).2.1 := by decide +kernel
theorem tyX5_ok : ∀ k, k < 2 → parseFieldDescriptor (TX5 k).2.2.1 = some (tyX5 k) := by decide +kernel
abbrev cX5_init : ByteArray := prog_7_method_1_code
def yX5_init : MethodName := ⟨RX5, "<init>", "(I)V"⟩
abbrev cX5_clear : ByteArray := prog_7_method_2_code
def yX5_clear : MethodName := ⟨RX5, "clear", "()V"⟩
abbrev cX5_add : ByteArray := prog_7_method_3_code
def yX5_add : MethodName := ⟨RX5, "add", "(I)V"⟩
abbrev cX5_get : ByteArray := prog_7_method_5_code
def yX5_get : MethodName := ⟨RX5, "get", "(I)I"⟩
abbrev cX5_set : ByteArray := prog_7_method_6_code
def yX5_set : MethodName := ⟨RX5, "set", "(II)V"⟩
abbrev cX5_copy : ByteArray := prog_7_method_9_code
def yX5_copy : MethodName := ⟨RX5, "copy", "(LCouncilStore$Ints;)V"⟩
abbrev cX5_fit : ByteArray := prog_7_method_4_code
def yX5_fit : MethodName := ⟨RX5, "fit", "(II)V"⟩
abbrev cX5_shift : ByteArray := prog_7_method_8_code
def yX5_shift : MethodName := ⟨RX5, "shift", "(I)V"⟩
theorem q105 : (Jvm.Cond.initialized "CouncilStore$Ints") ∈ lw_all := lw_g (lw_at lw_m1 5 rfl) rfl
theorem q170 : (Jvm.Cond.instantiable "CouncilStore$Ints" (2 : Nat)) ∈ lw_all := lw_g (lw_at lw_m1 70 rfl) rfl
theorem q172 : (Jvm.Cond.instanceMethod ({ cls := "CouncilStore$Ints", name := "<init>", desc := "(I)V" } : Jvm.MethodName)) ∈ lw_all := lw_g (lw_at lw_m1 72 rfl) rfl
theorem q173 : (Jvm.Cond.code ({ cls := "CouncilStore$Ints", name := "<init>", desc := "(I)V" } : Jvm.MethodName) prog_7_method_1_code (2 : Nat) (Option.none : Option Jvm.ClassFile.FieldType)) ∈ lw_all := lw_g (lw_at lw_m1 73 rfl) rfl
theorem q174 : (Jvm.Cond.methodLink "CouncilStore$Ints" (1 : Nat) ({ cls := "java/lang/Object", name := "<init>", desc := "()V" } : Jvm.MethodName)) ∈ lw_all := lw_g (lw_at lw_m1 74 rfl) rfl
theorem q175 : (Jvm.Cond.fieldLink "CouncilStore$Ints" (7 : Nat) "CouncilStore$Ints" "at" "[I") ∈ lw_all := lw_g (lw_at lw_m1 75 rfl) rfl
theorem q176 : (Jvm.Cond.fieldLink "CouncilStore$Ints" (13 : Nat) "CouncilStore$Ints" "size" "I") ∈ lw_all := lw_g (lw_at lw_m1 76 rfl) rfl
theorem q184 : (Jvm.Cond.lays "CouncilStore$Ints" "CouncilStore$Ints" "at" "[I") ∈ lw_all := lw_g (lw_at lw_m1 84 rfl) rfl
theorem q185 : (Jvm.Cond.soleField "CouncilStore$Ints" "at") ∈ lw_all := lw_g (lw_at lw_m1 85 rfl) rfl
theorem q186 : (Jvm.Cond.lays "CouncilStore$Ints" "CouncilStore$Ints" "size" "I") ∈ lw_all := lw_g (lw_at lw_m1 86 rfl) rfl
theorem q187 : (Jvm.Cond.soleField "CouncilStore$Ints" "size") ∈ lw_all := lw_g (lw_at lw_m1 87 rfl) rfl
theorem q188 : (Jvm.Cond.superclass "CouncilStore$Ints" "java/lang/Object") ∈ lw_all := lw_g (lw_at lw_m1 88 rfl) rfl
theorem q638 : (Jvm.Cond.instanceMethod ({ cls := "CouncilStore$Ints", name := "clear", desc := "()V" } : Jvm.MethodName)) ∈ lw_all := lw_g (lw_at lw_m3 58 rfl) rfl
theorem q639 : (Jvm.Cond.selects "CouncilStore$Ints" ({ cls := "CouncilStore$Ints", name := "clear", desc := "()V" } : Jvm.MethodName) ({ cls := "CouncilStore$Ints", name := "clear", desc := "()V" } : Jvm.MethodName)) ∈ lw_all := lw_g (lw_at lw_m3 59 rfl) rfl
theorem q640 : (Jvm.Cond.code ({ cls := "CouncilStore$Ints", name := "clear", desc := "()V" } : Jvm.MethodName) prog_7_method_2_code (1 : Nat) (Option.none : Option Jvm.ClassFile.FieldType)) ∈ lw_all := lw_g (lw_at lw_m3 60 rfl) rfl
theorem q642 : (Jvm.Cond.instanceMethod ({ cls := "CouncilStore$Ints", name := "add", desc := "(I)V" } : Jvm.MethodName)) ∈ lw_all := lw_g (lw_at lw_m3 62 rfl) rfl
theorem q643 : (Jvm.Cond.selects "CouncilStore$Ints" ({ cls := "CouncilStore$Ints", name := "add", desc := "(I)V" } : Jvm.MethodName) ({ cls := "CouncilStore$Ints", name := "add", desc := "(I)V" } : Jvm.MethodName)) ∈ lw_all := lw_g (lw_at lw_m3 63 rfl) rfl
theorem q644 : (Jvm.Cond.code ({ cls := "CouncilStore$Ints", name := "add", desc := "(I)V" } : Jvm.MethodName) prog_7_method_3_code (3 : Nat) (Option.none : Option Jvm.ClassFile.FieldType)) ∈ lw_all := lw_g (lw_at lw_m3 64 rfl) rfl
theorem q645 : (Jvm.Cond.methodLink "CouncilStore$Ints" (17 : Nat) ({ cls := "java/lang/System", name := "arraycopy", desc := "(Ljava/lang/Object;ILjava/lang/Object;II)V" } : Jvm.MethodName)) ∈ lw_all := lw_g (lw_at lw_m3 65 rfl) rfl
theorem q668 : (Jvm.Cond.instanceMethod ({ cls := "CouncilStore$Ints", name := "get", desc := "(I)I" } : Jvm.MethodName)) ∈ lw_all := lw_g (lw_at lw_m3 88 rfl) rfl
theorem q669 : (Jvm.Cond.selects "CouncilStore$Ints" ({ cls := "CouncilStore$Ints", name := "get", desc := "(I)I" } : Jvm.MethodName) ({ cls := "CouncilStore$Ints", name := "get", desc := "(I)I" } : Jvm.MethodName)) ∈ lw_all := lw_g (lw_at lw_m3 89 rfl) rfl
theorem q670 : (Jvm.Cond.code ({ cls := "CouncilStore$Ints", name := "get", desc := "(I)I" } : Jvm.MethodName) prog_7_method_5_code (2 : Nat) (Option.some Jvm.ClassFile.FieldType.int)) ∈ lw_all := lw_g (lw_at lw_m3 90 rfl) rfl
theorem q672 : (Jvm.Cond.instanceMethod ({ cls := "CouncilStore$Ints", name := "set", desc := "(II)V" } : Jvm.MethodName)) ∈ lw_all := lw_g (lw_at lw_m3 92 rfl) rfl
theorem q673 : (Jvm.Cond.selects "CouncilStore$Ints" ({ cls := "CouncilStore$Ints", name := "set", desc := "(II)V" } : Jvm.MethodName) ({ cls := "CouncilStore$Ints", name := "set", desc := "(II)V" } : Jvm.MethodName)) ∈ lw_all := lw_g (lw_at lw_m3 93 rfl) rfl
theorem q674 : (Jvm.Cond.code ({ cls := "CouncilStore$Ints", name := "set", desc := "(II)V" } : Jvm.MethodName) prog_7_method_6_code (3 : Nat) (Option.none : Option Jvm.ClassFile.FieldType)) ∈ lw_all := lw_g (lw_at lw_m3 94 rfl) rfl
theorem q856 : (Jvm.Cond.instanceMethod ({ cls := "CouncilStore$Ints", name := "copy", desc := "(LCouncilStore$Ints;)V" } : Jvm.MethodName)) ∈ lw_all := lw_g (lw_at lw_m4 36 rfl) rfl
theorem q857 : (Jvm.Cond.selects "CouncilStore$Ints" ({ cls := "CouncilStore$Ints", name := "copy", desc := "(LCouncilStore$Ints;)V" } : Jvm.MethodName) ({ cls := "CouncilStore$Ints", name := "copy", desc := "(LCouncilStore$Ints;)V" } : Jvm.MethodName)) ∈ lw_all := lw_g (lw_at lw_m4 37 rfl) rfl
theorem q858 : (Jvm.Cond.code ({ cls := "CouncilStore$Ints", name := "copy", desc := "(LCouncilStore$Ints;)V" } : Jvm.MethodName) prog_7_method_9_code (3 : Nat) (Option.none : Option Jvm.ClassFile.FieldType)) ∈ lw_all := lw_g (lw_at lw_m4 38 rfl) rfl
theorem q859 : (Jvm.Cond.methodLink "CouncilStore$Ints" (27 : Nat) ({ cls := "CouncilStore$Ints", name := "clear", desc := "()V" } : Jvm.MethodName)) ∈ lw_all := lw_g (lw_at lw_m4 39 rfl) rfl
theorem q860 : (Jvm.Cond.methodLink "CouncilStore$Ints" (23 : Nat) ({ cls := "CouncilStore$Ints", name := "add", desc := "(I)V" } : Jvm.MethodName)) ∈ lw_all := lw_g (lw_at lw_m4 40 rfl) rfl
theorem q1220 : (Jvm.Cond.instanceMethod ({ cls := "CouncilStore$Ints", name := "fit", desc := "(II)V" } : Jvm.MethodName)) ∈ lw_all := lw_g (lw_at lw_m5 160 rfl) rfl
theorem q1221 : (Jvm.Cond.selects "CouncilStore$Ints" ({ cls := "CouncilStore$Ints", name := "fit", desc := "(II)V" } : Jvm.MethodName) ({ cls := "CouncilStore$Ints", name := "fit", desc := "(II)V" } : Jvm.MethodName)) ∈ lw_all := lw_g (lw_at lw_m5 161 rfl) rfl
theorem q1222 : (Jvm.Cond.code ({ cls := "CouncilStore$Ints", name := "fit", desc := "(II)V" } : Jvm.MethodName) prog_7_method_4_code (3 : Nat) (Option.none : Option Jvm.ClassFile.FieldType)) ∈ lw_all := lw_g (lw_at lw_m5 162 rfl) rfl
theorem q1260 : (Jvm.Cond.instanceMethod ({ cls := "CouncilStore$Ints", name := "shift", desc := "(I)V" } : Jvm.MethodName)) ∈ lw_all := lw_g (lw_at lw_m5 200 rfl) rfl
theorem q1261 : (Jvm.Cond.selects "CouncilStore$Ints" ({ cls := "CouncilStore$Ints", name := "shift", desc := "(I)V" } : Jvm.MethodName) ({ cls := "CouncilStore$Ints", name := "shift", desc := "(I)V" } : Jvm.MethodName)) ∈ lw_all := lw_g (lw_at lw_m5 201 rfl) rfl
theorem q1262 : (Jvm.Cond.code ({ cls := "CouncilStore$Ints", name := "shift", desc := "(I)V" } : Jvm.MethodName) prog_7_method_8_code (3 : Nat) (Option.none : Option Jvm.ClassFile.FieldType)) ∈ lw_all := lw_g (lw_at lw_m5 202 rfl) rfl
theorem in_X5 : ∀ w ∈ wsX50, w ∈ lw_all := lw_in wsX50 [184, 186] (by decide +kernel) (by decide +kernel)
/-! CouncilStore$Entries -/
def RX6 : String := "CouncilStore$Entries"
def TX6 : u_T := fun k => match k with
  | 0 => ("CouncilStore$Entries", "terms", "LCouncilStore$Ints;", true)
  | _ => ("CouncilStore$Entries", "commands", "LCouncilStore$Ints;", true)
def tyX6 : Nat → FieldType := fun k => match k with
  | 0 => .object "CouncilStore$Ints"
  | _ => .object "CouncilStore$Ints"
abbrev wsX60 : List Cond := u_ws RX6 TX6 2
theorem nmX6 : ∀ a, a < 2 → ∀ b, b < 2 → a ≠ b → (TX6 a).2.1 ≠ (TX6 b).2.1 := by decide +kernel
theorem tyX6_ok : ∀ k, k < 2 → parseFieldDescriptor (TX6 k).2.2.1 = some (tyX6 k) := by decide +kernel
abbrev cX6_init : ByteArray := prog_6_method_1_code
def yX6_init : MethodName := ⟨RX6, "<init>", "()V"⟩
abbrev cX6_clear : ByteArray := prog_6_method_2_code
def yX6_clear : MethodName := ⟨RX6, "clear", "()V"⟩
abbrev cX6_add : ByteArray := prog_6_method_3_code
def yX6_add : MethodName := ⟨RX6, "add", "(II)I"⟩
theorem q106 : (Jvm.Cond.initialized "CouncilStore$Entries") ∈ lw_all := lw_g (lw_at lw_m1 6 rfl) rfl
theorem q180 : (Jvm.Cond.fieldLink "CouncilStore$Entries" (27 : Nat) "CouncilStore$Ints" "size" "I") ∈ lw_all := lw_g (lw_at lw_m1 80 rfl) rfl
theorem q210 : (Jvm.Cond.instantiable "CouncilStore$Entries" (2 : Nat)) ∈ lw_all := lw_g (lw_at lw_m1 110 rfl) rfl
theorem q212 : (Jvm.Cond.instanceMethod ({ cls := "CouncilStore$Entries", name := "<init>", desc := "()V" } : Jvm.MethodName)) ∈ lw_all := lw_g (lw_at lw_m1 112 rfl) rfl
theorem q213 : (Jvm.Cond.code ({ cls := "CouncilStore$Entries", name := "<init>", desc := "()V" } : Jvm.MethodName) prog_6_method_1_code (1 : Nat) (Option.none : Option Jvm.ClassFile.FieldType)) ∈ lw_all := lw_g (lw_at lw_m1 113 rfl) rfl
theorem q214 : (Jvm.Cond.methodLink "CouncilStore$Entries" (1 : Nat) ({ cls := "java/lang/Object", name := "<init>", desc := "()V" } : Jvm.MethodName)) ∈ lw_all := lw_g (lw_at lw_m1 114 rfl) rfl
theorem q215 : (Jvm.Cond.classLink "CouncilStore$Entries" (7 : Nat) "CouncilStore$Ints") ∈ lw_all := lw_g (lw_at lw_m1 115 rfl) rfl
theorem q216 : (Jvm.Cond.methodLink "CouncilStore$Entries" (9 : Nat) ({ cls := "CouncilStore$Ints", name := "<init>", desc := "(I)V" } : Jvm.MethodName)) ∈ lw_all := lw_g (lw_at lw_m1 116 rfl) rfl
theorem q217 : (Jvm.Cond.fieldLink "CouncilStore$Entries" (12 : Nat) "CouncilStore$Entries" "terms" "LCouncilStore$Ints;") ∈ lw_all := lw_g (lw_at lw_m1 117 rfl) rfl
theorem q220 : (Jvm.Cond.fieldLink "CouncilStore$Entries" (18 : Nat) "CouncilStore$Entries" "commands" "LCouncilStore$Ints;") ∈ lw_all := lw_g (lw_at lw_m1 120 rfl) rfl
theorem q222 : (Jvm.Cond.laysFinal "CouncilStore$Entries" "CouncilStore$Entries" "terms" "LCouncilStore$Ints;") ∈ lw_all := lw_g (lw_at lw_m1 122 rfl) rfl
theorem q223 : (Jvm.Cond.soleField "CouncilStore$Entries" "terms") ∈ lw_all := lw_g (lw_at lw_m1 123 rfl) rfl
theorem q224 : (Jvm.Cond.laysFinal "CouncilStore$Entries" "CouncilStore$Entries" "commands" "LCouncilStore$Ints;") ∈ lw_all := lw_g (lw_at lw_m1 124 rfl) rfl
theorem q225 : (Jvm.Cond.soleField "CouncilStore$Entries" "commands") ∈ lw_all := lw_g (lw_at lw_m1 125 rfl) rfl
theorem q226 : (Jvm.Cond.superclass "CouncilStore$Entries" "java/lang/Object") ∈ lw_all := lw_g (lw_at lw_m1 126 rfl) rfl
theorem q649 : (Jvm.Cond.instanceMethod ({ cls := "CouncilStore$Entries", name := "clear", desc := "()V" } : Jvm.MethodName)) ∈ lw_all := lw_g (lw_at lw_m3 69 rfl) rfl
theorem q650 : (Jvm.Cond.selects "CouncilStore$Entries" ({ cls := "CouncilStore$Entries", name := "clear", desc := "()V" } : Jvm.MethodName) ({ cls := "CouncilStore$Entries", name := "clear", desc := "()V" } : Jvm.MethodName)) ∈ lw_all := lw_g (lw_at lw_m3 70 rfl) rfl
theorem q651 : (Jvm.Cond.code ({ cls := "CouncilStore$Entries", name := "clear", desc := "()V" } : Jvm.MethodName) prog_6_method_2_code (1 : Nat) (Option.none : Option Jvm.ClassFile.FieldType)) ∈ lw_all := lw_g (lw_at lw_m3 71 rfl) rfl
theorem q652 : (Jvm.Cond.methodLink "CouncilStore$Entries" (21 : Nat) ({ cls := "CouncilStore$Ints", name := "clear", desc := "()V" } : Jvm.MethodName)) ∈ lw_all := lw_g (lw_at lw_m3 72 rfl) rfl
theorem q1067 : (Jvm.Cond.instanceMethod ({ cls := "CouncilStore$Entries", name := "add", desc := "(II)I" } : Jvm.MethodName)) ∈ lw_all := lw_g (lw_at lw_m5 7 rfl) rfl
theorem q1068 : (Jvm.Cond.selects "CouncilStore$Entries" ({ cls := "CouncilStore$Entries", name := "add", desc := "(II)I" } : Jvm.MethodName) ({ cls := "CouncilStore$Entries", name := "add", desc := "(II)I" } : Jvm.MethodName)) ∈ lw_all := lw_g (lw_at lw_m5 8 rfl) rfl
theorem q1069 : (Jvm.Cond.code ({ cls := "CouncilStore$Entries", name := "add", desc := "(II)I" } : Jvm.MethodName) prog_6_method_3_code (3 : Nat) (Option.some Jvm.ClassFile.FieldType.int)) ∈ lw_all := lw_g (lw_at lw_m5 9 rfl) rfl
theorem q1070 : (Jvm.Cond.methodLink "CouncilStore$Entries" (24 : Nat) ({ cls := "CouncilStore$Ints", name := "add", desc := "(I)V" } : Jvm.MethodName)) ∈ lw_all := lw_g (lw_at lw_m5 10 rfl) rfl
theorem in_X6 : ∀ w ∈ wsX60, w ∈ lw_all := lw_in wsX60 [222, 224] (by decide +kernel) (by decide +kernel)
/-! CouncilStore$States -/
def RX7 : String := "CouncilStore$States"
def TX7 : u_T := fun k => match k with
  | 0 => ("CouncilStore$States", "commands", "LCouncilStore$Commands;", true)
  | 1 => ("CouncilStore$States", "before", "LCouncilStore$Ints;", true)
  | 2 => ("CouncilStore$States", "made", "LCouncilStore$Ints;", true)
  | 3 => ("CouncilStore$States", "revisions", "LCouncilStore$Ints;", true)
  | 4 => ("CouncilStore$States", "outcomes", "LCouncilStore$Ints;", true)
  | 5 => ("CouncilStore$States", "deleted", "LCouncilStore$Ints;", true)
  | 6 => ("CouncilStore$States", "counts", "LCouncilStore$Ints;", true)
  | 7 => ("CouncilStore$States", "leaseRows", "LCouncilStore$Ints;", true)
  | 8 => ("CouncilStore$States", "changeEnds", "LCouncilStore$Ints;", true)
  | 9 => ("CouncilStore$States", "changes", "LCouncilStore$Pairs;", true)
  | 10 => ("CouncilStore$States", "youngest", "LCouncilStore$Ints;", true)
  | 11 => ("CouncilStore$States", "older", "LCouncilStore$Ints;", true)
  | 12 => ("CouncilStore$States", "work", "LCouncilStore$Pairs;", true)
  | 13 => ("CouncilStore$States", "seen", "LCouncilStore$Pair;", true)
  | 14 => ("CouncilStore$States", "leases", "[I", true)
  | 15 => ("CouncilStore$States", "gone", "I", false)
  | 16 => ("CouncilStore$States", "touched", "Z", false)
  | 17 => ("CouncilStore$States", "doomed", "LCouncilStore$Pairs;", true)
  | _ => ("CouncilStore$States", "zero", "I", false)
def tyX7 : Nat → FieldType := fun k => match k with
  | 0 => .object "CouncilStore$Commands"
  | 1 => .object "CouncilStore$Ints"
  | 2 => .object "CouncilStore$Ints"
  | 3 => .object "CouncilStore$Ints"
  | 4 => .object "CouncilStore$Ints"
  | 5 => .object "CouncilStore$Ints"
  | 6 => .object "CouncilStore$Ints"
  | 7 => .object "CouncilStore$Ints"
  | 8 => .object "CouncilStore$Ints"
  | 9 => .object "CouncilStore$Pairs"
  | 10 => .object "CouncilStore$Ints"
  | 11 => .object "CouncilStore$Ints"
  | 12 => .object "CouncilStore$Pairs"
  | 13 => .object "CouncilStore$Pair"
  | 14 => .array .int
  | 15 => .int
  | 16 => .boolean
  | 17 => .object "CouncilStore$Pairs"
  | _ => .int
abbrev wsX70 : List Cond := u_ws RX7 TX7 19
theorem nmX7 : ∀ a, a < 19 → ∀ b, b < 19 → a ≠ b → (TX7 a).2.1 ≠ (TX7 b).2.1 := by decide +kernel
theorem tyX7_ok : ∀ k, k < 19 → parseFieldDescriptor (TX7 k).2.2.1 = some (tyX7 k) := by decide +kernel
abbrev cX7_init : ByteArray := prog_16_method_1_code
def yX7_init : MethodName := ⟨RX7, "<init>", "(LCouncilStore$Commands;)V"⟩
abbrev cX7_clear : ByteArray := prog_16_method_2_code
def yX7_clear : MethodName := ⟨RX7, "clear", "()V"⟩
abbrev cX7_enter : ByteArray := prog_16_method_3_code
def yX7_enter : MethodName := ⟨RX7, "enter", "(IIIIII)I"⟩
abbrev cX7_zero : ByteArray := prog_16_method_27_code
def yX7_zero : MethodName := ⟨RX7, "zero", "(I)V"⟩
abbrev cX7_apply : ByteArray := prog_16_method_21_code
def yX7_apply : MethodName := ⟨RX7, "apply", "(II)I"⟩
abbrev cX7_holds : ByteArray := prog_16_method_18_code
def yX7_holds : MethodName := ⟨RX7, "holds", "(II)Z"⟩
abbrev cX7_find : ByteArray := prog_16_method_14_code
def yX7_find : MethodName := ⟨RX7, "find", "(III)LCouncilStore$Pair;"⟩
abbrev cX7_changeFrom : ByteArray := prog_16_method_9_code
def yX7_changeFrom : MethodName := ⟨RX7, "changeFrom", "(I)I"⟩
abbrev cX7_step : ByteArray := prog_16_method_23_code
def yX7_step : MethodName := ⟨RX7, "step", "(II)Z"⟩
abbrev cX7_put : ByteArray := prog_16_method_25_code
def yX7_put : MethodName := ⟨RX7, "put", "(III)Z"⟩
abbrev cX7_hasLease : ByteArray := prog_16_method_19_code
def yX7_hasLease : MethodName := ⟨RX7, "hasLease", "(I)Z"⟩
abbrev cX7_now : ByteArray := prog_16_method_24_code
def yX7_now : MethodName := ⟨RX7, "now", "(III)Z"⟩
abbrev cX7_place : ByteArray := prog_16_method_17_code
def yX7_place : MethodName := ⟨RX7, "place", "(LCouncilStore$Pairs;LCouncilStore$Pair;Z)LCouncilStore$Pair;"⟩
abbrev cX7_delete : ByteArray := prog_16_method_26_code
def yX7_delete : MethodName := ⟨RX7, "delete", "(IIIIII)V"⟩
abbrev cX7_range : ByteArray := prog_16_method_15_code
def yX7_range : MethodName := ⟨RX7, "range", "(IIIIILCouncilStore$Pairs;)V"⟩
abbrev cX7_isIn : ByteArray := prog_16_method_16_code
def yX7_isIn : MethodName := ⟨RX7, "isIn", "(LCouncilStore$Pair;IIII)Z"⟩
abbrev cX7_turnLease : ByteArray := prog_16_method_20_code
def yX7_turnLease : MethodName := ⟨RX7, "turnLease", "(I)V"⟩
abbrev cX7_finish : ByteArray := prog_16_method_22_code
def yX7_finish : MethodName := ⟨RX7, "finish", "(IIZZ)I"⟩
abbrev cX7_revision : ByteArray := prog_16_method_4_code
def yX7_revision : MethodName := ⟨RX7, "revision", "(I)I"⟩
abbrev cX7_at : ByteArray := prog_16_method_10_code
def yX7_at : MethodName := ⟨RX7, "at", "(II)I"⟩
abbrev cX7_maker : ByteArray := prog_16_method_11_code
def yX7_maker : MethodName := ⟨RX7, "maker", "(II)I"⟩
abbrev cX7_changes : ByteArray := prog_16_method_12_code
def yX7_changes : MethodName := ⟨RX7, "changes", "(I)I"⟩
abbrev cX7_change : ByteArray := prog_16_method_13_code
def yX7_change : MethodName := ⟨RX7, "change", "(II)LCouncilStore$Pair;"⟩
abbrev cX7_outcome : ByteArray := prog_16_method_5_code
def yX7_outcome : MethodName := ⟨RX7, "outcome", "(I)I"⟩
abbrev cX7_deleted : ByteArray := prog_16_method_6_code
def yX7_deleted : MethodName := ⟨RX7, "deleted", "(I)I"⟩
abbrev cX7_count : ByteArray := prog_16_method_7_code
def yX7_count : MethodName := ⟨RX7, "count", "(I)I"⟩
abbrev cX7_leases : ByteArray := prog_16_method_8_code
def yX7_leases : MethodName := ⟨RX7, "leases", "(I)I"⟩
theorem q107 : (Jvm.Cond.initialized "CouncilStore$States") ∈ lw_all := lw_g (lw_at lw_m1 7 rfl) rfl
theorem q157 : (Jvm.Cond.fieldLink "CouncilStore$States" (141 : Nat) "CouncilStore$Bytes" "at" "[B") ∈ lw_all := lw_g (lw_at lw_m1 57 rfl) rfl
theorem q177 : (Jvm.Cond.fieldLink "CouncilStore$States" (81 : Nat) "CouncilStore$Ints" "size" "I") ∈ lw_all := lw_g (lw_at lw_m1 77 rfl) rfl
theorem q192 : (Jvm.Cond.fieldLink "CouncilStore$States" (107 : Nat) "CouncilStore$Commands" "letters" "LCouncilStore$Bytes;") ∈ lw_all := lw_g (lw_at lw_m1 92 rfl) rfl
theorem q228 : (Jvm.Cond.instantiable "CouncilStore$States" (19 : Nat)) ∈ lw_all := lw_g (lw_at lw_m1 128 rfl) rfl
theorem q230 : (Jvm.Cond.instanceMethod ({ cls := "CouncilStore$States", name := "<init>", desc := "(LCouncilStore$Commands;)V" } : Jvm.MethodName)) ∈ lw_all := lw_g (lw_at lw_m1 130 rfl) rfl
theorem q231 : (Jvm.Cond.code ({ cls := "CouncilStore$States", name := "<init>", desc := "(LCouncilStore$Commands;)V" } : Jvm.MethodName) prog_16_method_1_code (2 : Nat) (Option.none : Option Jvm.ClassFile.FieldType)) ∈ lw_all := lw_g (lw_at lw_m1 131 rfl) rfl
theorem q232 : (Jvm.Cond.methodLink "CouncilStore$States" (1 : Nat) ({ cls := "java/lang/Object", name := "<init>", desc := "()V" } : Jvm.MethodName)) ∈ lw_all := lw_g (lw_at lw_m1 132 rfl) rfl
theorem q233 : (Jvm.Cond.classLink "CouncilStore$States" (7 : Nat) "CouncilStore$Ints") ∈ lw_all := lw_g (lw_at lw_m1 133 rfl) rfl
theorem q234 : (Jvm.Cond.methodLink "CouncilStore$States" (9 : Nat) ({ cls := "CouncilStore$Ints", name := "<init>", desc := "(I)V" } : Jvm.MethodName)) ∈ lw_all := lw_g (lw_at lw_m1 134 rfl) rfl
theorem q235 : (Jvm.Cond.classLink "CouncilStore$States" (39 : Nat) "CouncilStore$Pairs") ∈ lw_all := lw_g (lw_at lw_m1 135 rfl) rfl
theorem q237 : (Jvm.Cond.methodLinkNest "CouncilStore$States" (41 : Nat) ({ cls := "CouncilStore$Pairs", name := "<init>", desc := "()V" } : Jvm.MethodName) "CouncilStore") ∈ lw_tbl := lw_at lw_m1 137 rfl
theorem q245 : (Jvm.Cond.fieldLink "CouncilStore$States" (88 : Nat) "CouncilStore$Pairs" "size" "I") ∈ lw_all := lw_g (lw_at lw_m1 145 rfl) rfl
theorem q252 : (Jvm.Cond.classLink "CouncilStore$States" (55 : Nat) "CouncilStore$Pair") ∈ lw_all := lw_g (lw_at lw_m1 152 rfl) rfl
theorem q254 : (Jvm.Cond.methodLinkNest "CouncilStore$States" (57 : Nat) ({ cls := "CouncilStore$Pair", name := "<init>", desc := "()V" } : Jvm.MethodName) "CouncilStore") ∈ lw_tbl := lw_at lw_m1 154 rfl
theorem q259 : (Jvm.Cond.fieldLink "CouncilStore$States" (113 : Nat) "CouncilStore$Pair" "keyFrom" "I") ∈ lw_all := lw_g (lw_at lw_m1 159 rfl) rfl
theorem q262 : (Jvm.Cond.fieldLink "CouncilStore$States" (116 : Nat) "CouncilStore$Pair" "keyTo" "I") ∈ lw_all := lw_g (lw_at lw_m1 162 rfl) rfl
theorem q265 : (Jvm.Cond.fieldLink "CouncilStore$States" (125 : Nat) "CouncilStore$Pair" "there" "Z") ∈ lw_all := lw_g (lw_at lw_m1 165 rfl) rfl
theorem q268 : (Jvm.Cond.fieldLink "CouncilStore$States" (205 : Nat) "CouncilStore$Pair" "valueFrom" "I") ∈ lw_all := lw_g (lw_at lw_m1 168 rfl) rfl
theorem q271 : (Jvm.Cond.fieldLink "CouncilStore$States" (208 : Nat) "CouncilStore$Pair" "valueTo" "I") ∈ lw_all := lw_g (lw_at lw_m1 171 rfl) rfl
theorem q274 : (Jvm.Cond.fieldLink "CouncilStore$States" (152 : Nat) "CouncilStore$Pair" "created" "I") ∈ lw_all := lw_g (lw_at lw_m1 174 rfl) rfl
theorem q277 : (Jvm.Cond.fieldLink "CouncilStore$States" (155 : Nat) "CouncilStore$Pair" "changed" "I") ∈ lw_all := lw_g (lw_at lw_m1 177 rfl) rfl
theorem q281 : (Jvm.Cond.fieldLink "CouncilStore$States" (158 : Nat) "CouncilStore$Pair" "version" "I") ∈ lw_all := lw_g (lw_at lw_m1 181 rfl) rfl
theorem q285 : (Jvm.Cond.fieldLink "CouncilStore$States" (161 : Nat) "CouncilStore$Pair" "lease" "I") ∈ lw_all := lw_g (lw_at lw_m1 185 rfl) rfl
theorem q306 : (Jvm.Cond.fieldLink "CouncilStore$States" (69 : Nat) "CouncilStore$States" "commands" "LCouncilStore$Commands;") ∈ lw_all := lw_g (lw_at lw_m1 206 rfl) rfl
theorem q307 : (Jvm.Cond.fieldLink "CouncilStore$States" (12 : Nat) "CouncilStore$States" "before" "LCouncilStore$Ints;") ∈ lw_all := lw_g (lw_at lw_m1 207 rfl) rfl
theorem q308 : (Jvm.Cond.fieldLink "CouncilStore$States" (18 : Nat) "CouncilStore$States" "made" "LCouncilStore$Ints;") ∈ lw_all := lw_g (lw_at lw_m1 208 rfl) rfl
theorem q309 : (Jvm.Cond.fieldLink "CouncilStore$States" (21 : Nat) "CouncilStore$States" "revisions" "LCouncilStore$Ints;") ∈ lw_all := lw_g (lw_at lw_m1 209 rfl) rfl
theorem q310 : (Jvm.Cond.fieldLink "CouncilStore$States" (24 : Nat) "CouncilStore$States" "outcomes" "LCouncilStore$Ints;") ∈ lw_all := lw_g (lw_at lw_m1 210 rfl) rfl
theorem q311 : (Jvm.Cond.fieldLink "CouncilStore$States" (27 : Nat) "CouncilStore$States" "deleted" "LCouncilStore$Ints;") ∈ lw_all := lw_g (lw_at lw_m1 211 rfl) rfl
theorem q312 : (Jvm.Cond.fieldLink "CouncilStore$States" (30 : Nat) "CouncilStore$States" "counts" "LCouncilStore$Ints;") ∈ lw_all := lw_g (lw_at lw_m1 212 rfl) rfl
theorem q313 : (Jvm.Cond.fieldLink "CouncilStore$States" (33 : Nat) "CouncilStore$States" "leaseRows" "LCouncilStore$Ints;") ∈ lw_all := lw_g (lw_at lw_m1 213 rfl) rfl
theorem q314 : (Jvm.Cond.fieldLink "CouncilStore$States" (36 : Nat) "CouncilStore$States" "changeEnds" "LCouncilStore$Ints;") ∈ lw_all := lw_g (lw_at lw_m1 214 rfl) rfl
theorem q315 : (Jvm.Cond.fieldLink "CouncilStore$States" (42 : Nat) "CouncilStore$States" "changes" "LCouncilStore$Pairs;") ∈ lw_all := lw_g (lw_at lw_m1 215 rfl) rfl
theorem q316 : (Jvm.Cond.fieldLink "CouncilStore$States" (46 : Nat) "CouncilStore$States" "youngest" "LCouncilStore$Ints;") ∈ lw_all := lw_g (lw_at lw_m1 216 rfl) rfl
theorem q317 : (Jvm.Cond.fieldLink "CouncilStore$States" (49 : Nat) "CouncilStore$States" "older" "LCouncilStore$Ints;") ∈ lw_all := lw_g (lw_at lw_m1 217 rfl) rfl
theorem q318 : (Jvm.Cond.fieldLink "CouncilStore$States" (52 : Nat) "CouncilStore$States" "work" "LCouncilStore$Pairs;") ∈ lw_all := lw_g (lw_at lw_m1 218 rfl) rfl
theorem q319 : (Jvm.Cond.fieldLink "CouncilStore$States" (58 : Nat) "CouncilStore$States" "seen" "LCouncilStore$Pair;") ∈ lw_all := lw_g (lw_at lw_m1 219 rfl) rfl
theorem q320 : (Jvm.Cond.fieldLink "CouncilStore$States" (62 : Nat) "CouncilStore$States" "leases" "[I") ∈ lw_all := lw_g (lw_at lw_m1 220 rfl) rfl
theorem q321 : (Jvm.Cond.fieldLink "CouncilStore$States" (174 : Nat) "CouncilStore$States" "gone" "I") ∈ lw_all := lw_g (lw_at lw_m1 221 rfl) rfl
theorem q322 : (Jvm.Cond.fieldLink "CouncilStore$States" (177 : Nat) "CouncilStore$States" "touched" "Z") ∈ lw_all := lw_g (lw_at lw_m1 222 rfl) rfl
theorem q323 : (Jvm.Cond.fieldLink "CouncilStore$States" (66 : Nat) "CouncilStore$States" "doomed" "LCouncilStore$Pairs;") ∈ lw_all := lw_g (lw_at lw_m1 223 rfl) rfl
theorem q324 : (Jvm.Cond.fieldLink "CouncilStore$States" (215 : Nat) "CouncilStore$States" "zero" "I") ∈ lw_all := lw_g (lw_at lw_m1 224 rfl) rfl
theorem q325 : (Jvm.Cond.laysFinal "CouncilStore$States" "CouncilStore$States" "commands" "LCouncilStore$Commands;") ∈ lw_all := lw_g (lw_at lw_m1 225 rfl) rfl
theorem q326 : (Jvm.Cond.soleField "CouncilStore$States" "commands") ∈ lw_all := lw_g (lw_at lw_m1 226 rfl) rfl
theorem q327 : (Jvm.Cond.laysFinal "CouncilStore$States" "CouncilStore$States" "before" "LCouncilStore$Ints;") ∈ lw_all := lw_g (lw_at lw_m1 227 rfl) rfl
theorem q328 : (Jvm.Cond.soleField "CouncilStore$States" "before") ∈ lw_all := lw_g (lw_at lw_m1 228 rfl) rfl
theorem q329 : (Jvm.Cond.laysFinal "CouncilStore$States" "CouncilStore$States" "made" "LCouncilStore$Ints;") ∈ lw_all := lw_g (lw_at lw_m1 229 rfl) rfl
theorem q330 : (Jvm.Cond.soleField "CouncilStore$States" "made") ∈ lw_all := lw_g (lw_at lw_m1 230 rfl) rfl
theorem q331 : (Jvm.Cond.laysFinal "CouncilStore$States" "CouncilStore$States" "revisions" "LCouncilStore$Ints;") ∈ lw_all := lw_g (lw_at lw_m1 231 rfl) rfl
theorem q332 : (Jvm.Cond.soleField "CouncilStore$States" "revisions") ∈ lw_all := lw_g (lw_at lw_m1 232 rfl) rfl
theorem q333 : (Jvm.Cond.laysFinal "CouncilStore$States" "CouncilStore$States" "outcomes" "LCouncilStore$Ints;") ∈ lw_all := lw_g (lw_at lw_m1 233 rfl) rfl
theorem q334 : (Jvm.Cond.soleField "CouncilStore$States" "outcomes") ∈ lw_all := lw_g (lw_at lw_m1 234 rfl) rfl
theorem q335 : (Jvm.Cond.laysFinal "CouncilStore$States" "CouncilStore$States" "deleted" "LCouncilStore$Ints;") ∈ lw_all := lw_g (lw_at lw_m1 235 rfl) rfl
theorem q336 : (Jvm.Cond.soleField "CouncilStore$States" "deleted") ∈ lw_all := lw_g (lw_at lw_m1 236 rfl) rfl
theorem q337 : (Jvm.Cond.laysFinal "CouncilStore$States" "CouncilStore$States" "counts" "LCouncilStore$Ints;") ∈ lw_all := lw_g (lw_at lw_m1 237 rfl) rfl
theorem q338 : (Jvm.Cond.soleField "CouncilStore$States" "counts") ∈ lw_all := lw_g (lw_at lw_m1 238 rfl) rfl
theorem q339 : (Jvm.Cond.laysFinal "CouncilStore$States" "CouncilStore$States" "leaseRows" "LCouncilStore$Ints;") ∈ lw_all := lw_g (lw_at lw_m1 239 rfl) rfl
theorem q340 : (Jvm.Cond.soleField "CouncilStore$States" "leaseRows") ∈ lw_all := lw_g (lw_at lw_m2 0 rfl) rfl
theorem q341 : (Jvm.Cond.laysFinal "CouncilStore$States" "CouncilStore$States" "changeEnds" "LCouncilStore$Ints;") ∈ lw_all := lw_g (lw_at lw_m2 1 rfl) rfl
theorem q342 : (Jvm.Cond.soleField "CouncilStore$States" "changeEnds") ∈ lw_all := lw_g (lw_at lw_m2 2 rfl) rfl
theorem q343 : (Jvm.Cond.laysFinal "CouncilStore$States" "CouncilStore$States" "changes" "LCouncilStore$Pairs;") ∈ lw_all := lw_g (lw_at lw_m2 3 rfl) rfl
theorem q344 : (Jvm.Cond.soleField "CouncilStore$States" "changes") ∈ lw_all := lw_g (lw_at lw_m2 4 rfl) rfl
theorem q345 : (Jvm.Cond.laysFinal "CouncilStore$States" "CouncilStore$States" "youngest" "LCouncilStore$Ints;") ∈ lw_all := lw_g (lw_at lw_m2 5 rfl) rfl
theorem q346 : (Jvm.Cond.soleField "CouncilStore$States" "youngest") ∈ lw_all := lw_g (lw_at lw_m2 6 rfl) rfl
theorem q347 : (Jvm.Cond.laysFinal "CouncilStore$States" "CouncilStore$States" "older" "LCouncilStore$Ints;") ∈ lw_all := lw_g (lw_at lw_m2 7 rfl) rfl
theorem q348 : (Jvm.Cond.soleField "CouncilStore$States" "older") ∈ lw_all := lw_g (lw_at lw_m2 8 rfl) rfl
theorem q349 : (Jvm.Cond.laysFinal "CouncilStore$States" "CouncilStore$States" "work" "LCouncilStore$Pairs;") ∈ lw_all := lw_g (lw_at lw_m2 9 rfl) rfl
theorem q350 : (Jvm.Cond.soleField "CouncilStore$States" "work") ∈ lw_all := lw_g (lw_at lw_m2 10 rfl) rfl
theorem q351 : (Jvm.Cond.laysFinal "CouncilStore$States" "CouncilStore$States" "seen" "LCouncilStore$Pair;") ∈ lw_all := lw_g (lw_at lw_m2 11 rfl) rfl
theorem q352 : (Jvm.Cond.soleField "CouncilStore$States" "seen") ∈ lw_all := lw_g (lw_at lw_m2 12 rfl) rfl
theorem q353 : (Jvm.Cond.laysFinal "CouncilStore$States" "CouncilStore$States" "leases" "[I") ∈ lw_all := lw_g (lw_at lw_m2 13 rfl) rfl
theorem q354 : (Jvm.Cond.soleField "CouncilStore$States" "leases") ∈ lw_all := lw_g (lw_at lw_m2 14 rfl) rfl
theorem q355 : (Jvm.Cond.lays "CouncilStore$States" "CouncilStore$States" "gone" "I") ∈ lw_all := lw_g (lw_at lw_m2 15 rfl) rfl
theorem q356 : (Jvm.Cond.soleField "CouncilStore$States" "gone") ∈ lw_all := lw_g (lw_at lw_m2 16 rfl) rfl
theorem q357 : (Jvm.Cond.lays "CouncilStore$States" "CouncilStore$States" "touched" "Z") ∈ lw_all := lw_g (lw_at lw_m2 17 rfl) rfl
theorem q358 : (Jvm.Cond.soleField "CouncilStore$States" "touched") ∈ lw_all := lw_g (lw_at lw_m2 18 rfl) rfl
theorem q359 : (Jvm.Cond.laysFinal "CouncilStore$States" "CouncilStore$States" "doomed" "LCouncilStore$Pairs;") ∈ lw_all := lw_g (lw_at lw_m2 19 rfl) rfl
theorem q360 : (Jvm.Cond.soleField "CouncilStore$States" "doomed") ∈ lw_all := lw_g (lw_at lw_m2 20 rfl) rfl
theorem q361 : (Jvm.Cond.lays "CouncilStore$States" "CouncilStore$States" "zero" "I") ∈ lw_all := lw_g (lw_at lw_m2 21 rfl) rfl
theorem q362 : (Jvm.Cond.soleField "CouncilStore$States" "zero") ∈ lw_all := lw_g (lw_at lw_m2 22 rfl) rfl
theorem q363 : (Jvm.Cond.superclass "CouncilStore$States" "java/lang/Object") ∈ lw_all := lw_g (lw_at lw_m2 23 rfl) rfl
theorem q654 : (Jvm.Cond.instanceMethod ({ cls := "CouncilStore$States", name := "clear", desc := "()V" } : Jvm.MethodName)) ∈ lw_all := lw_g (lw_at lw_m3 74 rfl) rfl
theorem q655 : (Jvm.Cond.selects "CouncilStore$States" ({ cls := "CouncilStore$States", name := "clear", desc := "()V" } : Jvm.MethodName) ({ cls := "CouncilStore$States", name := "clear", desc := "()V" } : Jvm.MethodName)) ∈ lw_all := lw_g (lw_at lw_m3 75 rfl) rfl
theorem q656 : (Jvm.Cond.code ({ cls := "CouncilStore$States", name := "clear", desc := "()V" } : Jvm.MethodName) prog_16_method_2_code (2 : Nat) (Option.none : Option Jvm.ClassFile.FieldType)) ∈ lw_all := lw_g (lw_at lw_m3 76 rfl) rfl
theorem q657 : (Jvm.Cond.methodLink "CouncilStore$States" (73 : Nat) ({ cls := "CouncilStore$Ints", name := "clear", desc := "()V" } : Jvm.MethodName)) ∈ lw_all := lw_g (lw_at lw_m3 77 rfl) rfl
theorem q658 : (Jvm.Cond.methodLink "CouncilStore$States" (76 : Nat) ({ cls := "CouncilStore$Pairs", name := "clear", desc := "()V" } : Jvm.MethodName)) ∈ lw_all := lw_g (lw_at lw_m3 78 rfl) rfl
theorem q662 : (Jvm.Cond.methodLink "CouncilStore$States" (77 : Nat) ({ cls := "CouncilStore$States", name := "enter", desc := "(IIIIII)I" } : Jvm.MethodName)) ∈ lw_all := lw_g (lw_at lw_m3 82 rfl) rfl
theorem q663 : (Jvm.Cond.privateMethod ({ cls := "CouncilStore$States", name := "enter", desc := "(IIIIII)I" } : Jvm.MethodName)) ∈ lw_tbl := lw_at lw_m3 83 rfl
theorem q664 : (Jvm.Cond.instanceMethod ({ cls := "CouncilStore$States", name := "enter", desc := "(IIIIII)I" } : Jvm.MethodName)) ∈ lw_all := lw_g (lw_at lw_m3 84 rfl) rfl
theorem q665 : (Jvm.Cond.code ({ cls := "CouncilStore$States", name := "enter", desc := "(IIIIII)I" } : Jvm.MethodName) prog_16_method_3_code (9 : Nat) (Option.some Jvm.ClassFile.FieldType.int)) ∈ lw_all := lw_g (lw_at lw_m3 85 rfl) rfl
theorem q666 : (Jvm.Cond.methodLink "CouncilStore$States" (85 : Nat) ({ cls := "CouncilStore$Ints", name := "add", desc := "(I)V" } : Jvm.MethodName)) ∈ lw_all := lw_g (lw_at lw_m3 86 rfl) rfl
theorem q667 : (Jvm.Cond.methodLink "CouncilStore$States" (89 : Nat) ({ cls := "CouncilStore$Ints", name := "get", desc := "(I)I" } : Jvm.MethodName)) ∈ lw_all := lw_g (lw_at lw_m3 87 rfl) rfl
theorem q671 : (Jvm.Cond.methodLink "CouncilStore$States" (93 : Nat) ({ cls := "CouncilStore$Ints", name := "set", desc := "(II)V" } : Jvm.MethodName)) ∈ lw_all := lw_g (lw_at lw_m3 91 rfl) rfl
theorem q689 : (Jvm.Cond.instanceMethod ({ cls := "CouncilStore$States", name := "zero", desc := "(I)V" } : Jvm.MethodName)) ∈ lw_all := lw_g (lw_at lw_m3 109 rfl) rfl
theorem q690 : (Jvm.Cond.selects "CouncilStore$States" ({ cls := "CouncilStore$States", name := "zero", desc := "(I)V" } : Jvm.MethodName) ({ cls := "CouncilStore$States", name := "zero", desc := "(I)V" } : Jvm.MethodName)) ∈ lw_all := lw_g (lw_at lw_m3 110 rfl) rfl
theorem q691 : (Jvm.Cond.code ({ cls := "CouncilStore$States", name := "zero", desc := "(I)V" } : Jvm.MethodName) prog_16_method_27_code (2 : Nat) (Option.none : Option Jvm.ClassFile.FieldType)) ∈ lw_all := lw_g (lw_at lw_m3 111 rfl) rfl
theorem q1281 : (Jvm.Cond.instanceMethod ({ cls := "CouncilStore$States", name := "apply", desc := "(II)I" } : Jvm.MethodName)) ∈ lw_all := lw_g (lw_at lw_m5 221 rfl) rfl
theorem q1282 : (Jvm.Cond.selects "CouncilStore$States" ({ cls := "CouncilStore$States", name := "apply", desc := "(II)I" } : Jvm.MethodName) ({ cls := "CouncilStore$States", name := "apply", desc := "(II)I" } : Jvm.MethodName)) ∈ lw_all := lw_g (lw_at lw_m5 222 rfl) rfl
theorem q1283 : (Jvm.Cond.code ({ cls := "CouncilStore$States", name := "apply", desc := "(II)I" } : Jvm.MethodName) prog_16_method_21_code (7 : Nat) (Option.some Jvm.ClassFile.FieldType.int)) ∈ lw_all := lw_g (lw_at lw_m5 223 rfl) rfl
theorem q1284 : (Jvm.Cond.methodLink "CouncilStore$States" (164 : Nat) ({ cls := "CouncilStore$Commands", name := "begin", desc := "(II)I" } : Jvm.MethodName)) ∈ lw_all := lw_g (lw_at lw_m5 224 rfl) rfl
theorem q1288 : (Jvm.Cond.methodLink "CouncilStore$States" (167 : Nat) ({ cls := "CouncilStore$Commands", name := "end", desc := "(II)I" } : Jvm.MethodName)) ∈ lw_all := lw_g (lw_at lw_m5 228 rfl) rfl
theorem q1292 : (Jvm.Cond.methodLink "CouncilStore$States" (170 : Nat) ({ cls := "CouncilStore$States", name := "holds", desc := "(II)Z" } : Jvm.MethodName)) ∈ lw_all := lw_g (lw_at lw_m5 232 rfl) rfl
theorem q1293 : (Jvm.Cond.privateMethod ({ cls := "CouncilStore$States", name := "holds", desc := "(II)Z" } : Jvm.MethodName)) ∈ lw_tbl := lw_at lw_m5 233 rfl
theorem q1294 : (Jvm.Cond.instanceMethod ({ cls := "CouncilStore$States", name := "holds", desc := "(II)Z" } : Jvm.MethodName)) ∈ lw_all := lw_g (lw_at lw_m5 234 rfl) rfl
theorem q1295 : (Jvm.Cond.code ({ cls := "CouncilStore$States", name := "holds", desc := "(II)Z" } : Jvm.MethodName) prog_16_method_18_code (8 : Nat) (Option.some Jvm.ClassFile.FieldType.boolean)) ∈ lw_all := lw_g (lw_at lw_m5 235 rfl) rfl
theorem q1296 : (Jvm.Cond.methodLink "CouncilStore$States" (147 : Nat) ({ cls := "CouncilStore$Commands", name := "get", desc := "(I)I" } : Jvm.MethodName)) ∈ lw_all := lw_g (lw_at lw_m5 236 rfl) rfl
theorem q1300 : (Jvm.Cond.methodLink "CouncilStore$States" (148 : Nat) ({ cls := "CouncilStore$States", name := "find", desc := "(III)LCouncilStore$Pair;" } : Jvm.MethodName)) ∈ lw_all := lw_g (lw_at lw_m6 0 rfl) rfl
theorem q1301 : (Jvm.Cond.instanceMethod ({ cls := "CouncilStore$States", name := "find", desc := "(III)LCouncilStore$Pair;" } : Jvm.MethodName)) ∈ lw_all := lw_g (lw_at lw_m6 1 rfl) rfl
theorem q1302 : (Jvm.Cond.selects "CouncilStore$States" ({ cls := "CouncilStore$States", name := "find", desc := "(III)LCouncilStore$Pair;" } : Jvm.MethodName) ({ cls := "CouncilStore$States", name := "find", desc := "(III)LCouncilStore$Pair;" } : Jvm.MethodName)) ∈ lw_all := lw_g (lw_at lw_m6 2 rfl) rfl
theorem q1303 : (Jvm.Cond.code ({ cls := "CouncilStore$States", name := "find", desc := "(III)LCouncilStore$Pair;" } : Jvm.MethodName) prog_16_method_14_code (10 : Nat) (Option.some (Jvm.ClassFile.FieldType.object "CouncilStore$Pair"))) ∈ lw_all := lw_g (lw_at lw_m6 3 rfl) rfl
theorem q1304 : (Jvm.Cond.methodLink "CouncilStore$States" (101 : Nat) ({ cls := "CouncilStore$States", name := "changeFrom", desc := "(I)I" } : Jvm.MethodName)) ∈ lw_all := lw_g (lw_at lw_m6 4 rfl) rfl
theorem q1305 : (Jvm.Cond.privateMethod ({ cls := "CouncilStore$States", name := "changeFrom", desc := "(I)I" } : Jvm.MethodName)) ∈ lw_tbl := lw_at lw_m6 5 rfl
theorem q1306 : (Jvm.Cond.instanceMethod ({ cls := "CouncilStore$States", name := "changeFrom", desc := "(I)I" } : Jvm.MethodName)) ∈ lw_all := lw_g (lw_at lw_m6 6 rfl) rfl
theorem q1307 : (Jvm.Cond.code ({ cls := "CouncilStore$States", name := "changeFrom", desc := "(I)I" } : Jvm.MethodName) prog_16_method_9_code (2 : Nat) (Option.some Jvm.ClassFile.FieldType.int)) ∈ lw_all := lw_g (lw_at lw_m6 7 rfl) rfl
theorem q1308 : (Jvm.Cond.methodLink "CouncilStore$States" (104 : Nat) ({ cls := "CouncilStore$Pairs", name := "get", desc := "(I)LCouncilStore$Pair;" } : Jvm.MethodName)) ∈ lw_all := lw_g (lw_at lw_m6 8 rfl) rfl
theorem q1312 : (Jvm.Cond.methodLink "CouncilStore$States" (119 : Nat) ({ cls := "CouncilStore$Bytes", name := "compare", desc := "(IIII)I" } : Jvm.MethodName)) ∈ lw_all := lw_g (lw_at lw_m6 12 rfl) rfl
theorem q1320 : (Jvm.Cond.methodLink "CouncilStore$States" (180 : Nat) ({ cls := "CouncilStore$States", name := "step", desc := "(II)Z" } : Jvm.MethodName)) ∈ lw_all := lw_g (lw_at lw_m6 20 rfl) rfl
theorem q1321 : (Jvm.Cond.privateMethod ({ cls := "CouncilStore$States", name := "step", desc := "(II)Z" } : Jvm.MethodName)) ∈ lw_tbl := lw_at lw_m6 21 rfl
theorem q1322 : (Jvm.Cond.instanceMethod ({ cls := "CouncilStore$States", name := "step", desc := "(II)Z" } : Jvm.MethodName)) ∈ lw_all := lw_g (lw_at lw_m6 22 rfl) rfl
theorem q1323 : (Jvm.Cond.code ({ cls := "CouncilStore$States", name := "step", desc := "(II)Z" } : Jvm.MethodName) prog_16_method_23_code (6 : Nat) (Option.some Jvm.ClassFile.FieldType.boolean)) ∈ lw_all := lw_g (lw_at lw_m6 23 rfl) rfl
theorem q1324 : (Jvm.Cond.methodLink "CouncilStore$States" (187 : Nat) ({ cls := "CouncilStore$States", name := "put", desc := "(III)Z" } : Jvm.MethodName)) ∈ lw_all := lw_g (lw_at lw_m6 24 rfl) rfl
theorem q1325 : (Jvm.Cond.privateMethod ({ cls := "CouncilStore$States", name := "put", desc := "(III)Z" } : Jvm.MethodName)) ∈ lw_tbl := lw_at lw_m6 25 rfl
theorem q1326 : (Jvm.Cond.instanceMethod ({ cls := "CouncilStore$States", name := "put", desc := "(III)Z" } : Jvm.MethodName)) ∈ lw_all := lw_g (lw_at lw_m6 26 rfl) rfl
theorem q1327 : (Jvm.Cond.code ({ cls := "CouncilStore$States", name := "put", desc := "(III)Z" } : Jvm.MethodName) prog_16_method_25_code (6 : Nat) (Option.some Jvm.ClassFile.FieldType.boolean)) ∈ lw_all := lw_g (lw_at lw_m6 27 rfl) rfl
theorem q1328 : (Jvm.Cond.methodLink "CouncilStore$States" (195 : Nat) ({ cls := "CouncilStore$States", name := "hasLease", desc := "(I)Z" } : Jvm.MethodName)) ∈ lw_all := lw_g (lw_at lw_m6 28 rfl) rfl
theorem q1329 : (Jvm.Cond.privateMethod ({ cls := "CouncilStore$States", name := "hasLease", desc := "(I)Z" } : Jvm.MethodName)) ∈ lw_tbl := lw_at lw_m6 29 rfl
theorem q1330 : (Jvm.Cond.instanceMethod ({ cls := "CouncilStore$States", name := "hasLease", desc := "(I)Z" } : Jvm.MethodName)) ∈ lw_all := lw_g (lw_at lw_m6 30 rfl) rfl
theorem q1331 : (Jvm.Cond.code ({ cls := "CouncilStore$States", name := "hasLease", desc := "(I)Z" } : Jvm.MethodName) prog_16_method_19_code (2 : Nat) (Option.some Jvm.ClassFile.FieldType.boolean)) ∈ lw_all := lw_g (lw_at lw_m6 31 rfl) rfl
theorem q1332 : (Jvm.Cond.methodLink "CouncilStore$States" (202 : Nat) ({ cls := "CouncilStore$States", name := "now", desc := "(III)Z" } : Jvm.MethodName)) ∈ lw_all := lw_g (lw_at lw_m6 32 rfl) rfl
theorem q1333 : (Jvm.Cond.privateMethod ({ cls := "CouncilStore$States", name := "now", desc := "(III)Z" } : Jvm.MethodName)) ∈ lw_tbl := lw_at lw_m6 33 rfl
theorem q1334 : (Jvm.Cond.instanceMethod ({ cls := "CouncilStore$States", name := "now", desc := "(III)Z" } : Jvm.MethodName)) ∈ lw_all := lw_g (lw_at lw_m6 34 rfl) rfl
theorem q1335 : (Jvm.Cond.code ({ cls := "CouncilStore$States", name := "now", desc := "(III)Z" } : Jvm.MethodName) prog_16_method_24_code (6 : Nat) (Option.some Jvm.ClassFile.FieldType.boolean)) ∈ lw_all := lw_g (lw_at lw_m6 35 rfl) rfl
theorem q1336 : (Jvm.Cond.methodLink "CouncilStore$States" (137 : Nat) ({ cls := "CouncilStore$Pair", name := "copy", desc := "(LCouncilStore$Pair;)V" } : Jvm.MethodName)) ∈ lw_all := lw_g (lw_at lw_m6 36 rfl) rfl
theorem q1340 : (Jvm.Cond.methodLink "CouncilStore$States" (133 : Nat) ({ cls := "CouncilStore$States", name := "place", desc := "(LCouncilStore$Pairs;LCouncilStore$Pair;Z)LCouncilStore$Pair;" } : Jvm.MethodName)) ∈ lw_all := lw_g (lw_at lw_m6 40 rfl) rfl
theorem q1341 : (Jvm.Cond.privateMethod ({ cls := "CouncilStore$States", name := "place", desc := "(LCouncilStore$Pairs;LCouncilStore$Pair;Z)LCouncilStore$Pair;" } : Jvm.MethodName)) ∈ lw_tbl := lw_at lw_m6 41 rfl
theorem q1342 : (Jvm.Cond.instanceMethod ({ cls := "CouncilStore$States", name := "place", desc := "(LCouncilStore$Pairs;LCouncilStore$Pair;Z)LCouncilStore$Pair;" } : Jvm.MethodName)) ∈ lw_all := lw_g (lw_at lw_m6 42 rfl) rfl
theorem q1343 : (Jvm.Cond.code ({ cls := "CouncilStore$States", name := "place", desc := "(LCouncilStore$Pairs;LCouncilStore$Pair;Z)LCouncilStore$Pair;" } : Jvm.MethodName) prog_16_method_17_code (9 : Nat) (Option.some (Jvm.ClassFile.FieldType.object "CouncilStore$Pair"))) ∈ lw_all := lw_g (lw_at lw_m6 43 rfl) rfl
theorem q1344 : (Jvm.Cond.methodLink "CouncilStore$States" (144 : Nat) ({ cls := "CouncilStore$Pairs", name := "add", desc := "()LCouncilStore$Pair;" } : Jvm.MethodName)) ∈ lw_all := lw_g (lw_at lw_m6 44 rfl) rfl
theorem q1349 : (Jvm.Cond.methodLink "CouncilStore$States" (191 : Nat) ({ cls := "CouncilStore$States", name := "delete", desc := "(IIIIII)V" } : Jvm.MethodName)) ∈ lw_all := lw_g (lw_at lw_m6 49 rfl) rfl
theorem q1350 : (Jvm.Cond.privateMethod ({ cls := "CouncilStore$States", name := "delete", desc := "(IIIIII)V" } : Jvm.MethodName)) ∈ lw_tbl := lw_at lw_m6 50 rfl
theorem q1351 : (Jvm.Cond.instanceMethod ({ cls := "CouncilStore$States", name := "delete", desc := "(IIIIII)V" } : Jvm.MethodName)) ∈ lw_all := lw_g (lw_at lw_m6 51 rfl) rfl
theorem q1352 : (Jvm.Cond.code ({ cls := "CouncilStore$States", name := "delete", desc := "(IIIIII)V" } : Jvm.MethodName) prog_16_method_26_code (9 : Nat) (Option.none : Option Jvm.ClassFile.FieldType)) ∈ lw_all := lw_g (lw_at lw_m6 52 rfl) rfl
theorem q1353 : (Jvm.Cond.methodLink "CouncilStore$States" (211 : Nat) ({ cls := "CouncilStore$States", name := "range", desc := "(IIIIILCouncilStore$Pairs;)V" } : Jvm.MethodName)) ∈ lw_all := lw_g (lw_at lw_m6 53 rfl) rfl
theorem q1354 : (Jvm.Cond.instanceMethod ({ cls := "CouncilStore$States", name := "range", desc := "(IIIIILCouncilStore$Pairs;)V" } : Jvm.MethodName)) ∈ lw_all := lw_g (lw_at lw_m6 54 rfl) rfl
theorem q1355 : (Jvm.Cond.selects "CouncilStore$States" ({ cls := "CouncilStore$States", name := "range", desc := "(IIIIILCouncilStore$Pairs;)V" } : Jvm.MethodName) ({ cls := "CouncilStore$States", name := "range", desc := "(IIIIILCouncilStore$Pairs;)V" } : Jvm.MethodName)) ∈ lw_all := lw_g (lw_at lw_m6 55 rfl) rfl
theorem q1356 : (Jvm.Cond.code ({ cls := "CouncilStore$States", name := "range", desc := "(IIIIILCouncilStore$Pairs;)V" } : Jvm.MethodName) prog_16_method_15_code (10 : Nat) (Option.none : Option Jvm.ClassFile.FieldType)) ∈ lw_all := lw_g (lw_at lw_m6 56 rfl) rfl
theorem q1357 : (Jvm.Cond.methodLink "CouncilStore$States" (129 : Nat) ({ cls := "CouncilStore$States", name := "isIn", desc := "(LCouncilStore$Pair;IIII)Z" } : Jvm.MethodName)) ∈ lw_all := lw_g (lw_at lw_m6 57 rfl) rfl
theorem q1358 : (Jvm.Cond.privateMethod ({ cls := "CouncilStore$States", name := "isIn", desc := "(LCouncilStore$Pair;IIII)Z" } : Jvm.MethodName)) ∈ lw_tbl := lw_at lw_m6 58 rfl
theorem q1359 : (Jvm.Cond.instanceMethod ({ cls := "CouncilStore$States", name := "isIn", desc := "(LCouncilStore$Pair;IIII)Z" } : Jvm.MethodName)) ∈ lw_all := lw_g (lw_at lw_m6 59 rfl) rfl
theorem q1360 : (Jvm.Cond.code ({ cls := "CouncilStore$States", name := "isIn", desc := "(LCouncilStore$Pair;IIII)Z" } : Jvm.MethodName) prog_16_method_16_code (8 : Nat) (Option.some Jvm.ClassFile.FieldType.boolean)) ∈ lw_all := lw_g (lw_at lw_m6 60 rfl) rfl
theorem q1361 : (Jvm.Cond.methodLink "CouncilStore$States" (199 : Nat) ({ cls := "CouncilStore$States", name := "turnLease", desc := "(I)V" } : Jvm.MethodName)) ∈ lw_all := lw_g (lw_at lw_m6 61 rfl) rfl
theorem q1362 : (Jvm.Cond.privateMethod ({ cls := "CouncilStore$States", name := "turnLease", desc := "(I)V" } : Jvm.MethodName)) ∈ lw_tbl := lw_at lw_m6 62 rfl
theorem q1363 : (Jvm.Cond.instanceMethod ({ cls := "CouncilStore$States", name := "turnLease", desc := "(I)V" } : Jvm.MethodName)) ∈ lw_all := lw_g (lw_at lw_m6 63 rfl) rfl
theorem q1364 : (Jvm.Cond.code ({ cls := "CouncilStore$States", name := "turnLease", desc := "(I)V" } : Jvm.MethodName) prog_16_method_20_code (2 : Nat) (Option.none : Option Jvm.ClassFile.FieldType)) ∈ lw_all := lw_g (lw_at lw_m6 64 rfl) rfl
theorem q1365 : (Jvm.Cond.methodLink "CouncilStore$States" (183 : Nat) ({ cls := "CouncilStore$States", name := "finish", desc := "(IIZZ)I" } : Jvm.MethodName)) ∈ lw_all := lw_g (lw_at lw_m6 65 rfl) rfl
theorem q1366 : (Jvm.Cond.privateMethod ({ cls := "CouncilStore$States", name := "finish", desc := "(IIZZ)I" } : Jvm.MethodName)) ∈ lw_tbl := lw_at lw_m6 66 rfl
theorem q1367 : (Jvm.Cond.instanceMethod ({ cls := "CouncilStore$States", name := "finish", desc := "(IIZZ)I" } : Jvm.MethodName)) ∈ lw_all := lw_g (lw_at lw_m6 67 rfl) rfl
theorem q1368 : (Jvm.Cond.code ({ cls := "CouncilStore$States", name := "finish", desc := "(IIZZ)I" } : Jvm.MethodName) prog_16_method_22_code (10 : Nat) (Option.some Jvm.ClassFile.FieldType.int)) ∈ lw_all := lw_g (lw_at lw_m6 68 rfl) rfl
theorem q1457 : (Jvm.Cond.instanceMethod ({ cls := "CouncilStore$States", name := "revision", desc := "(I)I" } : Jvm.MethodName)) ∈ lw_all := lw_g (lw_at lw_m6 157 rfl) rfl
theorem q1458 : (Jvm.Cond.selects "CouncilStore$States" ({ cls := "CouncilStore$States", name := "revision", desc := "(I)I" } : Jvm.MethodName) ({ cls := "CouncilStore$States", name := "revision", desc := "(I)I" } : Jvm.MethodName)) ∈ lw_all := lw_g (lw_at lw_m6 158 rfl) rfl
theorem q1459 : (Jvm.Cond.code ({ cls := "CouncilStore$States", name := "revision", desc := "(I)I" } : Jvm.MethodName) prog_16_method_4_code (2 : Nat) (Option.some Jvm.ClassFile.FieldType.int)) ∈ lw_all := lw_g (lw_at lw_m6 159 rfl) rfl
theorem q1559 : (Jvm.Cond.instanceMethod ({ cls := "CouncilStore$States", name := "at", desc := "(II)I" } : Jvm.MethodName)) ∈ lw_all := lw_g (lw_at lw_m7 19 rfl) rfl
theorem q1560 : (Jvm.Cond.selects "CouncilStore$States" ({ cls := "CouncilStore$States", name := "at", desc := "(II)I" } : Jvm.MethodName) ({ cls := "CouncilStore$States", name := "at", desc := "(II)I" } : Jvm.MethodName)) ∈ lw_all := lw_g (lw_at lw_m7 20 rfl) rfl
theorem q1561 : (Jvm.Cond.code ({ cls := "CouncilStore$States", name := "at", desc := "(II)I" } : Jvm.MethodName) prog_16_method_10_code (4 : Nat) (Option.some Jvm.ClassFile.FieldType.int)) ∈ lw_all := lw_g (lw_at lw_m7 21 rfl) rfl
theorem q1585 : (Jvm.Cond.instanceMethod ({ cls := "CouncilStore$States", name := "maker", desc := "(II)I" } : Jvm.MethodName)) ∈ lw_all := lw_g (lw_at lw_m7 45 rfl) rfl
theorem q1586 : (Jvm.Cond.selects "CouncilStore$States" ({ cls := "CouncilStore$States", name := "maker", desc := "(II)I" } : Jvm.MethodName) ({ cls := "CouncilStore$States", name := "maker", desc := "(II)I" } : Jvm.MethodName)) ∈ lw_all := lw_g (lw_at lw_m7 46 rfl) rfl
theorem q1587 : (Jvm.Cond.code ({ cls := "CouncilStore$States", name := "maker", desc := "(II)I" } : Jvm.MethodName) prog_16_method_11_code (4 : Nat) (Option.some Jvm.ClassFile.FieldType.int)) ∈ lw_all := lw_g (lw_at lw_m7 47 rfl) rfl
theorem q1588 : (Jvm.Cond.methodLink "CouncilStore$States" (97 : Nat) ({ cls := "CouncilStore$States", name := "at", desc := "(II)I" } : Jvm.MethodName)) ∈ lw_all := lw_g (lw_at lw_m7 48 rfl) rfl
theorem q1590 : (Jvm.Cond.instanceMethod ({ cls := "CouncilStore$States", name := "changes", desc := "(I)I" } : Jvm.MethodName)) ∈ lw_all := lw_g (lw_at lw_m7 50 rfl) rfl
theorem q1591 : (Jvm.Cond.selects "CouncilStore$States" ({ cls := "CouncilStore$States", name := "changes", desc := "(I)I" } : Jvm.MethodName) ({ cls := "CouncilStore$States", name := "changes", desc := "(I)I" } : Jvm.MethodName)) ∈ lw_all := lw_g (lw_at lw_m7 51 rfl) rfl
theorem q1592 : (Jvm.Cond.code ({ cls := "CouncilStore$States", name := "changes", desc := "(I)I" } : Jvm.MethodName) prog_16_method_12_code (2 : Nat) (Option.some Jvm.ClassFile.FieldType.int)) ∈ lw_all := lw_g (lw_at lw_m7 52 rfl) rfl
theorem q1594 : (Jvm.Cond.instanceMethod ({ cls := "CouncilStore$States", name := "change", desc := "(II)LCouncilStore$Pair;" } : Jvm.MethodName)) ∈ lw_all := lw_g (lw_at lw_m7 54 rfl) rfl
theorem q1595 : (Jvm.Cond.selects "CouncilStore$States" ({ cls := "CouncilStore$States", name := "change", desc := "(II)LCouncilStore$Pair;" } : Jvm.MethodName) ({ cls := "CouncilStore$States", name := "change", desc := "(II)LCouncilStore$Pair;" } : Jvm.MethodName)) ∈ lw_all := lw_g (lw_at lw_m7 55 rfl) rfl
theorem q1596 : (Jvm.Cond.code ({ cls := "CouncilStore$States", name := "change", desc := "(II)LCouncilStore$Pair;" } : Jvm.MethodName) prog_16_method_13_code (3 : Nat) (Option.some (Jvm.ClassFile.FieldType.object "CouncilStore$Pair"))) ∈ lw_all := lw_g (lw_at lw_m7 56 rfl) rfl
theorem q1620 : (Jvm.Cond.instanceMethod ({ cls := "CouncilStore$States", name := "outcome", desc := "(I)I" } : Jvm.MethodName)) ∈ lw_all := lw_g (lw_at lw_m7 80 rfl) rfl
theorem q1621 : (Jvm.Cond.selects "CouncilStore$States" ({ cls := "CouncilStore$States", name := "outcome", desc := "(I)I" } : Jvm.MethodName) ({ cls := "CouncilStore$States", name := "outcome", desc := "(I)I" } : Jvm.MethodName)) ∈ lw_all := lw_g (lw_at lw_m7 81 rfl) rfl
theorem q1622 : (Jvm.Cond.code ({ cls := "CouncilStore$States", name := "outcome", desc := "(I)I" } : Jvm.MethodName) prog_16_method_5_code (2 : Nat) (Option.some Jvm.ClassFile.FieldType.int)) ∈ lw_all := lw_g (lw_at lw_m7 82 rfl) rfl
theorem q1624 : (Jvm.Cond.instanceMethod ({ cls := "CouncilStore$States", name := "deleted", desc := "(I)I" } : Jvm.MethodName)) ∈ lw_all := lw_g (lw_at lw_m7 84 rfl) rfl
theorem q1625 : (Jvm.Cond.selects "CouncilStore$States" ({ cls := "CouncilStore$States", name := "deleted", desc := "(I)I" } : Jvm.MethodName) ({ cls := "CouncilStore$States", name := "deleted", desc := "(I)I" } : Jvm.MethodName)) ∈ lw_all := lw_g (lw_at lw_m7 85 rfl) rfl
theorem q1626 : (Jvm.Cond.code ({ cls := "CouncilStore$States", name := "deleted", desc := "(I)I" } : Jvm.MethodName) prog_16_method_6_code (2 : Nat) (Option.some Jvm.ClassFile.FieldType.int)) ∈ lw_all := lw_g (lw_at lw_m7 86 rfl) rfl
theorem q1652 : (Jvm.Cond.instanceMethod ({ cls := "CouncilStore$States", name := "count", desc := "(I)I" } : Jvm.MethodName)) ∈ lw_all := lw_g (lw_at lw_m7 112 rfl) rfl
theorem q1653 : (Jvm.Cond.selects "CouncilStore$States" ({ cls := "CouncilStore$States", name := "count", desc := "(I)I" } : Jvm.MethodName) ({ cls := "CouncilStore$States", name := "count", desc := "(I)I" } : Jvm.MethodName)) ∈ lw_all := lw_g (lw_at lw_m7 113 rfl) rfl
theorem q1654 : (Jvm.Cond.code ({ cls := "CouncilStore$States", name := "count", desc := "(I)I" } : Jvm.MethodName) prog_16_method_7_code (2 : Nat) (Option.some Jvm.ClassFile.FieldType.int)) ∈ lw_all := lw_g (lw_at lw_m7 114 rfl) rfl
theorem q1657 : (Jvm.Cond.instanceMethod ({ cls := "CouncilStore$States", name := "leases", desc := "(I)I" } : Jvm.MethodName)) ∈ lw_all := lw_g (lw_at lw_m7 117 rfl) rfl
theorem q1658 : (Jvm.Cond.selects "CouncilStore$States" ({ cls := "CouncilStore$States", name := "leases", desc := "(I)I" } : Jvm.MethodName) ({ cls := "CouncilStore$States", name := "leases", desc := "(I)I" } : Jvm.MethodName)) ∈ lw_all := lw_g (lw_at lw_m7 118 rfl) rfl
theorem q1659 : (Jvm.Cond.code ({ cls := "CouncilStore$States", name := "leases", desc := "(I)I" } : Jvm.MethodName) prog_16_method_8_code (5 : Nat) (Option.some Jvm.ClassFile.FieldType.int)) ∈ lw_all := lw_g (lw_at lw_m7 119 rfl) rfl
theorem in_X7 : ∀ w ∈ wsX70, w ∈ lw_all := lw_in wsX70 [325, 327, 329, 331, 333, 335, 337, 339, 341, 343, 345, 347, 349, 351, 353, 355, 357, 359, 361] (by decide +kernel) (by decide +kernel)
/-! CouncilStore$Pairs -/
def RX8 : String := "CouncilStore$Pairs"
def TX8 : u_T := fun k => match k with
  | 0 => ("CouncilStore$Pairs", "at", "[LCouncilStore$Pair;", false)
  | _ => ("CouncilStore$Pairs", "size", "I", false)
def tyX8 : Nat → FieldType := fun k => match k with
  | 0 => .array (.object "CouncilStore$Pair")
  | _ => .int
abbrev wsX80 : List Cond := u_ws RX8 TX8 2
theorem nmX8 : ∀ a, a < 2 → ∀ b, b < 2 → a ≠ b → (TX8 a).2.1 ≠ (TX8 b).2.1 := by decide +kernel
theorem tyX8_ok : ∀ k, k < 2 → parseFieldDescriptor (TX8 k).2.2.1 = some (tyX8 k) := by decide +kernel
abbrev cX8_init : ByteArray := prog_14_method_1_code
def yX8_init : MethodName := ⟨RX8, "<init>", "()V"⟩
abbrev cX8_clear : ByteArray := prog_14_method_4_code
def yX8_clear : MethodName := ⟨RX8, "clear", "()V"⟩
abbrev cX8_get : ByteArray := prog_14_method_2_code
def yX8_get : MethodName := ⟨RX8, "get", "(I)LCouncilStore$Pair;"⟩
abbrev cX8_add : ByteArray := prog_14_method_3_code
def yX8_add : MethodName := ⟨RX8, "add", "()LCouncilStore$Pair;"⟩
theorem q108 : (Jvm.Cond.initialized "CouncilStore$Pairs") ∈ lw_all := lw_g (lw_at lw_m1 8 rfl) rfl
theorem q236 : (Jvm.Cond.instantiable "CouncilStore$Pairs" (2 : Nat)) ∈ lw_all := lw_g (lw_at lw_m1 136 rfl) rfl
theorem q238 : (Jvm.Cond.instanceMethod ({ cls := "CouncilStore$Pairs", name := "<init>", desc := "()V" } : Jvm.MethodName)) ∈ lw_all := lw_g (lw_at lw_m1 138 rfl) rfl
theorem q239 : (Jvm.Cond.code ({ cls := "CouncilStore$Pairs", name := "<init>", desc := "()V" } : Jvm.MethodName) prog_14_method_1_code (1 : Nat) (Option.none : Option Jvm.ClassFile.FieldType)) ∈ lw_all := lw_g (lw_at lw_m1 139 rfl) rfl
theorem q240 : (Jvm.Cond.methodLink "CouncilStore$Pairs" (1 : Nat) ({ cls := "java/lang/Object", name := "<init>", desc := "()V" } : Jvm.MethodName)) ∈ lw_all := lw_g (lw_at lw_m1 140 rfl) rfl
theorem q241 : (Jvm.Cond.classLink "CouncilStore$Pairs" (7 : Nat) "CouncilStore$Pair") ∈ lw_all := lw_g (lw_at lw_m1 141 rfl) rfl
theorem q243 : (Jvm.Cond.fieldLink "CouncilStore$Pairs" (9 : Nat) "CouncilStore$Pairs" "at" "[LCouncilStore$Pair;") ∈ lw_all := lw_g (lw_at lw_m1 143 rfl) rfl
theorem q244 : (Jvm.Cond.fieldLink "CouncilStore$Pairs" (15 : Nat) "CouncilStore$Pairs" "size" "I") ∈ lw_all := lw_g (lw_at lw_m1 144 rfl) rfl
theorem q247 : (Jvm.Cond.lays "CouncilStore$Pairs" "CouncilStore$Pairs" "at" "[LCouncilStore$Pair;") ∈ lw_all := lw_g (lw_at lw_m1 147 rfl) rfl
theorem q248 : (Jvm.Cond.soleField "CouncilStore$Pairs" "at") ∈ lw_all := lw_g (lw_at lw_m1 148 rfl) rfl
theorem q249 : (Jvm.Cond.lays "CouncilStore$Pairs" "CouncilStore$Pairs" "size" "I") ∈ lw_all := lw_g (lw_at lw_m1 149 rfl) rfl
theorem q250 : (Jvm.Cond.soleField "CouncilStore$Pairs" "size") ∈ lw_all := lw_g (lw_at lw_m1 150 rfl) rfl
theorem q251 : (Jvm.Cond.superclass "CouncilStore$Pairs" "java/lang/Object") ∈ lw_all := lw_g (lw_at lw_m1 151 rfl) rfl
theorem q659 : (Jvm.Cond.instanceMethod ({ cls := "CouncilStore$Pairs", name := "clear", desc := "()V" } : Jvm.MethodName)) ∈ lw_all := lw_g (lw_at lw_m3 79 rfl) rfl
theorem q660 : (Jvm.Cond.selects "CouncilStore$Pairs" ({ cls := "CouncilStore$Pairs", name := "clear", desc := "()V" } : Jvm.MethodName) ({ cls := "CouncilStore$Pairs", name := "clear", desc := "()V" } : Jvm.MethodName)) ∈ lw_all := lw_g (lw_at lw_m3 80 rfl) rfl
theorem q661 : (Jvm.Cond.code ({ cls := "CouncilStore$Pairs", name := "clear", desc := "()V" } : Jvm.MethodName) prog_14_method_4_code (1 : Nat) (Option.none : Option Jvm.ClassFile.FieldType)) ∈ lw_all := lw_g (lw_at lw_m3 81 rfl) rfl
theorem q1309 : (Jvm.Cond.instanceMethod ({ cls := "CouncilStore$Pairs", name := "get", desc := "(I)LCouncilStore$Pair;" } : Jvm.MethodName)) ∈ lw_all := lw_g (lw_at lw_m6 9 rfl) rfl
theorem q1310 : (Jvm.Cond.selects "CouncilStore$Pairs" ({ cls := "CouncilStore$Pairs", name := "get", desc := "(I)LCouncilStore$Pair;" } : Jvm.MethodName) ({ cls := "CouncilStore$Pairs", name := "get", desc := "(I)LCouncilStore$Pair;" } : Jvm.MethodName)) ∈ lw_all := lw_g (lw_at lw_m6 10 rfl) rfl
theorem q1311 : (Jvm.Cond.code ({ cls := "CouncilStore$Pairs", name := "get", desc := "(I)LCouncilStore$Pair;" } : Jvm.MethodName) prog_14_method_2_code (2 : Nat) (Option.some (Jvm.ClassFile.FieldType.object "CouncilStore$Pair"))) ∈ lw_all := lw_g (lw_at lw_m6 11 rfl) rfl
theorem q1345 : (Jvm.Cond.instanceMethod ({ cls := "CouncilStore$Pairs", name := "add", desc := "()LCouncilStore$Pair;" } : Jvm.MethodName)) ∈ lw_all := lw_g (lw_at lw_m6 45 rfl) rfl
theorem q1346 : (Jvm.Cond.selects "CouncilStore$Pairs" ({ cls := "CouncilStore$Pairs", name := "add", desc := "()LCouncilStore$Pair;" } : Jvm.MethodName) ({ cls := "CouncilStore$Pairs", name := "add", desc := "()LCouncilStore$Pair;" } : Jvm.MethodName)) ∈ lw_all := lw_g (lw_at lw_m6 46 rfl) rfl
theorem q1347 : (Jvm.Cond.code ({ cls := "CouncilStore$Pairs", name := "add", desc := "()LCouncilStore$Pair;" } : Jvm.MethodName) prog_14_method_3_code (3 : Nat) (Option.some (Jvm.ClassFile.FieldType.object "CouncilStore$Pair"))) ∈ lw_all := lw_g (lw_at lw_m6 47 rfl) rfl
theorem q1348 : (Jvm.Cond.methodLinkNest "CouncilStore$Pairs" (19 : Nat) ({ cls := "CouncilStore$Pair", name := "<init>", desc := "()V" } : Jvm.MethodName) "CouncilStore") ∈ lw_tbl := lw_at lw_m6 48 rfl
theorem in_X8 : ∀ w ∈ wsX80, w ∈ lw_all := lw_in wsX80 [247, 249] (by decide +kernel) (by decide +kernel)
/-! CouncilStore$Pair -/
def RX9 : String := "CouncilStore$Pair"
def TX9 : u_T := fun k => match k with
  | 0 => ("CouncilStore$Pair", "keyFrom", "I", false)
  | 1 => ("CouncilStore$Pair", "keyTo", "I", false)
  | 2 => ("CouncilStore$Pair", "there", "Z", false)
  | 3 => ("CouncilStore$Pair", "valueFrom", "I", false)
  | 4 => ("CouncilStore$Pair", "valueTo", "I", false)
  | 5 => ("CouncilStore$Pair", "created", "I", false)
  | 6 => ("CouncilStore$Pair", "changed", "I", false)
  | 7 => ("CouncilStore$Pair", "version", "I", false)
  | _ => ("CouncilStore$Pair", "lease", "I", false)
def tyX9 : Nat → FieldType := fun k => match k with
  | 0 => .int
  | 1 => .int
  | 2 => .boolean
  | 3 => .int
  | 4 => .int
  | 5 => .int
  | 6 => .int
  | 7 => .int
  | _ => .int
abbrev wsX90 : List Cond := u_ws RX9 TX9 9
theorem nmX9 : ∀ a, a < 9 → ∀ b, b < 9 → a ≠ b → (TX9 a).2.1 ≠ (TX9 b).2.1 := by decide +kernel
theorem tyX9_ok : ∀ k, k < 9 → parseFieldDescriptor (TX9 k).2.2.1 = some (tyX9 k) := by decide +kernel
abbrev cX9_init : ByteArray := prog_13_method_1_code
def yX9_init : MethodName := ⟨RX9, "<init>", "()V"⟩
abbrev cX9_copy : ByteArray := prog_13_method_2_code
def yX9_copy : MethodName := ⟨RX9, "copy", "(LCouncilStore$Pair;)V"⟩
theorem q109 : (Jvm.Cond.initialized "CouncilStore$Pair") ∈ lw_all := lw_g (lw_at lw_m1 9 rfl) rfl
theorem q253 : (Jvm.Cond.instantiable "CouncilStore$Pair" (9 : Nat)) ∈ lw_all := lw_g (lw_at lw_m1 153 rfl) rfl
theorem q255 : (Jvm.Cond.instanceMethod ({ cls := "CouncilStore$Pair", name := "<init>", desc := "()V" } : Jvm.MethodName)) ∈ lw_all := lw_g (lw_at lw_m1 155 rfl) rfl
theorem q256 : (Jvm.Cond.code ({ cls := "CouncilStore$Pair", name := "<init>", desc := "()V" } : Jvm.MethodName) prog_13_method_1_code (1 : Nat) (Option.none : Option Jvm.ClassFile.FieldType)) ∈ lw_all := lw_g (lw_at lw_m1 156 rfl) rfl
theorem q257 : (Jvm.Cond.methodLink "CouncilStore$Pair" (1 : Nat) ({ cls := "java/lang/Object", name := "<init>", desc := "()V" } : Jvm.MethodName)) ∈ lw_all := lw_g (lw_at lw_m1 157 rfl) rfl
theorem q258 : (Jvm.Cond.fieldLink "CouncilStore$Pair" (7 : Nat) "CouncilStore$Pair" "keyFrom" "I") ∈ lw_all := lw_g (lw_at lw_m1 158 rfl) rfl
theorem q261 : (Jvm.Cond.fieldLink "CouncilStore$Pair" (13 : Nat) "CouncilStore$Pair" "keyTo" "I") ∈ lw_all := lw_g (lw_at lw_m1 161 rfl) rfl
theorem q264 : (Jvm.Cond.fieldLink "CouncilStore$Pair" (16 : Nat) "CouncilStore$Pair" "there" "Z") ∈ lw_all := lw_g (lw_at lw_m1 164 rfl) rfl
theorem q267 : (Jvm.Cond.fieldLink "CouncilStore$Pair" (20 : Nat) "CouncilStore$Pair" "valueFrom" "I") ∈ lw_all := lw_g (lw_at lw_m1 167 rfl) rfl
theorem q270 : (Jvm.Cond.fieldLink "CouncilStore$Pair" (23 : Nat) "CouncilStore$Pair" "valueTo" "I") ∈ lw_all := lw_g (lw_at lw_m1 170 rfl) rfl
theorem q273 : (Jvm.Cond.fieldLink "CouncilStore$Pair" (26 : Nat) "CouncilStore$Pair" "created" "I") ∈ lw_all := lw_g (lw_at lw_m1 173 rfl) rfl
theorem q276 : (Jvm.Cond.fieldLink "CouncilStore$Pair" (29 : Nat) "CouncilStore$Pair" "changed" "I") ∈ lw_all := lw_g (lw_at lw_m1 176 rfl) rfl
theorem q280 : (Jvm.Cond.fieldLink "CouncilStore$Pair" (32 : Nat) "CouncilStore$Pair" "version" "I") ∈ lw_all := lw_g (lw_at lw_m1 180 rfl) rfl
theorem q284 : (Jvm.Cond.fieldLink "CouncilStore$Pair" (35 : Nat) "CouncilStore$Pair" "lease" "I") ∈ lw_all := lw_g (lw_at lw_m1 184 rfl) rfl
theorem q287 : (Jvm.Cond.lays "CouncilStore$Pair" "CouncilStore$Pair" "keyFrom" "I") ∈ lw_all := lw_g (lw_at lw_m1 187 rfl) rfl
theorem q288 : (Jvm.Cond.soleField "CouncilStore$Pair" "keyFrom") ∈ lw_all := lw_g (lw_at lw_m1 188 rfl) rfl
theorem q289 : (Jvm.Cond.lays "CouncilStore$Pair" "CouncilStore$Pair" "keyTo" "I") ∈ lw_all := lw_g (lw_at lw_m1 189 rfl) rfl
theorem q290 : (Jvm.Cond.soleField "CouncilStore$Pair" "keyTo") ∈ lw_all := lw_g (lw_at lw_m1 190 rfl) rfl
theorem q291 : (Jvm.Cond.lays "CouncilStore$Pair" "CouncilStore$Pair" "there" "Z") ∈ lw_all := lw_g (lw_at lw_m1 191 rfl) rfl
theorem q292 : (Jvm.Cond.soleField "CouncilStore$Pair" "there") ∈ lw_all := lw_g (lw_at lw_m1 192 rfl) rfl
theorem q293 : (Jvm.Cond.lays "CouncilStore$Pair" "CouncilStore$Pair" "valueFrom" "I") ∈ lw_all := lw_g (lw_at lw_m1 193 rfl) rfl
theorem q294 : (Jvm.Cond.soleField "CouncilStore$Pair" "valueFrom") ∈ lw_all := lw_g (lw_at lw_m1 194 rfl) rfl
theorem q295 : (Jvm.Cond.lays "CouncilStore$Pair" "CouncilStore$Pair" "valueTo" "I") ∈ lw_all := lw_g (lw_at lw_m1 195 rfl) rfl
theorem q296 : (Jvm.Cond.soleField "CouncilStore$Pair" "valueTo") ∈ lw_all := lw_g (lw_at lw_m1 196 rfl) rfl
theorem q297 : (Jvm.Cond.lays "CouncilStore$Pair" "CouncilStore$Pair" "created" "I") ∈ lw_all := lw_g (lw_at lw_m1 197 rfl) rfl
theorem q298 : (Jvm.Cond.soleField "CouncilStore$Pair" "created") ∈ lw_all := lw_g (lw_at lw_m1 198 rfl) rfl
theorem q299 : (Jvm.Cond.lays "CouncilStore$Pair" "CouncilStore$Pair" "changed" "I") ∈ lw_all := lw_g (lw_at lw_m1 199 rfl) rfl
theorem q300 : (Jvm.Cond.soleField "CouncilStore$Pair" "changed") ∈ lw_all := lw_g (lw_at lw_m1 200 rfl) rfl
theorem q301 : (Jvm.Cond.lays "CouncilStore$Pair" "CouncilStore$Pair" "version" "I") ∈ lw_all := lw_g (lw_at lw_m1 201 rfl) rfl
theorem q302 : (Jvm.Cond.soleField "CouncilStore$Pair" "version") ∈ lw_all := lw_g (lw_at lw_m1 202 rfl) rfl
theorem q303 : (Jvm.Cond.lays "CouncilStore$Pair" "CouncilStore$Pair" "lease" "I") ∈ lw_all := lw_g (lw_at lw_m1 203 rfl) rfl
theorem q304 : (Jvm.Cond.soleField "CouncilStore$Pair" "lease") ∈ lw_all := lw_g (lw_at lw_m1 204 rfl) rfl
theorem q305 : (Jvm.Cond.superclass "CouncilStore$Pair" "java/lang/Object") ∈ lw_all := lw_g (lw_at lw_m1 205 rfl) rfl
theorem q1337 : (Jvm.Cond.instanceMethod ({ cls := "CouncilStore$Pair", name := "copy", desc := "(LCouncilStore$Pair;)V" } : Jvm.MethodName)) ∈ lw_all := lw_g (lw_at lw_m6 37 rfl) rfl
theorem q1338 : (Jvm.Cond.selects "CouncilStore$Pair" ({ cls := "CouncilStore$Pair", name := "copy", desc := "(LCouncilStore$Pair;)V" } : Jvm.MethodName) ({ cls := "CouncilStore$Pair", name := "copy", desc := "(LCouncilStore$Pair;)V" } : Jvm.MethodName)) ∈ lw_all := lw_g (lw_at lw_m6 38 rfl) rfl
theorem q1339 : (Jvm.Cond.code ({ cls := "CouncilStore$Pair", name := "copy", desc := "(LCouncilStore$Pair;)V" } : Jvm.MethodName) prog_13_method_2_code (2 : Nat) (Option.none : Option Jvm.ClassFile.FieldType)) ∈ lw_all := lw_g (lw_at lw_m6 39 rfl) rfl
theorem in_X9 : ∀ w ∈ wsX90, w ∈ lw_all := lw_in wsX90 [287, 289, 291, 293, 295, 297, 299, 301, 303] (by decide +kernel) (by decide +kernel)
/-! CouncilStore$Net -/
def RX10 : String := "CouncilStore$Net"
def TX10 : u_T := fun k => match k with
  | 0 => ("CouncilStore$Net", "row", "LCouncilStore$Messages;", true)
  | 1 => ("CouncilStore$Net", "spares", "LCouncilStore$Messages;", true)
  | _ => ("CouncilStore$Net", "lost", "I", false)
def tyX10 : Nat → FieldType := fun k => match k with
  | 0 => .object "CouncilStore$Messages"
  | 1 => .object "CouncilStore$Messages"
  | _ => .int
abbrev wsX100 : List Cond := u_ws RX10 TX10 3
theorem nmX10 : ∀ a, a < 3 → ∀ b, b < 3 → a ≠ b → (TX10 a).2.1 ≠ (TX10 b).2.1 := by decide +kernel
theorem tyX10_ok : ∀ k, k < 3 → parseFieldDescriptor (TX10 k).2.2.1 = some (tyX10 k) := by decide +kernel
abbrev cX10_init : ByteArray := prog_11_method_1_code
def yX10_init : MethodName := ⟨RX10, "<init>", "()V"⟩
abbrev cX10_clear : ByteArray := prog_11_method_2_code
def yX10_clear : MethodName := ⟨RX10, "clear", "()V"⟩
abbrev cX10_lost : ByteArray := prog_11_method_3_code
def yX10_lost : MethodName := ⟨RX10, "lost", "()I"⟩
abbrev cX10_leave : ByteArray := prog_11_method_5_code
def yX10_leave : MethodName := ⟨RX10, "leave", "(LCouncilStore$Message;)V"⟩
abbrev cX10_take : ByteArray := prog_11_method_4_code
def yX10_take : MethodName := ⟨RX10, "take", "()LCouncilStore$Message;"⟩
abbrev cX10_send : ByteArray := prog_11_method_6_code
def yX10_send : MethodName := ⟨RX10, "send", "(LCouncilStore$Message;)I"⟩
theorem q110 : (Jvm.Cond.initialized "CouncilStore$Net") ∈ lw_all := lw_g (lw_at lw_m1 10 rfl) rfl
theorem q365 : (Jvm.Cond.instantiable "CouncilStore$Net" (3 : Nat)) ∈ lw_all := lw_g (lw_at lw_m2 25 rfl) rfl
theorem q367 : (Jvm.Cond.instanceMethod ({ cls := "CouncilStore$Net", name := "<init>", desc := "()V" } : Jvm.MethodName)) ∈ lw_all := lw_g (lw_at lw_m2 27 rfl) rfl
theorem q368 : (Jvm.Cond.code ({ cls := "CouncilStore$Net", name := "<init>", desc := "()V" } : Jvm.MethodName) prog_11_method_1_code (1 : Nat) (Option.none : Option Jvm.ClassFile.FieldType)) ∈ lw_all := lw_g (lw_at lw_m2 28 rfl) rfl
theorem q369 : (Jvm.Cond.methodLink "CouncilStore$Net" (1 : Nat) ({ cls := "java/lang/Object", name := "<init>", desc := "()V" } : Jvm.MethodName)) ∈ lw_all := lw_g (lw_at lw_m2 29 rfl) rfl
theorem q370 : (Jvm.Cond.classLink "CouncilStore$Net" (7 : Nat) "CouncilStore$Messages") ∈ lw_all := lw_g (lw_at lw_m2 30 rfl) rfl
theorem q372 : (Jvm.Cond.methodLinkNest "CouncilStore$Net" (9 : Nat) ({ cls := "CouncilStore$Messages", name := "<init>", desc := "()V" } : Jvm.MethodName) "CouncilStore") ∈ lw_tbl := lw_at lw_m2 32 rfl
theorem q379 : (Jvm.Cond.fieldLink "CouncilStore$Net" (19 : Nat) "CouncilStore$Messages" "size" "I") ∈ lw_all := lw_g (lw_at lw_m2 39 rfl) rfl
theorem q388 : (Jvm.Cond.fieldLink "CouncilStore$Net" (10 : Nat) "CouncilStore$Net" "row" "LCouncilStore$Messages;") ∈ lw_all := lw_g (lw_at lw_m2 48 rfl) rfl
theorem q390 : (Jvm.Cond.fieldLink "CouncilStore$Net" (16 : Nat) "CouncilStore$Net" "spares" "LCouncilStore$Messages;") ∈ lw_all := lw_g (lw_at lw_m2 50 rfl) rfl
theorem q391 : (Jvm.Cond.fieldLink "CouncilStore$Net" (31 : Nat) "CouncilStore$Net" "lost" "I") ∈ lw_all := lw_g (lw_at lw_m2 51 rfl) rfl
theorem q392 : (Jvm.Cond.laysFinal "CouncilStore$Net" "CouncilStore$Net" "row" "LCouncilStore$Messages;") ∈ lw_all := lw_g (lw_at lw_m2 52 rfl) rfl
theorem q393 : (Jvm.Cond.soleField "CouncilStore$Net" "row") ∈ lw_all := lw_g (lw_at lw_m2 53 rfl) rfl
theorem q394 : (Jvm.Cond.laysFinal "CouncilStore$Net" "CouncilStore$Net" "spares" "LCouncilStore$Messages;") ∈ lw_all := lw_g (lw_at lw_m2 54 rfl) rfl
theorem q395 : (Jvm.Cond.soleField "CouncilStore$Net" "spares") ∈ lw_all := lw_g (lw_at lw_m2 55 rfl) rfl
theorem q396 : (Jvm.Cond.lays "CouncilStore$Net" "CouncilStore$Net" "lost" "I") ∈ lw_all := lw_g (lw_at lw_m2 56 rfl) rfl
theorem q397 : (Jvm.Cond.soleField "CouncilStore$Net" "lost") ∈ lw_all := lw_g (lw_at lw_m2 57 rfl) rfl
theorem q398 : (Jvm.Cond.superclass "CouncilStore$Net" "java/lang/Object") ∈ lw_all := lw_g (lw_at lw_m2 58 rfl) rfl
theorem q676 : (Jvm.Cond.instanceMethod ({ cls := "CouncilStore$Net", name := "clear", desc := "()V" } : Jvm.MethodName)) ∈ lw_all := lw_g (lw_at lw_m3 96 rfl) rfl
theorem q677 : (Jvm.Cond.selects "CouncilStore$Net" ({ cls := "CouncilStore$Net", name := "clear", desc := "()V" } : Jvm.MethodName) ({ cls := "CouncilStore$Net", name := "clear", desc := "()V" } : Jvm.MethodName)) ∈ lw_all := lw_g (lw_at lw_m3 97 rfl) rfl
theorem q678 : (Jvm.Cond.code ({ cls := "CouncilStore$Net", name := "clear", desc := "()V" } : Jvm.MethodName) prog_11_method_2_code (1 : Nat) (Option.none : Option Jvm.ClassFile.FieldType)) ∈ lw_all := lw_g (lw_at lw_m3 98 rfl) rfl
theorem q679 : (Jvm.Cond.methodLink "CouncilStore$Net" (23 : Nat) ({ cls := "CouncilStore$Messages", name := "pop", desc := "()LCouncilStore$Message;" } : Jvm.MethodName)) ∈ lw_all := lw_g (lw_at lw_m3 99 rfl) rfl
theorem q683 : (Jvm.Cond.methodLink "CouncilStore$Net" (27 : Nat) ({ cls := "CouncilStore$Messages", name := "add", desc := "(LCouncilStore$Message;)V" } : Jvm.MethodName)) ∈ lw_all := lw_g (lw_at lw_m3 103 rfl) rfl
theorem q737 : (Jvm.Cond.instanceMethod ({ cls := "CouncilStore$Net", name := "lost", desc := "()I" } : Jvm.MethodName)) ∈ lw_all := lw_g (lw_at lw_m3 157 rfl) rfl
theorem q738 : (Jvm.Cond.selects "CouncilStore$Net" ({ cls := "CouncilStore$Net", name := "lost", desc := "()I" } : Jvm.MethodName) ({ cls := "CouncilStore$Net", name := "lost", desc := "()I" } : Jvm.MethodName)) ∈ lw_all := lw_g (lw_at lw_m3 158 rfl) rfl
theorem q739 : (Jvm.Cond.code ({ cls := "CouncilStore$Net", name := "lost", desc := "()I" } : Jvm.MethodName) prog_11_method_3_code (1 : Nat) (Option.some Jvm.ClassFile.FieldType.int)) ∈ lw_all := lw_g (lw_at lw_m3 159 rfl) rfl
theorem q844 : (Jvm.Cond.instanceMethod ({ cls := "CouncilStore$Net", name := "leave", desc := "(LCouncilStore$Message;)V" } : Jvm.MethodName)) ∈ lw_all := lw_g (lw_at lw_m4 24 rfl) rfl
theorem q845 : (Jvm.Cond.selects "CouncilStore$Net" ({ cls := "CouncilStore$Net", name := "leave", desc := "(LCouncilStore$Message;)V" } : Jvm.MethodName) ({ cls := "CouncilStore$Net", name := "leave", desc := "(LCouncilStore$Message;)V" } : Jvm.MethodName)) ∈ lw_all := lw_g (lw_at lw_m4 25 rfl) rfl
theorem q846 : (Jvm.Cond.code ({ cls := "CouncilStore$Net", name := "leave", desc := "(LCouncilStore$Message;)V" } : Jvm.MethodName) prog_11_method_5_code (2 : Nat) (Option.none : Option Jvm.ClassFile.FieldType)) ∈ lw_all := lw_g (lw_at lw_m4 26 rfl) rfl
theorem q1106 : (Jvm.Cond.instanceMethod ({ cls := "CouncilStore$Net", name := "take", desc := "()LCouncilStore$Message;" } : Jvm.MethodName)) ∈ lw_all := lw_g (lw_at lw_m5 46 rfl) rfl
theorem q1107 : (Jvm.Cond.selects "CouncilStore$Net" ({ cls := "CouncilStore$Net", name := "take", desc := "()LCouncilStore$Message;" } : Jvm.MethodName) ({ cls := "CouncilStore$Net", name := "take", desc := "()LCouncilStore$Message;" } : Jvm.MethodName)) ∈ lw_all := lw_g (lw_at lw_m5 47 rfl) rfl
theorem q1108 : (Jvm.Cond.code ({ cls := "CouncilStore$Net", name := "take", desc := "()LCouncilStore$Message;" } : Jvm.MethodName) prog_11_method_4_code (1 : Nat) (Option.some (Jvm.ClassFile.FieldType.object "CouncilStore$Message"))) ∈ lw_all := lw_g (lw_at lw_m5 48 rfl) rfl
theorem q1109 : (Jvm.Cond.classLink "CouncilStore$Net" (34 : Nat) "CouncilStore$Message") ∈ lw_all := lw_g (lw_at lw_m5 49 rfl) rfl
theorem q1111 : (Jvm.Cond.methodLinkNest "CouncilStore$Net" (36 : Nat) ({ cls := "CouncilStore$Message", name := "<init>", desc := "()V" } : Jvm.MethodName) "CouncilStore") ∈ lw_tbl := lw_at lw_m5 51 rfl
theorem q1169 : (Jvm.Cond.instanceMethod ({ cls := "CouncilStore$Net", name := "send", desc := "(LCouncilStore$Message;)I" } : Jvm.MethodName)) ∈ lw_all := lw_g (lw_at lw_m5 109 rfl) rfl
theorem q1170 : (Jvm.Cond.selects "CouncilStore$Net" ({ cls := "CouncilStore$Net", name := "send", desc := "(LCouncilStore$Message;)I" } : Jvm.MethodName) ({ cls := "CouncilStore$Net", name := "send", desc := "(LCouncilStore$Message;)I" } : Jvm.MethodName)) ∈ lw_all := lw_g (lw_at lw_m5 110 rfl) rfl
theorem q1171 : (Jvm.Cond.code ({ cls := "CouncilStore$Net", name := "send", desc := "(LCouncilStore$Message;)I" } : Jvm.MethodName) prog_11_method_6_code (2 : Nat) (Option.some Jvm.ClassFile.FieldType.int)) ∈ lw_all := lw_g (lw_at lw_m5 111 rfl) rfl
theorem q1172 : (Jvm.Cond.methodLink "CouncilStore$Net" (37 : Nat) ({ cls := "CouncilStore$Net", name := "leave", desc := "(LCouncilStore$Message;)V" } : Jvm.MethodName)) ∈ lw_all := lw_g (lw_at lw_m5 112 rfl) rfl
theorem in_X10 : ∀ w ∈ wsX100, w ∈ lw_all := lw_in wsX100 [392, 394, 396] (by decide +kernel) (by decide +kernel)
/-! CouncilStore$Messages -/
def RX11 : String := "CouncilStore$Messages"
def TX11 : u_T := fun k => match k with
  | 0 => ("CouncilStore$Messages", "at", "[LCouncilStore$Message;", false)
  | _ => ("CouncilStore$Messages", "size", "I", false)
def tyX11 : Nat → FieldType := fun k => match k with
  | 0 => .array (.object "CouncilStore$Message")
  | _ => .int
abbrev wsX110 : List Cond := u_ws RX11 TX11 2
theorem nmX11 : ∀ a, a < 2 → ∀ b, b < 2 → a ≠ b → (TX11 a).2.1 ≠ (TX11 b).2.1 := by decide +kernel
theorem tyX11_ok : ∀ k, k < 2 → parseFieldDescriptor (TX11 k).2.2.1 = some (tyX11 k) := by decide +kernel
abbrev cX11_init : ByteArray := prog_10_method_1_code
def yX11_init : MethodName := ⟨RX11, "<init>", "()V"⟩
abbrev cX11_pop : ByteArray := prog_10_method_5_code
def yX11_pop : MethodName := ⟨RX11, "pop", "()LCouncilStore$Message;"⟩
abbrev cX11_add : ByteArray := prog_10_method_3_code
def yX11_add : MethodName := ⟨RX11, "add", "(LCouncilStore$Message;)V"⟩
abbrev cX11_get : ByteArray := prog_10_method_2_code
def yX11_get : MethodName := ⟨RX11, "get", "(I)LCouncilStore$Message;"⟩
abbrev cX11_remove : ByteArray := prog_10_method_4_code
def yX11_remove : MethodName := ⟨RX11, "remove", "(I)LCouncilStore$Message;"⟩
theorem q111 : (Jvm.Cond.initialized "CouncilStore$Messages") ∈ lw_all := lw_g (lw_at lw_m1 11 rfl) rfl
theorem q371 : (Jvm.Cond.instantiable "CouncilStore$Messages" (2 : Nat)) ∈ lw_all := lw_g (lw_at lw_m2 31 rfl) rfl
theorem q373 : (Jvm.Cond.instanceMethod ({ cls := "CouncilStore$Messages", name := "<init>", desc := "()V" } : Jvm.MethodName)) ∈ lw_all := lw_g (lw_at lw_m2 33 rfl) rfl
theorem q374 : (Jvm.Cond.code ({ cls := "CouncilStore$Messages", name := "<init>", desc := "()V" } : Jvm.MethodName) prog_10_method_1_code (1 : Nat) (Option.none : Option Jvm.ClassFile.FieldType)) ∈ lw_all := lw_g (lw_at lw_m2 34 rfl) rfl
theorem q375 : (Jvm.Cond.methodLink "CouncilStore$Messages" (1 : Nat) ({ cls := "java/lang/Object", name := "<init>", desc := "()V" } : Jvm.MethodName)) ∈ lw_all := lw_g (lw_at lw_m2 35 rfl) rfl
theorem q376 : (Jvm.Cond.classLink "CouncilStore$Messages" (7 : Nat) "CouncilStore$Message") ∈ lw_all := lw_g (lw_at lw_m2 36 rfl) rfl
theorem q378 : (Jvm.Cond.fieldLink "CouncilStore$Messages" (9 : Nat) "CouncilStore$Messages" "at" "[LCouncilStore$Message;") ∈ lw_all := lw_g (lw_at lw_m2 38 rfl) rfl
theorem q381 : (Jvm.Cond.fieldLink "CouncilStore$Messages" (15 : Nat) "CouncilStore$Messages" "size" "I") ∈ lw_all := lw_g (lw_at lw_m2 41 rfl) rfl
theorem q383 : (Jvm.Cond.lays "CouncilStore$Messages" "CouncilStore$Messages" "at" "[LCouncilStore$Message;") ∈ lw_all := lw_g (lw_at lw_m2 43 rfl) rfl
theorem q384 : (Jvm.Cond.soleField "CouncilStore$Messages" "at") ∈ lw_all := lw_g (lw_at lw_m2 44 rfl) rfl
theorem q385 : (Jvm.Cond.lays "CouncilStore$Messages" "CouncilStore$Messages" "size" "I") ∈ lw_all := lw_g (lw_at lw_m2 45 rfl) rfl
theorem q386 : (Jvm.Cond.soleField "CouncilStore$Messages" "size") ∈ lw_all := lw_g (lw_at lw_m2 46 rfl) rfl
theorem q387 : (Jvm.Cond.superclass "CouncilStore$Messages" "java/lang/Object") ∈ lw_all := lw_g (lw_at lw_m2 47 rfl) rfl
theorem q680 : (Jvm.Cond.instanceMethod ({ cls := "CouncilStore$Messages", name := "pop", desc := "()LCouncilStore$Message;" } : Jvm.MethodName)) ∈ lw_all := lw_g (lw_at lw_m3 100 rfl) rfl
theorem q681 : (Jvm.Cond.selects "CouncilStore$Messages" ({ cls := "CouncilStore$Messages", name := "pop", desc := "()LCouncilStore$Message;" } : Jvm.MethodName) ({ cls := "CouncilStore$Messages", name := "pop", desc := "()LCouncilStore$Message;" } : Jvm.MethodName)) ∈ lw_all := lw_g (lw_at lw_m3 101 rfl) rfl
theorem q682 : (Jvm.Cond.code ({ cls := "CouncilStore$Messages", name := "pop", desc := "()LCouncilStore$Message;" } : Jvm.MethodName) prog_10_method_5_code (1 : Nat) (Option.some (Jvm.ClassFile.FieldType.object "CouncilStore$Message"))) ∈ lw_all := lw_g (lw_at lw_m3 102 rfl) rfl
theorem q684 : (Jvm.Cond.instanceMethod ({ cls := "CouncilStore$Messages", name := "add", desc := "(LCouncilStore$Message;)V" } : Jvm.MethodName)) ∈ lw_all := lw_g (lw_at lw_m3 104 rfl) rfl
theorem q685 : (Jvm.Cond.selects "CouncilStore$Messages" ({ cls := "CouncilStore$Messages", name := "add", desc := "(LCouncilStore$Message;)V" } : Jvm.MethodName) ({ cls := "CouncilStore$Messages", name := "add", desc := "(LCouncilStore$Message;)V" } : Jvm.MethodName)) ∈ lw_all := lw_g (lw_at lw_m3 105 rfl) rfl
theorem q686 : (Jvm.Cond.code ({ cls := "CouncilStore$Messages", name := "add", desc := "(LCouncilStore$Message;)V" } : Jvm.MethodName) prog_10_method_3_code (4 : Nat) (Option.none : Option Jvm.ClassFile.FieldType)) ∈ lw_all := lw_g (lw_at lw_m3 106 rfl) rfl
theorem q1264 : (Jvm.Cond.instanceMethod ({ cls := "CouncilStore$Messages", name := "get", desc := "(I)LCouncilStore$Message;" } : Jvm.MethodName)) ∈ lw_all := lw_g (lw_at lw_m5 204 rfl) rfl
theorem q1265 : (Jvm.Cond.selects "CouncilStore$Messages" ({ cls := "CouncilStore$Messages", name := "get", desc := "(I)LCouncilStore$Message;" } : Jvm.MethodName) ({ cls := "CouncilStore$Messages", name := "get", desc := "(I)LCouncilStore$Message;" } : Jvm.MethodName)) ∈ lw_all := lw_g (lw_at lw_m5 205 rfl) rfl
theorem q1266 : (Jvm.Cond.code ({ cls := "CouncilStore$Messages", name := "get", desc := "(I)LCouncilStore$Message;" } : Jvm.MethodName) prog_10_method_2_code (2 : Nat) (Option.some (Jvm.ClassFile.FieldType.object "CouncilStore$Message"))) ∈ lw_all := lw_g (lw_at lw_m5 206 rfl) rfl
theorem q1403 : (Jvm.Cond.instanceMethod ({ cls := "CouncilStore$Messages", name := "remove", desc := "(I)LCouncilStore$Message;" } : Jvm.MethodName)) ∈ lw_all := lw_g (lw_at lw_m6 103 rfl) rfl
theorem q1404 : (Jvm.Cond.selects "CouncilStore$Messages" ({ cls := "CouncilStore$Messages", name := "remove", desc := "(I)LCouncilStore$Message;" } : Jvm.MethodName) ({ cls := "CouncilStore$Messages", name := "remove", desc := "(I)LCouncilStore$Message;" } : Jvm.MethodName)) ∈ lw_all := lw_g (lw_at lw_m6 104 rfl) rfl
theorem q1405 : (Jvm.Cond.code ({ cls := "CouncilStore$Messages", name := "remove", desc := "(I)LCouncilStore$Message;" } : Jvm.MethodName) prog_10_method_4_code (4 : Nat) (Option.some (Jvm.ClassFile.FieldType.object "CouncilStore$Message"))) ∈ lw_all := lw_g (lw_at lw_m6 105 rfl) rfl
theorem in_X11 : ∀ w ∈ wsX110, w ∈ lw_all := lw_in wsX110 [383, 385] (by decide +kernel) (by decide +kernel)
/-! CouncilStore$Draft -/
def RX12 : String := "CouncilStore$Draft"
def TX12 : u_T := fun k => match k with
  | 0 => ("CouncilStore$Draft", "letters", "LCouncilStore$Bytes;", true)
  | 1 => ("CouncilStore$Draft", "conditions", "LCouncilStore$Ints;", true)
  | 2 => ("CouncilStore$Draft", "yes", "LCouncilStore$Ints;", true)
  | _ => ("CouncilStore$Draft", "no", "LCouncilStore$Ints;", true)
def tyX12 : Nat → FieldType := fun k => match k with
  | 0 => .object "CouncilStore$Bytes"
  | 1 => .object "CouncilStore$Ints"
  | 2 => .object "CouncilStore$Ints"
  | _ => .object "CouncilStore$Ints"
abbrev wsX120 : List Cond := u_ws RX12 TX12 4
theorem nmX12 : ∀ a, a < 4 → ∀ b, b < 4 → a ≠ b → (TX12 a).2.1 ≠ (TX12 b).2.1 := by decide +kernel
theorem tyX12_ok : ∀ k, k < 4 → parseFieldDescriptor (TX12 k).2.2.1 = some (tyX12 k) := by decide +kernel
abbrev cX12_init : ByteArray := prog_5_method_1_code
def yX12_init : MethodName := ⟨RX12, "<init>", "()V"⟩
abbrev cX12_clear : ByteArray := prog_5_method_2_code
def yX12_clear : MethodName := ⟨RX12, "clear", "()V"⟩
abbrev cX12_size : ByteArray := prog_5_method_3_code
def yX12_size : MethodName := ⟨RX12, "size", "()I"⟩
abbrev cX12_letters : ByteArray := prog_5_method_4_code
def yX12_letters : MethodName := ⟨RX12, "letters", "(LCouncilStore$Ints;LCouncilStore$Bytes;)V"⟩
theorem q112 : (Jvm.Cond.initialized "CouncilStore$Draft") ∈ lw_all := lw_g (lw_at lw_m1 12 rfl) rfl
theorem q160 : (Jvm.Cond.fieldLink "CouncilStore$Draft" (41 : Nat) "CouncilStore$Bytes" "size" "I") ∈ lw_all := lw_g (lw_at lw_m1 60 rfl) rfl
theorem q179 : (Jvm.Cond.fieldLink "CouncilStore$Draft" (35 : Nat) "CouncilStore$Ints" "size" "I") ∈ lw_all := lw_g (lw_at lw_m1 79 rfl) rfl
theorem q444 : (Jvm.Cond.instantiable "CouncilStore$Draft" (4 : Nat)) ∈ lw_all := lw_g (lw_at lw_m2 104 rfl) rfl
theorem q446 : (Jvm.Cond.instanceMethod ({ cls := "CouncilStore$Draft", name := "<init>", desc := "()V" } : Jvm.MethodName)) ∈ lw_all := lw_g (lw_at lw_m2 106 rfl) rfl
theorem q447 : (Jvm.Cond.code ({ cls := "CouncilStore$Draft", name := "<init>", desc := "()V" } : Jvm.MethodName) prog_5_method_1_code (1 : Nat) (Option.none : Option Jvm.ClassFile.FieldType)) ∈ lw_all := lw_g (lw_at lw_m2 107 rfl) rfl
theorem q448 : (Jvm.Cond.methodLink "CouncilStore$Draft" (1 : Nat) ({ cls := "java/lang/Object", name := "<init>", desc := "()V" } : Jvm.MethodName)) ∈ lw_all := lw_g (lw_at lw_m2 108 rfl) rfl
theorem q449 : (Jvm.Cond.classLink "CouncilStore$Draft" (7 : Nat) "CouncilStore$Bytes") ∈ lw_all := lw_g (lw_at lw_m2 109 rfl) rfl
theorem q450 : (Jvm.Cond.methodLink "CouncilStore$Draft" (9 : Nat) ({ cls := "CouncilStore$Bytes", name := "<init>", desc := "(I)V" } : Jvm.MethodName)) ∈ lw_all := lw_g (lw_at lw_m2 110 rfl) rfl
theorem q451 : (Jvm.Cond.classLink "CouncilStore$Draft" (18 : Nat) "CouncilStore$Ints") ∈ lw_all := lw_g (lw_at lw_m2 111 rfl) rfl
theorem q452 : (Jvm.Cond.methodLink "CouncilStore$Draft" (20 : Nat) ({ cls := "CouncilStore$Ints", name := "<init>", desc := "(I)V" } : Jvm.MethodName)) ∈ lw_all := lw_g (lw_at lw_m2 112 rfl) rfl
theorem q453 : (Jvm.Cond.fieldLink "CouncilStore$Draft" (12 : Nat) "CouncilStore$Draft" "letters" "LCouncilStore$Bytes;") ∈ lw_all := lw_g (lw_at lw_m2 113 rfl) rfl
theorem q456 : (Jvm.Cond.fieldLink "CouncilStore$Draft" (21 : Nat) "CouncilStore$Draft" "conditions" "LCouncilStore$Ints;") ∈ lw_all := lw_g (lw_at lw_m2 116 rfl) rfl
theorem q459 : (Jvm.Cond.fieldLink "CouncilStore$Draft" (25 : Nat) "CouncilStore$Draft" "yes" "LCouncilStore$Ints;") ∈ lw_all := lw_g (lw_at lw_m2 119 rfl) rfl
theorem q462 : (Jvm.Cond.fieldLink "CouncilStore$Draft" (28 : Nat) "CouncilStore$Draft" "no" "LCouncilStore$Ints;") ∈ lw_all := lw_g (lw_at lw_m2 122 rfl) rfl
theorem q465 : (Jvm.Cond.laysFinal "CouncilStore$Draft" "CouncilStore$Draft" "letters" "LCouncilStore$Bytes;") ∈ lw_all := lw_g (lw_at lw_m2 125 rfl) rfl
theorem q466 : (Jvm.Cond.soleField "CouncilStore$Draft" "letters") ∈ lw_all := lw_g (lw_at lw_m2 126 rfl) rfl
theorem q467 : (Jvm.Cond.laysFinal "CouncilStore$Draft" "CouncilStore$Draft" "conditions" "LCouncilStore$Ints;") ∈ lw_all := lw_g (lw_at lw_m2 127 rfl) rfl
theorem q468 : (Jvm.Cond.soleField "CouncilStore$Draft" "conditions") ∈ lw_all := lw_g (lw_at lw_m2 128 rfl) rfl
theorem q469 : (Jvm.Cond.laysFinal "CouncilStore$Draft" "CouncilStore$Draft" "yes" "LCouncilStore$Ints;") ∈ lw_all := lw_g (lw_at lw_m2 129 rfl) rfl
theorem q470 : (Jvm.Cond.soleField "CouncilStore$Draft" "yes") ∈ lw_all := lw_g (lw_at lw_m2 130 rfl) rfl
theorem q471 : (Jvm.Cond.laysFinal "CouncilStore$Draft" "CouncilStore$Draft" "no" "LCouncilStore$Ints;") ∈ lw_all := lw_g (lw_at lw_m2 131 rfl) rfl
theorem q472 : (Jvm.Cond.soleField "CouncilStore$Draft" "no") ∈ lw_all := lw_g (lw_at lw_m2 132 rfl) rfl
theorem q473 : (Jvm.Cond.superclass "CouncilStore$Draft" "java/lang/Object") ∈ lw_all := lw_g (lw_at lw_m2 133 rfl) rfl
theorem q727 : (Jvm.Cond.instanceMethod ({ cls := "CouncilStore$Draft", name := "clear", desc := "()V" } : Jvm.MethodName)) ∈ lw_all := lw_g (lw_at lw_m3 147 rfl) rfl
theorem q728 : (Jvm.Cond.selects "CouncilStore$Draft" ({ cls := "CouncilStore$Draft", name := "clear", desc := "()V" } : Jvm.MethodName) ({ cls := "CouncilStore$Draft", name := "clear", desc := "()V" } : Jvm.MethodName)) ∈ lw_all := lw_g (lw_at lw_m3 148 rfl) rfl
theorem q729 : (Jvm.Cond.code ({ cls := "CouncilStore$Draft", name := "clear", desc := "()V" } : Jvm.MethodName) prog_5_method_2_code (1 : Nat) (Option.none : Option Jvm.ClassFile.FieldType)) ∈ lw_all := lw_g (lw_at lw_m3 149 rfl) rfl
theorem q730 : (Jvm.Cond.methodLink "CouncilStore$Draft" (31 : Nat) ({ cls := "CouncilStore$Bytes", name := "clear", desc := "()V" } : Jvm.MethodName)) ∈ lw_all := lw_g (lw_at lw_m3 150 rfl) rfl
theorem q731 : (Jvm.Cond.methodLink "CouncilStore$Draft" (34 : Nat) ({ cls := "CouncilStore$Ints", name := "clear", desc := "()V" } : Jvm.MethodName)) ∈ lw_all := lw_g (lw_at lw_m3 151 rfl) rfl
theorem q741 : (Jvm.Cond.instanceMethod ({ cls := "CouncilStore$Draft", name := "size", desc := "()I" } : Jvm.MethodName)) ∈ lw_all := lw_g (lw_at lw_m3 161 rfl) rfl
theorem q742 : (Jvm.Cond.selects "CouncilStore$Draft" ({ cls := "CouncilStore$Draft", name := "size", desc := "()I" } : Jvm.MethodName) ({ cls := "CouncilStore$Draft", name := "size", desc := "()I" } : Jvm.MethodName)) ∈ lw_all := lw_g (lw_at lw_m3 162 rfl) rfl
theorem q743 : (Jvm.Cond.code ({ cls := "CouncilStore$Draft", name := "size", desc := "()I" } : Jvm.MethodName) prog_5_method_3_code (1 : Nat) (Option.some Jvm.ClassFile.FieldType.int)) ∈ lw_all := lw_g (lw_at lw_m3 163 rfl) rfl
theorem q956 : (Jvm.Cond.instanceMethod ({ cls := "CouncilStore$Draft", name := "letters", desc := "(LCouncilStore$Ints;LCouncilStore$Bytes;)V" } : Jvm.MethodName)) ∈ lw_all := lw_g (lw_at lw_m4 136 rfl) rfl
theorem q957 : (Jvm.Cond.selects "CouncilStore$Draft" ({ cls := "CouncilStore$Draft", name := "letters", desc := "(LCouncilStore$Ints;LCouncilStore$Bytes;)V" } : Jvm.MethodName) ({ cls := "CouncilStore$Draft", name := "letters", desc := "(LCouncilStore$Ints;LCouncilStore$Bytes;)V" } : Jvm.MethodName)) ∈ lw_all := lw_g (lw_at lw_m4 137 rfl) rfl
theorem q958 : (Jvm.Cond.code ({ cls := "CouncilStore$Draft", name := "letters", desc := "(LCouncilStore$Ints;LCouncilStore$Bytes;)V" } : Jvm.MethodName) prog_5_method_4_code (3 : Nat) (Option.none : Option Jvm.ClassFile.FieldType)) ∈ lw_all := lw_g (lw_at lw_m4 138 rfl) rfl
theorem q959 : (Jvm.Cond.methodLink "CouncilStore$Draft" (42 : Nat) ({ cls := "CouncilStore$Ints", name := "add", desc := "(I)V" } : Jvm.MethodName)) ∈ lw_all := lw_g (lw_at lw_m4 139 rfl) rfl
theorem q960 : (Jvm.Cond.methodLink "CouncilStore$Draft" (45 : Nat) ({ cls := "CouncilStore$Bytes", name := "addAll", desc := "(LCouncilStore$Bytes;II)V" } : Jvm.MethodName)) ∈ lw_all := lw_g (lw_at lw_m4 140 rfl) rfl
theorem in_X12 : ∀ w ∈ wsX120, w ∈ lw_all := lw_in wsX120 [465, 467, 469, 471] (by decide +kernel) (by decide +kernel)
/-! CouncilStore$Node -/
def RX13 : String := "CouncilStore$Node"
def TX13 : u_T := fun k => match k with
  | 0 => ("CouncilStore$Node", "world", "LCouncilStore$World;", true)
  | 1 => ("CouncilStore$Node", "me", "I", true)
  | 2 => ("CouncilStore$Node", "disk", "LCouncilStore$Disk;", true)
  | 3 => ("CouncilStore$Node", "term", "I", false)
  | 4 => ("CouncilStore$Node", "vote", "I", false)
  | 5 => ("CouncilStore$Node", "log", "LCouncilStore$Log;", true)
  | 6 => ("CouncilStore$Node", "outbox", "LCouncilStore$Messages;", true)
  | 7 => ("CouncilStore$Node", "down", "Z", false)
  | 8 => ("CouncilStore$Node", "role", "I", false)
  | 9 => ("CouncilStore$Node", "leader", "I", false)
  | 10 => ("CouncilStore$Node", "commit", "I", false)
  | 11 => ("CouncilStore$Node", "state", "I", false)
  | 12 => ("CouncilStore$Node", "applied", "LCouncilStore$Ints;", true)
  | 13 => ("CouncilStore$Node", "appliedFrom", "I", false)
  | 14 => ("CouncilStore$Node", "compacted", "I", false)
  | 15 => ("CouncilStore$Node", "granted", "I", false)
  | 16 => ("CouncilStore$Node", "round", "I", false)
  | 17 => ("CouncilStore$Node", "next", "[I", true)
  | 18 => ("CouncilStore$Node", "match", "[I", true)
  | 19 => ("CouncilStore$Node", "confirmed", "[I", true)
  | 20 => ("CouncilStore$Node", "reads", "[LCouncilStore$Read;", false)
  | 21 => ("CouncilStore$Node", "readsMade", "I", false)
  | _ => ("CouncilStore$Node", "readsDone", "I", false)
def tyX13 : Nat → FieldType := fun k => match k with
  | 0 => .object "CouncilStore$World"
  | 1 => .int
  | 2 => .object "CouncilStore$Disk"
  | 3 => .int
  | 4 => .int
  | 5 => .object "CouncilStore$Log"
  | 6 => .object "CouncilStore$Messages"
  | 7 => .boolean
  | 8 => .int
  | 9 => .int
  | 10 => .int
  | 11 => .int
  | 12 => .object "CouncilStore$Ints"
  | 13 => .int
  | 14 => .int
  | 15 => .int
  | 16 => .int
  | 17 => .array .int
  | 18 => .array .int
  | 19 => .array .int
  | 20 => .array (.object "CouncilStore$Read")
  | 21 => .int
  | _ => .int
abbrev wsX130 : List Cond := u_ws RX13 TX13 23
theorem nmX13 : ∀ a, a < 23 → ∀ b, b < 23 → a ≠ b → (TX13 a).2.1 ≠ (TX13 b).2.1 := by decide +kernel
theorem tyX13_ok : ∀ k, k < 23 → parseFieldDescriptor (TX13 k).2.2.1 = some (tyX13 k) := by decide +kernel
abbrev cX13_init : ByteArray := prog_12_method_1_code
def yX13_init : MethodName := ⟨RX13, "<init>", "(LCouncilStore$World;I)V"⟩
abbrev cX13_clear : ByteArray := prog_12_method_2_code
def yX13_clear : MethodName := ⟨RX13, "clear", "()V"⟩
abbrev cX13_rise : ByteArray := prog_12_method_3_code
def yX13_rise : MethodName := ⟨RX13, "rise", "()V"⟩
abbrev cX13_whole : ByteArray := prog_12_method_4_code
def yX13_whole : MethodName := ⟨RX13, "whole", "()V"⟩
abbrev cX13_forgetReads : ByteArray := prog_12_method_5_code
def yX13_forgetReads : MethodName := ⟨RX13, "forgetReads", "()V"⟩
abbrev cX13_add : ByteArray := prog_12_method_18_code
def yX13_add : MethodName := ⟨RX13, "add", "(I)I"⟩
abbrev cX13_put : ByteArray := prog_12_method_19_code
def yX13_put : MethodName := ⟨RX13, "put", "(II)V"⟩
abbrev cX13_tellAll : ByteArray := prog_12_method_20_code
def yX13_tellAll : MethodName := ⟨RX13, "tellAll", "()V"⟩
abbrev cX13_tell : ByteArray := prog_12_method_21_code
def yX13_tell : MethodName := ⟨RX13, "tell", "(I)V"⟩
abbrev cX13_message : ByteArray := prog_12_method_9_code
def yX13_message : MethodName := ⟨RX13, "message", "(II)LCouncilStore$Message;"⟩
abbrev cX13_send : ByteArray := prog_12_method_10_code
def yX13_send : MethodName := ⟨RX13, "send", "(LCouncilStore$Message;)V"⟩
abbrev cX13_stand : ByteArray := prog_12_method_14_code
def yX13_stand : MethodName := ⟨RX13, "stand", "()V"⟩
abbrev cX13_setTerm : ByteArray := prog_12_method_12_code
def yX13_setTerm : MethodName := ⟨RX13, "setTerm", "(II)V"⟩
abbrev cX13_isMajority : ByteArray := prog_12_method_15_code
def yX13_isMajority : MethodName := ⟨RX13, "isMajority", "(I)Z"⟩
abbrev cX13_lead : ByteArray := prog_12_method_16_code
def yX13_lead : MethodName := ⟨RX13, "lead", "()V"⟩
abbrev cX13_sync : ByteArray := prog_12_method_11_code
def yX13_sync : MethodName := ⟨RX13, "sync", "()I"⟩
abbrev cX13_lookForCommit : ByteArray := prog_12_method_22_code
def yX13_lookForCommit : MethodName := ⟨RX13, "lookForCommit", "()V"⟩
abbrev cX13_commitTo : ByteArray := prog_12_method_23_code
def yX13_commitTo : MethodName := ⟨RX13, "commitTo", "(I)V"⟩
abbrev cX13_fall : ByteArray := prog_12_method_6_code
def yX13_fall : MethodName := ⟨RX13, "fall", "(I)V"⟩
abbrev cX13_wouldLead : ByteArray := prog_12_method_17_code
def yX13_wouldLead : MethodName := ⟨RX13, "wouldLead", "(LCouncilStore$Message;)Z"⟩
abbrev cX13_receive : ByteArray := prog_12_method_28_code
def yX13_receive : MethodName := ⟨RX13, "receive", "(LCouncilStore$Message;)V"⟩
abbrev cX13_follow : ByteArray := prog_12_method_13_code
def yX13_follow : MethodName := ⟨RX13, "follow", "(I)V"⟩
abbrev cX13_asked : ByteArray := prog_12_method_29_code
def yX13_asked : MethodName := ⟨RX13, "asked", "(LCouncilStore$Message;)V"⟩
abbrev cX13_leads : ByteArray := prog_12_method_32_code
def yX13_leads : MethodName := ⟨RX13, "leads", "(LCouncilStore$Message;)Z"⟩
abbrev cX13_reply : ByteArray := prog_12_method_31_code
def yX13_reply : MethodName := ⟨RX13, "reply", "(LCouncilStore$Message;ZII)V"⟩
abbrev cX13_append : ByteArray := prog_12_method_33_code
def yX13_append : MethodName := ⟨RX13, "append", "(LCouncilStore$Message;)V"⟩
abbrev cX13_reply_2 : ByteArray := prog_12_method_30_code
def yX13_reply_2 : MethodName := ⟨RX13, "reply", "(LCouncilStore$Message;ZI)V"⟩
abbrev cX13_takeState : ByteArray := prog_12_method_34_code
def yX13_takeState : MethodName := ⟨RX13, "takeState", "(LCouncilStore$Message;)V"⟩
abbrev cX13_taken : ByteArray := prog_12_method_35_code
def yX13_taken : MethodName := ⟨RX13, "taken", "(LCouncilStore$Message;)V"⟩
abbrev cX13_lookAtReads : ByteArray := prog_12_method_39_code
def yX13_lookAtReads : MethodName := ⟨RX13, "lookAtReads", "()V"⟩
abbrev cX13_answer : ByteArray := prog_12_method_40_code
def yX13_answer : MethodName := ⟨RX13, "answer", "(LCouncilStore$Read;)V"⟩
abbrev cX13_snapshot : ByteArray := prog_12_method_25_code
def yX13_snapshot : MethodName := ⟨RX13, "snapshot", "()V"⟩
abbrev cX13_mayRead : ByteArray := prog_12_method_36_code
def yX13_mayRead : MethodName := ⟨RX13, "mayRead", "()Z"⟩
abbrev cX13_readsFit : ByteArray := prog_12_method_37_code
def yX13_readsFit : MethodName := ⟨RX13, "readsFit", "()Z"⟩
abbrev cX13_readsWaiting : ByteArray := prog_12_method_8_code
def yX13_readsWaiting : MethodName := ⟨RX13, "readsWaiting", "()I"⟩
abbrev cX13_read : ByteArray := prog_12_method_38_code
def yX13_read : MethodName := ⟨RX13, "read", "(II)I"⟩
abbrev cX13_isDone : ByteArray := prog_12_method_42_code
def yX13_isDone : MethodName := ⟨RX13, "isDone", "(I)Z"⟩
abbrev cX13_answer_2 : ByteArray := prog_12_method_41_code
def yX13_answer_2 : MethodName := ⟨RX13, "answer", "(II)I"⟩
abbrev cX13_compacted : ByteArray := prog_12_method_26_code
def yX13_compacted : MethodName := ⟨RX13, "compacted", "()I"⟩
abbrev cX13_compact : ByteArray := prog_12_method_27_code
def yX13_compact : MethodName := ⟨RX13, "compact", "(I)V"⟩
abbrev cX13_stateAt : ByteArray := prog_12_method_24_code
def yX13_stateAt : MethodName := ⟨RX13, "stateAt", "(I)I"⟩
abbrev cX13_waiting : ByteArray := prog_12_method_7_code
def yX13_waiting : MethodName := ⟨RX13, "waiting", "()I"⟩
theorem q113 : (Jvm.Cond.initialized "CouncilStore$Node") ∈ lw_all := lw_g (lw_at lw_m1 13 rfl) rfl
theorem q219 : (Jvm.Cond.fieldLink "CouncilStore$Node" (327 : Nat) "CouncilStore$Entries" "terms" "LCouncilStore$Ints;") ∈ lw_all := lw_g (lw_at lw_m1 119 rfl) rfl
theorem q221 : (Jvm.Cond.fieldLink "CouncilStore$Node" (284 : Nat) "CouncilStore$Entries" "commands" "LCouncilStore$Ints;") ∈ lw_all := lw_g (lw_at lw_m1 121 rfl) rfl
theorem q279 : (Jvm.Cond.fieldLink "CouncilStore$Node" (366 : Nat) "CouncilStore$Pair" "changed" "I") ∈ lw_all := lw_g (lw_at lw_m1 179 rfl) rfl
theorem q283 : (Jvm.Cond.fieldLink "CouncilStore$Node" (371 : Nat) "CouncilStore$Pair" "version" "I") ∈ lw_all := lw_g (lw_at lw_m1 183 rfl) rfl
theorem q380 : (Jvm.Cond.fieldLink "CouncilStore$Node" (76 : Nat) "CouncilStore$Messages" "size" "I") ∈ lw_all := lw_g (lw_at lw_m2 40 rfl) rfl
theorem q402 : (Jvm.Cond.fieldLink "CouncilStore$Node" (234 : Nat) "CouncilStore$World" "commands" "LCouncilStore$Commands;") ∈ lw_all := lw_g (lw_at lw_m2 62 rfl) rfl
theorem q405 : (Jvm.Cond.fieldLink "CouncilStore$Node" (53 : Nat) "CouncilStore$World" "entries" "LCouncilStore$Entries;") ∈ lw_all := lw_g (lw_at lw_m2 65 rfl) rfl
theorem q407 : (Jvm.Cond.fieldLink "CouncilStore$Node" (280 : Nat) "CouncilStore$World" "states" "LCouncilStore$States;") ∈ lw_all := lw_g (lw_at lw_m2 67 rfl) rfl
theorem q410 : (Jvm.Cond.fieldLink "CouncilStore$Node" (79 : Nat) "CouncilStore$World" "net" "LCouncilStore$Net;") ∈ lw_all := lw_g (lw_at lw_m2 70 rfl) rfl
theorem q414 : (Jvm.Cond.fieldLink "CouncilStore$Node" (211 : Nat) "CouncilStore$World" "nodes" "I") ∈ lw_all := lw_g (lw_at lw_m2 74 rfl) rfl
theorem q416 : (Jvm.Cond.fieldLink "CouncilStore$Node" (357 : Nat) "CouncilStore$World" "wrong" "I") ∈ lw_all := lw_g (lw_at lw_m2 76 rfl) rfl
theorem q419 : (Jvm.Cond.fieldLink "CouncilStore$Node" (343 : Nat) "CouncilStore$World" "most" "I") ∈ lw_all := lw_g (lw_at lw_m2 79 rfl) rfl
theorem q478 : (Jvm.Cond.instantiable "CouncilStore$Node" (23 : Nat)) ∈ lw_all := lw_g (lw_at lw_m2 138 rfl) rfl
theorem q480 : (Jvm.Cond.instanceMethod ({ cls := "CouncilStore$Node", name := "<init>", desc := "(LCouncilStore$World;I)V" } : Jvm.MethodName)) ∈ lw_all := lw_g (lw_at lw_m2 140 rfl) rfl
theorem q481 : (Jvm.Cond.code ({ cls := "CouncilStore$Node", name := "<init>", desc := "(LCouncilStore$World;I)V" } : Jvm.MethodName) prog_12_method_1_code (3 : Nat) (Option.none : Option Jvm.ClassFile.FieldType)) ∈ lw_all := lw_g (lw_at lw_m2 141 rfl) rfl
theorem q482 : (Jvm.Cond.methodLink "CouncilStore$Node" (3 : Nat) ({ cls := "java/lang/Object", name := "<init>", desc := "()V" } : Jvm.MethodName)) ∈ lw_all := lw_g (lw_at lw_m2 142 rfl) rfl
theorem q483 : (Jvm.Cond.classLink "CouncilStore$Node" (9 : Nat) "CouncilStore$Messages") ∈ lw_all := lw_g (lw_at lw_m2 143 rfl) rfl
theorem q484 : (Jvm.Cond.methodLinkNest "CouncilStore$Node" (11 : Nat) ({ cls := "CouncilStore$Messages", name := "<init>", desc := "()V" } : Jvm.MethodName) "CouncilStore") ∈ lw_tbl := lw_at lw_m2 144 rfl
theorem q485 : (Jvm.Cond.classLink "CouncilStore$Node" (18 : Nat) "CouncilStore$Ints") ∈ lw_all := lw_g (lw_at lw_m2 145 rfl) rfl
theorem q486 : (Jvm.Cond.methodLink "CouncilStore$Node" (20 : Nat) ({ cls := "CouncilStore$Ints", name := "<init>", desc := "(I)V" } : Jvm.MethodName)) ∈ lw_all := lw_g (lw_at lw_m2 146 rfl) rfl
theorem q487 : (Jvm.Cond.classLink "CouncilStore$Node" (37 : Nat) "CouncilStore$Read") ∈ lw_all := lw_g (lw_at lw_m2 147 rfl) rfl
theorem q489 : (Jvm.Cond.classLink "CouncilStore$Node" (51 : Nat) "CouncilStore$Disk") ∈ lw_all := lw_g (lw_at lw_m2 149 rfl) rfl
theorem q491 : (Jvm.Cond.methodLink "CouncilStore$Node" (59 : Nat) ({ cls := "CouncilStore$Disk", name := "<init>", desc := "(LCouncilStore$Entries;)V" } : Jvm.MethodName)) ∈ lw_all := lw_g (lw_at lw_m2 151 rfl) rfl
theorem q507 : (Jvm.Cond.fieldLink "CouncilStore$Node" (128 : Nat) "CouncilStore$Log" "base" "I") ∈ lw_all := lw_g (lw_at lw_m2 167 rfl) rfl
theorem q510 : (Jvm.Cond.fieldLink "CouncilStore$Node" (264 : Nat) "CouncilStore$Log" "baseTerm" "I") ∈ lw_all := lw_g (lw_at lw_m2 170 rfl) rfl
theorem q512 : (Jvm.Cond.fieldLink "CouncilStore$Node" (134 : Nat) "CouncilStore$Log" "state" "I") ∈ lw_all := lw_g (lw_at lw_m2 172 rfl) rfl
theorem q526 : (Jvm.Cond.fieldLink "CouncilStore$Node" (100 : Nat) "CouncilStore$Disk" "term" "I") ∈ lw_all := lw_g (lw_at lw_m2 186 rfl) rfl
theorem q529 : (Jvm.Cond.fieldLink "CouncilStore$Node" (104 : Nat) "CouncilStore$Disk" "vote" "I") ∈ lw_all := lw_g (lw_at lw_m2 189 rfl) rfl
theorem q532 : (Jvm.Cond.fieldLink "CouncilStore$Node" (108 : Nat) "CouncilStore$Disk" "log" "LCouncilStore$Log;") ∈ lw_all := lw_g (lw_at lw_m2 192 rfl) rfl
theorem q544 : (Jvm.Cond.classLink "CouncilStore$Node" (66 : Nat) "CouncilStore$Log") ∈ lw_all := lw_g (lw_at lw_m2 204 rfl) rfl
theorem q545 : (Jvm.Cond.methodLink "CouncilStore$Node" (68 : Nat) ({ cls := "CouncilStore$Log", name := "<init>", desc := "(LCouncilStore$Entries;)V" } : Jvm.MethodName)) ∈ lw_all := lw_g (lw_at lw_m2 205 rfl) rfl
theorem q546 : (Jvm.Cond.fieldLink "CouncilStore$Node" (43 : Nat) "CouncilStore$Node" "world" "LCouncilStore$World;") ∈ lw_all := lw_g (lw_at lw_m2 206 rfl) rfl
theorem q547 : (Jvm.Cond.fieldLink "CouncilStore$Node" (47 : Nat) "CouncilStore$Node" "me" "I") ∈ lw_all := lw_g (lw_at lw_m2 207 rfl) rfl
theorem q548 : (Jvm.Cond.fieldLink "CouncilStore$Node" (62 : Nat) "CouncilStore$Node" "disk" "LCouncilStore$Disk;") ∈ lw_all := lw_g (lw_at lw_m2 208 rfl) rfl
theorem q550 : (Jvm.Cond.fieldLink "CouncilStore$Node" (103 : Nat) "CouncilStore$Node" "term" "I") ∈ lw_all := lw_g (lw_at lw_m2 210 rfl) rfl
theorem q552 : (Jvm.Cond.fieldLink "CouncilStore$Node" (107 : Nat) "CouncilStore$Node" "vote" "I") ∈ lw_all := lw_g (lw_at lw_m2 212 rfl) rfl
theorem q554 : (Jvm.Cond.fieldLink "CouncilStore$Node" (69 : Nat) "CouncilStore$Node" "log" "LCouncilStore$Log;") ∈ lw_all := lw_g (lw_at lw_m2 214 rfl) rfl
theorem q556 : (Jvm.Cond.fieldLink "CouncilStore$Node" (12 : Nat) "CouncilStore$Node" "outbox" "LCouncilStore$Messages;") ∈ lw_all := lw_g (lw_at lw_m2 216 rfl) rfl
theorem q557 : (Jvm.Cond.fieldLink "CouncilStore$Node" (96 : Nat) "CouncilStore$Node" "down" "Z") ∈ lw_all := lw_g (lw_at lw_m2 217 rfl) rfl
theorem q559 : (Jvm.Cond.fieldLink "CouncilStore$Node" (113 : Nat) "CouncilStore$Node" "role" "I") ∈ lw_all := lw_g (lw_at lw_m2 219 rfl) rfl
theorem q561 : (Jvm.Cond.fieldLink "CouncilStore$Node" (116 : Nat) "CouncilStore$Node" "leader" "I") ∈ lw_all := lw_g (lw_at lw_m2 221 rfl) rfl
theorem q563 : (Jvm.Cond.fieldLink "CouncilStore$Node" (131 : Nat) "CouncilStore$Node" "commit" "I") ∈ lw_all := lw_g (lw_at lw_m2 223 rfl) rfl
theorem q565 : (Jvm.Cond.fieldLink "CouncilStore$Node" (137 : Nat) "CouncilStore$Node" "state" "I") ∈ lw_all := lw_g (lw_at lw_m2 225 rfl) rfl
theorem q567 : (Jvm.Cond.fieldLink "CouncilStore$Node" (23 : Nat) "CouncilStore$Node" "applied" "LCouncilStore$Ints;") ∈ lw_all := lw_g (lw_at lw_m2 227 rfl) rfl
theorem q568 : (Jvm.Cond.fieldLink "CouncilStore$Node" (138 : Nat) "CouncilStore$Node" "appliedFrom" "I") ∈ lw_all := lw_g (lw_at lw_m2 228 rfl) rfl
theorem q569 : (Jvm.Cond.fieldLink "CouncilStore$Node" (142 : Nat) "CouncilStore$Node" "compacted" "I") ∈ lw_all := lw_g (lw_at lw_m2 229 rfl) rfl
theorem q570 : (Jvm.Cond.fieldLink "CouncilStore$Node" (122 : Nat) "CouncilStore$Node" "granted" "I") ∈ lw_all := lw_g (lw_at lw_m2 230 rfl) rfl
theorem q571 : (Jvm.Cond.fieldLink "CouncilStore$Node" (233 : Nat) "CouncilStore$Node" "round" "I") ∈ lw_all := lw_g (lw_at lw_m2 231 rfl) rfl
theorem q572 : (Jvm.Cond.fieldLink "CouncilStore$Node" (27 : Nat) "CouncilStore$Node" "next" "[I") ∈ lw_all := lw_g (lw_at lw_m2 232 rfl) rfl
theorem q573 : (Jvm.Cond.fieldLink "CouncilStore$Node" (31 : Nat) "CouncilStore$Node" "match" "[I") ∈ lw_all := lw_g (lw_at lw_m2 233 rfl) rfl
theorem q574 : (Jvm.Cond.fieldLink "CouncilStore$Node" (34 : Nat) "CouncilStore$Node" "confirmed" "[I") ∈ lw_all := lw_g (lw_at lw_m2 234 rfl) rfl
theorem q575 : (Jvm.Cond.fieldLink "CouncilStore$Node" (39 : Nat) "CouncilStore$Node" "reads" "[LCouncilStore$Read;") ∈ lw_all := lw_g (lw_at lw_m2 235 rfl) rfl
theorem q576 : (Jvm.Cond.fieldLink "CouncilStore$Node" (145 : Nat) "CouncilStore$Node" "readsMade" "I") ∈ lw_all := lw_g (lw_at lw_m2 236 rfl) rfl
theorem q577 : (Jvm.Cond.fieldLink "CouncilStore$Node" (148 : Nat) "CouncilStore$Node" "readsDone" "I") ∈ lw_all := lw_g (lw_at lw_m2 237 rfl) rfl
theorem q578 : (Jvm.Cond.laysFinal "CouncilStore$Node" "CouncilStore$Node" "world" "LCouncilStore$World;") ∈ lw_all := lw_g (lw_at lw_m2 238 rfl) rfl
theorem q579 : (Jvm.Cond.soleField "CouncilStore$Node" "world") ∈ lw_all := lw_g (lw_at lw_m2 239 rfl) rfl
theorem q580 : (Jvm.Cond.laysFinal "CouncilStore$Node" "CouncilStore$Node" "me" "I") ∈ lw_all := lw_g (lw_at lw_m3 0 rfl) rfl
theorem q581 : (Jvm.Cond.soleField "CouncilStore$Node" "me") ∈ lw_all := lw_g (lw_at lw_m3 1 rfl) rfl
theorem q582 : (Jvm.Cond.laysFinal "CouncilStore$Node" "CouncilStore$Node" "disk" "LCouncilStore$Disk;") ∈ lw_all := lw_g (lw_at lw_m3 2 rfl) rfl
theorem q583 : (Jvm.Cond.soleField "CouncilStore$Node" "disk") ∈ lw_all := lw_g (lw_at lw_m3 3 rfl) rfl
theorem q584 : (Jvm.Cond.lays "CouncilStore$Node" "CouncilStore$Node" "term" "I") ∈ lw_all := lw_g (lw_at lw_m3 4 rfl) rfl
theorem q585 : (Jvm.Cond.soleField "CouncilStore$Node" "term") ∈ lw_all := lw_g (lw_at lw_m3 5 rfl) rfl
theorem q586 : (Jvm.Cond.lays "CouncilStore$Node" "CouncilStore$Node" "vote" "I") ∈ lw_all := lw_g (lw_at lw_m3 6 rfl) rfl
theorem q587 : (Jvm.Cond.soleField "CouncilStore$Node" "vote") ∈ lw_all := lw_g (lw_at lw_m3 7 rfl) rfl
theorem q588 : (Jvm.Cond.laysFinal "CouncilStore$Node" "CouncilStore$Node" "log" "LCouncilStore$Log;") ∈ lw_all := lw_g (lw_at lw_m3 8 rfl) rfl
theorem q589 : (Jvm.Cond.soleField "CouncilStore$Node" "log") ∈ lw_all := lw_g (lw_at lw_m3 9 rfl) rfl
theorem q590 : (Jvm.Cond.laysFinal "CouncilStore$Node" "CouncilStore$Node" "outbox" "LCouncilStore$Messages;") ∈ lw_all := lw_g (lw_at lw_m3 10 rfl) rfl
theorem q591 : (Jvm.Cond.soleField "CouncilStore$Node" "outbox") ∈ lw_all := lw_g (lw_at lw_m3 11 rfl) rfl
theorem q592 : (Jvm.Cond.lays "CouncilStore$Node" "CouncilStore$Node" "down" "Z") ∈ lw_all := lw_g (lw_at lw_m3 12 rfl) rfl
theorem q593 : (Jvm.Cond.soleField "CouncilStore$Node" "down") ∈ lw_all := lw_g (lw_at lw_m3 13 rfl) rfl
theorem q594 : (Jvm.Cond.lays "CouncilStore$Node" "CouncilStore$Node" "role" "I") ∈ lw_all := lw_g (lw_at lw_m3 14 rfl) rfl
theorem q595 : (Jvm.Cond.soleField "CouncilStore$Node" "role") ∈ lw_all := lw_g (lw_at lw_m3 15 rfl) rfl
theorem q596 : (Jvm.Cond.lays "CouncilStore$Node" "CouncilStore$Node" "leader" "I") ∈ lw_all := lw_g (lw_at lw_m3 16 rfl) rfl
theorem q597 : (Jvm.Cond.soleField "CouncilStore$Node" "leader") ∈ lw_all := lw_g (lw_at lw_m3 17 rfl) rfl
theorem q598 : (Jvm.Cond.lays "CouncilStore$Node" "CouncilStore$Node" "commit" "I") ∈ lw_all := lw_g (lw_at lw_m3 18 rfl) rfl
theorem q599 : (Jvm.Cond.soleField "CouncilStore$Node" "commit") ∈ lw_all := lw_g (lw_at lw_m3 19 rfl) rfl
theorem q600 : (Jvm.Cond.lays "CouncilStore$Node" "CouncilStore$Node" "state" "I") ∈ lw_all := lw_g (lw_at lw_m3 20 rfl) rfl
theorem q601 : (Jvm.Cond.soleField "CouncilStore$Node" "state") ∈ lw_all := lw_g (lw_at lw_m3 21 rfl) rfl
theorem q602 : (Jvm.Cond.laysFinal "CouncilStore$Node" "CouncilStore$Node" "applied" "LCouncilStore$Ints;") ∈ lw_all := lw_g (lw_at lw_m3 22 rfl) rfl
theorem q603 : (Jvm.Cond.soleField "CouncilStore$Node" "applied") ∈ lw_all := lw_g (lw_at lw_m3 23 rfl) rfl
theorem q604 : (Jvm.Cond.lays "CouncilStore$Node" "CouncilStore$Node" "appliedFrom" "I") ∈ lw_all := lw_g (lw_at lw_m3 24 rfl) rfl
theorem q605 : (Jvm.Cond.soleField "CouncilStore$Node" "appliedFrom") ∈ lw_all := lw_g (lw_at lw_m3 25 rfl) rfl
theorem q606 : (Jvm.Cond.lays "CouncilStore$Node" "CouncilStore$Node" "compacted" "I") ∈ lw_all := lw_g (lw_at lw_m3 26 rfl) rfl
theorem q607 : (Jvm.Cond.soleField "CouncilStore$Node" "compacted") ∈ lw_all := lw_g (lw_at lw_m3 27 rfl) rfl
theorem q608 : (Jvm.Cond.lays "CouncilStore$Node" "CouncilStore$Node" "granted" "I") ∈ lw_all := lw_g (lw_at lw_m3 28 rfl) rfl
theorem q609 : (Jvm.Cond.soleField "CouncilStore$Node" "granted") ∈ lw_all := lw_g (lw_at lw_m3 29 rfl) rfl
theorem q610 : (Jvm.Cond.lays "CouncilStore$Node" "CouncilStore$Node" "round" "I") ∈ lw_all := lw_g (lw_at lw_m3 30 rfl) rfl
theorem q611 : (Jvm.Cond.soleField "CouncilStore$Node" "round") ∈ lw_all := lw_g (lw_at lw_m3 31 rfl) rfl
theorem q612 : (Jvm.Cond.laysFinal "CouncilStore$Node" "CouncilStore$Node" "next" "[I") ∈ lw_all := lw_g (lw_at lw_m3 32 rfl) rfl
theorem q613 : (Jvm.Cond.soleField "CouncilStore$Node" "next") ∈ lw_all := lw_g (lw_at lw_m3 33 rfl) rfl
theorem q614 : (Jvm.Cond.laysFinal "CouncilStore$Node" "CouncilStore$Node" "match" "[I") ∈ lw_all := lw_g (lw_at lw_m3 34 rfl) rfl
theorem q615 : (Jvm.Cond.soleField "CouncilStore$Node" "match") ∈ lw_all := lw_g (lw_at lw_m3 35 rfl) rfl
theorem q616 : (Jvm.Cond.laysFinal "CouncilStore$Node" "CouncilStore$Node" "confirmed" "[I") ∈ lw_all := lw_g (lw_at lw_m3 36 rfl) rfl
theorem q617 : (Jvm.Cond.soleField "CouncilStore$Node" "confirmed") ∈ lw_all := lw_g (lw_at lw_m3 37 rfl) rfl
theorem q618 : (Jvm.Cond.lays "CouncilStore$Node" "CouncilStore$Node" "reads" "[LCouncilStore$Read;") ∈ lw_all := lw_g (lw_at lw_m3 38 rfl) rfl
theorem q619 : (Jvm.Cond.soleField "CouncilStore$Node" "reads") ∈ lw_all := lw_g (lw_at lw_m3 39 rfl) rfl
theorem q620 : (Jvm.Cond.lays "CouncilStore$Node" "CouncilStore$Node" "readsMade" "I") ∈ lw_all := lw_g (lw_at lw_m3 40 rfl) rfl
theorem q621 : (Jvm.Cond.soleField "CouncilStore$Node" "readsMade") ∈ lw_all := lw_g (lw_at lw_m3 41 rfl) rfl
theorem q622 : (Jvm.Cond.lays "CouncilStore$Node" "CouncilStore$Node" "readsDone" "I") ∈ lw_all := lw_g (lw_at lw_m3 42 rfl) rfl
theorem q623 : (Jvm.Cond.soleField "CouncilStore$Node" "readsDone") ∈ lw_all := lw_g (lw_at lw_m3 43 rfl) rfl
theorem q624 : (Jvm.Cond.superclass "CouncilStore$Node" "java/lang/Object") ∈ lw_all := lw_g (lw_at lw_m3 44 rfl) rfl
theorem q829 : (Jvm.Cond.instanceMethod ({ cls := "CouncilStore$Node", name := "clear", desc := "()V" } : Jvm.MethodName)) ∈ lw_all := lw_g (lw_at lw_m4 9 rfl) rfl
theorem q830 : (Jvm.Cond.selects "CouncilStore$Node" ({ cls := "CouncilStore$Node", name := "clear", desc := "()V" } : Jvm.MethodName) ({ cls := "CouncilStore$Node", name := "clear", desc := "()V" } : Jvm.MethodName)) ∈ lw_all := lw_g (lw_at lw_m4 10 rfl) rfl
theorem q831 : (Jvm.Cond.code ({ cls := "CouncilStore$Node", name := "clear", desc := "()V" } : Jvm.MethodName) prog_12_method_2_code (1 : Nat) (Option.none : Option Jvm.ClassFile.FieldType)) ∈ lw_all := lw_g (lw_at lw_m4 11 rfl) rfl
theorem q832 : (Jvm.Cond.methodLink "CouncilStore$Node" (73 : Nat) ({ cls := "CouncilStore$Disk", name := "clear", desc := "()V" } : Jvm.MethodName)) ∈ lw_all := lw_g (lw_at lw_m4 12 rfl) rfl
theorem q842 : (Jvm.Cond.methodLink "CouncilStore$Node" (83 : Nat) ({ cls := "CouncilStore$Messages", name := "pop", desc := "()LCouncilStore$Message;" } : Jvm.MethodName)) ∈ lw_all := lw_g (lw_at lw_m4 22 rfl) rfl
theorem q843 : (Jvm.Cond.methodLink "CouncilStore$Node" (87 : Nat) ({ cls := "CouncilStore$Net", name := "leave", desc := "(LCouncilStore$Message;)V" } : Jvm.MethodName)) ∈ lw_all := lw_g (lw_at lw_m4 23 rfl) rfl
theorem q847 : (Jvm.Cond.methodLink "CouncilStore$Node" (93 : Nat) ({ cls := "CouncilStore$Node", name := "rise", desc := "()V" } : Jvm.MethodName)) ∈ lw_all := lw_g (lw_at lw_m4 27 rfl) rfl
theorem q848 : (Jvm.Cond.instanceMethod ({ cls := "CouncilStore$Node", name := "rise", desc := "()V" } : Jvm.MethodName)) ∈ lw_all := lw_g (lw_at lw_m4 28 rfl) rfl
theorem q849 : (Jvm.Cond.selects "CouncilStore$Node" ({ cls := "CouncilStore$Node", name := "rise", desc := "()V" } : Jvm.MethodName) ({ cls := "CouncilStore$Node", name := "rise", desc := "()V" } : Jvm.MethodName)) ∈ lw_all := lw_g (lw_at lw_m4 29 rfl) rfl
theorem q850 : (Jvm.Cond.code ({ cls := "CouncilStore$Node", name := "rise", desc := "()V" } : Jvm.MethodName) prog_12_method_3_code (1 : Nat) (Option.none : Option Jvm.ClassFile.FieldType)) ∈ lw_all := lw_g (lw_at lw_m4 30 rfl) rfl
theorem q851 : (Jvm.Cond.methodLink "CouncilStore$Node" (109 : Nat) ({ cls := "CouncilStore$Log", name := "copy", desc := "(LCouncilStore$Log;)V" } : Jvm.MethodName)) ∈ lw_all := lw_g (lw_at lw_m4 31 rfl) rfl
theorem q861 : (Jvm.Cond.methodLink "CouncilStore$Node" (119 : Nat) ({ cls := "CouncilStore$Node", name := "whole", desc := "()V" } : Jvm.MethodName)) ∈ lw_all := lw_g (lw_at lw_m4 41 rfl) rfl
theorem q862 : (Jvm.Cond.privateMethod ({ cls := "CouncilStore$Node", name := "whole", desc := "()V" } : Jvm.MethodName)) ∈ lw_tbl := lw_at lw_m4 42 rfl
theorem q863 : (Jvm.Cond.instanceMethod ({ cls := "CouncilStore$Node", name := "whole", desc := "()V" } : Jvm.MethodName)) ∈ lw_all := lw_g (lw_at lw_m4 43 rfl) rfl
theorem q864 : (Jvm.Cond.code ({ cls := "CouncilStore$Node", name := "whole", desc := "()V" } : Jvm.MethodName) prog_12_method_4_code (1 : Nat) (Option.none : Option Jvm.ClassFile.FieldType)) ∈ lw_all := lw_g (lw_at lw_m4 44 rfl) rfl
theorem q865 : (Jvm.Cond.methodLink "CouncilStore$Node" (141 : Nat) ({ cls := "CouncilStore$Ints", name := "clear", desc := "()V" } : Jvm.MethodName)) ∈ lw_all := lw_g (lw_at lw_m4 45 rfl) rfl
theorem q866 : (Jvm.Cond.methodLink "CouncilStore$Node" (125 : Nat) ({ cls := "CouncilStore$Node", name := "forgetReads", desc := "()V" } : Jvm.MethodName)) ∈ lw_all := lw_g (lw_at lw_m4 46 rfl) rfl
theorem q867 : (Jvm.Cond.privateMethod ({ cls := "CouncilStore$Node", name := "forgetReads", desc := "()V" } : Jvm.MethodName)) ∈ lw_tbl := lw_at lw_m4 47 rfl
theorem q868 : (Jvm.Cond.instanceMethod ({ cls := "CouncilStore$Node", name := "forgetReads", desc := "()V" } : Jvm.MethodName)) ∈ lw_all := lw_g (lw_at lw_m4 48 rfl) rfl
theorem q869 : (Jvm.Cond.code ({ cls := "CouncilStore$Node", name := "forgetReads", desc := "()V" } : Jvm.MethodName) prog_12_method_5_code (1 : Nat) (Option.none : Option Jvm.ClassFile.FieldType)) ∈ lw_all := lw_g (lw_at lw_m4 49 rfl) rfl
theorem q1063 : (Jvm.Cond.instanceMethod ({ cls := "CouncilStore$Node", name := "add", desc := "(I)I" } : Jvm.MethodName)) ∈ lw_all := lw_g (lw_at lw_m5 3 rfl) rfl
theorem q1064 : (Jvm.Cond.selects "CouncilStore$Node" ({ cls := "CouncilStore$Node", name := "add", desc := "(I)I" } : Jvm.MethodName) ({ cls := "CouncilStore$Node", name := "add", desc := "(I)I" } : Jvm.MethodName)) ∈ lw_all := lw_g (lw_at lw_m5 4 rfl) rfl
theorem q1065 : (Jvm.Cond.code ({ cls := "CouncilStore$Node", name := "add", desc := "(I)I" } : Jvm.MethodName) prog_12_method_18_code (4 : Nat) (Option.some Jvm.ClassFile.FieldType.int)) ∈ lw_all := lw_g (lw_at lw_m5 5 rfl) rfl
theorem q1066 : (Jvm.Cond.methodLink "CouncilStore$Node" (246 : Nat) ({ cls := "CouncilStore$Entries", name := "add", desc := "(II)I" } : Jvm.MethodName)) ∈ lw_all := lw_g (lw_at lw_m5 6 rfl) rfl
theorem q1071 : (Jvm.Cond.methodLink "CouncilStore$Node" (198 : Nat) ({ cls := "CouncilStore$Log", name := "last", desc := "()I" } : Jvm.MethodName)) ∈ lw_all := lw_g (lw_at lw_m5 11 rfl) rfl
theorem q1075 : (Jvm.Cond.methodLink "CouncilStore$Node" (251 : Nat) ({ cls := "CouncilStore$Node", name := "put", desc := "(II)V" } : Jvm.MethodName)) ∈ lw_all := lw_g (lw_at lw_m5 15 rfl) rfl
theorem q1076 : (Jvm.Cond.privateMethod ({ cls := "CouncilStore$Node", name := "put", desc := "(II)V" } : Jvm.MethodName)) ∈ lw_tbl := lw_at lw_m5 16 rfl
theorem q1077 : (Jvm.Cond.instanceMethod ({ cls := "CouncilStore$Node", name := "put", desc := "(II)V" } : Jvm.MethodName)) ∈ lw_all := lw_g (lw_at lw_m5 17 rfl) rfl
theorem q1078 : (Jvm.Cond.code ({ cls := "CouncilStore$Node", name := "put", desc := "(II)V" } : Jvm.MethodName) prog_12_method_19_code (3 : Nat) (Option.none : Option Jvm.ClassFile.FieldType)) ∈ lw_all := lw_g (lw_at lw_m5 18 rfl) rfl
theorem q1079 : (Jvm.Cond.methodLink "CouncilStore$Node" (257 : Nat) ({ cls := "CouncilStore$Log", name := "put", desc := "(II)V" } : Jvm.MethodName)) ∈ lw_all := lw_g (lw_at lw_m5 19 rfl) rfl
theorem q1084 : (Jvm.Cond.methodLink "CouncilStore$Node" (258 : Nat) ({ cls := "CouncilStore$Disk", name := "writeEntry", desc := "(II)V" } : Jvm.MethodName)) ∈ lw_all := lw_g (lw_at lw_m5 24 rfl) rfl
theorem q1093 : (Jvm.Cond.methodLink "CouncilStore$Node" (254 : Nat) ({ cls := "CouncilStore$Node", name := "tellAll", desc := "()V" } : Jvm.MethodName)) ∈ lw_all := lw_g (lw_at lw_m5 33 rfl) rfl
theorem q1094 : (Jvm.Cond.instanceMethod ({ cls := "CouncilStore$Node", name := "tellAll", desc := "()V" } : Jvm.MethodName)) ∈ lw_all := lw_g (lw_at lw_m5 34 rfl) rfl
theorem q1095 : (Jvm.Cond.selects "CouncilStore$Node" ({ cls := "CouncilStore$Node", name := "tellAll", desc := "()V" } : Jvm.MethodName) ({ cls := "CouncilStore$Node", name := "tellAll", desc := "()V" } : Jvm.MethodName)) ∈ lw_all := lw_g (lw_at lw_m5 35 rfl) rfl
theorem q1096 : (Jvm.Cond.code ({ cls := "CouncilStore$Node", name := "tellAll", desc := "()V" } : Jvm.MethodName) prog_12_method_20_code (2 : Nat) (Option.none : Option Jvm.ClassFile.FieldType)) ∈ lw_all := lw_g (lw_at lw_m5 36 rfl) rfl
theorem q1097 : (Jvm.Cond.methodLink "CouncilStore$Node" (261 : Nat) ({ cls := "CouncilStore$Node", name := "tell", desc := "(I)V" } : Jvm.MethodName)) ∈ lw_all := lw_g (lw_at lw_m5 37 rfl) rfl
theorem q1098 : (Jvm.Cond.privateMethod ({ cls := "CouncilStore$Node", name := "tell", desc := "(I)V" } : Jvm.MethodName)) ∈ lw_tbl := lw_at lw_m5 38 rfl
theorem q1099 : (Jvm.Cond.instanceMethod ({ cls := "CouncilStore$Node", name := "tell", desc := "(I)V" } : Jvm.MethodName)) ∈ lw_all := lw_g (lw_at lw_m5 39 rfl) rfl
theorem q1100 : (Jvm.Cond.code ({ cls := "CouncilStore$Node", name := "tell", desc := "(I)V" } : Jvm.MethodName) prog_12_method_21_code (5 : Nat) (Option.none : Option Jvm.ClassFile.FieldType)) ∈ lw_all := lw_g (lw_at lw_m5 40 rfl) rfl
theorem q1101 : (Jvm.Cond.methodLink "CouncilStore$Node" (214 : Nat) ({ cls := "CouncilStore$Node", name := "message", desc := "(II)LCouncilStore$Message;" } : Jvm.MethodName)) ∈ lw_all := lw_g (lw_at lw_m5 41 rfl) rfl
theorem q1102 : (Jvm.Cond.privateMethod ({ cls := "CouncilStore$Node", name := "message", desc := "(II)LCouncilStore$Message;" } : Jvm.MethodName)) ∈ lw_tbl := lw_at lw_m5 42 rfl
theorem q1103 : (Jvm.Cond.instanceMethod ({ cls := "CouncilStore$Node", name := "message", desc := "(II)LCouncilStore$Message;" } : Jvm.MethodName)) ∈ lw_all := lw_g (lw_at lw_m5 43 rfl) rfl
theorem q1104 : (Jvm.Cond.code ({ cls := "CouncilStore$Node", name := "message", desc := "(II)LCouncilStore$Message;" } : Jvm.MethodName) prog_12_method_9_code (4 : Nat) (Option.some (Jvm.ClassFile.FieldType.object "CouncilStore$Message"))) ∈ lw_all := lw_g (lw_at lw_m5 44 rfl) rfl
theorem q1105 : (Jvm.Cond.methodLink "CouncilStore$Node" (154 : Nat) ({ cls := "CouncilStore$Net", name := "take", desc := "()LCouncilStore$Message;" } : Jvm.MethodName)) ∈ lw_all := lw_g (lw_at lw_m5 45 rfl) rfl
theorem q1115 : (Jvm.Cond.fieldLink "CouncilStore$Node" (157 : Nat) "CouncilStore$Message" "sort" "I") ∈ lw_all := lw_g (lw_at lw_m5 55 rfl) rfl
theorem q1117 : (Jvm.Cond.fieldLink "CouncilStore$Node" (162 : Nat) "CouncilStore$Message" "from" "I") ∈ lw_all := lw_g (lw_at lw_m5 57 rfl) rfl
theorem q1119 : (Jvm.Cond.fieldLink "CouncilStore$Node" (165 : Nat) "CouncilStore$Message" "to" "I") ∈ lw_all := lw_g (lw_at lw_m5 59 rfl) rfl
theorem q1121 : (Jvm.Cond.fieldLink "CouncilStore$Node" (168 : Nat) "CouncilStore$Message" "term" "I") ∈ lw_all := lw_g (lw_at lw_m5 61 rfl) rfl
theorem q1123 : (Jvm.Cond.fieldLink "CouncilStore$Node" (169 : Nat) "CouncilStore$Message" "index" "I") ∈ lw_all := lw_g (lw_at lw_m5 63 rfl) rfl
theorem q1125 : (Jvm.Cond.fieldLink "CouncilStore$Node" (172 : Nat) "CouncilStore$Message" "mark" "I") ∈ lw_all := lw_g (lw_at lw_m5 65 rfl) rfl
theorem q1127 : (Jvm.Cond.fieldLink "CouncilStore$Node" (175 : Nat) "CouncilStore$Message" "commit" "I") ∈ lw_all := lw_g (lw_at lw_m5 67 rfl) rfl
theorem q1129 : (Jvm.Cond.fieldLink "CouncilStore$Node" (176 : Nat) "CouncilStore$Message" "round" "I") ∈ lw_all := lw_g (lw_at lw_m5 69 rfl) rfl
theorem q1131 : (Jvm.Cond.fieldLink "CouncilStore$Node" (179 : Nat) "CouncilStore$Message" "state" "I") ∈ lw_all := lw_g (lw_at lw_m5 71 rfl) rfl
theorem q1132 : (Jvm.Cond.fieldLink "CouncilStore$Node" (180 : Nat) "CouncilStore$Message" "many" "I") ∈ lw_all := lw_g (lw_at lw_m5 72 rfl) rfl
theorem q1135 : (Jvm.Cond.fieldLink "CouncilStore$Node" (269 : Nat) "CouncilStore$Message" "entries" "[I") ∈ lw_all := lw_g (lw_at lw_m5 75 rfl) rfl
theorem q1159 : (Jvm.Cond.methodLink "CouncilStore$Node" (221 : Nat) ({ cls := "CouncilStore$Node", name := "send", desc := "(LCouncilStore$Message;)V" } : Jvm.MethodName)) ∈ lw_all := lw_g (lw_at lw_m5 99 rfl) rfl
theorem q1160 : (Jvm.Cond.privateMethod ({ cls := "CouncilStore$Node", name := "send", desc := "(LCouncilStore$Message;)V" } : Jvm.MethodName)) ∈ lw_tbl := lw_at lw_m5 100 rfl
theorem q1161 : (Jvm.Cond.instanceMethod ({ cls := "CouncilStore$Node", name := "send", desc := "(LCouncilStore$Message;)V" } : Jvm.MethodName)) ∈ lw_all := lw_g (lw_at lw_m5 101 rfl) rfl
theorem q1162 : (Jvm.Cond.code ({ cls := "CouncilStore$Node", name := "send", desc := "(LCouncilStore$Message;)V" } : Jvm.MethodName) prog_12_method_10_code (2 : Nat) (Option.none : Option Jvm.ClassFile.FieldType)) ∈ lw_all := lw_g (lw_at lw_m5 102 rfl) rfl
theorem q1163 : (Jvm.Cond.methodLink "CouncilStore$Node" (183 : Nat) ({ cls := "CouncilStore$Disk", name := "unsynced", desc := "()I" } : Jvm.MethodName)) ∈ lw_all := lw_g (lw_at lw_m5 103 rfl) rfl
theorem q1167 : (Jvm.Cond.methodLink "CouncilStore$Node" (187 : Nat) ({ cls := "CouncilStore$Messages", name := "add", desc := "(LCouncilStore$Message;)V" } : Jvm.MethodName)) ∈ lw_all := lw_g (lw_at lw_m5 107 rfl) rfl
theorem q1168 : (Jvm.Cond.methodLink "CouncilStore$Node" (190 : Nat) ({ cls := "CouncilStore$Net", name := "send", desc := "(LCouncilStore$Message;)I" } : Jvm.MethodName)) ∈ lw_all := lw_g (lw_at lw_m5 108 rfl) rfl
theorem q1173 : (Jvm.Cond.methodLink "CouncilStore$Node" (267 : Nat) ({ cls := "CouncilStore$Log", name := "term", desc := "(I)I" } : Jvm.MethodName)) ∈ lw_all := lw_g (lw_at lw_m5 113 rfl) rfl
theorem q1178 : (Jvm.Cond.methodLink "CouncilStore$Node" (271 : Nat) ({ cls := "CouncilStore$Log", name := "entry", desc := "(I)I" } : Jvm.MethodName)) ∈ lw_all := lw_g (lw_at lw_m5 118 rfl) rfl
theorem q1190 : (Jvm.Cond.instanceMethod ({ cls := "CouncilStore$Node", name := "stand", desc := "()V" } : Jvm.MethodName)) ∈ lw_all := lw_g (lw_at lw_m5 130 rfl) rfl
theorem q1191 : (Jvm.Cond.selects "CouncilStore$Node" ({ cls := "CouncilStore$Node", name := "stand", desc := "()V" } : Jvm.MethodName) ({ cls := "CouncilStore$Node", name := "stand", desc := "()V" } : Jvm.MethodName)) ∈ lw_all := lw_g (lw_at lw_m5 131 rfl) rfl
theorem q1192 : (Jvm.Cond.code ({ cls := "CouncilStore$Node", name := "stand", desc := "()V" } : Jvm.MethodName) prog_12_method_14_code (3 : Nat) (Option.none : Option Jvm.ClassFile.FieldType)) ∈ lw_all := lw_g (lw_at lw_m5 132 rfl) rfl
theorem q1193 : (Jvm.Cond.methodLink "CouncilStore$Node" (208 : Nat) ({ cls := "CouncilStore$Node", name := "setTerm", desc := "(II)V" } : Jvm.MethodName)) ∈ lw_all := lw_g (lw_at lw_m5 133 rfl) rfl
theorem q1194 : (Jvm.Cond.privateMethod ({ cls := "CouncilStore$Node", name := "setTerm", desc := "(II)V" } : Jvm.MethodName)) ∈ lw_tbl := lw_at lw_m5 134 rfl
theorem q1195 : (Jvm.Cond.instanceMethod ({ cls := "CouncilStore$Node", name := "setTerm", desc := "(II)V" } : Jvm.MethodName)) ∈ lw_all := lw_g (lw_at lw_m5 135 rfl) rfl
theorem q1196 : (Jvm.Cond.code ({ cls := "CouncilStore$Node", name := "setTerm", desc := "(II)V" } : Jvm.MethodName) prog_12_method_12_code (3 : Nat) (Option.none : Option Jvm.ClassFile.FieldType)) ∈ lw_all := lw_g (lw_at lw_m5 136 rfl) rfl
theorem q1197 : (Jvm.Cond.methodLink "CouncilStore$Node" (204 : Nat) ({ cls := "CouncilStore$Disk", name := "writeTerm", desc := "(II)V" } : Jvm.MethodName)) ∈ lw_all := lw_g (lw_at lw_m5 137 rfl) rfl
theorem q1201 : (Jvm.Cond.methodLink "CouncilStore$Node" (218 : Nat) ({ cls := "CouncilStore$Log", name := "lastTerm", desc := "()I" } : Jvm.MethodName)) ∈ lw_all := lw_g (lw_at lw_m5 141 rfl) rfl
theorem q1207 : (Jvm.Cond.methodLink "CouncilStore$Node" (223 : Nat) ({ cls := "CouncilStore$Node", name := "isMajority", desc := "(I)Z" } : Jvm.MethodName)) ∈ lw_all := lw_g (lw_at lw_m5 147 rfl) rfl
theorem q1208 : (Jvm.Cond.privateMethod ({ cls := "CouncilStore$Node", name := "isMajority", desc := "(I)Z" } : Jvm.MethodName)) ∈ lw_tbl := lw_at lw_m5 148 rfl
theorem q1209 : (Jvm.Cond.instanceMethod ({ cls := "CouncilStore$Node", name := "isMajority", desc := "(I)Z" } : Jvm.MethodName)) ∈ lw_all := lw_g (lw_at lw_m5 149 rfl) rfl
theorem q1210 : (Jvm.Cond.code ({ cls := "CouncilStore$Node", name := "isMajority", desc := "(I)Z" } : Jvm.MethodName) prog_12_method_15_code (4 : Nat) (Option.some Jvm.ClassFile.FieldType.boolean)) ∈ lw_all := lw_g (lw_at lw_m5 150 rfl) rfl
theorem q1211 : (Jvm.Cond.methodLink "CouncilStore$Node" (227 : Nat) ({ cls := "CouncilStore$Node", name := "lead", desc := "()V" } : Jvm.MethodName)) ∈ lw_all := lw_g (lw_at lw_m5 151 rfl) rfl
theorem q1212 : (Jvm.Cond.privateMethod ({ cls := "CouncilStore$Node", name := "lead", desc := "()V" } : Jvm.MethodName)) ∈ lw_tbl := lw_at lw_m5 152 rfl
theorem q1213 : (Jvm.Cond.instanceMethod ({ cls := "CouncilStore$Node", name := "lead", desc := "()V" } : Jvm.MethodName)) ∈ lw_all := lw_g (lw_at lw_m5 153 rfl) rfl
theorem q1214 : (Jvm.Cond.code ({ cls := "CouncilStore$Node", name := "lead", desc := "()V" } : Jvm.MethodName) prog_12_method_16_code (2 : Nat) (Option.none : Option Jvm.ClassFile.FieldType)) ∈ lw_all := lw_g (lw_at lw_m5 154 rfl) rfl
theorem q1215 : (Jvm.Cond.methodLink "CouncilStore$Node" (230 : Nat) ({ cls := "CouncilStore$World", name := "leads", desc := "(II)V" } : Jvm.MethodName)) ∈ lw_all := lw_g (lw_at lw_m5 155 rfl) rfl
theorem q1225 : (Jvm.Cond.methodLink "CouncilStore$Node" (238 : Nat) ({ cls := "CouncilStore$Commands", name := "empty", desc := "()I" } : Jvm.MethodName)) ∈ lw_all := lw_g (lw_at lw_m5 165 rfl) rfl
theorem q1229 : (Jvm.Cond.methodLink "CouncilStore$Node" (243 : Nat) ({ cls := "CouncilStore$Node", name := "add", desc := "(I)I" } : Jvm.MethodName)) ∈ lw_all := lw_g (lw_at lw_m5 169 rfl) rfl
theorem q1246 : (Jvm.Cond.instanceMethod ({ cls := "CouncilStore$Node", name := "sync", desc := "()I" } : Jvm.MethodName)) ∈ lw_all := lw_g (lw_at lw_m5 186 rfl) rfl
theorem q1247 : (Jvm.Cond.selects "CouncilStore$Node" ({ cls := "CouncilStore$Node", name := "sync", desc := "()I" } : Jvm.MethodName) ({ cls := "CouncilStore$Node", name := "sync", desc := "()I" } : Jvm.MethodName)) ∈ lw_all := lw_g (lw_at lw_m5 187 rfl) rfl
theorem q1248 : (Jvm.Cond.code ({ cls := "CouncilStore$Node", name := "sync", desc := "()I" } : Jvm.MethodName) prog_12_method_11_code (3 : Nat) (Option.some Jvm.ClassFile.FieldType.int)) ∈ lw_all := lw_g (lw_at lw_m5 188 rfl) rfl
theorem q1249 : (Jvm.Cond.methodLink "CouncilStore$Node" (151 : Nat) ({ cls := "CouncilStore$Disk", name := "keep", desc := "(I)V" } : Jvm.MethodName)) ∈ lw_all := lw_g (lw_at lw_m5 189 rfl) rfl
theorem q1263 : (Jvm.Cond.methodLink "CouncilStore$Node" (194 : Nat) ({ cls := "CouncilStore$Messages", name := "get", desc := "(I)LCouncilStore$Message;" } : Jvm.MethodName)) ∈ lw_all := lw_g (lw_at lw_m5 203 rfl) rfl
theorem q1267 : (Jvm.Cond.methodLink "CouncilStore$Node" (201 : Nat) ({ cls := "CouncilStore$Node", name := "lookForCommit", desc := "()V" } : Jvm.MethodName)) ∈ lw_all := lw_g (lw_at lw_m5 207 rfl) rfl
theorem q1268 : (Jvm.Cond.privateMethod ({ cls := "CouncilStore$Node", name := "lookForCommit", desc := "()V" } : Jvm.MethodName)) ∈ lw_tbl := lw_at lw_m5 208 rfl
theorem q1269 : (Jvm.Cond.instanceMethod ({ cls := "CouncilStore$Node", name := "lookForCommit", desc := "()V" } : Jvm.MethodName)) ∈ lw_all := lw_g (lw_at lw_m5 209 rfl) rfl
theorem q1270 : (Jvm.Cond.code ({ cls := "CouncilStore$Node", name := "lookForCommit", desc := "()V" } : Jvm.MethodName) prog_12_method_22_code (4 : Nat) (Option.none : Option Jvm.ClassFile.FieldType)) ∈ lw_all := lw_g (lw_at lw_m5 210 rfl) rfl
theorem q1271 : (Jvm.Cond.methodLink "CouncilStore$Node" (274 : Nat) ({ cls := "CouncilStore$Node", name := "commitTo", desc := "(I)V" } : Jvm.MethodName)) ∈ lw_all := lw_g (lw_at lw_m5 211 rfl) rfl
theorem q1272 : (Jvm.Cond.privateMethod ({ cls := "CouncilStore$Node", name := "commitTo", desc := "(I)V" } : Jvm.MethodName)) ∈ lw_tbl := lw_at lw_m5 212 rfl
theorem q1273 : (Jvm.Cond.instanceMethod ({ cls := "CouncilStore$Node", name := "commitTo", desc := "(I)V" } : Jvm.MethodName)) ∈ lw_all := lw_g (lw_at lw_m5 213 rfl) rfl
theorem q1274 : (Jvm.Cond.code ({ cls := "CouncilStore$Node", name := "commitTo", desc := "(I)V" } : Jvm.MethodName) prog_12_method_23_code (3 : Nat) (Option.none : Option Jvm.ClassFile.FieldType)) ∈ lw_all := lw_g (lw_at lw_m5 214 rfl) rfl
theorem q1275 : (Jvm.Cond.methodLink "CouncilStore$Node" (277 : Nat) ({ cls := "CouncilStore$World", name := "applies", desc := "(II)V" } : Jvm.MethodName)) ∈ lw_all := lw_g (lw_at lw_m5 215 rfl) rfl
theorem q1279 : (Jvm.Cond.methodLink "CouncilStore$Node" (286 : Nat) ({ cls := "CouncilStore$Ints", name := "get", desc := "(I)I" } : Jvm.MethodName)) ∈ lw_all := lw_g (lw_at lw_m5 219 rfl) rfl
theorem q1280 : (Jvm.Cond.methodLink "CouncilStore$Node" (288 : Nat) ({ cls := "CouncilStore$States", name := "apply", desc := "(II)I" } : Jvm.MethodName)) ∈ lw_all := lw_g (lw_at lw_m5 220 rfl) rfl
theorem q1369 : (Jvm.Cond.methodLink "CouncilStore$Node" (293 : Nat) ({ cls := "CouncilStore$Ints", name := "add", desc := "(I)V" } : Jvm.MethodName)) ∈ lw_all := lw_g (lw_at lw_m6 69 rfl) rfl
theorem q1379 : (Jvm.Cond.instanceMethod ({ cls := "CouncilStore$Node", name := "fall", desc := "(I)V" } : Jvm.MethodName)) ∈ lw_all := lw_g (lw_at lw_m6 79 rfl) rfl
theorem q1380 : (Jvm.Cond.selects "CouncilStore$Node" ({ cls := "CouncilStore$Node", name := "fall", desc := "(I)V" } : Jvm.MethodName) ({ cls := "CouncilStore$Node", name := "fall", desc := "(I)V" } : Jvm.MethodName)) ∈ lw_all := lw_g (lw_at lw_m6 80 rfl) rfl
theorem q1381 : (Jvm.Cond.code ({ cls := "CouncilStore$Node", name := "fall", desc := "(I)V" } : Jvm.MethodName) prog_12_method_6_code (2 : Nat) (Option.none : Option Jvm.ClassFile.FieldType)) ∈ lw_all := lw_g (lw_at lw_m6 81 rfl) rfl
theorem q1399 : (Jvm.Cond.instanceMethod ({ cls := "CouncilStore$Node", name := "wouldLead", desc := "(LCouncilStore$Message;)Z" } : Jvm.MethodName)) ∈ lw_all := lw_g (lw_at lw_m6 99 rfl) rfl
theorem q1400 : (Jvm.Cond.selects "CouncilStore$Node" ({ cls := "CouncilStore$Node", name := "wouldLead", desc := "(LCouncilStore$Message;)Z" } : Jvm.MethodName) ({ cls := "CouncilStore$Node", name := "wouldLead", desc := "(LCouncilStore$Message;)Z" } : Jvm.MethodName)) ∈ lw_all := lw_g (lw_at lw_m6 100 rfl) rfl
theorem q1401 : (Jvm.Cond.code ({ cls := "CouncilStore$Node", name := "wouldLead", desc := "(LCouncilStore$Message;)Z" } : Jvm.MethodName) prog_12_method_17_code (2 : Nat) (Option.some Jvm.ClassFile.FieldType.boolean)) ∈ lw_all := lw_g (lw_at lw_m6 101 rfl) rfl
theorem q1407 : (Jvm.Cond.instanceMethod ({ cls := "CouncilStore$Node", name := "receive", desc := "(LCouncilStore$Message;)V" } : Jvm.MethodName)) ∈ lw_all := lw_g (lw_at lw_m6 107 rfl) rfl
theorem q1408 : (Jvm.Cond.selects "CouncilStore$Node" ({ cls := "CouncilStore$Node", name := "receive", desc := "(LCouncilStore$Message;)V" } : Jvm.MethodName) ({ cls := "CouncilStore$Node", name := "receive", desc := "(LCouncilStore$Message;)V" } : Jvm.MethodName)) ∈ lw_all := lw_g (lw_at lw_m6 108 rfl) rfl
theorem q1409 : (Jvm.Cond.code ({ cls := "CouncilStore$Node", name := "receive", desc := "(LCouncilStore$Message;)V" } : Jvm.MethodName) prog_12_method_28_code (2 : Nat) (Option.none : Option Jvm.ClassFile.FieldType)) ∈ lw_all := lw_g (lw_at lw_m6 109 rfl) rfl
theorem q1410 : (Jvm.Cond.methodLink "CouncilStore$Node" (302 : Nat) ({ cls := "CouncilStore$Node", name := "follow", desc := "(I)V" } : Jvm.MethodName)) ∈ lw_all := lw_g (lw_at lw_m6 110 rfl) rfl
theorem q1411 : (Jvm.Cond.privateMethod ({ cls := "CouncilStore$Node", name := "follow", desc := "(I)V" } : Jvm.MethodName)) ∈ lw_tbl := lw_at lw_m6 111 rfl
theorem q1412 : (Jvm.Cond.instanceMethod ({ cls := "CouncilStore$Node", name := "follow", desc := "(I)V" } : Jvm.MethodName)) ∈ lw_all := lw_g (lw_at lw_m6 112 rfl) rfl
theorem q1413 : (Jvm.Cond.code ({ cls := "CouncilStore$Node", name := "follow", desc := "(I)V" } : Jvm.MethodName) prog_12_method_13_code (2 : Nat) (Option.none : Option Jvm.ClassFile.FieldType)) ∈ lw_all := lw_g (lw_at lw_m6 113 rfl) rfl
theorem q1414 : (Jvm.Cond.methodLink "CouncilStore$Node" (305 : Nat) ({ cls := "CouncilStore$Node", name := "asked", desc := "(LCouncilStore$Message;)V" } : Jvm.MethodName)) ∈ lw_all := lw_g (lw_at lw_m6 114 rfl) rfl
theorem q1415 : (Jvm.Cond.privateMethod ({ cls := "CouncilStore$Node", name := "asked", desc := "(LCouncilStore$Message;)V" } : Jvm.MethodName)) ∈ lw_tbl := lw_at lw_m6 115 rfl
theorem q1416 : (Jvm.Cond.instanceMethod ({ cls := "CouncilStore$Node", name := "asked", desc := "(LCouncilStore$Message;)V" } : Jvm.MethodName)) ∈ lw_all := lw_g (lw_at lw_m6 116 rfl) rfl
theorem q1417 : (Jvm.Cond.code ({ cls := "CouncilStore$Node", name := "asked", desc := "(LCouncilStore$Message;)V" } : Jvm.MethodName) prog_12_method_29_code (6 : Nat) (Option.none : Option Jvm.ClassFile.FieldType)) ∈ lw_all := lw_g (lw_at lw_m6 117 rfl) rfl
theorem q1418 : (Jvm.Cond.methodLink "CouncilStore$Node" (308 : Nat) ({ cls := "CouncilStore$Node", name := "leads", desc := "(LCouncilStore$Message;)Z" } : Jvm.MethodName)) ∈ lw_all := lw_g (lw_at lw_m6 118 rfl) rfl
theorem q1419 : (Jvm.Cond.privateMethod ({ cls := "CouncilStore$Node", name := "leads", desc := "(LCouncilStore$Message;)Z" } : Jvm.MethodName)) ∈ lw_tbl := lw_at lw_m6 119 rfl
theorem q1420 : (Jvm.Cond.instanceMethod ({ cls := "CouncilStore$Node", name := "leads", desc := "(LCouncilStore$Message;)Z" } : Jvm.MethodName)) ∈ lw_all := lw_g (lw_at lw_m6 120 rfl) rfl
theorem q1421 : (Jvm.Cond.code ({ cls := "CouncilStore$Node", name := "leads", desc := "(LCouncilStore$Message;)Z" } : Jvm.MethodName) prog_12_method_32_code (2 : Nat) (Option.some Jvm.ClassFile.FieldType.boolean)) ∈ lw_all := lw_g (lw_at lw_m6 121 rfl) rfl
theorem q1422 : (Jvm.Cond.methodLink "CouncilStore$Node" (320 : Nat) ({ cls := "CouncilStore$Node", name := "reply", desc := "(LCouncilStore$Message;ZII)V" } : Jvm.MethodName)) ∈ lw_all := lw_g (lw_at lw_m6 122 rfl) rfl
theorem q1423 : (Jvm.Cond.privateMethod ({ cls := "CouncilStore$Node", name := "reply", desc := "(LCouncilStore$Message;ZII)V" } : Jvm.MethodName)) ∈ lw_tbl := lw_at lw_m6 123 rfl
theorem q1424 : (Jvm.Cond.instanceMethod ({ cls := "CouncilStore$Node", name := "reply", desc := "(LCouncilStore$Message;ZII)V" } : Jvm.MethodName)) ∈ lw_all := lw_g (lw_at lw_m6 124 rfl) rfl
theorem q1425 : (Jvm.Cond.code ({ cls := "CouncilStore$Node", name := "reply", desc := "(LCouncilStore$Message;ZII)V" } : Jvm.MethodName) prog_12_method_31_code (6 : Nat) (Option.none : Option Jvm.ClassFile.FieldType)) ∈ lw_all := lw_g (lw_at lw_m6 125 rfl) rfl
theorem q1426 : (Jvm.Cond.methodLink "CouncilStore$Node" (311 : Nat) ({ cls := "CouncilStore$Node", name := "append", desc := "(LCouncilStore$Message;)V" } : Jvm.MethodName)) ∈ lw_all := lw_g (lw_at lw_m6 126 rfl) rfl
theorem q1427 : (Jvm.Cond.privateMethod ({ cls := "CouncilStore$Node", name := "append", desc := "(LCouncilStore$Message;)V" } : Jvm.MethodName)) ∈ lw_tbl := lw_at lw_m6 127 rfl
theorem q1428 : (Jvm.Cond.instanceMethod ({ cls := "CouncilStore$Node", name := "append", desc := "(LCouncilStore$Message;)V" } : Jvm.MethodName)) ∈ lw_all := lw_g (lw_at lw_m6 128 rfl) rfl
theorem q1429 : (Jvm.Cond.code ({ cls := "CouncilStore$Node", name := "append", desc := "(LCouncilStore$Message;)V" } : Jvm.MethodName) prog_12_method_33_code (7 : Nat) (Option.none : Option Jvm.ClassFile.FieldType)) ∈ lw_all := lw_g (lw_at lw_m6 129 rfl) rfl
theorem q1430 : (Jvm.Cond.methodLink "CouncilStore$Node" (324 : Nat) ({ cls := "CouncilStore$Node", name := "reply", desc := "(LCouncilStore$Message;ZI)V" } : Jvm.MethodName)) ∈ lw_all := lw_g (lw_at lw_m6 130 rfl) rfl
theorem q1431 : (Jvm.Cond.privateMethod ({ cls := "CouncilStore$Node", name := "reply", desc := "(LCouncilStore$Message;ZI)V" } : Jvm.MethodName)) ∈ lw_tbl := lw_at lw_m6 131 rfl
theorem q1432 : (Jvm.Cond.instanceMethod ({ cls := "CouncilStore$Node", name := "reply", desc := "(LCouncilStore$Message;ZI)V" } : Jvm.MethodName)) ∈ lw_all := lw_g (lw_at lw_m6 132 rfl) rfl
theorem q1433 : (Jvm.Cond.code ({ cls := "CouncilStore$Node", name := "reply", desc := "(LCouncilStore$Message;ZI)V" } : Jvm.MethodName) prog_12_method_30_code (4 : Nat) (Option.none : Option Jvm.ClassFile.FieldType)) ∈ lw_all := lw_g (lw_at lw_m6 133 rfl) rfl
theorem q1434 : (Jvm.Cond.methodLink "CouncilStore$Node" (314 : Nat) ({ cls := "CouncilStore$Node", name := "takeState", desc := "(LCouncilStore$Message;)V" } : Jvm.MethodName)) ∈ lw_all := lw_g (lw_at lw_m6 134 rfl) rfl
theorem q1435 : (Jvm.Cond.privateMethod ({ cls := "CouncilStore$Node", name := "takeState", desc := "(LCouncilStore$Message;)V" } : Jvm.MethodName)) ∈ lw_tbl := lw_at lw_m6 135 rfl
theorem q1436 : (Jvm.Cond.instanceMethod ({ cls := "CouncilStore$Node", name := "takeState", desc := "(LCouncilStore$Message;)V" } : Jvm.MethodName)) ∈ lw_all := lw_g (lw_at lw_m6 136 rfl) rfl
theorem q1437 : (Jvm.Cond.code ({ cls := "CouncilStore$Node", name := "takeState", desc := "(LCouncilStore$Message;)V" } : Jvm.MethodName) prog_12_method_34_code (2 : Nat) (Option.none : Option Jvm.ClassFile.FieldType)) ∈ lw_all := lw_g (lw_at lw_m6 137 rfl) rfl
theorem q1438 : (Jvm.Cond.methodLink "CouncilStore$Node" (295 : Nat) ({ cls := "CouncilStore$Log", name := "snapshot", desc := "(III)V" } : Jvm.MethodName)) ∈ lw_all := lw_g (lw_at lw_m6 138 rfl) rfl
theorem q1439 : (Jvm.Cond.methodLink "CouncilStore$Node" (299 : Nat) ({ cls := "CouncilStore$Disk", name := "writeSnapshot", desc := "(III)V" } : Jvm.MethodName)) ∈ lw_all := lw_g (lw_at lw_m6 139 rfl) rfl
theorem q1443 : (Jvm.Cond.methodLink "CouncilStore$Node" (317 : Nat) ({ cls := "CouncilStore$Node", name := "taken", desc := "(LCouncilStore$Message;)V" } : Jvm.MethodName)) ∈ lw_all := lw_g (lw_at lw_m6 143 rfl) rfl
theorem q1444 : (Jvm.Cond.privateMethod ({ cls := "CouncilStore$Node", name := "taken", desc := "(LCouncilStore$Message;)V" } : Jvm.MethodName)) ∈ lw_tbl := lw_at lw_m6 144 rfl
theorem q1445 : (Jvm.Cond.instanceMethod ({ cls := "CouncilStore$Node", name := "taken", desc := "(LCouncilStore$Message;)V" } : Jvm.MethodName)) ∈ lw_all := lw_g (lw_at lw_m6 145 rfl) rfl
theorem q1446 : (Jvm.Cond.code ({ cls := "CouncilStore$Node", name := "taken", desc := "(LCouncilStore$Message;)V" } : Jvm.MethodName) prog_12_method_35_code (3 : Nat) (Option.none : Option Jvm.ClassFile.FieldType)) ∈ lw_all := lw_g (lw_at lw_m6 146 rfl) rfl
theorem q1447 : (Jvm.Cond.methodLink "CouncilStore$Node" (330 : Nat) ({ cls := "CouncilStore$Node", name := "lookAtReads", desc := "()V" } : Jvm.MethodName)) ∈ lw_all := lw_g (lw_at lw_m6 147 rfl) rfl
theorem q1448 : (Jvm.Cond.privateMethod ({ cls := "CouncilStore$Node", name := "lookAtReads", desc := "()V" } : Jvm.MethodName)) ∈ lw_tbl := lw_at lw_m6 148 rfl
theorem q1449 : (Jvm.Cond.instanceMethod ({ cls := "CouncilStore$Node", name := "lookAtReads", desc := "()V" } : Jvm.MethodName)) ∈ lw_all := lw_g (lw_at lw_m6 149 rfl) rfl
theorem q1450 : (Jvm.Cond.code ({ cls := "CouncilStore$Node", name := "lookAtReads", desc := "()V" } : Jvm.MethodName) prog_12_method_39_code (5 : Nat) (Option.none : Option Jvm.ClassFile.FieldType)) ∈ lw_all := lw_g (lw_at lw_m6 150 rfl) rfl
theorem q1451 : (Jvm.Cond.methodLink "CouncilStore$Node" (353 : Nat) ({ cls := "CouncilStore$Node", name := "answer", desc := "(LCouncilStore$Read;)V" } : Jvm.MethodName)) ∈ lw_all := lw_g (lw_at lw_m6 151 rfl) rfl
theorem q1452 : (Jvm.Cond.privateMethod ({ cls := "CouncilStore$Node", name := "answer", desc := "(LCouncilStore$Read;)V" } : Jvm.MethodName)) ∈ lw_tbl := lw_at lw_m6 152 rfl
theorem q1453 : (Jvm.Cond.instanceMethod ({ cls := "CouncilStore$Node", name := "answer", desc := "(LCouncilStore$Read;)V" } : Jvm.MethodName)) ∈ lw_all := lw_g (lw_at lw_m6 153 rfl) rfl
theorem q1454 : (Jvm.Cond.code ({ cls := "CouncilStore$Node", name := "answer", desc := "(LCouncilStore$Read;)V" } : Jvm.MethodName) prog_12_method_40_code (3 : Nat) (Option.none : Option Jvm.ClassFile.FieldType)) ∈ lw_all := lw_g (lw_at lw_m6 154 rfl) rfl
theorem q1455 : (Jvm.Cond.methodLink "CouncilStore$Node" (360 : Nat) ({ cls := "CouncilStore$States", name := "find", desc := "(III)LCouncilStore$Pair;" } : Jvm.MethodName)) ∈ lw_all := lw_g (lw_at lw_m6 155 rfl) rfl
theorem q1456 : (Jvm.Cond.methodLink "CouncilStore$Node" (374 : Nat) ({ cls := "CouncilStore$States", name := "revision", desc := "(I)I" } : Jvm.MethodName)) ∈ lw_all := lw_g (lw_at lw_m6 156 rfl) rfl
theorem q1476 : (Jvm.Cond.instanceMethod ({ cls := "CouncilStore$Node", name := "snapshot", desc := "()V" } : Jvm.MethodName)) ∈ lw_all := lw_g (lw_at lw_m6 176 rfl) rfl
theorem q1477 : (Jvm.Cond.selects "CouncilStore$Node" ({ cls := "CouncilStore$Node", name := "snapshot", desc := "()V" } : Jvm.MethodName) ({ cls := "CouncilStore$Node", name := "snapshot", desc := "()V" } : Jvm.MethodName)) ∈ lw_all := lw_g (lw_at lw_m6 177 rfl) rfl
theorem q1478 : (Jvm.Cond.code ({ cls := "CouncilStore$Node", name := "snapshot", desc := "()V" } : Jvm.MethodName) prog_12_method_25_code (2 : Nat) (Option.none : Option Jvm.ClassFile.FieldType)) ∈ lw_all := lw_g (lw_at lw_m6 178 rfl) rfl
theorem q1487 : (Jvm.Cond.instanceMethod ({ cls := "CouncilStore$Node", name := "mayRead", desc := "()Z" } : Jvm.MethodName)) ∈ lw_all := lw_g (lw_at lw_m6 187 rfl) rfl
theorem q1488 : (Jvm.Cond.selects "CouncilStore$Node" ({ cls := "CouncilStore$Node", name := "mayRead", desc := "()Z" } : Jvm.MethodName) ({ cls := "CouncilStore$Node", name := "mayRead", desc := "()Z" } : Jvm.MethodName)) ∈ lw_all := lw_g (lw_at lw_m6 188 rfl) rfl
theorem q1489 : (Jvm.Cond.code ({ cls := "CouncilStore$Node", name := "mayRead", desc := "()Z" } : Jvm.MethodName) prog_12_method_36_code (1 : Nat) (Option.some Jvm.ClassFile.FieldType.boolean)) ∈ lw_all := lw_g (lw_at lw_m6 189 rfl) rfl
theorem q1491 : (Jvm.Cond.instanceMethod ({ cls := "CouncilStore$Node", name := "readsFit", desc := "()Z" } : Jvm.MethodName)) ∈ lw_all := lw_g (lw_at lw_m6 191 rfl) rfl
theorem q1492 : (Jvm.Cond.selects "CouncilStore$Node" ({ cls := "CouncilStore$Node", name := "readsFit", desc := "()Z" } : Jvm.MethodName) ({ cls := "CouncilStore$Node", name := "readsFit", desc := "()Z" } : Jvm.MethodName)) ∈ lw_all := lw_g (lw_at lw_m6 192 rfl) rfl
theorem q1493 : (Jvm.Cond.code ({ cls := "CouncilStore$Node", name := "readsFit", desc := "()Z" } : Jvm.MethodName) prog_12_method_37_code (1 : Nat) (Option.some Jvm.ClassFile.FieldType.boolean)) ∈ lw_all := lw_g (lw_at lw_m6 193 rfl) rfl
theorem q1494 : (Jvm.Cond.methodLink "CouncilStore$Node" (333 : Nat) ({ cls := "CouncilStore$Node", name := "readsWaiting", desc := "()I" } : Jvm.MethodName)) ∈ lw_all := lw_g (lw_at lw_m6 194 rfl) rfl
theorem q1495 : (Jvm.Cond.instanceMethod ({ cls := "CouncilStore$Node", name := "readsWaiting", desc := "()I" } : Jvm.MethodName)) ∈ lw_all := lw_g (lw_at lw_m6 195 rfl) rfl
theorem q1496 : (Jvm.Cond.selects "CouncilStore$Node" ({ cls := "CouncilStore$Node", name := "readsWaiting", desc := "()I" } : Jvm.MethodName) ({ cls := "CouncilStore$Node", name := "readsWaiting", desc := "()I" } : Jvm.MethodName)) ∈ lw_all := lw_g (lw_at lw_m6 196 rfl) rfl
theorem q1497 : (Jvm.Cond.code ({ cls := "CouncilStore$Node", name := "readsWaiting", desc := "()I" } : Jvm.MethodName) prog_12_method_8_code (1 : Nat) (Option.some Jvm.ClassFile.FieldType.int)) ∈ lw_all := lw_g (lw_at lw_m6 197 rfl) rfl
theorem q1499 : (Jvm.Cond.instanceMethod ({ cls := "CouncilStore$Node", name := "read", desc := "(II)I" } : Jvm.MethodName)) ∈ lw_all := lw_g (lw_at lw_m6 199 rfl) rfl
theorem q1500 : (Jvm.Cond.selects "CouncilStore$Node" ({ cls := "CouncilStore$Node", name := "read", desc := "(II)I" } : Jvm.MethodName) ({ cls := "CouncilStore$Node", name := "read", desc := "(II)I" } : Jvm.MethodName)) ∈ lw_all := lw_g (lw_at lw_m6 200 rfl) rfl
theorem q1501 : (Jvm.Cond.code ({ cls := "CouncilStore$Node", name := "read", desc := "(II)I" } : Jvm.MethodName) prog_12_method_38_code (5 : Nat) (Option.some Jvm.ClassFile.FieldType.int)) ∈ lw_all := lw_g (lw_at lw_m6 201 rfl) rfl
theorem q1503 : (Jvm.Cond.methodLinkNest "CouncilStore$Node" (336 : Nat) ({ cls := "CouncilStore$Read", name := "<init>", desc := "()V" } : Jvm.MethodName) "CouncilStore") ∈ lw_tbl := lw_at lw_m6 203 rfl
theorem q1507 : (Jvm.Cond.fieldLink "CouncilStore$Node" (337 : Nat) "CouncilStore$Read" "keyFrom" "I") ∈ lw_all := lw_g (lw_at lw_m6 207 rfl) rfl
theorem q1508 : (Jvm.Cond.fieldLink "CouncilStore$Node" (340 : Nat) "CouncilStore$Read" "keyTo" "I") ∈ lw_all := lw_g (lw_at lw_m6 208 rfl) rfl
theorem q1509 : (Jvm.Cond.fieldLink "CouncilStore$Node" (346 : Nat) "CouncilStore$Read" "asOf" "I") ∈ lw_all := lw_g (lw_at lw_m6 209 rfl) rfl
theorem q1510 : (Jvm.Cond.fieldLink "CouncilStore$Node" (349 : Nat) "CouncilStore$Read" "round" "I") ∈ lw_all := lw_g (lw_at lw_m6 210 rfl) rfl
theorem q1511 : (Jvm.Cond.fieldLink "CouncilStore$Node" (350 : Nat) "CouncilStore$Read" "done" "Z") ∈ lw_all := lw_g (lw_at lw_m6 211 rfl) rfl
theorem q1513 : (Jvm.Cond.fieldLink "CouncilStore$Node" (364 : Nat) "CouncilStore$Read" "answer" "[I") ∈ lw_all := lw_g (lw_at lw_m6 213 rfl) rfl
theorem q1535 : (Jvm.Cond.instanceMethod ({ cls := "CouncilStore$Node", name := "isDone", desc := "(I)Z" } : Jvm.MethodName)) ∈ lw_all := lw_g (lw_at lw_m6 235 rfl) rfl
theorem q1536 : (Jvm.Cond.selects "CouncilStore$Node" ({ cls := "CouncilStore$Node", name := "isDone", desc := "(I)Z" } : Jvm.MethodName) ({ cls := "CouncilStore$Node", name := "isDone", desc := "(I)Z" } : Jvm.MethodName)) ∈ lw_all := lw_g (lw_at lw_m6 236 rfl) rfl
theorem q1537 : (Jvm.Cond.code ({ cls := "CouncilStore$Node", name := "isDone", desc := "(I)Z" } : Jvm.MethodName) prog_12_method_42_code (2 : Nat) (Option.some Jvm.ClassFile.FieldType.boolean)) ∈ lw_all := lw_g (lw_at lw_m6 237 rfl) rfl
theorem q1539 : (Jvm.Cond.instanceMethod ({ cls := "CouncilStore$Node", name := "answer", desc := "(II)I" } : Jvm.MethodName)) ∈ lw_all := lw_g (lw_at lw_m6 239 rfl) rfl
theorem q1540 : (Jvm.Cond.selects "CouncilStore$Node" ({ cls := "CouncilStore$Node", name := "answer", desc := "(II)I" } : Jvm.MethodName) ({ cls := "CouncilStore$Node", name := "answer", desc := "(II)I" } : Jvm.MethodName)) ∈ lw_all := lw_g (lw_at lw_m7 0 rfl) rfl
theorem q1541 : (Jvm.Cond.code ({ cls := "CouncilStore$Node", name := "answer", desc := "(II)I" } : Jvm.MethodName) prog_12_method_41_code (3 : Nat) (Option.some Jvm.ClassFile.FieldType.int)) ∈ lw_all := lw_g (lw_at lw_m7 1 rfl) rfl
theorem q1555 : (Jvm.Cond.instanceMethod ({ cls := "CouncilStore$Node", name := "compacted", desc := "()I" } : Jvm.MethodName)) ∈ lw_all := lw_g (lw_at lw_m7 15 rfl) rfl
theorem q1556 : (Jvm.Cond.selects "CouncilStore$Node" ({ cls := "CouncilStore$Node", name := "compacted", desc := "()I" } : Jvm.MethodName) ({ cls := "CouncilStore$Node", name := "compacted", desc := "()I" } : Jvm.MethodName)) ∈ lw_all := lw_g (lw_at lw_m7 16 rfl) rfl
theorem q1557 : (Jvm.Cond.code ({ cls := "CouncilStore$Node", name := "compacted", desc := "()I" } : Jvm.MethodName) prog_12_method_26_code (1 : Nat) (Option.some Jvm.ClassFile.FieldType.int)) ∈ lw_all := lw_g (lw_at lw_m7 17 rfl) rfl
theorem q1605 : (Jvm.Cond.instanceMethod ({ cls := "CouncilStore$Node", name := "compact", desc := "(I)V" } : Jvm.MethodName)) ∈ lw_all := lw_g (lw_at lw_m7 65 rfl) rfl
theorem q1606 : (Jvm.Cond.selects "CouncilStore$Node" ({ cls := "CouncilStore$Node", name := "compact", desc := "(I)V" } : Jvm.MethodName) ({ cls := "CouncilStore$Node", name := "compact", desc := "(I)V" } : Jvm.MethodName)) ∈ lw_all := lw_g (lw_at lw_m7 66 rfl) rfl
theorem q1607 : (Jvm.Cond.code ({ cls := "CouncilStore$Node", name := "compact", desc := "(I)V" } : Jvm.MethodName) prog_12_method_27_code (2 : Nat) (Option.none : Option Jvm.ClassFile.FieldType)) ∈ lw_all := lw_g (lw_at lw_m7 67 rfl) rfl
theorem q1616 : (Jvm.Cond.instanceMethod ({ cls := "CouncilStore$Node", name := "stateAt", desc := "(I)I" } : Jvm.MethodName)) ∈ lw_all := lw_g (lw_at lw_m7 76 rfl) rfl
theorem q1617 : (Jvm.Cond.selects "CouncilStore$Node" ({ cls := "CouncilStore$Node", name := "stateAt", desc := "(I)I" } : Jvm.MethodName) ({ cls := "CouncilStore$Node", name := "stateAt", desc := "(I)I" } : Jvm.MethodName)) ∈ lw_all := lw_g (lw_at lw_m7 77 rfl) rfl
theorem q1618 : (Jvm.Cond.code ({ cls := "CouncilStore$Node", name := "stateAt", desc := "(I)I" } : Jvm.MethodName) prog_12_method_24_code (2 : Nat) (Option.some Jvm.ClassFile.FieldType.int)) ∈ lw_all := lw_g (lw_at lw_m7 78 rfl) rfl
theorem q1648 : (Jvm.Cond.instanceMethod ({ cls := "CouncilStore$Node", name := "waiting", desc := "()I" } : Jvm.MethodName)) ∈ lw_all := lw_g (lw_at lw_m7 108 rfl) rfl
theorem q1649 : (Jvm.Cond.selects "CouncilStore$Node" ({ cls := "CouncilStore$Node", name := "waiting", desc := "()I" } : Jvm.MethodName) ({ cls := "CouncilStore$Node", name := "waiting", desc := "()I" } : Jvm.MethodName)) ∈ lw_all := lw_g (lw_at lw_m7 109 rfl) rfl
theorem q1650 : (Jvm.Cond.code ({ cls := "CouncilStore$Node", name := "waiting", desc := "()I" } : Jvm.MethodName) prog_12_method_7_code (1 : Nat) (Option.some Jvm.ClassFile.FieldType.int)) ∈ lw_all := lw_g (lw_at lw_m7 110 rfl) rfl
theorem in_X13 : ∀ w ∈ wsX130, w ∈ lw_all := lw_in wsX130 [578, 580, 582, 584, 586, 588, 590, 592, 594, 596, 598, 600, 602, 604, 606, 608, 610, 612, 614, 616, 618, 620, 622] (by decide +kernel) (by decide +kernel)
/-! CouncilStore$Disk -/
def RX14 : String := "CouncilStore$Disk"
def TX14 : u_T := fun k => match k with
  | 0 => ("CouncilStore$Disk", "term", "I", false)
  | 1 => ("CouncilStore$Disk", "vote", "I", false)
  | 2 => ("CouncilStore$Disk", "log", "LCouncilStore$Log;", true)
  | _ => ("CouncilStore$Disk", "records", "LCouncilStore$Ints;", true)
def tyX14 : Nat → FieldType := fun k => match k with
  | 0 => .int
  | 1 => .int
  | 2 => .object "CouncilStore$Log"
  | _ => .object "CouncilStore$Ints"
abbrev wsX140 : List Cond := u_ws RX14 TX14 4
theorem nmX14 : ∀ a, a < 4 → ∀ b, b < 4 → a ≠ b → (TX14 a).2.1 ≠ (TX14 b).2.1 := by decide +kernel
theorem tyX14_ok : ∀ k, k < 4 → parseFieldDescriptor (TX14 k).2.2.1 = some (tyX14 k) := by decide +kernel
abbrev cX14_init : ByteArray := prog_4_method_1_code
def yX14_init : MethodName := ⟨RX14, "<init>", "(LCouncilStore$Entries;)V"⟩
abbrev cX14_clear : ByteArray := prog_4_method_2_code
def yX14_clear : MethodName := ⟨RX14, "clear", "()V"⟩
abbrev cX14_writeEntry : ByteArray := prog_4_method_6_code
def yX14_writeEntry : MethodName := ⟨RX14, "writeEntry", "(II)V"⟩
abbrev cX14_write : ByteArray := prog_4_method_4_code
def yX14_write : MethodName := ⟨RX14, "write", "(IIII)V"⟩
abbrev cX14_unsynced : ByteArray := prog_4_method_3_code
def yX14_unsynced : MethodName := ⟨RX14, "unsynced", "()I"⟩
abbrev cX14_writeTerm : ByteArray := prog_4_method_5_code
def yX14_writeTerm : MethodName := ⟨RX14, "writeTerm", "(II)V"⟩
abbrev cX14_keep : ByteArray := prog_4_method_8_code
def yX14_keep : MethodName := ⟨RX14, "keep", "(I)V"⟩
abbrev cX14_writeSnapshot : ByteArray := prog_4_method_7_code
def yX14_writeSnapshot : MethodName := ⟨RX14, "writeSnapshot", "(III)V"⟩
theorem q114 : (Jvm.Cond.initialized "CouncilStore$Disk") ∈ lw_all := lw_g (lw_at lw_m1 14 rfl) rfl
theorem q178 : (Jvm.Cond.fieldLink "CouncilStore$Disk" (38 : Nat) "CouncilStore$Ints" "size" "I") ∈ lw_all := lw_g (lw_at lw_m1 78 rfl) rfl
theorem q490 : (Jvm.Cond.instantiable "CouncilStore$Disk" (4 : Nat)) ∈ lw_all := lw_g (lw_at lw_m2 150 rfl) rfl
theorem q492 : (Jvm.Cond.instanceMethod ({ cls := "CouncilStore$Disk", name := "<init>", desc := "(LCouncilStore$Entries;)V" } : Jvm.MethodName)) ∈ lw_all := lw_g (lw_at lw_m2 152 rfl) rfl
theorem q493 : (Jvm.Cond.code ({ cls := "CouncilStore$Disk", name := "<init>", desc := "(LCouncilStore$Entries;)V" } : Jvm.MethodName) prog_4_method_1_code (2 : Nat) (Option.none : Option Jvm.ClassFile.FieldType)) ∈ lw_all := lw_g (lw_at lw_m2 153 rfl) rfl
theorem q494 : (Jvm.Cond.methodLink "CouncilStore$Disk" (1 : Nat) ({ cls := "java/lang/Object", name := "<init>", desc := "()V" } : Jvm.MethodName)) ∈ lw_all := lw_g (lw_at lw_m2 154 rfl) rfl
theorem q495 : (Jvm.Cond.classLink "CouncilStore$Disk" (7 : Nat) "CouncilStore$Ints") ∈ lw_all := lw_g (lw_at lw_m2 155 rfl) rfl
theorem q496 : (Jvm.Cond.methodLink "CouncilStore$Disk" (9 : Nat) ({ cls := "CouncilStore$Ints", name := "<init>", desc := "(I)V" } : Jvm.MethodName)) ∈ lw_all := lw_g (lw_at lw_m2 156 rfl) rfl
theorem q497 : (Jvm.Cond.classLink "CouncilStore$Disk" (18 : Nat) "CouncilStore$Log") ∈ lw_all := lw_g (lw_at lw_m2 157 rfl) rfl
theorem q499 : (Jvm.Cond.methodLink "CouncilStore$Disk" (20 : Nat) ({ cls := "CouncilStore$Log", name := "<init>", desc := "(LCouncilStore$Entries;)V" } : Jvm.MethodName)) ∈ lw_all := lw_g (lw_at lw_m2 159 rfl) rfl
theorem q525 : (Jvm.Cond.fieldLink "CouncilStore$Disk" (27 : Nat) "CouncilStore$Disk" "term" "I") ∈ lw_all := lw_g (lw_at lw_m2 185 rfl) rfl
theorem q528 : (Jvm.Cond.fieldLink "CouncilStore$Disk" (31 : Nat) "CouncilStore$Disk" "vote" "I") ∈ lw_all := lw_g (lw_at lw_m2 188 rfl) rfl
theorem q531 : (Jvm.Cond.fieldLink "CouncilStore$Disk" (23 : Nat) "CouncilStore$Disk" "log" "LCouncilStore$Log;") ∈ lw_all := lw_g (lw_at lw_m2 191 rfl) rfl
theorem q534 : (Jvm.Cond.fieldLink "CouncilStore$Disk" (12 : Nat) "CouncilStore$Disk" "records" "LCouncilStore$Ints;") ∈ lw_all := lw_g (lw_at lw_m2 194 rfl) rfl
theorem q535 : (Jvm.Cond.lays "CouncilStore$Disk" "CouncilStore$Disk" "term" "I") ∈ lw_all := lw_g (lw_at lw_m2 195 rfl) rfl
theorem q536 : (Jvm.Cond.soleField "CouncilStore$Disk" "term") ∈ lw_all := lw_g (lw_at lw_m2 196 rfl) rfl
theorem q537 : (Jvm.Cond.lays "CouncilStore$Disk" "CouncilStore$Disk" "vote" "I") ∈ lw_all := lw_g (lw_at lw_m2 197 rfl) rfl
theorem q538 : (Jvm.Cond.soleField "CouncilStore$Disk" "vote") ∈ lw_all := lw_g (lw_at lw_m2 198 rfl) rfl
theorem q539 : (Jvm.Cond.laysFinal "CouncilStore$Disk" "CouncilStore$Disk" "log" "LCouncilStore$Log;") ∈ lw_all := lw_g (lw_at lw_m2 199 rfl) rfl
theorem q540 : (Jvm.Cond.soleField "CouncilStore$Disk" "log") ∈ lw_all := lw_g (lw_at lw_m2 200 rfl) rfl
theorem q541 : (Jvm.Cond.laysFinal "CouncilStore$Disk" "CouncilStore$Disk" "records" "LCouncilStore$Ints;") ∈ lw_all := lw_g (lw_at lw_m2 201 rfl) rfl
theorem q542 : (Jvm.Cond.soleField "CouncilStore$Disk" "records") ∈ lw_all := lw_g (lw_at lw_m2 202 rfl) rfl
theorem q543 : (Jvm.Cond.superclass "CouncilStore$Disk" "java/lang/Object") ∈ lw_all := lw_g (lw_at lw_m2 203 rfl) rfl
theorem q833 : (Jvm.Cond.instanceMethod ({ cls := "CouncilStore$Disk", name := "clear", desc := "()V" } : Jvm.MethodName)) ∈ lw_all := lw_g (lw_at lw_m4 13 rfl) rfl
theorem q834 : (Jvm.Cond.selects "CouncilStore$Disk" ({ cls := "CouncilStore$Disk", name := "clear", desc := "()V" } : Jvm.MethodName) ({ cls := "CouncilStore$Disk", name := "clear", desc := "()V" } : Jvm.MethodName)) ∈ lw_all := lw_g (lw_at lw_m4 14 rfl) rfl
theorem q835 : (Jvm.Cond.code ({ cls := "CouncilStore$Disk", name := "clear", desc := "()V" } : Jvm.MethodName) prog_4_method_2_code (1 : Nat) (Option.none : Option Jvm.ClassFile.FieldType)) ∈ lw_all := lw_g (lw_at lw_m4 15 rfl) rfl
theorem q836 : (Jvm.Cond.methodLink "CouncilStore$Disk" (34 : Nat) ({ cls := "CouncilStore$Log", name := "clear", desc := "()V" } : Jvm.MethodName)) ∈ lw_all := lw_g (lw_at lw_m4 16 rfl) rfl
theorem q841 : (Jvm.Cond.methodLink "CouncilStore$Disk" (37 : Nat) ({ cls := "CouncilStore$Ints", name := "clear", desc := "()V" } : Jvm.MethodName)) ∈ lw_all := lw_g (lw_at lw_m4 21 rfl) rfl
theorem q1085 : (Jvm.Cond.instanceMethod ({ cls := "CouncilStore$Disk", name := "writeEntry", desc := "(II)V" } : Jvm.MethodName)) ∈ lw_all := lw_g (lw_at lw_m5 25 rfl) rfl
theorem q1086 : (Jvm.Cond.selects "CouncilStore$Disk" ({ cls := "CouncilStore$Disk", name := "writeEntry", desc := "(II)V" } : Jvm.MethodName) ({ cls := "CouncilStore$Disk", name := "writeEntry", desc := "(II)V" } : Jvm.MethodName)) ∈ lw_all := lw_g (lw_at lw_m5 26 rfl) rfl
theorem q1087 : (Jvm.Cond.code ({ cls := "CouncilStore$Disk", name := "writeEntry", desc := "(II)V" } : Jvm.MethodName) prog_4_method_6_code (3 : Nat) (Option.none : Option Jvm.ClassFile.FieldType)) ∈ lw_all := lw_g (lw_at lw_m5 27 rfl) rfl
theorem q1088 : (Jvm.Cond.methodLink "CouncilStore$Disk" (44 : Nat) ({ cls := "CouncilStore$Disk", name := "write", desc := "(IIII)V" } : Jvm.MethodName)) ∈ lw_all := lw_g (lw_at lw_m5 28 rfl) rfl
theorem q1089 : (Jvm.Cond.privateMethod ({ cls := "CouncilStore$Disk", name := "write", desc := "(IIII)V" } : Jvm.MethodName)) ∈ lw_tbl := lw_at lw_m5 29 rfl
theorem q1090 : (Jvm.Cond.instanceMethod ({ cls := "CouncilStore$Disk", name := "write", desc := "(IIII)V" } : Jvm.MethodName)) ∈ lw_all := lw_g (lw_at lw_m5 30 rfl) rfl
theorem q1091 : (Jvm.Cond.code ({ cls := "CouncilStore$Disk", name := "write", desc := "(IIII)V" } : Jvm.MethodName) prog_4_method_4_code (5 : Nat) (Option.none : Option Jvm.ClassFile.FieldType)) ∈ lw_all := lw_g (lw_at lw_m5 31 rfl) rfl
theorem q1092 : (Jvm.Cond.methodLink "CouncilStore$Disk" (41 : Nat) ({ cls := "CouncilStore$Ints", name := "add", desc := "(I)V" } : Jvm.MethodName)) ∈ lw_all := lw_g (lw_at lw_m5 32 rfl) rfl
theorem q1164 : (Jvm.Cond.instanceMethod ({ cls := "CouncilStore$Disk", name := "unsynced", desc := "()I" } : Jvm.MethodName)) ∈ lw_all := lw_g (lw_at lw_m5 104 rfl) rfl
theorem q1165 : (Jvm.Cond.selects "CouncilStore$Disk" ({ cls := "CouncilStore$Disk", name := "unsynced", desc := "()I" } : Jvm.MethodName) ({ cls := "CouncilStore$Disk", name := "unsynced", desc := "()I" } : Jvm.MethodName)) ∈ lw_all := lw_g (lw_at lw_m5 105 rfl) rfl
theorem q1166 : (Jvm.Cond.code ({ cls := "CouncilStore$Disk", name := "unsynced", desc := "()I" } : Jvm.MethodName) prog_4_method_3_code (1 : Nat) (Option.some Jvm.ClassFile.FieldType.int)) ∈ lw_all := lw_g (lw_at lw_m5 106 rfl) rfl
theorem q1198 : (Jvm.Cond.instanceMethod ({ cls := "CouncilStore$Disk", name := "writeTerm", desc := "(II)V" } : Jvm.MethodName)) ∈ lw_all := lw_g (lw_at lw_m5 138 rfl) rfl
theorem q1199 : (Jvm.Cond.selects "CouncilStore$Disk" ({ cls := "CouncilStore$Disk", name := "writeTerm", desc := "(II)V" } : Jvm.MethodName) ({ cls := "CouncilStore$Disk", name := "writeTerm", desc := "(II)V" } : Jvm.MethodName)) ∈ lw_all := lw_g (lw_at lw_m5 139 rfl) rfl
theorem q1200 : (Jvm.Cond.code ({ cls := "CouncilStore$Disk", name := "writeTerm", desc := "(II)V" } : Jvm.MethodName) prog_4_method_5_code (3 : Nat) (Option.none : Option Jvm.ClassFile.FieldType)) ∈ lw_all := lw_g (lw_at lw_m5 140 rfl) rfl
theorem q1250 : (Jvm.Cond.instanceMethod ({ cls := "CouncilStore$Disk", name := "keep", desc := "(I)V" } : Jvm.MethodName)) ∈ lw_all := lw_g (lw_at lw_m5 190 rfl) rfl
theorem q1251 : (Jvm.Cond.selects "CouncilStore$Disk" ({ cls := "CouncilStore$Disk", name := "keep", desc := "(I)V" } : Jvm.MethodName) ({ cls := "CouncilStore$Disk", name := "keep", desc := "(I)V" } : Jvm.MethodName)) ∈ lw_all := lw_g (lw_at lw_m5 191 rfl) rfl
theorem q1252 : (Jvm.Cond.code ({ cls := "CouncilStore$Disk", name := "keep", desc := "(I)V" } : Jvm.MethodName) prog_4_method_8_code (5 : Nat) (Option.none : Option Jvm.ClassFile.FieldType)) ∈ lw_all := lw_g (lw_at lw_m5 192 rfl) rfl
theorem q1253 : (Jvm.Cond.methodLink "CouncilStore$Disk" (48 : Nat) ({ cls := "CouncilStore$Ints", name := "get", desc := "(I)I" } : Jvm.MethodName)) ∈ lw_all := lw_g (lw_at lw_m5 193 rfl) rfl
theorem q1254 : (Jvm.Cond.methodLink "CouncilStore$Disk" (52 : Nat) ({ cls := "CouncilStore$Log", name := "put", desc := "(II)V" } : Jvm.MethodName)) ∈ lw_all := lw_g (lw_at lw_m5 194 rfl) rfl
theorem q1255 : (Jvm.Cond.methodLink "CouncilStore$Disk" (56 : Nat) ({ cls := "CouncilStore$Log", name := "snapshot", desc := "(III)V" } : Jvm.MethodName)) ∈ lw_all := lw_g (lw_at lw_m5 195 rfl) rfl
theorem q1440 : (Jvm.Cond.instanceMethod ({ cls := "CouncilStore$Disk", name := "writeSnapshot", desc := "(III)V" } : Jvm.MethodName)) ∈ lw_all := lw_g (lw_at lw_m6 140 rfl) rfl
theorem q1441 : (Jvm.Cond.selects "CouncilStore$Disk" ({ cls := "CouncilStore$Disk", name := "writeSnapshot", desc := "(III)V" } : Jvm.MethodName) ({ cls := "CouncilStore$Disk", name := "writeSnapshot", desc := "(III)V" } : Jvm.MethodName)) ∈ lw_all := lw_g (lw_at lw_m6 141 rfl) rfl
theorem q1442 : (Jvm.Cond.code ({ cls := "CouncilStore$Disk", name := "writeSnapshot", desc := "(III)V" } : Jvm.MethodName) prog_4_method_7_code (4 : Nat) (Option.none : Option Jvm.ClassFile.FieldType)) ∈ lw_all := lw_g (lw_at lw_m6 142 rfl) rfl
theorem in_X14 : ∀ w ∈ wsX140, w ∈ lw_all := lw_in wsX140 [535, 537, 539, 541] (by decide +kernel) (by decide +kernel)
/-! CouncilStore$Log -/
def RX15 : String := "CouncilStore$Log"
def TX15 : u_T := fun k => match k with
  | 0 => ("CouncilStore$Log", "pool", "LCouncilStore$Entries;", true)
  | 1 => ("CouncilStore$Log", "base", "I", false)
  | 2 => ("CouncilStore$Log", "baseTerm", "I", false)
  | 3 => ("CouncilStore$Log", "state", "I", false)
  | _ => ("CouncilStore$Log", "entries", "LCouncilStore$Ints;", true)
def tyX15 : Nat → FieldType := fun k => match k with
  | 0 => .object "CouncilStore$Entries"
  | 1 => .int
  | 2 => .int
  | 3 => .int
  | _ => .object "CouncilStore$Ints"
abbrev wsX150 : List Cond := u_ws RX15 TX15 5
theorem nmX15 : ∀ a, a < 5 → ∀ b, b < 5 → a ≠ b → (TX15 a).2.1 ≠ (TX15 b).2.1 := by decide +kernel
theorem tyX15_ok : ∀ k, k < 5 → parseFieldDescriptor (TX15 k).2.2.1 = some (tyX15 k) := by decide +kernel
abbrev cX15_init : ByteArray := prog_8_method_1_code
def yX15_init : MethodName := ⟨RX15, "<init>", "(LCouncilStore$Entries;)V"⟩
abbrev cX15_clear : ByteArray := prog_8_method_2_code
def yX15_clear : MethodName := ⟨RX15, "clear", "()V"⟩
abbrev cX15_copy : ByteArray := prog_8_method_3_code
def yX15_copy : MethodName := ⟨RX15, "copy", "(LCouncilStore$Log;)V"⟩
abbrev cX15_last : ByteArray := prog_8_method_4_code
def yX15_last : MethodName := ⟨RX15, "last", "()I"⟩
abbrev cX15_put : ByteArray := prog_8_method_8_code
def yX15_put : MethodName := ⟨RX15, "put", "(II)V"⟩
abbrev cX15_term : ByteArray := prog_8_method_5_code
def yX15_term : MethodName := ⟨RX15, "term", "(I)I"⟩
abbrev cX15_entry : ByteArray := prog_8_method_7_code
def yX15_entry : MethodName := ⟨RX15, "entry", "(I)I"⟩
abbrev cX15_lastTerm : ByteArray := prog_8_method_6_code
def yX15_lastTerm : MethodName := ⟨RX15, "lastTerm", "()I"⟩
abbrev cX15_snapshot : ByteArray := prog_8_method_9_code
def yX15_snapshot : MethodName := ⟨RX15, "snapshot", "(III)V"⟩
theorem q115 : (Jvm.Cond.initialized "CouncilStore$Log") ∈ lw_all := lw_g (lw_at lw_m1 15 rfl) rfl
theorem q181 : (Jvm.Cond.fieldLink "CouncilStore$Log" (39 : Nat) "CouncilStore$Ints" "size" "I") ∈ lw_all := lw_g (lw_at lw_m1 81 rfl) rfl
theorem q218 : (Jvm.Cond.fieldLink "CouncilStore$Log" (42 : Nat) "CouncilStore$Entries" "terms" "LCouncilStore$Ints;") ∈ lw_all := lw_g (lw_at lw_m1 118 rfl) rfl
theorem q498 : (Jvm.Cond.instantiable "CouncilStore$Log" (5 : Nat)) ∈ lw_all := lw_g (lw_at lw_m2 158 rfl) rfl
theorem q500 : (Jvm.Cond.instanceMethod ({ cls := "CouncilStore$Log", name := "<init>", desc := "(LCouncilStore$Entries;)V" } : Jvm.MethodName)) ∈ lw_all := lw_g (lw_at lw_m2 160 rfl) rfl
theorem q501 : (Jvm.Cond.code ({ cls := "CouncilStore$Log", name := "<init>", desc := "(LCouncilStore$Entries;)V" } : Jvm.MethodName) prog_8_method_1_code (2 : Nat) (Option.none : Option Jvm.ClassFile.FieldType)) ∈ lw_all := lw_g (lw_at lw_m2 161 rfl) rfl
theorem q502 : (Jvm.Cond.methodLink "CouncilStore$Log" (1 : Nat) ({ cls := "java/lang/Object", name := "<init>", desc := "()V" } : Jvm.MethodName)) ∈ lw_all := lw_g (lw_at lw_m2 162 rfl) rfl
theorem q503 : (Jvm.Cond.classLink "CouncilStore$Log" (7 : Nat) "CouncilStore$Ints") ∈ lw_all := lw_g (lw_at lw_m2 163 rfl) rfl
theorem q504 : (Jvm.Cond.methodLink "CouncilStore$Log" (9 : Nat) ({ cls := "CouncilStore$Ints", name := "<init>", desc := "(I)V" } : Jvm.MethodName)) ∈ lw_all := lw_g (lw_at lw_m2 164 rfl) rfl
theorem q505 : (Jvm.Cond.fieldLink "CouncilStore$Log" (18 : Nat) "CouncilStore$Log" "pool" "LCouncilStore$Entries;") ∈ lw_all := lw_g (lw_at lw_m2 165 rfl) rfl
theorem q506 : (Jvm.Cond.fieldLink "CouncilStore$Log" (22 : Nat) "CouncilStore$Log" "base" "I") ∈ lw_all := lw_g (lw_at lw_m2 166 rfl) rfl
theorem q509 : (Jvm.Cond.fieldLink "CouncilStore$Log" (26 : Nat) "CouncilStore$Log" "baseTerm" "I") ∈ lw_all := lw_g (lw_at lw_m2 169 rfl) rfl
theorem q511 : (Jvm.Cond.fieldLink "CouncilStore$Log" (29 : Nat) "CouncilStore$Log" "state" "I") ∈ lw_all := lw_g (lw_at lw_m2 171 rfl) rfl
theorem q513 : (Jvm.Cond.fieldLink "CouncilStore$Log" (12 : Nat) "CouncilStore$Log" "entries" "LCouncilStore$Ints;") ∈ lw_all := lw_g (lw_at lw_m2 173 rfl) rfl
theorem q514 : (Jvm.Cond.laysFinal "CouncilStore$Log" "CouncilStore$Log" "pool" "LCouncilStore$Entries;") ∈ lw_all := lw_g (lw_at lw_m2 174 rfl) rfl
theorem q515 : (Jvm.Cond.soleField "CouncilStore$Log" "pool") ∈ lw_all := lw_g (lw_at lw_m2 175 rfl) rfl
theorem q516 : (Jvm.Cond.lays "CouncilStore$Log" "CouncilStore$Log" "base" "I") ∈ lw_all := lw_g (lw_at lw_m2 176 rfl) rfl
theorem q517 : (Jvm.Cond.soleField "CouncilStore$Log" "base") ∈ lw_all := lw_g (lw_at lw_m2 177 rfl) rfl
theorem q518 : (Jvm.Cond.lays "CouncilStore$Log" "CouncilStore$Log" "baseTerm" "I") ∈ lw_all := lw_g (lw_at lw_m2 178 rfl) rfl
theorem q519 : (Jvm.Cond.soleField "CouncilStore$Log" "baseTerm") ∈ lw_all := lw_g (lw_at lw_m2 179 rfl) rfl
theorem q520 : (Jvm.Cond.lays "CouncilStore$Log" "CouncilStore$Log" "state" "I") ∈ lw_all := lw_g (lw_at lw_m2 180 rfl) rfl
theorem q521 : (Jvm.Cond.soleField "CouncilStore$Log" "state") ∈ lw_all := lw_g (lw_at lw_m2 181 rfl) rfl
theorem q522 : (Jvm.Cond.laysFinal "CouncilStore$Log" "CouncilStore$Log" "entries" "LCouncilStore$Ints;") ∈ lw_all := lw_g (lw_at lw_m2 182 rfl) rfl
theorem q523 : (Jvm.Cond.soleField "CouncilStore$Log" "entries") ∈ lw_all := lw_g (lw_at lw_m2 183 rfl) rfl
theorem q524 : (Jvm.Cond.superclass "CouncilStore$Log" "java/lang/Object") ∈ lw_all := lw_g (lw_at lw_m2 184 rfl) rfl
theorem q837 : (Jvm.Cond.instanceMethod ({ cls := "CouncilStore$Log", name := "clear", desc := "()V" } : Jvm.MethodName)) ∈ lw_all := lw_g (lw_at lw_m4 17 rfl) rfl
theorem q838 : (Jvm.Cond.selects "CouncilStore$Log" ({ cls := "CouncilStore$Log", name := "clear", desc := "()V" } : Jvm.MethodName) ({ cls := "CouncilStore$Log", name := "clear", desc := "()V" } : Jvm.MethodName)) ∈ lw_all := lw_g (lw_at lw_m4 18 rfl) rfl
theorem q839 : (Jvm.Cond.code ({ cls := "CouncilStore$Log", name := "clear", desc := "()V" } : Jvm.MethodName) prog_8_method_2_code (1 : Nat) (Option.none : Option Jvm.ClassFile.FieldType)) ∈ lw_all := lw_g (lw_at lw_m4 19 rfl) rfl
theorem q840 : (Jvm.Cond.methodLink "CouncilStore$Log" (32 : Nat) ({ cls := "CouncilStore$Ints", name := "clear", desc := "()V" } : Jvm.MethodName)) ∈ lw_all := lw_g (lw_at lw_m4 20 rfl) rfl
theorem q852 : (Jvm.Cond.instanceMethod ({ cls := "CouncilStore$Log", name := "copy", desc := "(LCouncilStore$Log;)V" } : Jvm.MethodName)) ∈ lw_all := lw_g (lw_at lw_m4 32 rfl) rfl
theorem q853 : (Jvm.Cond.selects "CouncilStore$Log" ({ cls := "CouncilStore$Log", name := "copy", desc := "(LCouncilStore$Log;)V" } : Jvm.MethodName) ({ cls := "CouncilStore$Log", name := "copy", desc := "(LCouncilStore$Log;)V" } : Jvm.MethodName)) ∈ lw_all := lw_g (lw_at lw_m4 33 rfl) rfl
theorem q854 : (Jvm.Cond.code ({ cls := "CouncilStore$Log", name := "copy", desc := "(LCouncilStore$Log;)V" } : Jvm.MethodName) prog_8_method_3_code (2 : Nat) (Option.none : Option Jvm.ClassFile.FieldType)) ∈ lw_all := lw_g (lw_at lw_m4 34 rfl) rfl
theorem q855 : (Jvm.Cond.methodLink "CouncilStore$Log" (35 : Nat) ({ cls := "CouncilStore$Ints", name := "copy", desc := "(LCouncilStore$Ints;)V" } : Jvm.MethodName)) ∈ lw_all := lw_g (lw_at lw_m4 35 rfl) rfl
theorem q1072 : (Jvm.Cond.instanceMethod ({ cls := "CouncilStore$Log", name := "last", desc := "()I" } : Jvm.MethodName)) ∈ lw_all := lw_g (lw_at lw_m5 12 rfl) rfl
theorem q1073 : (Jvm.Cond.selects "CouncilStore$Log" ({ cls := "CouncilStore$Log", name := "last", desc := "()I" } : Jvm.MethodName) ({ cls := "CouncilStore$Log", name := "last", desc := "()I" } : Jvm.MethodName)) ∈ lw_all := lw_g (lw_at lw_m5 13 rfl) rfl
theorem q1074 : (Jvm.Cond.code ({ cls := "CouncilStore$Log", name := "last", desc := "()I" } : Jvm.MethodName) prog_8_method_4_code (1 : Nat) (Option.some Jvm.ClassFile.FieldType.int)) ∈ lw_all := lw_g (lw_at lw_m5 14 rfl) rfl
theorem q1080 : (Jvm.Cond.instanceMethod ({ cls := "CouncilStore$Log", name := "put", desc := "(II)V" } : Jvm.MethodName)) ∈ lw_all := lw_g (lw_at lw_m5 20 rfl) rfl
theorem q1081 : (Jvm.Cond.selects "CouncilStore$Log" ({ cls := "CouncilStore$Log", name := "put", desc := "(II)V" } : Jvm.MethodName) ({ cls := "CouncilStore$Log", name := "put", desc := "(II)V" } : Jvm.MethodName)) ∈ lw_all := lw_g (lw_at lw_m5 21 rfl) rfl
theorem q1082 : (Jvm.Cond.code ({ cls := "CouncilStore$Log", name := "put", desc := "(II)V" } : Jvm.MethodName) prog_8_method_8_code (3 : Nat) (Option.none : Option Jvm.ClassFile.FieldType)) ∈ lw_all := lw_g (lw_at lw_m5 22 rfl) rfl
theorem q1083 : (Jvm.Cond.methodLink "CouncilStore$Log" (58 : Nat) ({ cls := "CouncilStore$Ints", name := "add", desc := "(I)V" } : Jvm.MethodName)) ∈ lw_all := lw_g (lw_at lw_m5 23 rfl) rfl
theorem q1174 : (Jvm.Cond.instanceMethod ({ cls := "CouncilStore$Log", name := "term", desc := "(I)I" } : Jvm.MethodName)) ∈ lw_all := lw_g (lw_at lw_m5 114 rfl) rfl
theorem q1175 : (Jvm.Cond.selects "CouncilStore$Log" ({ cls := "CouncilStore$Log", name := "term", desc := "(I)I" } : Jvm.MethodName) ({ cls := "CouncilStore$Log", name := "term", desc := "(I)I" } : Jvm.MethodName)) ∈ lw_all := lw_g (lw_at lw_m5 115 rfl) rfl
theorem q1176 : (Jvm.Cond.code ({ cls := "CouncilStore$Log", name := "term", desc := "(I)I" } : Jvm.MethodName) prog_8_method_5_code (2 : Nat) (Option.some Jvm.ClassFile.FieldType.int)) ∈ lw_all := lw_g (lw_at lw_m5 116 rfl) rfl
theorem q1177 : (Jvm.Cond.methodLink "CouncilStore$Log" (47 : Nat) ({ cls := "CouncilStore$Ints", name := "get", desc := "(I)I" } : Jvm.MethodName)) ∈ lw_all := lw_g (lw_at lw_m5 117 rfl) rfl
theorem q1179 : (Jvm.Cond.instanceMethod ({ cls := "CouncilStore$Log", name := "entry", desc := "(I)I" } : Jvm.MethodName)) ∈ lw_all := lw_g (lw_at lw_m5 119 rfl) rfl
theorem q1180 : (Jvm.Cond.selects "CouncilStore$Log" ({ cls := "CouncilStore$Log", name := "entry", desc := "(I)I" } : Jvm.MethodName) ({ cls := "CouncilStore$Log", name := "entry", desc := "(I)I" } : Jvm.MethodName)) ∈ lw_all := lw_g (lw_at lw_m5 120 rfl) rfl
theorem q1181 : (Jvm.Cond.code ({ cls := "CouncilStore$Log", name := "entry", desc := "(I)I" } : Jvm.MethodName) prog_8_method_7_code (2 : Nat) (Option.some Jvm.ClassFile.FieldType.int)) ∈ lw_all := lw_g (lw_at lw_m5 121 rfl) rfl
theorem q1202 : (Jvm.Cond.instanceMethod ({ cls := "CouncilStore$Log", name := "lastTerm", desc := "()I" } : Jvm.MethodName)) ∈ lw_all := lw_g (lw_at lw_m5 142 rfl) rfl
theorem q1203 : (Jvm.Cond.selects "CouncilStore$Log" ({ cls := "CouncilStore$Log", name := "lastTerm", desc := "()I" } : Jvm.MethodName) ({ cls := "CouncilStore$Log", name := "lastTerm", desc := "()I" } : Jvm.MethodName)) ∈ lw_all := lw_g (lw_at lw_m5 143 rfl) rfl
theorem q1204 : (Jvm.Cond.code ({ cls := "CouncilStore$Log", name := "lastTerm", desc := "()I" } : Jvm.MethodName) prog_8_method_6_code (1 : Nat) (Option.some Jvm.ClassFile.FieldType.int)) ∈ lw_all := lw_g (lw_at lw_m5 144 rfl) rfl
theorem q1205 : (Jvm.Cond.methodLink "CouncilStore$Log" (51 : Nat) ({ cls := "CouncilStore$Log", name := "last", desc := "()I" } : Jvm.MethodName)) ∈ lw_all := lw_g (lw_at lw_m5 145 rfl) rfl
theorem q1206 : (Jvm.Cond.methodLink "CouncilStore$Log" (55 : Nat) ({ cls := "CouncilStore$Log", name := "term", desc := "(I)I" } : Jvm.MethodName)) ∈ lw_all := lw_g (lw_at lw_m5 146 rfl) rfl
theorem q1256 : (Jvm.Cond.instanceMethod ({ cls := "CouncilStore$Log", name := "snapshot", desc := "(III)V" } : Jvm.MethodName)) ∈ lw_all := lw_g (lw_at lw_m5 196 rfl) rfl
theorem q1257 : (Jvm.Cond.selects "CouncilStore$Log" ({ cls := "CouncilStore$Log", name := "snapshot", desc := "(III)V" } : Jvm.MethodName) ({ cls := "CouncilStore$Log", name := "snapshot", desc := "(III)V" } : Jvm.MethodName)) ∈ lw_all := lw_g (lw_at lw_m5 197 rfl) rfl
theorem q1258 : (Jvm.Cond.code ({ cls := "CouncilStore$Log", name := "snapshot", desc := "(III)V" } : Jvm.MethodName) prog_8_method_9_code (4 : Nat) (Option.none : Option Jvm.ClassFile.FieldType)) ∈ lw_all := lw_g (lw_at lw_m5 198 rfl) rfl
theorem q1259 : (Jvm.Cond.methodLink "CouncilStore$Log" (61 : Nat) ({ cls := "CouncilStore$Ints", name := "shift", desc := "(I)V" } : Jvm.MethodName)) ∈ lw_all := lw_g (lw_at lw_m5 199 rfl) rfl
theorem in_X15 : ∀ w ∈ wsX150, w ∈ lw_all := lw_in wsX150 [514, 516, 518, 520, 522] (by decide +kernel) (by decide +kernel)
/-! CouncilStore$Message -/
def RX17 : String := "CouncilStore$Message"
def TX17 : u_T := fun k => match k with
  | 0 => ("CouncilStore$Message", "sort", "I", false)
  | 1 => ("CouncilStore$Message", "from", "I", false)
  | 2 => ("CouncilStore$Message", "to", "I", false)
  | 3 => ("CouncilStore$Message", "term", "I", false)
  | 4 => ("CouncilStore$Message", "index", "I", false)
  | 5 => ("CouncilStore$Message", "mark", "I", false)
  | 6 => ("CouncilStore$Message", "commit", "I", false)
  | 7 => ("CouncilStore$Message", "round", "I", false)
  | 8 => ("CouncilStore$Message", "state", "I", false)
  | 9 => ("CouncilStore$Message", "many", "I", false)
  | _ => ("CouncilStore$Message", "entries", "[I", true)
def tyX17 : Nat → FieldType := fun k => match k with
  | 0 => .int
  | 1 => .int
  | 2 => .int
  | 3 => .int
  | 4 => .int
  | 5 => .int
  | 6 => .int
  | 7 => .int
  | 8 => .int
  | 9 => .int
  | _ => .array .int
abbrev wsX170 : List Cond := u_ws RX17 TX17 11
theorem nmX17 : ∀ a, a < 11 → ∀ b, b < 11 → a ≠ b → (TX17 a).2.1 ≠ (TX17 b).2.1 := by decide +kernel
theorem tyX17_ok : ∀ k, k < 11 → parseFieldDescriptor (TX17 k).2.2.1 = some (tyX17 k) := by decide +kernel
abbrev cX17_init : ByteArray := prog_9_method_1_code
def yX17_init : MethodName := ⟨RX17, "<init>", "()V"⟩
theorem q127 : (Jvm.Cond.initialized "CouncilStore$Message") ∈ lw_all := lw_g (lw_at lw_m1 27 rfl) rfl
theorem q1110 : (Jvm.Cond.instantiable "CouncilStore$Message" (11 : Nat)) ∈ lw_all := lw_g (lw_at lw_m5 50 rfl) rfl
theorem q1112 : (Jvm.Cond.instanceMethod ({ cls := "CouncilStore$Message", name := "<init>", desc := "()V" } : Jvm.MethodName)) ∈ lw_all := lw_g (lw_at lw_m5 52 rfl) rfl
theorem q1113 : (Jvm.Cond.code ({ cls := "CouncilStore$Message", name := "<init>", desc := "()V" } : Jvm.MethodName) prog_9_method_1_code (1 : Nat) (Option.none : Option Jvm.ClassFile.FieldType)) ∈ lw_all := lw_g (lw_at lw_m5 53 rfl) rfl
theorem q1114 : (Jvm.Cond.methodLink "CouncilStore$Message" (1 : Nat) ({ cls := "java/lang/Object", name := "<init>", desc := "()V" } : Jvm.MethodName)) ∈ lw_all := lw_g (lw_at lw_m5 54 rfl) rfl
theorem q1134 : (Jvm.Cond.fieldLink "CouncilStore$Message" (9 : Nat) "CouncilStore$Message" "entries" "[I") ∈ lw_all := lw_g (lw_at lw_m5 74 rfl) rfl
theorem q1136 : (Jvm.Cond.lays "CouncilStore$Message" "CouncilStore$Message" "sort" "I") ∈ lw_all := lw_g (lw_at lw_m5 76 rfl) rfl
theorem q1137 : (Jvm.Cond.soleField "CouncilStore$Message" "sort") ∈ lw_all := lw_g (lw_at lw_m5 77 rfl) rfl
theorem q1138 : (Jvm.Cond.lays "CouncilStore$Message" "CouncilStore$Message" "from" "I") ∈ lw_all := lw_g (lw_at lw_m5 78 rfl) rfl
theorem q1139 : (Jvm.Cond.soleField "CouncilStore$Message" "from") ∈ lw_all := lw_g (lw_at lw_m5 79 rfl) rfl
theorem q1140 : (Jvm.Cond.lays "CouncilStore$Message" "CouncilStore$Message" "to" "I") ∈ lw_all := lw_g (lw_at lw_m5 80 rfl) rfl
theorem q1141 : (Jvm.Cond.soleField "CouncilStore$Message" "to") ∈ lw_all := lw_g (lw_at lw_m5 81 rfl) rfl
theorem q1142 : (Jvm.Cond.lays "CouncilStore$Message" "CouncilStore$Message" "term" "I") ∈ lw_all := lw_g (lw_at lw_m5 82 rfl) rfl
theorem q1143 : (Jvm.Cond.soleField "CouncilStore$Message" "term") ∈ lw_all := lw_g (lw_at lw_m5 83 rfl) rfl
theorem q1144 : (Jvm.Cond.lays "CouncilStore$Message" "CouncilStore$Message" "index" "I") ∈ lw_all := lw_g (lw_at lw_m5 84 rfl) rfl
theorem q1145 : (Jvm.Cond.soleField "CouncilStore$Message" "index") ∈ lw_all := lw_g (lw_at lw_m5 85 rfl) rfl
theorem q1146 : (Jvm.Cond.lays "CouncilStore$Message" "CouncilStore$Message" "mark" "I") ∈ lw_all := lw_g (lw_at lw_m5 86 rfl) rfl
theorem q1147 : (Jvm.Cond.soleField "CouncilStore$Message" "mark") ∈ lw_all := lw_g (lw_at lw_m5 87 rfl) rfl
theorem q1148 : (Jvm.Cond.lays "CouncilStore$Message" "CouncilStore$Message" "commit" "I") ∈ lw_all := lw_g (lw_at lw_m5 88 rfl) rfl
theorem q1149 : (Jvm.Cond.soleField "CouncilStore$Message" "commit") ∈ lw_all := lw_g (lw_at lw_m5 89 rfl) rfl
theorem q1150 : (Jvm.Cond.lays "CouncilStore$Message" "CouncilStore$Message" "round" "I") ∈ lw_all := lw_g (lw_at lw_m5 90 rfl) rfl
theorem q1151 : (Jvm.Cond.soleField "CouncilStore$Message" "round") ∈ lw_all := lw_g (lw_at lw_m5 91 rfl) rfl
theorem q1152 : (Jvm.Cond.lays "CouncilStore$Message" "CouncilStore$Message" "state" "I") ∈ lw_all := lw_g (lw_at lw_m5 92 rfl) rfl
theorem q1153 : (Jvm.Cond.soleField "CouncilStore$Message" "state") ∈ lw_all := lw_g (lw_at lw_m5 93 rfl) rfl
theorem q1154 : (Jvm.Cond.lays "CouncilStore$Message" "CouncilStore$Message" "many" "I") ∈ lw_all := lw_g (lw_at lw_m5 94 rfl) rfl
theorem q1155 : (Jvm.Cond.soleField "CouncilStore$Message" "many") ∈ lw_all := lw_g (lw_at lw_m5 95 rfl) rfl
theorem q1156 : (Jvm.Cond.laysFinal "CouncilStore$Message" "CouncilStore$Message" "entries" "[I") ∈ lw_all := lw_g (lw_at lw_m5 96 rfl) rfl
theorem q1157 : (Jvm.Cond.soleField "CouncilStore$Message" "entries") ∈ lw_all := lw_g (lw_at lw_m5 97 rfl) rfl
theorem q1158 : (Jvm.Cond.superclass "CouncilStore$Message" "java/lang/Object") ∈ lw_all := lw_g (lw_at lw_m5 98 rfl) rfl
theorem in_X17 : ∀ w ∈ wsX170, w ∈ lw_all := lw_in wsX170 [1136, 1138, 1140, 1142, 1144, 1146, 1148, 1150, 1152, 1154, 1156] (by decide +kernel) (by decide +kernel)
/-! CouncilStore$Read -/
def RX18 : String := "CouncilStore$Read"
def TX18 : u_T := fun k => match k with
  | 0 => ("CouncilStore$Read", "keyFrom", "I", false)
  | 1 => ("CouncilStore$Read", "keyTo", "I", false)
  | 2 => ("CouncilStore$Read", "asOf", "I", false)
  | 3 => ("CouncilStore$Read", "round", "I", false)
  | 4 => ("CouncilStore$Read", "done", "Z", false)
  | _ => ("CouncilStore$Read", "answer", "[I", true)
def tyX18 : Nat → FieldType := fun k => match k with
  | 0 => .int
  | 1 => .int
  | 2 => .int
  | 3 => .int
  | 4 => .boolean
  | _ => .array .int
abbrev wsX180 : List Cond := u_ws RX18 TX18 6
theorem nmX18 : ∀ a, a < 6 → ∀ b, b < 6 → a ≠ b → (TX18 a).2.1 ≠ (TX18 b).2.1 := by decide +kernel
theorem tyX18_ok : ∀ k, k < 6 → parseFieldDescriptor (TX18 k).2.2.1 = some (tyX18 k) := by decide +kernel
abbrev cX18_init : ByteArray := prog_15_method_1_code
def yX18_init : MethodName := ⟨RX18, "<init>", "()V"⟩
theorem q129 : (Jvm.Cond.initialized "CouncilStore$Read") ∈ lw_all := lw_g (lw_at lw_m1 29 rfl) rfl
theorem q1502 : (Jvm.Cond.instantiable "CouncilStore$Read" (6 : Nat)) ∈ lw_all := lw_g (lw_at lw_m6 202 rfl) rfl
theorem q1504 : (Jvm.Cond.instanceMethod ({ cls := "CouncilStore$Read", name := "<init>", desc := "()V" } : Jvm.MethodName)) ∈ lw_all := lw_g (lw_at lw_m6 204 rfl) rfl
theorem q1505 : (Jvm.Cond.code ({ cls := "CouncilStore$Read", name := "<init>", desc := "()V" } : Jvm.MethodName) prog_15_method_1_code (1 : Nat) (Option.none : Option Jvm.ClassFile.FieldType)) ∈ lw_all := lw_g (lw_at lw_m6 205 rfl) rfl
theorem q1506 : (Jvm.Cond.methodLink "CouncilStore$Read" (1 : Nat) ({ cls := "java/lang/Object", name := "<init>", desc := "()V" } : Jvm.MethodName)) ∈ lw_all := lw_g (lw_at lw_m6 206 rfl) rfl
theorem q1512 : (Jvm.Cond.fieldLink "CouncilStore$Read" (7 : Nat) "CouncilStore$Read" "answer" "[I") ∈ lw_all := lw_g (lw_at lw_m6 212 rfl) rfl
theorem q1514 : (Jvm.Cond.lays "CouncilStore$Read" "CouncilStore$Read" "keyFrom" "I") ∈ lw_all := lw_g (lw_at lw_m6 214 rfl) rfl
theorem q1515 : (Jvm.Cond.soleField "CouncilStore$Read" "keyFrom") ∈ lw_all := lw_g (lw_at lw_m6 215 rfl) rfl
theorem q1516 : (Jvm.Cond.lays "CouncilStore$Read" "CouncilStore$Read" "keyTo" "I") ∈ lw_all := lw_g (lw_at lw_m6 216 rfl) rfl
theorem q1517 : (Jvm.Cond.soleField "CouncilStore$Read" "keyTo") ∈ lw_all := lw_g (lw_at lw_m6 217 rfl) rfl
theorem q1518 : (Jvm.Cond.lays "CouncilStore$Read" "CouncilStore$Read" "asOf" "I") ∈ lw_all := lw_g (lw_at lw_m6 218 rfl) rfl
theorem q1519 : (Jvm.Cond.soleField "CouncilStore$Read" "asOf") ∈ lw_all := lw_g (lw_at lw_m6 219 rfl) rfl
theorem q1520 : (Jvm.Cond.lays "CouncilStore$Read" "CouncilStore$Read" "round" "I") ∈ lw_all := lw_g (lw_at lw_m6 220 rfl) rfl
theorem q1521 : (Jvm.Cond.soleField "CouncilStore$Read" "round") ∈ lw_all := lw_g (lw_at lw_m6 221 rfl) rfl
theorem q1522 : (Jvm.Cond.lays "CouncilStore$Read" "CouncilStore$Read" "done" "Z") ∈ lw_all := lw_g (lw_at lw_m6 222 rfl) rfl
theorem q1523 : (Jvm.Cond.soleField "CouncilStore$Read" "done") ∈ lw_all := lw_g (lw_at lw_m6 223 rfl) rfl
theorem q1524 : (Jvm.Cond.laysFinal "CouncilStore$Read" "CouncilStore$Read" "answer" "[I") ∈ lw_all := lw_g (lw_at lw_m6 224 rfl) rfl
theorem q1525 : (Jvm.Cond.soleField "CouncilStore$Read" "answer") ∈ lw_all := lw_g (lw_at lw_m6 225 rfl) rfl
theorem q1526 : (Jvm.Cond.superclass "CouncilStore$Read" "java/lang/Object") ∈ lw_all := lw_g (lw_at lw_m6 226 rfl) rfl
theorem in_X18 : ∀ w ∈ wsX180, w ∈ lw_all := lw_in wsX180 [1514, 1516, 1518, 1520, 1522, 1524] (by decide +kernel) (by decide +kernel)
/-! the law's own entry -/
abbrev cL_law : ByteArray := code
/-! java/lang/Throwable -/
def RJ0 : String := "java/lang/Throwable"
def TJ0 : u_T := fun k => match k with
  | 0 => ("java/lang/Throwable", "cause", "Ljava/lang/Throwable;", false)
  | 1 => ("java/lang/Throwable", "stackTrace", "[Ljava/lang/StackTraceElement;", false)
  | 2 => ("java/lang/Throwable", "suppressedExceptions", "Ljava/util/List;", false)
  | 3 => ("java/lang/Throwable", "detailMessage", "Ljava/lang/String;", false)
  | _ => ("java/lang/Throwable", "backtrace", "Ljava/lang/Object;", false)
def tyJ0 : Nat → FieldType := fun k => match k with
  | 0 => .object "java/lang/Throwable"
  | 1 => .array (.object "java/lang/StackTraceElement")
  | 2 => .object "java/util/List"
  | 3 => .object "java/lang/String"
  | _ => .object "java/lang/Object"
abbrev wsJ00 : List Cond := u_ws RJ0 TJ0 5
theorem nmJ0 : ∀ a, a < 5 → ∀ b, b < 5 → a ≠ b → (TJ0 a).2.1 ≠ (TJ0 b).2.1 := by decide +kernel
theorem tyJ0_ok : ∀ k, k < 5 → parseFieldDescriptor (TJ0 k).2.2.1 = some (tyJ0 k) := by decide +kernel
abbrev cJ0_init : ByteArray := prog_29_method_1_code
def yJ0_init : MethodName := ⟨RJ0, "<init>", "()V"⟩
theorem dJ0_init_0 : decode cJ0_init 0 = .ok (.aload_n 0, 1) := by decide +kernel
theorem dJ0_init_1 : decode cJ0_init 1 = .ok (.invokespecial 1, 3) := by decide +kernel
theorem dJ0_init_4 : decode cJ0_init 4 = .ok (.aload_n 0, 1) := by decide +kernel
theorem dJ0_init_5 : decode cJ0_init 5 = .ok (.aload_n 0, 1) := by decide +kernel
theorem dJ0_init_6 : decode cJ0_init 6 = .ok (.putfield 7, 3) := by decide +kernel
theorem dJ0_init_9 : decode cJ0_init 9 = .ok (.aload_n 0, 1) := by decide +kernel
theorem dJ0_init_10 : decode cJ0_init 10 = .ok (.getstatic 13, 3) := by decide +kernel
theorem dJ0_init_13 : decode cJ0_init 13 = .ok (.putfield 17, 3) := by decide +kernel
theorem dJ0_init_16 : decode cJ0_init 16 = .ok (.aload_n 0, 1) := by decide +kernel
theorem dJ0_init_17 : decode cJ0_init 17 = .ok (.getstatic 20, 3) := by decide +kernel
theorem dJ0_init_20 : decode cJ0_init 20 = .ok (.putfield 24, 3) := by decide +kernel
theorem dJ0_init_23 : decode cJ0_init 23 = .ok (.aload_n 0, 1) := by decide +kernel
theorem dJ0_init_24 : decode cJ0_init 24 = .ok (.invokevirtual 27, 3) := by decide +kernel
theorem dJ0_init_27 : decode cJ0_init 27 = .ok (.pop, 1) := by decide +kernel
theorem dJ0_init_28 : decode cJ0_init 28 = .ok (.return_, 1) := by decide +kernel
abbrev cJ0_init_2 : ByteArray := prog_29_method_2_code
def yJ0_init_2 : MethodName := ⟨RJ0, "<init>", "(Ljava/lang/String;)V"⟩
theorem dJ0_init_2_0 : decode cJ0_init_2 0 = .ok (.aload_n 0, 1) := by decide +kernel
theorem dJ0_init_2_1 : decode cJ0_init_2 1 = .ok (.invokespecial 1, 3) := by decide +kernel
theorem dJ0_init_2_4 : decode cJ0_init_2 4 = .ok (.aload_n 0, 1) := by decide +kernel
theorem dJ0_init_2_5 : decode cJ0_init_2 5 = .ok (.aload_n 0, 1) := by decide +kernel
theorem dJ0_init_2_6 : decode cJ0_init_2 6 = .ok (.putfield 7, 3) := by decide +kernel
theorem dJ0_init_2_9 : decode cJ0_init_2 9 = .ok (.aload_n 0, 1) := by decide +kernel
theorem dJ0_init_2_10 : decode cJ0_init_2 10 = .ok (.getstatic 13, 3) := by decide +kernel
theorem dJ0_init_2_13 : decode cJ0_init_2 13 = .ok (.putfield 17, 3) := by decide +kernel
theorem dJ0_init_2_16 : decode cJ0_init_2 16 = .ok (.aload_n 0, 1) := by decide +kernel
theorem dJ0_init_2_17 : decode cJ0_init_2 17 = .ok (.getstatic 20, 3) := by decide +kernel
theorem dJ0_init_2_20 : decode cJ0_init_2 20 = .ok (.putfield 24, 3) := by decide +kernel
theorem dJ0_init_2_23 : decode cJ0_init_2 23 = .ok (.aload_n 0, 1) := by decide +kernel
theorem dJ0_init_2_24 : decode cJ0_init_2 24 = .ok (.invokevirtual 27, 3) := by decide +kernel
theorem dJ0_init_2_27 : decode cJ0_init_2 27 = .ok (.pop, 1) := by decide +kernel
theorem dJ0_init_2_28 : decode cJ0_init_2 28 = .ok (.aload_n 0, 1) := by decide +kernel
theorem dJ0_init_2_29 : decode cJ0_init_2 29 = .ok (.aload_n 1, 1) := by decide +kernel
theorem dJ0_init_2_30 : decode cJ0_init_2 30 = .ok (.putfield 31, 3) := by decide +kernel
theorem dJ0_init_2_33 : decode cJ0_init_2 33 = .ok (.return_, 1) := by decide +kernel
theorem q118 : (Jvm.Cond.initialized "java/lang/Throwable") ∈ lw_all := lw_g (lw_at lw_m1 18 rfl) rfl
theorem q769 : (Jvm.Cond.declares ({ cls := "java/lang/Throwable", name := "<init>", desc := "()V" } : Jvm.MethodName)) ∈ lw_tbl := lw_at lw_m3 189 rfl
theorem q770 : (Jvm.Cond.declares ({ cls := "java/lang/Throwable", name := "<init>", desc := "(Ljava/lang/String;)V" } : Jvm.MethodName)) ∈ lw_tbl := lw_at lw_m3 190 rfl
theorem q774 : (Jvm.Cond.lays "java/lang/Throwable" "java/lang/Throwable" "cause" "Ljava/lang/Throwable;") ∈ lw_all := lw_g (lw_at lw_m3 194 rfl) rfl
theorem q776 : (Jvm.Cond.lays "java/lang/Throwable" "java/lang/Throwable" "stackTrace" "[Ljava/lang/StackTraceElement;") ∈ lw_all := lw_g (lw_at lw_m3 196 rfl) rfl
theorem q778 : (Jvm.Cond.lays "java/lang/Throwable" "java/lang/Throwable" "suppressedExceptions" "Ljava/util/List;") ∈ lw_all := lw_g (lw_at lw_m3 198 rfl) rfl
theorem q780 : (Jvm.Cond.lays "java/lang/Throwable" "java/lang/Throwable" "detailMessage" "Ljava/lang/String;") ∈ lw_all := lw_g (lw_at lw_m3 200 rfl) rfl
theorem q782 : (Jvm.Cond.lays "java/lang/Throwable" "java/lang/Throwable" "backtrace" "Ljava/lang/Object;") ∈ lw_all := lw_g (lw_at lw_m3 202 rfl) rfl
theorem q783 : (Jvm.Cond.fieldLink "java/lang/Throwable" (198 : Nat) "java/lang/Throwable" "backtrace" "Ljava/lang/Object;") ∈ lw_all := lw_g (lw_at lw_m3 203 rfl) rfl
theorem q784 : (Jvm.Cond.superclass "java/lang/Throwable" "java/lang/Object") ∈ lw_all := lw_g (lw_at lw_m3 204 rfl) rfl
theorem q785 : (Jvm.Cond.instanceMethod ({ cls := "java/lang/Throwable", name := "<init>", desc := "()V" } : Jvm.MethodName)) ∈ lw_all := lw_g (lw_at lw_m3 205 rfl) rfl
theorem q786 : (Jvm.Cond.code ({ cls := "java/lang/Throwable", name := "<init>", desc := "()V" } : Jvm.MethodName) prog_29_method_1_code (1 : Nat) (Option.none : Option Jvm.ClassFile.FieldType)) ∈ lw_all := lw_g (lw_at lw_m3 206 rfl) rfl
theorem q787 : (Jvm.Cond.methodLink "java/lang/Throwable" (1 : Nat) ({ cls := "java/lang/Object", name := "<init>", desc := "()V" } : Jvm.MethodName)) ∈ lw_all := lw_g (lw_at lw_m3 207 rfl) rfl
theorem q788 : (Jvm.Cond.fieldLink "java/lang/Throwable" (13 : Nat) "java/lang/Throwable" "UNASSIGNED_STACK" "[Ljava/lang/StackTraceElement;") ∈ lw_all := lw_g (lw_at lw_m3 208 rfl) rfl
theorem q789 : (Jvm.Cond.laysStatic "java/lang/Throwable" "UNASSIGNED_STACK" "[Ljava/lang/StackTraceElement;") ∈ lw_tbl := lw_at lw_m3 209 rfl
theorem q790 : (Jvm.Cond.fieldLink "java/lang/Throwable" (20 : Nat) "java/lang/Throwable" "SUPPRESSED_SENTINEL" "Ljava/util/List;") ∈ lw_all := lw_g (lw_at lw_m3 210 rfl) rfl
theorem q791 : (Jvm.Cond.laysStatic "java/lang/Throwable" "SUPPRESSED_SENTINEL" "Ljava/util/List;") ∈ lw_tbl := lw_at lw_m3 211 rfl
theorem q792 : (Jvm.Cond.methodLink "java/lang/Throwable" (27 : Nat) ({ cls := "java/lang/Throwable", name := "fillInStackTrace", desc := "()Ljava/lang/Throwable;" } : Jvm.MethodName)) ∈ lw_all := lw_g (lw_at lw_m3 212 rfl) rfl
theorem q793 : (Jvm.Cond.instanceMethod ({ cls := "java/lang/Throwable", name := "fillInStackTrace", desc := "()Ljava/lang/Throwable;" } : Jvm.MethodName)) ∈ lw_all := lw_g (lw_at lw_m3 213 rfl) rfl
theorem q794 : (Jvm.Cond.sameMethod "java/lang/Throwable" "java/lang/Throwable" "fillInStackTrace" "()Ljava/lang/Throwable;") ∈ lw_all := lw_g (lw_at lw_m3 214 rfl) rfl
theorem q799 : (Jvm.Cond.codeSync ({ cls := "java/lang/Throwable", name := "fillInStackTrace", desc := "()Ljava/lang/Throwable;" } : Jvm.MethodName) prog_29_method_18_code (1 : Nat) (Option.some (Jvm.ClassFile.FieldType.object "java/lang/Throwable"))) ∈ lw_all := lw_g (lw_at lw_m3 219 rfl) rfl
theorem q800 : (Jvm.Cond.methodLink "java/lang/Throwable" (202 : Nat) ({ cls := "java/lang/Throwable", name := "fillInStackTrace", desc := "(I)Ljava/lang/Throwable;" } : Jvm.MethodName)) ∈ lw_all := lw_g (lw_at lw_m3 220 rfl) rfl
theorem q801 : (Jvm.Cond.privateMethod ({ cls := "java/lang/Throwable", name := "fillInStackTrace", desc := "(I)Ljava/lang/Throwable;" } : Jvm.MethodName)) ∈ lw_tbl := lw_at lw_m3 221 rfl
theorem q802 : (Jvm.Cond.instanceMethod ({ cls := "java/lang/Throwable", name := "fillInStackTrace", desc := "(I)Ljava/lang/Throwable;" } : Jvm.MethodName)) ∈ lw_all := lw_g (lw_at lw_m3 222 rfl) rfl
theorem q803 : (Jvm.Cond.instantiable "java/lang/Throwable" (6 : Nat)) ∈ lw_all := lw_g (lw_at lw_m3 223 rfl) rfl
theorem q804 : (Jvm.Cond.native ({ cls := "java/lang/Throwable", name := "fillInStackTrace", desc := "(I)Ljava/lang/Throwable;" } : Jvm.MethodName)) ∈ lw_all := lw_g (lw_at lw_m3 224 rfl) rfl
theorem q815 : (Jvm.Cond.fieldLink "java/lang/Throwable" (198 : Nat) "java/lang/Throwable" "backtrace" "Ljava/lang/Object;") ∈ lw_all := lw_g (lw_at lw_m3 235 rfl) rfl
theorem q816 : (Jvm.Cond.fieldLink "java/lang/Throwable" (31 : Nat) "java/lang/Throwable" "detailMessage" "Ljava/lang/String;") ∈ lw_all := lw_g (lw_at lw_m3 236 rfl) rfl
theorem q817 : (Jvm.Cond.fieldLink "java/lang/Throwable" (7 : Nat) "java/lang/Throwable" "cause" "Ljava/lang/Throwable;") ∈ lw_all := lw_g (lw_at lw_m3 237 rfl) rfl
theorem q818 : (Jvm.Cond.fieldLink "java/lang/Throwable" (17 : Nat) "java/lang/Throwable" "stackTrace" "[Ljava/lang/StackTraceElement;") ∈ lw_all := lw_g (lw_at lw_m3 238 rfl) rfl
theorem q819 : (Jvm.Cond.fieldLink "java/lang/Throwable" (24 : Nat) "java/lang/Throwable" "suppressedExceptions" "Ljava/util/List;") ∈ lw_all := lw_g (lw_at lw_m3 239 rfl) rfl
theorem q820 : (Jvm.Cond.soleField "java/lang/Throwable" "backtrace") ∈ lw_all := lw_g (lw_at lw_m4 0 rfl) rfl
theorem q821 : (Jvm.Cond.soleField "java/lang/Throwable" "detailMessage") ∈ lw_all := lw_g (lw_at lw_m4 1 rfl) rfl
theorem q822 : (Jvm.Cond.soleField "java/lang/Throwable" "cause") ∈ lw_all := lw_g (lw_at lw_m4 2 rfl) rfl
theorem q823 : (Jvm.Cond.soleField "java/lang/Throwable" "stackTrace") ∈ lw_all := lw_g (lw_at lw_m4 3 rfl) rfl
theorem q825 : (Jvm.Cond.soleField "java/lang/Throwable" "depth") ∈ lw_all := lw_g (lw_at lw_m4 5 rfl) rfl
theorem q826 : (Jvm.Cond.soleField "java/lang/Throwable" "suppressedExceptions") ∈ lw_all := lw_g (lw_at lw_m4 6 rfl) rfl
theorem q887 : (Jvm.Cond.instanceMethod ({ cls := "java/lang/Throwable", name := "<init>", desc := "(Ljava/lang/String;)V" } : Jvm.MethodName)) ∈ lw_all := lw_g (lw_at lw_m4 67 rfl) rfl
theorem q888 : (Jvm.Cond.code ({ cls := "java/lang/Throwable", name := "<init>", desc := "(Ljava/lang/String;)V" } : Jvm.MethodName) prog_29_method_2_code (2 : Nat) (Option.none : Option Jvm.ClassFile.FieldType)) ∈ lw_all := lw_g (lw_at lw_m4 68 rfl) rfl
theorem q2392 : (Jvm.Cond.sameMethod "java/lang/Throwable" "java/lang/Throwable" "fillInStackTrace" "(I)Ljava/lang/Throwable;") ∈ lw_all := lw_g (lw_at lw_m10 132 rfl) rfl
theorem in_J0 : ∀ w ∈ wsJ00, w ∈ lw_all := lw_in wsJ00 [774, 776, 778, 780, 782] (by decide +kernel) (by decide +kernel)
/-! java/lang/Exception -/
def RJ1 : String := "java/lang/Exception"
abbrev cJ1_init : ByteArray := prog_21_method_1_code
def yJ1_init : MethodName := ⟨RJ1, "<init>", "()V"⟩
theorem dJ1_init_0 : decode cJ1_init 0 = .ok (.aload_n 0, 1) := by decide +kernel
theorem dJ1_init_1 : decode cJ1_init 1 = .ok (.invokespecial 1, 3) := by decide +kernel
theorem dJ1_init_4 : decode cJ1_init 4 = .ok (.return_, 1) := by decide +kernel
abbrev cJ1_init_2 : ByteArray := prog_21_method_2_code
def yJ1_init_2 : MethodName := ⟨RJ1, "<init>", "(Ljava/lang/String;)V"⟩
theorem dJ1_init_2_0 : decode cJ1_init_2 0 = .ok (.aload_n 0, 1) := by decide +kernel
theorem dJ1_init_2_1 : decode cJ1_init_2 1 = .ok (.aload_n 1, 1) := by decide +kernel
theorem dJ1_init_2_2 : decode cJ1_init_2 2 = .ok (.invokespecial 7, 3) := by decide +kernel
theorem dJ1_init_2_5 : decode cJ1_init_2 5 = .ok (.return_, 1) := by decide +kernel
theorem q119 : (Jvm.Cond.initialized "java/lang/Exception") ∈ lw_all := lw_g (lw_at lw_m1 19 rfl) rfl
theorem q767 : (Jvm.Cond.declares ({ cls := "java/lang/Exception", name := "<init>", desc := "()V" } : Jvm.MethodName)) ∈ lw_tbl := lw_at lw_m3 187 rfl
theorem q768 : (Jvm.Cond.declares ({ cls := "java/lang/Exception", name := "<init>", desc := "(Ljava/lang/String;)V" } : Jvm.MethodName)) ∈ lw_tbl := lw_at lw_m3 188 rfl
theorem q812 : (Jvm.Cond.instanceMethod ({ cls := "java/lang/Exception", name := "<init>", desc := "()V" } : Jvm.MethodName)) ∈ lw_all := lw_g (lw_at lw_m3 232 rfl) rfl
theorem q813 : (Jvm.Cond.code ({ cls := "java/lang/Exception", name := "<init>", desc := "()V" } : Jvm.MethodName) prog_21_method_1_code (1 : Nat) (Option.none : Option Jvm.ClassFile.FieldType)) ∈ lw_all := lw_g (lw_at lw_m3 233 rfl) rfl
theorem q814 : (Jvm.Cond.methodLink "java/lang/Exception" (1 : Nat) ({ cls := "java/lang/Throwable", name := "<init>", desc := "()V" } : Jvm.MethodName)) ∈ lw_all := lw_g (lw_at lw_m3 234 rfl) rfl
theorem q884 : (Jvm.Cond.instanceMethod ({ cls := "java/lang/Exception", name := "<init>", desc := "(Ljava/lang/String;)V" } : Jvm.MethodName)) ∈ lw_all := lw_g (lw_at lw_m4 64 rfl) rfl
theorem q885 : (Jvm.Cond.code ({ cls := "java/lang/Exception", name := "<init>", desc := "(Ljava/lang/String;)V" } : Jvm.MethodName) prog_21_method_2_code (2 : Nat) (Option.none : Option Jvm.ClassFile.FieldType)) ∈ lw_all := lw_g (lw_at lw_m4 65 rfl) rfl
theorem q886 : (Jvm.Cond.methodLink "java/lang/Exception" (7 : Nat) ({ cls := "java/lang/Throwable", name := "<init>", desc := "(Ljava/lang/String;)V" } : Jvm.MethodName)) ∈ lw_all := lw_g (lw_at lw_m4 66 rfl) rfl
/-! java/lang/Object -/
def RJ10 : String := "java/lang/Object"
abbrev cJ10_init : ByteArray := object_method_1_code
def yJ10_init : MethodName := ⟨RJ10, "<init>", "()V"⟩
theorem dJ10_init_0 : decode cJ10_init 0 = .ok (.return_, 1) := by decide +kernel
theorem q136 : (Jvm.Cond.instanceMethod ({ cls := "java/lang/Object", name := "<init>", desc := "()V" } : Jvm.MethodName)) ∈ lw_all := lw_g (lw_at lw_m1 36 rfl) rfl
theorem q137 : (Jvm.Cond.code ({ cls := "java/lang/Object", name := "<init>", desc := "()V" } : Jvm.MethodName) object_method_1_code (1 : Nat) (Option.none : Option Jvm.ClassFile.FieldType)) ∈ lw_all := lw_g (lw_at lw_m1 37 rfl) rfl
/-! java/lang/RuntimeException -/
def RJ2 : String := "java/lang/RuntimeException"
abbrev cJ2_init : ByteArray := prog_26_method_1_code
def yJ2_init : MethodName := ⟨RJ2, "<init>", "()V"⟩
theorem dJ2_init_0 : decode cJ2_init 0 = .ok (.aload_n 0, 1) := by decide +kernel
theorem dJ2_init_1 : decode cJ2_init 1 = .ok (.invokespecial 1, 3) := by decide +kernel
theorem dJ2_init_4 : decode cJ2_init 4 = .ok (.return_, 1) := by decide +kernel
abbrev cJ2_init_2 : ByteArray := prog_26_method_2_code
def yJ2_init_2 : MethodName := ⟨RJ2, "<init>", "(Ljava/lang/String;)V"⟩
theorem dJ2_init_2_0 : decode cJ2_init_2 0 = .ok (.aload_n 0, 1) := by decide +kernel
theorem dJ2_init_2_1 : decode cJ2_init_2 1 = .ok (.aload_n 1, 1) := by decide +kernel
theorem dJ2_init_2_2 : decode cJ2_init_2 2 = .ok (.invokespecial 7, 3) := by decide +kernel
theorem dJ2_init_2_5 : decode cJ2_init_2 5 = .ok (.return_, 1) := by decide +kernel
theorem q120 : (Jvm.Cond.initialized "java/lang/RuntimeException") ∈ lw_all := lw_g (lw_at lw_m1 20 rfl) rfl
theorem q765 : (Jvm.Cond.declares ({ cls := "java/lang/RuntimeException", name := "<init>", desc := "()V" } : Jvm.MethodName)) ∈ lw_tbl := lw_at lw_m3 185 rfl
theorem q766 : (Jvm.Cond.declares ({ cls := "java/lang/RuntimeException", name := "<init>", desc := "(Ljava/lang/String;)V" } : Jvm.MethodName)) ∈ lw_tbl := lw_at lw_m3 186 rfl
theorem q809 : (Jvm.Cond.instanceMethod ({ cls := "java/lang/RuntimeException", name := "<init>", desc := "()V" } : Jvm.MethodName)) ∈ lw_all := lw_g (lw_at lw_m3 229 rfl) rfl
theorem q810 : (Jvm.Cond.code ({ cls := "java/lang/RuntimeException", name := "<init>", desc := "()V" } : Jvm.MethodName) prog_26_method_1_code (1 : Nat) (Option.none : Option Jvm.ClassFile.FieldType)) ∈ lw_all := lw_g (lw_at lw_m3 230 rfl) rfl
theorem q811 : (Jvm.Cond.methodLink "java/lang/RuntimeException" (1 : Nat) ({ cls := "java/lang/Exception", name := "<init>", desc := "()V" } : Jvm.MethodName)) ∈ lw_all := lw_g (lw_at lw_m3 231 rfl) rfl
theorem q881 : (Jvm.Cond.instanceMethod ({ cls := "java/lang/RuntimeException", name := "<init>", desc := "(Ljava/lang/String;)V" } : Jvm.MethodName)) ∈ lw_all := lw_g (lw_at lw_m4 61 rfl) rfl
theorem q882 : (Jvm.Cond.code ({ cls := "java/lang/RuntimeException", name := "<init>", desc := "(Ljava/lang/String;)V" } : Jvm.MethodName) prog_26_method_2_code (2 : Nat) (Option.none : Option Jvm.ClassFile.FieldType)) ∈ lw_all := lw_g (lw_at lw_m4 62 rfl) rfl
theorem q883 : (Jvm.Cond.methodLink "java/lang/RuntimeException" (7 : Nat) ({ cls := "java/lang/Exception", name := "<init>", desc := "(Ljava/lang/String;)V" } : Jvm.MethodName)) ∈ lw_all := lw_g (lw_at lw_m4 63 rfl) rfl
/-! java/lang/IllegalArgumentException -/
def RJ3 : String := "java/lang/IllegalArgumentException"
def TJ3 : u_T := fun k => match k with
  | 0 => ("java/lang/Throwable", "cause", "Ljava/lang/Throwable;", false)
  | 1 => ("java/lang/Throwable", "stackTrace", "[Ljava/lang/StackTraceElement;", false)
  | 2 => ("java/lang/Throwable", "suppressedExceptions", "Ljava/util/List;", false)
  | 3 => ("java/lang/Throwable", "detailMessage", "Ljava/lang/String;", false)
  | 4 => ("java/lang/Throwable", "backtrace", "Ljava/lang/Object;", false)
  | _ => ("java/lang/Throwable", "depth", "I", false)
def tyJ3 : Nat → FieldType := fun k => match k with
  | 0 => .object "java/lang/Throwable"
  | 1 => .array (.object "java/lang/StackTraceElement")
  | 2 => .object "java/util/List"
  | 3 => .object "java/lang/String"
  | 4 => .object "java/lang/Object"
  | _ => .int
abbrev wsJ30 : List Cond := u_ws RJ3 TJ3 6
theorem nmJ3 : ∀ a, a < 6 → ∀ b, b < 6 → a ≠ b → (TJ3 a).2.1 ≠ (TJ3 b).2.1 := by decide +kernel
theorem tyJ3_ok : ∀ k, k < 6 → parseFieldDescriptor (TJ3 k).2.2.1 = some (tyJ3 k) := by decide +kernel
abbrev cJ3_init : ByteArray := prog_22_method_1_code
def yJ3_init : MethodName := ⟨RJ3, "<init>", "()V"⟩
theorem dJ3_init_0 : decode cJ3_init 0 = .ok (.aload_n 0, 1) := by decide +kernel
theorem dJ3_init_1 : decode cJ3_init 1 = .ok (.invokespecial 1, 3) := by decide +kernel
theorem dJ3_init_4 : decode cJ3_init 4 = .ok (.return_, 1) := by decide +kernel
theorem q121 : (Jvm.Cond.initialized "java/lang/IllegalArgumentException") ∈ lw_all := lw_g (lw_at lw_m1 21 rfl) rfl
theorem q763 : (Jvm.Cond.instantiable "java/lang/IllegalArgumentException" (6 : Nat)) ∈ lw_all := lw_g (lw_at lw_m3 183 rfl) rfl
theorem q764 : (Jvm.Cond.castable "java/lang/IllegalArgumentException" "java/lang/IllegalArgumentException") ∈ lw_tbl := lw_at lw_m3 184 rfl
theorem q771 : (Jvm.Cond.selects "java/lang/IllegalArgumentException" ({ cls := "java/lang/Throwable", name := "fillInStackTrace", desc := "(I)Ljava/lang/Throwable;" } : Jvm.MethodName) ({ cls := "java/lang/Throwable", name := "fillInStackTrace", desc := "(I)Ljava/lang/Throwable;" } : Jvm.MethodName)) ∈ lw_all := lw_g (lw_at lw_m3 191 rfl) rfl
theorem q772 : (Jvm.Cond.selects "java/lang/IllegalArgumentException" ({ cls := "java/lang/Throwable", name := "fillInStackTrace", desc := "()Ljava/lang/Throwable;" } : Jvm.MethodName) ({ cls := "java/lang/Throwable", name := "fillInStackTrace", desc := "()Ljava/lang/Throwable;" } : Jvm.MethodName)) ∈ lw_all := lw_g (lw_at lw_m3 192 rfl) rfl
theorem q773 : (Jvm.Cond.lays "java/lang/IllegalArgumentException" "java/lang/Throwable" "cause" "Ljava/lang/Throwable;") ∈ lw_all := lw_g (lw_at lw_m3 193 rfl) rfl
theorem q775 : (Jvm.Cond.lays "java/lang/IllegalArgumentException" "java/lang/Throwable" "stackTrace" "[Ljava/lang/StackTraceElement;") ∈ lw_all := lw_g (lw_at lw_m3 195 rfl) rfl
theorem q777 : (Jvm.Cond.lays "java/lang/IllegalArgumentException" "java/lang/Throwable" "suppressedExceptions" "Ljava/util/List;") ∈ lw_all := lw_g (lw_at lw_m3 197 rfl) rfl
theorem q779 : (Jvm.Cond.lays "java/lang/IllegalArgumentException" "java/lang/Throwable" "detailMessage" "Ljava/lang/String;") ∈ lw_all := lw_g (lw_at lw_m3 199 rfl) rfl
theorem q781 : (Jvm.Cond.lays "java/lang/IllegalArgumentException" "java/lang/Throwable" "backtrace" "Ljava/lang/Object;") ∈ lw_all := lw_g (lw_at lw_m3 201 rfl) rfl
theorem q806 : (Jvm.Cond.instanceMethod ({ cls := "java/lang/IllegalArgumentException", name := "<init>", desc := "()V" } : Jvm.MethodName)) ∈ lw_all := lw_g (lw_at lw_m3 226 rfl) rfl
theorem q807 : (Jvm.Cond.code ({ cls := "java/lang/IllegalArgumentException", name := "<init>", desc := "()V" } : Jvm.MethodName) prog_22_method_1_code (1 : Nat) (Option.none : Option Jvm.ClassFile.FieldType)) ∈ lw_all := lw_g (lw_at lw_m3 227 rfl) rfl
theorem q808 : (Jvm.Cond.methodLink "java/lang/IllegalArgumentException" (1 : Nat) ({ cls := "java/lang/RuntimeException", name := "<init>", desc := "()V" } : Jvm.MethodName)) ∈ lw_all := lw_g (lw_at lw_m3 228 rfl) rfl
theorem q824 : (Jvm.Cond.lays "java/lang/IllegalArgumentException" "java/lang/Throwable" "depth" "I") ∈ lw_all := lw_g (lw_at lw_m4 4 rfl) rfl
theorem q827 : (Jvm.Cond.superclass "java/lang/IllegalArgumentException" "java/lang/RuntimeException") ∈ lw_all := lw_g (lw_at lw_m4 7 rfl) rfl
theorem in_J3 : ∀ w ∈ wsJ30, w ∈ lw_all := lw_in wsJ30 [773, 775, 777, 779, 781, 824] (by decide +kernel) (by decide +kernel)
/-! java/lang/IndexOutOfBoundsException -/
def RJ4 : String := "java/lang/IndexOutOfBoundsException"
def TJ4 : u_T := fun k => match k with
  | 0 => ("java/lang/Throwable", "cause", "Ljava/lang/Throwable;", false)
  | 1 => ("java/lang/Throwable", "stackTrace", "[Ljava/lang/StackTraceElement;", false)
  | 2 => ("java/lang/Throwable", "suppressedExceptions", "Ljava/util/List;", false)
  | 3 => ("java/lang/Throwable", "detailMessage", "Ljava/lang/String;", false)
  | 4 => ("java/lang/Throwable", "backtrace", "Ljava/lang/Object;", false)
  | _ => ("java/lang/Throwable", "depth", "I", false)
def tyJ4 : Nat → FieldType := fun k => match k with
  | 0 => .object "java/lang/Throwable"
  | 1 => .array (.object "java/lang/StackTraceElement")
  | 2 => .object "java/util/List"
  | 3 => .object "java/lang/String"
  | 4 => .object "java/lang/Object"
  | _ => .int
abbrev wsJ40 : List Cond := u_ws RJ4 TJ4 6
theorem nmJ4 : ∀ a, a < 6 → ∀ b, b < 6 → a ≠ b → (TJ4 a).2.1 ≠ (TJ4 b).2.1 := by decide +kernel
theorem tyJ4_ok : ∀ k, k < 6 → parseFieldDescriptor (TJ4 k).2.2.1 = some (tyJ4 k) := by decide +kernel
abbrev cJ4_init : ByteArray := prog_24_method_2_code
def yJ4_init : MethodName := ⟨RJ4, "<init>", "(Ljava/lang/String;)V"⟩
theorem dJ4_init_0 : decode cJ4_init 0 = .ok (.aload_n 0, 1) := by decide +kernel
theorem dJ4_init_1 : decode cJ4_init 1 = .ok (.aload_n 1, 1) := by decide +kernel
theorem dJ4_init_2 : decode cJ4_init 2 = .ok (.invokespecial 7, 3) := by decide +kernel
theorem dJ4_init_5 : decode cJ4_init 5 = .ok (.return_, 1) := by decide +kernel
abbrev cJ4_init_2 : ByteArray := prog_24_method_1_code
def yJ4_init_2 : MethodName := ⟨RJ4, "<init>", "()V"⟩
theorem dJ4_init_2_0 : decode cJ4_init_2 0 = .ok (.aload_n 0, 1) := by decide +kernel
theorem dJ4_init_2_1 : decode cJ4_init_2 1 = .ok (.invokespecial 1, 3) := by decide +kernel
theorem dJ4_init_2_4 : decode cJ4_init_2 4 = .ok (.return_, 1) := by decide +kernel
theorem q122 : (Jvm.Cond.initialized "java/lang/IndexOutOfBoundsException") ∈ lw_all := lw_g (lw_at lw_m1 22 rfl) rfl
theorem q797 : (Jvm.Cond.selects "java/lang/IndexOutOfBoundsException" ({ cls := "java/lang/Throwable", name := "fillInStackTrace", desc := "()Ljava/lang/Throwable;" } : Jvm.MethodName) ({ cls := "java/lang/Throwable", name := "fillInStackTrace", desc := "()Ljava/lang/Throwable;" } : Jvm.MethodName)) ∈ lw_all := lw_g (lw_at lw_m3 217 rfl) rfl
theorem q878 : (Jvm.Cond.instanceMethod ({ cls := "java/lang/IndexOutOfBoundsException", name := "<init>", desc := "(Ljava/lang/String;)V" } : Jvm.MethodName)) ∈ lw_all := lw_g (lw_at lw_m4 58 rfl) rfl
theorem q879 : (Jvm.Cond.code ({ cls := "java/lang/IndexOutOfBoundsException", name := "<init>", desc := "(Ljava/lang/String;)V" } : Jvm.MethodName) prog_24_method_2_code (2 : Nat) (Option.none : Option Jvm.ClassFile.FieldType)) ∈ lw_all := lw_g (lw_at lw_m4 59 rfl) rfl
theorem q880 : (Jvm.Cond.methodLink "java/lang/IndexOutOfBoundsException" (7 : Nat) ({ cls := "java/lang/RuntimeException", name := "<init>", desc := "(Ljava/lang/String;)V" } : Jvm.MethodName)) ∈ lw_all := lw_g (lw_at lw_m4 60 rfl) rfl
theorem q897 : (Jvm.Cond.declares ({ cls := "java/lang/IndexOutOfBoundsException", name := "<init>", desc := "()V" } : Jvm.MethodName)) ∈ lw_tbl := lw_at lw_m4 77 rfl
theorem q898 : (Jvm.Cond.declares ({ cls := "java/lang/IndexOutOfBoundsException", name := "<init>", desc := "(Ljava/lang/String;)V" } : Jvm.MethodName)) ∈ lw_tbl := lw_at lw_m4 78 rfl
theorem q913 : (Jvm.Cond.instantiable "java/lang/IndexOutOfBoundsException" (6 : Nat)) ∈ lw_all := lw_g (lw_at lw_m4 93 rfl) rfl
theorem q914 : (Jvm.Cond.castable "java/lang/IndexOutOfBoundsException" "java/lang/IndexOutOfBoundsException") ∈ lw_tbl := lw_at lw_m4 94 rfl
theorem q915 : (Jvm.Cond.selects "java/lang/IndexOutOfBoundsException" ({ cls := "java/lang/Throwable", name := "fillInStackTrace", desc := "(I)Ljava/lang/Throwable;" } : Jvm.MethodName) ({ cls := "java/lang/Throwable", name := "fillInStackTrace", desc := "(I)Ljava/lang/Throwable;" } : Jvm.MethodName)) ∈ lw_all := lw_g (lw_at lw_m4 95 rfl) rfl
theorem q916 : (Jvm.Cond.lays "java/lang/IndexOutOfBoundsException" "java/lang/Throwable" "cause" "Ljava/lang/Throwable;") ∈ lw_all := lw_g (lw_at lw_m4 96 rfl) rfl
theorem q917 : (Jvm.Cond.lays "java/lang/IndexOutOfBoundsException" "java/lang/Throwable" "stackTrace" "[Ljava/lang/StackTraceElement;") ∈ lw_all := lw_g (lw_at lw_m4 97 rfl) rfl
theorem q918 : (Jvm.Cond.lays "java/lang/IndexOutOfBoundsException" "java/lang/Throwable" "suppressedExceptions" "Ljava/util/List;") ∈ lw_all := lw_g (lw_at lw_m4 98 rfl) rfl
theorem q919 : (Jvm.Cond.lays "java/lang/IndexOutOfBoundsException" "java/lang/Throwable" "detailMessage" "Ljava/lang/String;") ∈ lw_all := lw_g (lw_at lw_m4 99 rfl) rfl
theorem q920 : (Jvm.Cond.lays "java/lang/IndexOutOfBoundsException" "java/lang/Throwable" "backtrace" "Ljava/lang/Object;") ∈ lw_all := lw_g (lw_at lw_m4 100 rfl) rfl
theorem q922 : (Jvm.Cond.instanceMethod ({ cls := "java/lang/IndexOutOfBoundsException", name := "<init>", desc := "()V" } : Jvm.MethodName)) ∈ lw_all := lw_g (lw_at lw_m4 102 rfl) rfl
theorem q923 : (Jvm.Cond.code ({ cls := "java/lang/IndexOutOfBoundsException", name := "<init>", desc := "()V" } : Jvm.MethodName) prog_24_method_1_code (1 : Nat) (Option.none : Option Jvm.ClassFile.FieldType)) ∈ lw_all := lw_g (lw_at lw_m4 103 rfl) rfl
theorem q924 : (Jvm.Cond.methodLink "java/lang/IndexOutOfBoundsException" (1 : Nat) ({ cls := "java/lang/RuntimeException", name := "<init>", desc := "()V" } : Jvm.MethodName)) ∈ lw_all := lw_g (lw_at lw_m4 104 rfl) rfl
theorem q925 : (Jvm.Cond.lays "java/lang/IndexOutOfBoundsException" "java/lang/Throwable" "depth" "I") ∈ lw_all := lw_g (lw_at lw_m4 105 rfl) rfl
theorem q926 : (Jvm.Cond.superclass "java/lang/IndexOutOfBoundsException" "java/lang/RuntimeException") ∈ lw_all := lw_g (lw_at lw_m4 106 rfl) rfl
theorem in_J4 : ∀ w ∈ wsJ40, w ∈ lw_all := lw_in wsJ40 [916, 917, 918, 919, 920, 925] (by decide +kernel) (by decide +kernel)
/-! java/lang/ArrayIndexOutOfBoundsException -/
def RJ5 : String := "java/lang/ArrayIndexOutOfBoundsException"
def TJ5 : u_T := fun k => match k with
  | 0 => ("java/lang/Throwable", "backtrace", "Ljava/lang/Object;", false)
  | 1 => ("java/lang/Throwable", "detailMessage", "Ljava/lang/String;", false)
  | 2 => ("java/lang/Throwable", "cause", "Ljava/lang/Throwable;", false)
  | 3 => ("java/lang/Throwable", "stackTrace", "[Ljava/lang/StackTraceElement;", false)
  | 4 => ("java/lang/Throwable", "depth", "I", false)
  | _ => ("java/lang/Throwable", "suppressedExceptions", "Ljava/util/List;", false)
def tyJ5 : Nat → FieldType := fun k => match k with
  | 0 => .object "java/lang/Object"
  | 1 => .object "java/lang/String"
  | 2 => .object "java/lang/Throwable"
  | 3 => .array (.object "java/lang/StackTraceElement")
  | 4 => .int
  | _ => .object "java/util/List"
abbrev wsJ50 : List Cond := u_ws RJ5 TJ5 6
theorem nmJ5 : ∀ a, a < 6 → ∀ b, b < 6 → a ≠ b → (TJ5 a).2.1 ≠ (TJ5 b).2.1 := by decide +kernel
theorem tyJ5_ok : ∀ k, k < 6 → parseFieldDescriptor (TJ5 k).2.2.1 = some (tyJ5 k) := by decide +kernel
abbrev cJ5_init : ByteArray := prog_20_method_2_code
def yJ5_init : MethodName := ⟨RJ5, "<init>", "(Ljava/lang/String;)V"⟩
theorem dJ5_init_0 : decode cJ5_init 0 = .ok (.aload_n 0, 1) := by decide +kernel
theorem dJ5_init_1 : decode cJ5_init 1 = .ok (.aload_n 1, 1) := by decide +kernel
theorem dJ5_init_2 : decode cJ5_init 2 = .ok (.invokespecial 7, 3) := by decide +kernel
theorem dJ5_init_5 : decode cJ5_init 5 = .ok (.return_, 1) := by decide +kernel
theorem q123 : (Jvm.Cond.initialized "java/lang/ArrayIndexOutOfBoundsException") ∈ lw_all := lw_g (lw_at lw_m1 23 rfl) rfl
theorem q795 : (Jvm.Cond.selects "java/lang/ArrayIndexOutOfBoundsException" ({ cls := "java/lang/Throwable", name := "fillInStackTrace", desc := "()Ljava/lang/Throwable;" } : Jvm.MethodName) ({ cls := "java/lang/Throwable", name := "fillInStackTrace", desc := "()Ljava/lang/Throwable;" } : Jvm.MethodName)) ∈ lw_all := lw_g (lw_at lw_m3 215 rfl) rfl
theorem q874 : (Jvm.Cond.instantiable "java/lang/ArrayIndexOutOfBoundsException" (6 : Nat)) ∈ lw_all := lw_g (lw_at lw_m4 54 rfl) rfl
theorem q875 : (Jvm.Cond.instanceMethod ({ cls := "java/lang/ArrayIndexOutOfBoundsException", name := "<init>", desc := "(Ljava/lang/String;)V" } : Jvm.MethodName)) ∈ lw_all := lw_g (lw_at lw_m4 55 rfl) rfl
theorem q876 : (Jvm.Cond.code ({ cls := "java/lang/ArrayIndexOutOfBoundsException", name := "<init>", desc := "(Ljava/lang/String;)V" } : Jvm.MethodName) prog_20_method_2_code (2 : Nat) (Option.none : Option Jvm.ClassFile.FieldType)) ∈ lw_all := lw_g (lw_at lw_m4 56 rfl) rfl
theorem q877 : (Jvm.Cond.methodLink "java/lang/ArrayIndexOutOfBoundsException" (7 : Nat) ({ cls := "java/lang/IndexOutOfBoundsException", name := "<init>", desc := "(Ljava/lang/String;)V" } : Jvm.MethodName)) ∈ lw_all := lw_g (lw_at lw_m4 57 rfl) rfl
theorem q889 : (Jvm.Cond.lays "java/lang/ArrayIndexOutOfBoundsException" "java/lang/Throwable" "backtrace" "Ljava/lang/Object;") ∈ lw_all := lw_g (lw_at lw_m4 69 rfl) rfl
theorem q890 : (Jvm.Cond.lays "java/lang/ArrayIndexOutOfBoundsException" "java/lang/Throwable" "detailMessage" "Ljava/lang/String;") ∈ lw_all := lw_g (lw_at lw_m4 70 rfl) rfl
theorem q891 : (Jvm.Cond.lays "java/lang/ArrayIndexOutOfBoundsException" "java/lang/Throwable" "cause" "Ljava/lang/Throwable;") ∈ lw_all := lw_g (lw_at lw_m4 71 rfl) rfl
theorem q892 : (Jvm.Cond.lays "java/lang/ArrayIndexOutOfBoundsException" "java/lang/Throwable" "stackTrace" "[Ljava/lang/StackTraceElement;") ∈ lw_all := lw_g (lw_at lw_m4 72 rfl) rfl
theorem q893 : (Jvm.Cond.lays "java/lang/ArrayIndexOutOfBoundsException" "java/lang/Throwable" "depth" "I") ∈ lw_all := lw_g (lw_at lw_m4 73 rfl) rfl
theorem q894 : (Jvm.Cond.lays "java/lang/ArrayIndexOutOfBoundsException" "java/lang/Throwable" "suppressedExceptions" "Ljava/util/List;") ∈ lw_all := lw_g (lw_at lw_m4 74 rfl) rfl
theorem q895 : (Jvm.Cond.superclass "java/lang/ArrayIndexOutOfBoundsException" "java/lang/IndexOutOfBoundsException") ∈ lw_all := lw_g (lw_at lw_m4 75 rfl) rfl
theorem q896 : (Jvm.Cond.castable "java/lang/ArrayIndexOutOfBoundsException" "java/lang/ArrayIndexOutOfBoundsException") ∈ lw_tbl := lw_at lw_m4 76 rfl
theorem q899 : (Jvm.Cond.selects "java/lang/ArrayIndexOutOfBoundsException" ({ cls := "java/lang/Throwable", name := "fillInStackTrace", desc := "(I)Ljava/lang/Throwable;" } : Jvm.MethodName) ({ cls := "java/lang/Throwable", name := "fillInStackTrace", desc := "(I)Ljava/lang/Throwable;" } : Jvm.MethodName)) ∈ lw_all := lw_g (lw_at lw_m4 79 rfl) rfl
theorem q2393 : (Jvm.Cond.castable "java/lang/ArrayIndexOutOfBoundsException" "java/lang/IndexOutOfBoundsException") ∈ lw_tbl := lw_at lw_m10 133 rfl
theorem in_J5 : ∀ w ∈ wsJ50, w ∈ lw_all := lw_in wsJ50 [889, 890, 891, 892, 893, 894] (by decide +kernel) (by decide +kernel)
/-! java/lang/String -/
def RJ6 : String := "java/lang/String"
def TJ6 : u_T := fun k => match k with
  | 0 => ("java/lang/String", "value", "[B", true)
  | _ => ("java/lang/String", "coder", "B", true)
def tyJ6 : Nat → FieldType := fun k => match k with
  | 0 => .array .byte
  | _ => .byte
abbrev wsJ60 : List Cond := u_ws RJ6 TJ6 2
theorem nmJ6 : ∀ a, a < 2 → ∀ b, b < 2 → a ≠ b → (TJ6 a).2.1 ≠ (TJ6 b).2.1 := by decide +kernel
theorem tyJ6_ok : ∀ k, k < 2 → parseFieldDescriptor (TJ6 k).2.2.1 = some (tyJ6 k) := by decide +kernel
theorem q124 : (Jvm.Cond.initialized "java/lang/String") ∈ lw_all := lw_g (lw_at lw_m1 24 rfl) rfl
theorem q900 : (Jvm.Cond.instantiable "java/lang/String" (4 : Nat)) ∈ lw_all := lw_g (lw_at lw_m4 80 rfl) rfl
theorem q901 : (Jvm.Cond.laysFinal "java/lang/String" "java/lang/String" "value" "[B") ∈ lw_all := lw_g (lw_at lw_m4 81 rfl) rfl
theorem q902 : (Jvm.Cond.soleField "java/lang/String" "value") ∈ lw_all := lw_g (lw_at lw_m4 82 rfl) rfl
theorem q903 : (Jvm.Cond.laysFinal "java/lang/String" "java/lang/String" "coder" "B") ∈ lw_all := lw_g (lw_at lw_m4 83 rfl) rfl
theorem q904 : (Jvm.Cond.soleField "java/lang/String" "coder") ∈ lw_all := lw_g (lw_at lw_m4 84 rfl) rfl
theorem in_J6 : ∀ w ∈ wsJ60, w ∈ lw_all := lw_in wsJ60 [901, 903] (by decide +kernel) (by decide +kernel)
/-! java/util/NoSuchElementException -/
def RJ7 : String := "java/util/NoSuchElementException"
def TJ7 : u_T := fun k => match k with
  | 0 => ("java/lang/Throwable", "cause", "Ljava/lang/Throwable;", false)
  | 1 => ("java/lang/Throwable", "stackTrace", "[Ljava/lang/StackTraceElement;", false)
  | 2 => ("java/lang/Throwable", "suppressedExceptions", "Ljava/util/List;", false)
  | 3 => ("java/lang/Throwable", "detailMessage", "Ljava/lang/String;", false)
  | 4 => ("java/lang/Throwable", "backtrace", "Ljava/lang/Object;", false)
  | _ => ("java/lang/Throwable", "depth", "I", false)
def tyJ7 : Nat → FieldType := fun k => match k with
  | 0 => .object "java/lang/Throwable"
  | 1 => .array (.object "java/lang/StackTraceElement")
  | 2 => .object "java/util/List"
  | 3 => .object "java/lang/String"
  | 4 => .object "java/lang/Object"
  | _ => .int
abbrev wsJ70 : List Cond := u_ws RJ7 TJ7 6
theorem nmJ7 : ∀ a, a < 6 → ∀ b, b < 6 → a ≠ b → (TJ7 a).2.1 ≠ (TJ7 b).2.1 := by decide +kernel
theorem tyJ7_ok : ∀ k, k < 6 → parseFieldDescriptor (TJ7 k).2.2.1 = some (tyJ7 k) := by decide +kernel
abbrev cJ7_init : ByteArray := prog_30_method_1_code
def yJ7_init : MethodName := ⟨RJ7, "<init>", "()V"⟩
theorem dJ7_init_0 : decode cJ7_init 0 = .ok (.aload_n 0, 1) := by decide +kernel
theorem dJ7_init_1 : decode cJ7_init 1 = .ok (.invokespecial 1, 3) := by decide +kernel
theorem dJ7_init_4 : decode cJ7_init 4 = .ok (.return_, 1) := by decide +kernel
theorem q125 : (Jvm.Cond.initialized "java/util/NoSuchElementException") ∈ lw_all := lw_g (lw_at lw_m1 25 rfl) rfl
theorem q798 : (Jvm.Cond.selects "java/util/NoSuchElementException" ({ cls := "java/lang/Throwable", name := "fillInStackTrace", desc := "()Ljava/lang/Throwable;" } : Jvm.MethodName) ({ cls := "java/lang/Throwable", name := "fillInStackTrace", desc := "()Ljava/lang/Throwable;" } : Jvm.MethodName)) ∈ lw_all := lw_g (lw_at lw_m3 218 rfl) rfl
theorem q1015 : (Jvm.Cond.instantiable "java/util/NoSuchElementException" (6 : Nat)) ∈ lw_all := lw_g (lw_at lw_m4 195 rfl) rfl
theorem q1016 : (Jvm.Cond.castable "java/util/NoSuchElementException" "java/util/NoSuchElementException") ∈ lw_tbl := lw_at lw_m4 196 rfl
theorem q1017 : (Jvm.Cond.selects "java/util/NoSuchElementException" ({ cls := "java/lang/Throwable", name := "fillInStackTrace", desc := "(I)Ljava/lang/Throwable;" } : Jvm.MethodName) ({ cls := "java/lang/Throwable", name := "fillInStackTrace", desc := "(I)Ljava/lang/Throwable;" } : Jvm.MethodName)) ∈ lw_all := lw_g (lw_at lw_m4 197 rfl) rfl
theorem q1018 : (Jvm.Cond.lays "java/util/NoSuchElementException" "java/lang/Throwable" "cause" "Ljava/lang/Throwable;") ∈ lw_all := lw_g (lw_at lw_m4 198 rfl) rfl
theorem q1019 : (Jvm.Cond.lays "java/util/NoSuchElementException" "java/lang/Throwable" "stackTrace" "[Ljava/lang/StackTraceElement;") ∈ lw_all := lw_g (lw_at lw_m4 199 rfl) rfl
theorem q1020 : (Jvm.Cond.lays "java/util/NoSuchElementException" "java/lang/Throwable" "suppressedExceptions" "Ljava/util/List;") ∈ lw_all := lw_g (lw_at lw_m4 200 rfl) rfl
theorem q1021 : (Jvm.Cond.lays "java/util/NoSuchElementException" "java/lang/Throwable" "detailMessage" "Ljava/lang/String;") ∈ lw_all := lw_g (lw_at lw_m4 201 rfl) rfl
theorem q1022 : (Jvm.Cond.lays "java/util/NoSuchElementException" "java/lang/Throwable" "backtrace" "Ljava/lang/Object;") ∈ lw_all := lw_g (lw_at lw_m4 202 rfl) rfl
theorem q1024 : (Jvm.Cond.instanceMethod ({ cls := "java/util/NoSuchElementException", name := "<init>", desc := "()V" } : Jvm.MethodName)) ∈ lw_all := lw_g (lw_at lw_m4 204 rfl) rfl
theorem q1025 : (Jvm.Cond.code ({ cls := "java/util/NoSuchElementException", name := "<init>", desc := "()V" } : Jvm.MethodName) prog_30_method_1_code (1 : Nat) (Option.none : Option Jvm.ClassFile.FieldType)) ∈ lw_all := lw_g (lw_at lw_m4 205 rfl) rfl
theorem q1026 : (Jvm.Cond.methodLink "java/util/NoSuchElementException" (1 : Nat) ({ cls := "java/lang/RuntimeException", name := "<init>", desc := "()V" } : Jvm.MethodName)) ∈ lw_all := lw_g (lw_at lw_m4 206 rfl) rfl
theorem q1027 : (Jvm.Cond.lays "java/util/NoSuchElementException" "java/lang/Throwable" "depth" "I") ∈ lw_all := lw_g (lw_at lw_m4 207 rfl) rfl
theorem q1028 : (Jvm.Cond.superclass "java/util/NoSuchElementException" "java/lang/RuntimeException") ∈ lw_all := lw_g (lw_at lw_m4 208 rfl) rfl
theorem in_J7 : ∀ w ∈ wsJ70, w ∈ lw_all := lw_in wsJ70 [1018, 1019, 1020, 1021, 1022, 1027] (by decide +kernel) (by decide +kernel)
/-! java/lang/IllegalStateException -/
def RJ8 : String := "java/lang/IllegalStateException"
def TJ8 : u_T := fun k => match k with
  | 0 => ("java/lang/Throwable", "cause", "Ljava/lang/Throwable;", false)
  | 1 => ("java/lang/Throwable", "stackTrace", "[Ljava/lang/StackTraceElement;", false)
  | 2 => ("java/lang/Throwable", "suppressedExceptions", "Ljava/util/List;", false)
  | 3 => ("java/lang/Throwable", "detailMessage", "Ljava/lang/String;", false)
  | 4 => ("java/lang/Throwable", "backtrace", "Ljava/lang/Object;", false)
  | _ => ("java/lang/Throwable", "depth", "I", false)
def tyJ8 : Nat → FieldType := fun k => match k with
  | 0 => .object "java/lang/Throwable"
  | 1 => .array (.object "java/lang/StackTraceElement")
  | 2 => .object "java/util/List"
  | 3 => .object "java/lang/String"
  | 4 => .object "java/lang/Object"
  | _ => .int
abbrev wsJ80 : List Cond := u_ws RJ8 TJ8 6
theorem nmJ8 : ∀ a, a < 6 → ∀ b, b < 6 → a ≠ b → (TJ8 a).2.1 ≠ (TJ8 b).2.1 := by decide +kernel
theorem tyJ8_ok : ∀ k, k < 6 → parseFieldDescriptor (TJ8 k).2.2.1 = some (tyJ8 k) := by decide +kernel
abbrev cJ8_init : ByteArray := prog_23_method_1_code
def yJ8_init : MethodName := ⟨RJ8, "<init>", "()V"⟩
theorem dJ8_init_0 : decode cJ8_init 0 = .ok (.aload_n 0, 1) := by decide +kernel
theorem dJ8_init_1 : decode cJ8_init 1 = .ok (.invokespecial 1, 3) := by decide +kernel
theorem dJ8_init_4 : decode cJ8_init 4 = .ok (.return_, 1) := by decide +kernel
theorem q126 : (Jvm.Cond.initialized "java/lang/IllegalStateException") ∈ lw_all := lw_g (lw_at lw_m1 26 rfl) rfl
theorem q796 : (Jvm.Cond.selects "java/lang/IllegalStateException" ({ cls := "java/lang/Throwable", name := "fillInStackTrace", desc := "()Ljava/lang/Throwable;" } : Jvm.MethodName) ({ cls := "java/lang/Throwable", name := "fillInStackTrace", desc := "()Ljava/lang/Throwable;" } : Jvm.MethodName)) ∈ lw_all := lw_g (lw_at lw_m3 216 rfl) rfl
theorem q1033 : (Jvm.Cond.instantiable "java/lang/IllegalStateException" (6 : Nat)) ∈ lw_all := lw_g (lw_at lw_m4 213 rfl) rfl
theorem q1034 : (Jvm.Cond.castable "java/lang/IllegalStateException" "java/lang/IllegalStateException") ∈ lw_tbl := lw_at lw_m4 214 rfl
theorem q1035 : (Jvm.Cond.selects "java/lang/IllegalStateException" ({ cls := "java/lang/Throwable", name := "fillInStackTrace", desc := "(I)Ljava/lang/Throwable;" } : Jvm.MethodName) ({ cls := "java/lang/Throwable", name := "fillInStackTrace", desc := "(I)Ljava/lang/Throwable;" } : Jvm.MethodName)) ∈ lw_all := lw_g (lw_at lw_m4 215 rfl) rfl
theorem q1036 : (Jvm.Cond.lays "java/lang/IllegalStateException" "java/lang/Throwable" "cause" "Ljava/lang/Throwable;") ∈ lw_all := lw_g (lw_at lw_m4 216 rfl) rfl
theorem q1037 : (Jvm.Cond.lays "java/lang/IllegalStateException" "java/lang/Throwable" "stackTrace" "[Ljava/lang/StackTraceElement;") ∈ lw_all := lw_g (lw_at lw_m4 217 rfl) rfl
theorem q1038 : (Jvm.Cond.lays "java/lang/IllegalStateException" "java/lang/Throwable" "suppressedExceptions" "Ljava/util/List;") ∈ lw_all := lw_g (lw_at lw_m4 218 rfl) rfl
theorem q1039 : (Jvm.Cond.lays "java/lang/IllegalStateException" "java/lang/Throwable" "detailMessage" "Ljava/lang/String;") ∈ lw_all := lw_g (lw_at lw_m4 219 rfl) rfl
theorem q1040 : (Jvm.Cond.lays "java/lang/IllegalStateException" "java/lang/Throwable" "backtrace" "Ljava/lang/Object;") ∈ lw_all := lw_g (lw_at lw_m4 220 rfl) rfl
theorem q1042 : (Jvm.Cond.instanceMethod ({ cls := "java/lang/IllegalStateException", name := "<init>", desc := "()V" } : Jvm.MethodName)) ∈ lw_all := lw_g (lw_at lw_m4 222 rfl) rfl
theorem q1043 : (Jvm.Cond.code ({ cls := "java/lang/IllegalStateException", name := "<init>", desc := "()V" } : Jvm.MethodName) prog_23_method_1_code (1 : Nat) (Option.none : Option Jvm.ClassFile.FieldType)) ∈ lw_all := lw_g (lw_at lw_m4 223 rfl) rfl
theorem q1044 : (Jvm.Cond.methodLink "java/lang/IllegalStateException" (1 : Nat) ({ cls := "java/lang/RuntimeException", name := "<init>", desc := "()V" } : Jvm.MethodName)) ∈ lw_all := lw_g (lw_at lw_m4 224 rfl) rfl
theorem q1045 : (Jvm.Cond.lays "java/lang/IllegalStateException" "java/lang/Throwable" "depth" "I") ∈ lw_all := lw_g (lw_at lw_m4 225 rfl) rfl
theorem q1046 : (Jvm.Cond.superclass "java/lang/IllegalStateException" "java/lang/RuntimeException") ∈ lw_all := lw_g (lw_at lw_m4 226 rfl) rfl
theorem in_J8 : ∀ w ∈ wsJ80, w ∈ lw_all := lw_in wsJ80 [1036, 1037, 1038, 1039, 1040, 1045] (by decide +kernel) (by decide +kernel)
/-! java/lang/Math -/
def RJ9 : String := "java/lang/Math"
abbrev cJ9_max : ByteArray := prog_25_method_65_code
def yJ9_max : MethodName := ⟨RJ9, "max", "(II)I"⟩
theorem dJ9_max_0 : decode cJ9_max 0 = .ok (.iload_n 0, 1) := by decide +kernel
theorem dJ9_max_1 : decode cJ9_max 1 = .ok (.iload_n 1, 1) := by decide +kernel
theorem dJ9_max_2 : decode cJ9_max 2 = .ok (.if_icmp .lt 7, 3) := by decide +kernel
theorem dJ9_max_5 : decode cJ9_max 5 = .ok (.iload_n 0, 1) := by decide +kernel
theorem dJ9_max_6 : decode cJ9_max 6 = .ok (.goto 4, 3) := by decide +kernel
theorem dJ9_max_9 : decode cJ9_max 9 = .ok (.iload_n 1, 1) := by decide +kernel
theorem dJ9_max_10 : decode cJ9_max 10 = .ok (.ireturn, 1) := by decide +kernel
abbrev cJ9_min : ByteArray := prog_25_method_69_code
def yJ9_min : MethodName := ⟨RJ9, "min", "(II)I"⟩
theorem dJ9_min_0 : decode cJ9_min 0 = .ok (.iload_n 0, 1) := by decide +kernel
theorem dJ9_min_1 : decode cJ9_min 1 = .ok (.iload_n 1, 1) := by decide +kernel
theorem dJ9_min_2 : decode cJ9_min 2 = .ok (.if_icmp .gt 7, 3) := by decide +kernel
theorem dJ9_min_5 : decode cJ9_min 5 = .ok (.iload_n 0, 1) := by decide +kernel
theorem dJ9_min_6 : decode cJ9_min 6 = .ok (.goto 4, 3) := by decide +kernel
theorem dJ9_min_9 : decode cJ9_min 9 = .ok (.iload_n 1, 1) := by decide +kernel
theorem dJ9_min_10 : decode cJ9_min 10 = .ok (.ireturn, 1) := by decide +kernel
theorem q128 : (Jvm.Cond.initialized "java/lang/Math") ∈ lw_all := lw_g (lw_at lw_m1 28 rfl) rfl
theorem q2199 : (Jvm.Cond.static ({ cls := "java/lang/Math", name := "max", desc := "(II)I" } : Jvm.MethodName)) ∈ lw_all := lw_g (lw_at lw_m9 179 rfl) rfl
theorem q2200 : (Jvm.Cond.code ({ cls := "java/lang/Math", name := "max", desc := "(II)I" } : Jvm.MethodName) prog_25_method_65_code (2 : Nat) (Option.some Jvm.ClassFile.FieldType.int)) ∈ lw_all := lw_g (lw_at lw_m9 180 rfl) rfl
theorem q2246 : (Jvm.Cond.static ({ cls := "java/lang/Math", name := "min", desc := "(II)I" } : Jvm.MethodName)) ∈ lw_all := lw_g (lw_at lw_m9 226 rfl) rfl
theorem q2247 : (Jvm.Cond.code ({ cls := "java/lang/Math", name := "min", desc := "(II)I" } : Jvm.MethodName) prog_25_method_69_code (2 : Nat) (Option.some Jvm.ClassFile.FieldType.int)) ∈ lw_all := lw_g (lw_at lw_m9 227 rfl) rfl
theorem q168 : (Jvm.Cond.arrayClass Jvm.ClassFile.FieldType.byte) ∈ lw_all := lw_g (lw_at lw_m1 68 rfl) rfl
theorem q189 : (Jvm.Cond.arrayClass Jvm.ClassFile.FieldType.int) ∈ lw_all := lw_g (lw_at lw_m1 89 rfl) rfl
theorem q242 : (Jvm.Cond.arrayOver (Jvm.ClassFile.FieldType.object "CouncilStore$Pair")) ∈ lw_tbl := lw_at lw_m1 142 rfl
theorem q377 : (Jvm.Cond.arrayOver (Jvm.ClassFile.FieldType.object "CouncilStore$Message")) ∈ lw_tbl := lw_at lw_m2 37 rfl
theorem q442 : (Jvm.Cond.arrayOver (Jvm.ClassFile.FieldType.object "CouncilStore$Node")) ∈ lw_tbl := lw_at lw_m2 102 rfl
theorem q488 : (Jvm.Cond.arrayOver (Jvm.ClassFile.FieldType.object "CouncilStore$Read")) ∈ lw_tbl := lw_at lw_m2 148 rfl
theorem q1668 : (Jvm.Cond.arrayOver (Jvm.ClassFile.FieldType.array Jvm.ClassFile.FieldType.int)) ∈ lw_tbl := lw_at lw_m7 128 rfl
theorem q1670 : (Jvm.Cond.arrayOver (Jvm.ClassFile.FieldType.array Jvm.ClassFile.FieldType.boolean)) ∈ lw_tbl := lw_at lw_m7 130 rfl
theorem q2041 : (Jvm.Cond.arrayClass Jvm.ClassFile.FieldType.boolean) ∈ lw_all := lw_g (lw_at lw_m9 21 rfl) rfl
theorem q2391 : (Jvm.Cond.arrayClass Jvm.ClassFile.FieldType.long) ∈ lw_all := lw_g (lw_at lw_m10 131 rfl) rfl
theorem q116 : (Jvm.Cond.initialized "java/lang/System") ∈ lw_all := lw_g (lw_at lw_m1 16 rfl) rfl
theorem q646 : (Jvm.Cond.static ({ cls := "java/lang/System", name := "arraycopy", desc := "(Ljava/lang/Object;ILjava/lang/Object;II)V" } : Jvm.MethodName)) ∈ lw_all := lw_g (lw_at lw_m3 66 rfl) rfl
theorem q647 : (Jvm.Cond.native ({ cls := "java/lang/System", name := "arraycopy", desc := "(Ljava/lang/Object;ILjava/lang/Object;II)V" } : Jvm.MethodName)) ∈ lw_all := lw_g (lw_at lw_m3 67 rfl) rfl
