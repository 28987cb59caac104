set_option maxRecDepth 100000
/-! FactHouseLaw -/
def RX0 : String := "FactHouseLaw"
abbrev cX0_type : ByteArray := method_3_code
def yX0_type : MethodName := ⟨RX0, "type", "(LFactHouse;JI[J)I"⟩
abbrev cX0_root : ByteArray := method_4_code
def yX0_root : MethodName := ⟨RX0, "root", "(LFactHouse;I[J)I"⟩
abbrev cX0_method : ByteArray := method_5_code
def yX0_method : MethodName := ⟨RX0, "method", "(LFactHouse;II[J)I"⟩
abbrev cX0_classOf : ByteArray := method_6_code
def yX0_classOf : MethodName := ⟨RX0, "classOf", "(LFactHouse;I[J)I"⟩
abbrev cX0_depth : ByteArray := method_7_code
def yX0_depth : MethodName := ⟨RX0, "depth", "(LFactHouse;II[J)I"⟩
abbrev cX0_reach : ByteArray := method_8_code
def yX0_reach : MethodName := ⟨RX0, "reach", "(LFactHouse;II[J)I"⟩
abbrev cX0_value : ByteArray := method_9_code
def yX0_value : MethodName := ⟨RX0, "value", "(LFactHouse;IIII[J)I"⟩
abbrev cX0_locks : ByteArray := method_10_code
def yX0_locks : MethodName := ⟨RX0, "locks", "(LFactHouse;III[J)I"⟩
abbrev cX0_throwsAt : ByteArray := method_11_code
def yX0_throwsAt : MethodName := ⟨RX0, "throwsAt", "(LFactHouse;II[J)I"⟩
abbrev cX0_calls : ByteArray := method_12_code
def yX0_calls : MethodName := ⟨RX0, "calls", "(LFactHouse;II[J)I"⟩
abbrev cX0_outcome : ByteArray := method_13_code
def yX0_outcome : MethodName := ⟨RX0, "outcome", "(LFactHouse;II[J)I"⟩
abbrev cX0_held : ByteArray := method_14_code
def yX0_held : MethodName := ⟨RX0, "held", "(LFactHouse;III[J)I"⟩
abbrev cX0_statics : ByteArray := method_15_code
def yX0_statics : MethodName := ⟨RX0, "statics", "(LFactHouse;II[J)I"⟩
abbrev cX0_sink : ByteArray := method_16_code
def yX0_sink : MethodName := ⟨RX0, "sink", "(LFactHouse;II[J)I"⟩
abbrev cX0_live : ByteArray := method_17_code
def yX0_live : MethodName := ⟨RX0, "live", "(LFactHouse;II[J)I"⟩
abbrev cX0_idle : ByteArray := method_18_code
def yX0_idle : MethodName := ⟨RX0, "idle", "(LFactHouse;I[J)I"⟩
abbrev cX0_threads : ByteArray := method_19_code
def yX0_threads : MethodName := ⟨RX0, "threads", "(LFactHouse;I[J)I"⟩
abbrev cX0_race : ByteArray := method_20_code
def yX0_race : MethodName := ⟨RX0, "race", "(LFactHouse;II[J)I"⟩
abbrev cX0_runs : ByteArray := method_21_code
def yX0_runs : MethodName := ⟨RX0, "runs", "(LFactHouse;I[J)I"⟩
abbrev cX0_input : ByteArray := method_22_code
def yX0_input : MethodName := ⟨RX0, "input", "(LFactHouse;I[J)I"⟩
abbrev cX0_walk : ByteArray := method_23_code
def yX0_walk : MethodName := ⟨RX0, "walk", "(LFactHouse;III[J)I"⟩
abbrev cX0_walked : ByteArray := method_24_code
def yX0_walked : MethodName := ⟨RX0, "walked", "(LFactHouse;I[J)I"⟩
abbrev cX0_output : ByteArray := method_25_code
def yX0_output : MethodName := ⟨RX0, "output", "(LFactHouse;II[J)I"⟩
abbrev cX0_met : ByteArray := method_26_code
def yX0_met : MethodName := ⟨RX0, "met", "(LFactHouse;II[J)I"⟩
theorem q189 : (Jvm.Cond.initialized "FactHouseLaw") ∈ lw_all := lw_g (lw_at lw_m1 0 rfl) rfl
theorem q219 : (Jvm.Cond.classLink "FactHouseLaw" (8 : Nat) "FactHouse") ∈ lw_all := lw_g (lw_at lw_m1 30 rfl) rfl
theorem q221 : (Jvm.Cond.methodLink "FactHouseLaw" (96 : Nat) ({ cls := "FactHouse", name := "<init>", desc := "()V" } : Jvm.MethodName)) ∈ lw_all := lw_g (lw_at lw_m1 32 rfl) rfl
theorem q677 : (Jvm.Cond.methodLink "FactHouseLaw" (112 : Nat) ({ cls := "FactHouse", name := "file", desc := "()I" } : Jvm.MethodName)) ∈ lw_all := lw_g (lw_at lw_m3 8 rfl) rfl
theorem q1170 : (Jvm.Cond.methodLink "FactHouseLaw" (120 : Nat) ({ cls := "FactHouse", name := "told", desc := "(I)I" } : Jvm.MethodName)) ∈ lw_all := lw_g (lw_at lw_m5 21 rfl) rfl
theorem q1176 : (Jvm.Cond.methodLink "FactHouseLaw" (102 : Nat) ({ cls := "FactHouseLaw", name := "type", desc := "(LFactHouse;JI[J)I" } : Jvm.MethodName)) ∈ lw_all := lw_g (lw_at lw_m5 27 rfl) rfl
theorem q1177 : (Jvm.Cond.static ({ cls := "FactHouseLaw", name := "type", desc := "(LFactHouse;JI[J)I" } : Jvm.MethodName)) ∈ lw_all := lw_g (lw_at lw_m5 28 rfl) rfl
theorem q1178 : (Jvm.Cond.codeWith ({ cls := "FactHouseLaw", name := "type", desc := "(LFactHouse;JI[J)I" } : Jvm.MethodName) method_3_code (6 : Nat) (Option.some Jvm.ClassFile.FieldType.int) [((0 : Nat), (11 : Nat), (14 : Nat), (13 : Nat)), ((0 : Nat), (11 : Nat), (18 : Nat), (15 : Nat))]) ∈ lw_all := lw_g (lw_at lw_m5 29 rfl) rfl
theorem q1179 : (Jvm.Cond.classLink "FactHouseLaw" (13 : Nat) "java/lang/IllegalArgumentException") ∈ lw_all := lw_g (lw_at lw_m5 30 rfl) rfl
theorem q1180 : (Jvm.Cond.classLink "FactHouseLaw" (15 : Nat) "java/lang/IllegalStateException") ∈ lw_all := lw_g (lw_at lw_m5 31 rfl) rfl
theorem q1181 : (Jvm.Cond.methodLink "FactHouseLaw" (7 : Nat) ({ cls := "FactHouse", name := "type", desc := "(JI)I" } : Jvm.MethodName)) ∈ lw_all := lw_g (lw_at lw_m5 32 rfl) rfl
theorem q1228 : (Jvm.Cond.methodLink "FactHouseLaw" (116 : Nat) ({ cls := "FactHouseLaw", name := "root", desc := "(LFactHouse;I[J)I" } : Jvm.MethodName)) ∈ lw_all := lw_g (lw_at lw_m5 79 rfl) rfl
theorem q1229 : (Jvm.Cond.static ({ cls := "FactHouseLaw", name := "root", desc := "(LFactHouse;I[J)I" } : Jvm.MethodName)) ∈ lw_all := lw_g (lw_at lw_m5 80 rfl) rfl
theorem q1230 : (Jvm.Cond.codeWith ({ cls := "FactHouseLaw", name := "root", desc := "(LFactHouse;I[J)I" } : Jvm.MethodName) method_4_code (4 : Nat) (Option.some Jvm.ClassFile.FieldType.int) [((0 : Nat), (9 : Nat), (12 : Nat), (21 : Nat)), ((0 : Nat), (9 : Nat), (15 : Nat), (15 : Nat))]) ∈ lw_all := lw_g (lw_at lw_m5 81 rfl) rfl
theorem q1231 : (Jvm.Cond.classLink "FactHouseLaw" (21 : Nat) "java/lang/IndexOutOfBoundsException") ∈ lw_all := lw_g (lw_at lw_m5 82 rfl) rfl
theorem q1263 : (Jvm.Cond.methodLink "FactHouseLaw" (17 : Nat) ({ cls := "FactHouse", name := "root", desc := "(I)I" } : Jvm.MethodName)) ∈ lw_all := lw_g (lw_at lw_m5 114 rfl) rfl
theorem q1289 : (Jvm.Cond.methodLink "FactHouseLaw" (124 : Nat) ({ cls := "FactHouseLaw", name := "method", desc := "(LFactHouse;II[J)I" } : Jvm.MethodName)) ∈ lw_all := lw_g (lw_at lw_m5 140 rfl) rfl
theorem q1290 : (Jvm.Cond.static ({ cls := "FactHouseLaw", name := "method", desc := "(LFactHouse;II[J)I" } : Jvm.MethodName)) ∈ lw_all := lw_g (lw_at lw_m5 141 rfl) rfl
theorem q1291 : (Jvm.Cond.codeWith ({ cls := "FactHouseLaw", name := "method", desc := "(LFactHouse;II[J)I" } : Jvm.MethodName) method_5_code (5 : Nat) (Option.some Jvm.ClassFile.FieldType.int) [((0 : Nat), (10 : Nat), (13 : Nat), (15 : Nat)), ((0 : Nat), (10 : Nat), (17 : Nat), (21 : Nat))]) ∈ lw_all := lw_g (lw_at lw_m5 142 rfl) rfl
theorem q1292 : (Jvm.Cond.methodLink "FactHouseLaw" (23 : Nat) ({ cls := "FactHouse", name := "method", desc := "(II)I" } : Jvm.MethodName)) ∈ lw_all := lw_g (lw_at lw_m5 143 rfl) rfl
theorem q1657 : (Jvm.Cond.methodLink "FactHouseLaw" (128 : Nat) ({ cls := "FactHouseLaw", name := "classOf", desc := "(LFactHouse;I[J)I" } : Jvm.MethodName)) ∈ lw_all := lw_g (lw_at lw_m7 28 rfl) rfl
theorem q1658 : (Jvm.Cond.static ({ cls := "FactHouseLaw", name := "classOf", desc := "(LFactHouse;I[J)I" } : Jvm.MethodName)) ∈ lw_all := lw_g (lw_at lw_m7 29 rfl) rfl
theorem q1659 : (Jvm.Cond.codeWith ({ cls := "FactHouseLaw", name := "classOf", desc := "(LFactHouse;I[J)I" } : Jvm.MethodName) method_6_code (4 : Nat) (Option.some Jvm.ClassFile.FieldType.int) [((0 : Nat), (9 : Nat), (12 : Nat), (15 : Nat)), ((0 : Nat), (9 : Nat), (15 : Nat), (21 : Nat))]) ∈ lw_all := lw_g (lw_at lw_m7 30 rfl) rfl
theorem q1660 : (Jvm.Cond.methodLink "FactHouseLaw" (27 : Nat) ({ cls := "FactHouse", name := "classOf", desc := "(I)I" } : Jvm.MethodName)) ∈ lw_all := lw_g (lw_at lw_m7 31 rfl) rfl
theorem q1668 : (Jvm.Cond.methodLink "FactHouseLaw" (131 : Nat) ({ cls := "FactHouseLaw", name := "depth", desc := "(LFactHouse;II[J)I" } : Jvm.MethodName)) ∈ lw_all := lw_g (lw_at lw_m7 39 rfl) rfl
theorem q1669 : (Jvm.Cond.static ({ cls := "FactHouseLaw", name := "depth", desc := "(LFactHouse;II[J)I" } : Jvm.MethodName)) ∈ lw_all := lw_g (lw_at lw_m7 40 rfl) rfl
theorem q1670 : (Jvm.Cond.codeWith ({ cls := "FactHouseLaw", name := "depth", desc := "(LFactHouse;II[J)I" } : Jvm.MethodName) method_7_code (5 : Nat) (Option.some Jvm.ClassFile.FieldType.int) [((0 : Nat), (10 : Nat), (13 : Nat), (15 : Nat)), ((0 : Nat), (10 : Nat), (17 : Nat), (21 : Nat))]) ∈ lw_all := lw_g (lw_at lw_m7 41 rfl) rfl
theorem q1671 : (Jvm.Cond.methodLink "FactHouseLaw" (30 : Nat) ({ cls := "FactHouse", name := "depth", desc := "(II)I" } : Jvm.MethodName)) ∈ lw_all := lw_g (lw_at lw_m7 42 rfl) rfl
theorem q1679 : (Jvm.Cond.methodLink "FactHouseLaw" (134 : Nat) ({ cls := "FactHouseLaw", name := "reach", desc := "(LFactHouse;II[J)I" } : Jvm.MethodName)) ∈ lw_all := lw_g (lw_at lw_m7 50 rfl) rfl
theorem q1680 : (Jvm.Cond.static ({ cls := "FactHouseLaw", name := "reach", desc := "(LFactHouse;II[J)I" } : Jvm.MethodName)) ∈ lw_all := lw_g (lw_at lw_m7 51 rfl) rfl
theorem q1681 : (Jvm.Cond.codeWith ({ cls := "FactHouseLaw", name := "reach", desc := "(LFactHouse;II[J)I" } : Jvm.MethodName) method_8_code (5 : Nat) (Option.some Jvm.ClassFile.FieldType.int) [((0 : Nat), (17 : Nat), (20 : Nat), (15 : Nat)), ((0 : Nat), (17 : Nat), (24 : Nat), (21 : Nat))]) ∈ lw_all := lw_g (lw_at lw_m7 52 rfl) rfl
theorem q1682 : (Jvm.Cond.methodLink "FactHouseLaw" (33 : Nat) ({ cls := "FactHouse", name := "reach", desc := "(II)Z" } : Jvm.MethodName)) ∈ lw_all := lw_g (lw_at lw_m7 53 rfl) rfl
theorem q1686 : (Jvm.Cond.methodLink "FactHouseLaw" (137 : Nat) ({ cls := "FactHouseLaw", name := "value", desc := "(LFactHouse;IIII[J)I" } : Jvm.MethodName)) ∈ lw_all := lw_g (lw_at lw_m7 57 rfl) rfl
theorem q1687 : (Jvm.Cond.static ({ cls := "FactHouseLaw", name := "value", desc := "(LFactHouse;IIII[J)I" } : Jvm.MethodName)) ∈ lw_all := lw_g (lw_at lw_m7 58 rfl) rfl
theorem q1688 : (Jvm.Cond.codeWith ({ cls := "FactHouseLaw", name := "value", desc := "(LFactHouse;IIII[J)I" } : Jvm.MethodName) method_9_code (7 : Nat) (Option.some Jvm.ClassFile.FieldType.int) [((0 : Nat), (13 : Nat), (16 : Nat), (15 : Nat)), ((0 : Nat), (13 : Nat), (20 : Nat), (21 : Nat))]) ∈ lw_all := lw_g (lw_at lw_m7 59 rfl) rfl
theorem q1689 : (Jvm.Cond.methodLink "FactHouseLaw" (37 : Nat) ({ cls := "FactHouse", name := "value", desc := "(IIII)J" } : Jvm.MethodName)) ∈ lw_all := lw_g (lw_at lw_m7 60 rfl) rfl
theorem q1697 : (Jvm.Cond.methodLink "FactHouseLaw" (141 : Nat) ({ cls := "FactHouseLaw", name := "locks", desc := "(LFactHouse;III[J)I" } : Jvm.MethodName)) ∈ lw_all := lw_g (lw_at lw_m7 68 rfl) rfl
theorem q1698 : (Jvm.Cond.static ({ cls := "FactHouseLaw", name := "locks", desc := "(LFactHouse;III[J)I" } : Jvm.MethodName)) ∈ lw_all := lw_g (lw_at lw_m7 69 rfl) rfl
theorem q1699 : (Jvm.Cond.codeWith ({ cls := "FactHouseLaw", name := "locks", desc := "(LFactHouse;III[J)I" } : Jvm.MethodName) method_10_code (6 : Nat) (Option.some Jvm.ClassFile.FieldType.int) [((0 : Nat), (12 : Nat), (15 : Nat), (15 : Nat)), ((0 : Nat), (12 : Nat), (19 : Nat), (21 : Nat))]) ∈ lw_all := lw_g (lw_at lw_m7 70 rfl) rfl
theorem q1700 : (Jvm.Cond.methodLink "FactHouseLaw" (41 : Nat) ({ cls := "FactHouse", name := "locks", desc := "(III)I" } : Jvm.MethodName)) ∈ lw_all := lw_g (lw_at lw_m7 71 rfl) rfl
theorem q1704 : (Jvm.Cond.methodLink "FactHouseLaw" (145 : Nat) ({ cls := "FactHouseLaw", name := "throwsAt", desc := "(LFactHouse;II[J)I" } : Jvm.MethodName)) ∈ lw_all := lw_g (lw_at lw_m7 75 rfl) rfl
theorem q1705 : (Jvm.Cond.static ({ cls := "FactHouseLaw", name := "throwsAt", desc := "(LFactHouse;II[J)I" } : Jvm.MethodName)) ∈ lw_all := lw_g (lw_at lw_m7 76 rfl) rfl
theorem q1706 : (Jvm.Cond.codeWith ({ cls := "FactHouseLaw", name := "throwsAt", desc := "(LFactHouse;II[J)I" } : Jvm.MethodName) method_11_code (5 : Nat) (Option.some Jvm.ClassFile.FieldType.int) [((0 : Nat), (9 : Nat), (12 : Nat), (15 : Nat)), ((0 : Nat), (9 : Nat), (16 : Nat), (21 : Nat))]) ∈ lw_all := lw_g (lw_at lw_m7 77 rfl) rfl
theorem q1707 : (Jvm.Cond.methodLink "FactHouseLaw" (45 : Nat) ({ cls := "FactHouse", name := "throwsAt", desc := "(II)J" } : Jvm.MethodName)) ∈ lw_all := lw_g (lw_at lw_m7 78 rfl) rfl
theorem q1711 : (Jvm.Cond.methodLink "FactHouseLaw" (148 : Nat) ({ cls := "FactHouseLaw", name := "calls", desc := "(LFactHouse;II[J)I" } : Jvm.MethodName)) ∈ lw_all := lw_g (lw_at lw_m7 82 rfl) rfl
theorem q1712 : (Jvm.Cond.static ({ cls := "FactHouseLaw", name := "calls", desc := "(LFactHouse;II[J)I" } : Jvm.MethodName)) ∈ lw_all := lw_g (lw_at lw_m7 83 rfl) rfl
theorem q1713 : (Jvm.Cond.codeWith ({ cls := "FactHouseLaw", name := "calls", desc := "(LFactHouse;II[J)I" } : Jvm.MethodName) method_12_code (5 : Nat) (Option.some Jvm.ClassFile.FieldType.int) [((0 : Nat), (9 : Nat), (12 : Nat), (15 : Nat)), ((0 : Nat), (9 : Nat), (16 : Nat), (21 : Nat))]) ∈ lw_all := lw_g (lw_at lw_m7 84 rfl) rfl
theorem q1714 : (Jvm.Cond.methodLink "FactHouseLaw" (49 : Nat) ({ cls := "FactHouse", name := "calls", desc := "(II)J" } : Jvm.MethodName)) ∈ lw_all := lw_g (lw_at lw_m7 85 rfl) rfl
theorem q1718 : (Jvm.Cond.methodLink "FactHouseLaw" (151 : Nat) ({ cls := "FactHouseLaw", name := "outcome", desc := "(LFactHouse;II[J)I" } : Jvm.MethodName)) ∈ lw_all := lw_g (lw_at lw_m7 89 rfl) rfl
theorem q1719 : (Jvm.Cond.static ({ cls := "FactHouseLaw", name := "outcome", desc := "(LFactHouse;II[J)I" } : Jvm.MethodName)) ∈ lw_all := lw_g (lw_at lw_m7 90 rfl) rfl
theorem q1720 : (Jvm.Cond.codeWith ({ cls := "FactHouseLaw", name := "outcome", desc := "(LFactHouse;II[J)I" } : Jvm.MethodName) method_13_code (5 : Nat) (Option.some Jvm.ClassFile.FieldType.int) [((0 : Nat), (9 : Nat), (12 : Nat), (15 : Nat)), ((0 : Nat), (9 : Nat), (16 : Nat), (21 : Nat))]) ∈ lw_all := lw_g (lw_at lw_m7 91 rfl) rfl
theorem q1721 : (Jvm.Cond.methodLink "FactHouseLaw" (52 : Nat) ({ cls := "FactHouse", name := "outcome", desc := "(II)J" } : Jvm.MethodName)) ∈ lw_all := lw_g (lw_at lw_m7 92 rfl) rfl
theorem q1726 : (Jvm.Cond.methodLink "FactHouseLaw" (154 : Nat) ({ cls := "FactHouseLaw", name := "held", desc := "(LFactHouse;III[J)I" } : Jvm.MethodName)) ∈ lw_all := lw_g (lw_at lw_m7 97 rfl) rfl
theorem q1727 : (Jvm.Cond.static ({ cls := "FactHouseLaw", name := "held", desc := "(LFactHouse;III[J)I" } : Jvm.MethodName)) ∈ lw_all := lw_g (lw_at lw_m7 98 rfl) rfl
theorem q1728 : (Jvm.Cond.codeWith ({ cls := "FactHouseLaw", name := "held", desc := "(LFactHouse;III[J)I" } : Jvm.MethodName) method_14_code (6 : Nat) (Option.some Jvm.ClassFile.FieldType.int) [((0 : Nat), (11 : Nat), (14 : Nat), (15 : Nat)), ((0 : Nat), (11 : Nat), (18 : Nat), (21 : Nat))]) ∈ lw_all := lw_g (lw_at lw_m7 99 rfl) rfl
theorem q1729 : (Jvm.Cond.methodLink "FactHouseLaw" (55 : Nat) ({ cls := "FactHouse", name := "held", desc := "(III)J" } : Jvm.MethodName)) ∈ lw_all := lw_g (lw_at lw_m7 100 rfl) rfl
theorem q1742 : (Jvm.Cond.methodLink "FactHouseLaw" (157 : Nat) ({ cls := "FactHouseLaw", name := "statics", desc := "(LFactHouse;II[J)I" } : Jvm.MethodName)) ∈ lw_all := lw_g (lw_at lw_m7 113 rfl) rfl
theorem q1743 : (Jvm.Cond.static ({ cls := "FactHouseLaw", name := "statics", desc := "(LFactHouse;II[J)I" } : Jvm.MethodName)) ∈ lw_all := lw_g (lw_at lw_m7 114 rfl) rfl
theorem q1744 : (Jvm.Cond.codeWith ({ cls := "FactHouseLaw", name := "statics", desc := "(LFactHouse;II[J)I" } : Jvm.MethodName) method_15_code (5 : Nat) (Option.some Jvm.ClassFile.FieldType.int) [((0 : Nat), (9 : Nat), (12 : Nat), (15 : Nat)), ((0 : Nat), (9 : Nat), (16 : Nat), (21 : Nat))]) ∈ lw_all := lw_g (lw_at lw_m7 115 rfl) rfl
theorem q1745 : (Jvm.Cond.methodLink "FactHouseLaw" (59 : Nat) ({ cls := "FactHouse", name := "statics", desc := "(II)J" } : Jvm.MethodName)) ∈ lw_all := lw_g (lw_at lw_m7 116 rfl) rfl
theorem q1753 : (Jvm.Cond.methodLink "FactHouseLaw" (160 : Nat) ({ cls := "FactHouseLaw", name := "sink", desc := "(LFactHouse;II[J)I" } : Jvm.MethodName)) ∈ lw_all := lw_g (lw_at lw_m7 124 rfl) rfl
theorem q1754 : (Jvm.Cond.static ({ cls := "FactHouseLaw", name := "sink", desc := "(LFactHouse;II[J)I" } : Jvm.MethodName)) ∈ lw_all := lw_g (lw_at lw_m7 125 rfl) rfl
theorem q1755 : (Jvm.Cond.codeWith ({ cls := "FactHouseLaw", name := "sink", desc := "(LFactHouse;II[J)I" } : Jvm.MethodName) method_16_code (5 : Nat) (Option.some Jvm.ClassFile.FieldType.int) [((0 : Nat), (9 : Nat), (12 : Nat), (15 : Nat)), ((0 : Nat), (9 : Nat), (16 : Nat), (21 : Nat))]) ∈ lw_all := lw_g (lw_at lw_m7 126 rfl) rfl
theorem q1756 : (Jvm.Cond.methodLink "FactHouseLaw" (62 : Nat) ({ cls := "FactHouse", name := "sink", desc := "(II)J" } : Jvm.MethodName)) ∈ lw_all := lw_g (lw_at lw_m7 127 rfl) rfl
theorem q1760 : (Jvm.Cond.methodLink "FactHouseLaw" (163 : Nat) ({ cls := "FactHouseLaw", name := "live", desc := "(LFactHouse;II[J)I" } : Jvm.MethodName)) ∈ lw_all := lw_g (lw_at lw_m7 131 rfl) rfl
theorem q1761 : (Jvm.Cond.static ({ cls := "FactHouseLaw", name := "live", desc := "(LFactHouse;II[J)I" } : Jvm.MethodName)) ∈ lw_all := lw_g (lw_at lw_m7 132 rfl) rfl
theorem q1762 : (Jvm.Cond.codeWith ({ cls := "FactHouseLaw", name := "live", desc := "(LFactHouse;II[J)I" } : Jvm.MethodName) method_17_code (5 : Nat) (Option.some Jvm.ClassFile.FieldType.int) [((0 : Nat), (10 : Nat), (13 : Nat), (15 : Nat)), ((0 : Nat), (10 : Nat), (17 : Nat), (21 : Nat))]) ∈ lw_all := lw_g (lw_at lw_m7 133 rfl) rfl
theorem q1763 : (Jvm.Cond.methodLink "FactHouseLaw" (65 : Nat) ({ cls := "FactHouse", name := "live", desc := "(II)I" } : Jvm.MethodName)) ∈ lw_all := lw_g (lw_at lw_m7 134 rfl) rfl
theorem q1767 : (Jvm.Cond.methodLink "FactHouseLaw" (166 : Nat) ({ cls := "FactHouseLaw", name := "idle", desc := "(LFactHouse;I[J)I" } : Jvm.MethodName)) ∈ lw_all := lw_g (lw_at lw_m7 138 rfl) rfl
theorem q1768 : (Jvm.Cond.static ({ cls := "FactHouseLaw", name := "idle", desc := "(LFactHouse;I[J)I" } : Jvm.MethodName)) ∈ lw_all := lw_g (lw_at lw_m7 139 rfl) rfl
theorem q1769 : (Jvm.Cond.codeWith ({ cls := "FactHouseLaw", name := "idle", desc := "(LFactHouse;I[J)I" } : Jvm.MethodName) method_18_code (4 : Nat) (Option.some Jvm.ClassFile.FieldType.int) [((0 : Nat), (9 : Nat), (12 : Nat), (15 : Nat)), ((0 : Nat), (9 : Nat), (15 : Nat), (21 : Nat))]) ∈ lw_all := lw_g (lw_at lw_m7 140 rfl) rfl
theorem q1770 : (Jvm.Cond.methodLink "FactHouseLaw" (68 : Nat) ({ cls := "FactHouse", name := "idle", desc := "(I)I" } : Jvm.MethodName)) ∈ lw_all := lw_g (lw_at lw_m7 141 rfl) rfl
theorem q1774 : (Jvm.Cond.methodLink "FactHouseLaw" (169 : Nat) ({ cls := "FactHouseLaw", name := "threads", desc := "(LFactHouse;I[J)I" } : Jvm.MethodName)) ∈ lw_all := lw_g (lw_at lw_m7 145 rfl) rfl
theorem q1775 : (Jvm.Cond.static ({ cls := "FactHouseLaw", name := "threads", desc := "(LFactHouse;I[J)I" } : Jvm.MethodName)) ∈ lw_all := lw_g (lw_at lw_m7 146 rfl) rfl
theorem q1776 : (Jvm.Cond.codeWith ({ cls := "FactHouseLaw", name := "threads", desc := "(LFactHouse;I[J)I" } : Jvm.MethodName) method_19_code (4 : Nat) (Option.some Jvm.ClassFile.FieldType.int) [((0 : Nat), (9 : Nat), (12 : Nat), (15 : Nat)), ((0 : Nat), (9 : Nat), (15 : Nat), (21 : Nat))]) ∈ lw_all := lw_g (lw_at lw_m7 147 rfl) rfl
theorem q1777 : (Jvm.Cond.methodLink "FactHouseLaw" (71 : Nat) ({ cls := "FactHouse", name := "threads", desc := "(I)I" } : Jvm.MethodName)) ∈ lw_all := lw_g (lw_at lw_m7 148 rfl) rfl
theorem q1804 : (Jvm.Cond.methodLink "FactHouseLaw" (172 : Nat) ({ cls := "FactHouseLaw", name := "race", desc := "(LFactHouse;II[J)I" } : Jvm.MethodName)) ∈ lw_all := lw_g (lw_at lw_m7 175 rfl) rfl
theorem q1805 : (Jvm.Cond.static ({ cls := "FactHouseLaw", name := "race", desc := "(LFactHouse;II[J)I" } : Jvm.MethodName)) ∈ lw_all := lw_g (lw_at lw_m7 176 rfl) rfl
theorem q1806 : (Jvm.Cond.codeWith ({ cls := "FactHouseLaw", name := "race", desc := "(LFactHouse;II[J)I" } : Jvm.MethodName) method_20_code (5 : Nat) (Option.some Jvm.ClassFile.FieldType.int) [((0 : Nat), (10 : Nat), (13 : Nat), (15 : Nat)), ((0 : Nat), (10 : Nat), (17 : Nat), (21 : Nat))]) ∈ lw_all := lw_g (lw_at lw_m7 177 rfl) rfl
theorem q1807 : (Jvm.Cond.methodLink "FactHouseLaw" (74 : Nat) ({ cls := "FactHouse", name := "race", desc := "(II)I" } : Jvm.MethodName)) ∈ lw_all := lw_g (lw_at lw_m7 178 rfl) rfl
theorem q1811 : (Jvm.Cond.methodLink "FactHouseLaw" (175 : Nat) ({ cls := "FactHouseLaw", name := "runs", desc := "(LFactHouse;I[J)I" } : Jvm.MethodName)) ∈ lw_all := lw_g (lw_at lw_m7 182 rfl) rfl
theorem q1812 : (Jvm.Cond.static ({ cls := "FactHouseLaw", name := "runs", desc := "(LFactHouse;I[J)I" } : Jvm.MethodName)) ∈ lw_all := lw_g (lw_at lw_m7 183 rfl) rfl
theorem q1813 : (Jvm.Cond.codeWith ({ cls := "FactHouseLaw", name := "runs", desc := "(LFactHouse;I[J)I" } : Jvm.MethodName) method_21_code (4 : Nat) (Option.some Jvm.ClassFile.FieldType.int) [((0 : Nat), (8 : Nat), (11 : Nat), (15 : Nat)), ((0 : Nat), (8 : Nat), (14 : Nat), (21 : Nat))]) ∈ lw_all := lw_g (lw_at lw_m7 184 rfl) rfl
theorem q1814 : (Jvm.Cond.methodLink "FactHouseLaw" (77 : Nat) ({ cls := "FactHouse", name := "runs", desc := "(I)J" } : Jvm.MethodName)) ∈ lw_all := lw_g (lw_at lw_m7 185 rfl) rfl
theorem q1818 : (Jvm.Cond.methodLink "FactHouseLaw" (178 : Nat) ({ cls := "FactHouseLaw", name := "input", desc := "(LFactHouse;I[J)I" } : Jvm.MethodName)) ∈ lw_all := lw_g (lw_at lw_m7 189 rfl) rfl
theorem q1819 : (Jvm.Cond.static ({ cls := "FactHouseLaw", name := "input", desc := "(LFactHouse;I[J)I" } : Jvm.MethodName)) ∈ lw_all := lw_g (lw_at lw_m7 190 rfl) rfl
theorem q1820 : (Jvm.Cond.codeWith ({ cls := "FactHouseLaw", name := "input", desc := "(LFactHouse;I[J)I" } : Jvm.MethodName) method_22_code (4 : Nat) (Option.some Jvm.ClassFile.FieldType.int) [((0 : Nat), (9 : Nat), (12 : Nat), (15 : Nat))]) ∈ lw_all := lw_g (lw_at lw_m7 191 rfl) rfl
theorem q1821 : (Jvm.Cond.methodLink "FactHouseLaw" (81 : Nat) ({ cls := "FactHouse", name := "input", desc := "(I)I" } : Jvm.MethodName)) ∈ lw_all := lw_g (lw_at lw_m7 192 rfl) rfl
theorem q1829 : (Jvm.Cond.methodLink "FactHouseLaw" (181 : Nat) ({ cls := "FactHouseLaw", name := "walk", desc := "(LFactHouse;III[J)I" } : Jvm.MethodName)) ∈ lw_all := lw_g (lw_at lw_m7 200 rfl) rfl
theorem q1830 : (Jvm.Cond.static ({ cls := "FactHouseLaw", name := "walk", desc := "(LFactHouse;III[J)I" } : Jvm.MethodName)) ∈ lw_all := lw_g (lw_at lw_m7 201 rfl) rfl
theorem q1831 : (Jvm.Cond.codeWith ({ cls := "FactHouseLaw", name := "walk", desc := "(LFactHouse;III[J)I" } : Jvm.MethodName) method_23_code (6 : Nat) (Option.some Jvm.ClassFile.FieldType.int) [((0 : Nat), (12 : Nat), (15 : Nat), (15 : Nat)), ((0 : Nat), (12 : Nat), (19 : Nat), (21 : Nat)), ((0 : Nat), (12 : Nat), (23 : Nat), (13 : Nat))]) ∈ lw_all := lw_g (lw_at lw_m7 202 rfl) rfl
theorem q1832 : (Jvm.Cond.methodLink "FactHouseLaw" (84 : Nat) ({ cls := "FactHouse", name := "walk", desc := "(III)I" } : Jvm.MethodName)) ∈ lw_all := lw_g (lw_at lw_m7 203 rfl) rfl
theorem q1958 : (Jvm.Cond.methodLink "FactHouseLaw" (184 : Nat) ({ cls := "FactHouseLaw", name := "walked", desc := "(LFactHouse;I[J)I" } : Jvm.MethodName)) ∈ lw_all := lw_g (lw_at lw_m8 89 rfl) rfl
theorem q1959 : (Jvm.Cond.static ({ cls := "FactHouseLaw", name := "walked", desc := "(LFactHouse;I[J)I" } : Jvm.MethodName)) ∈ lw_all := lw_g (lw_at lw_m8 90 rfl) rfl
theorem q1960 : (Jvm.Cond.codeWith ({ cls := "FactHouseLaw", name := "walked", desc := "(LFactHouse;I[J)I" } : Jvm.MethodName) method_24_code (4 : Nat) (Option.some Jvm.ClassFile.FieldType.int) [((0 : Nat), (9 : Nat), (12 : Nat), (21 : Nat))]) ∈ lw_all := lw_g (lw_at lw_m8 91 rfl) rfl
theorem q1961 : (Jvm.Cond.methodLink "FactHouseLaw" (87 : Nat) ({ cls := "FactHouse", name := "walked", desc := "(I)I" } : Jvm.MethodName)) ∈ lw_all := lw_g (lw_at lw_m8 92 rfl) rfl
theorem q1969 : (Jvm.Cond.methodLink "FactHouseLaw" (187 : Nat) ({ cls := "FactHouseLaw", name := "output", desc := "(LFactHouse;II[J)I" } : Jvm.MethodName)) ∈ lw_all := lw_g (lw_at lw_m8 100 rfl) rfl
theorem q1970 : (Jvm.Cond.static ({ cls := "FactHouseLaw", name := "output", desc := "(LFactHouse;II[J)I" } : Jvm.MethodName)) ∈ lw_all := lw_g (lw_at lw_m8 101 rfl) rfl
theorem q1971 : (Jvm.Cond.codeWith ({ cls := "FactHouseLaw", name := "output", desc := "(LFactHouse;II[J)I" } : Jvm.MethodName) method_25_code (5 : Nat) (Option.some Jvm.ClassFile.FieldType.int) [((0 : Nat), (10 : Nat), (13 : Nat), (21 : Nat))]) ∈ lw_all := lw_g (lw_at lw_m8 102 rfl) rfl
theorem q1972 : (Jvm.Cond.methodLink "FactHouseLaw" (90 : Nat) ({ cls := "FactHouse", name := "output", desc := "(II)I" } : Jvm.MethodName)) ∈ lw_all := lw_g (lw_at lw_m8 103 rfl) rfl
theorem q1977 : (Jvm.Cond.methodLink "FactHouseLaw" (190 : Nat) ({ cls := "FactHouseLaw", name := "met", desc := "(LFactHouse;II[J)I" } : Jvm.MethodName)) ∈ lw_all := lw_g (lw_at lw_m8 108 rfl) rfl
theorem q1978 : (Jvm.Cond.static ({ cls := "FactHouseLaw", name := "met", desc := "(LFactHouse;II[J)I" } : Jvm.MethodName)) ∈ lw_all := lw_g (lw_at lw_m8 109 rfl) rfl
theorem q1979 : (Jvm.Cond.codeWith ({ cls := "FactHouseLaw", name := "met", desc := "(LFactHouse;II[J)I" } : Jvm.MethodName) method_26_code (5 : Nat) (Option.some Jvm.ClassFile.FieldType.int) [((0 : Nat), (9 : Nat), (12 : Nat), (15 : Nat)), ((0 : Nat), (9 : Nat), (16 : Nat), (21 : Nat))]) ∈ lw_all := lw_g (lw_at lw_m8 110 rfl) rfl
theorem q1980 : (Jvm.Cond.methodLink "FactHouseLaw" (93 : Nat) ({ cls := "FactHouse", name := "met", desc := "(II)J" } : Jvm.MethodName)) ∈ lw_all := lw_g (lw_at lw_m8 111 rfl) rfl
theorem q1984 : (Jvm.Cond.classLink "FactHouseLaw" (97 : Nat) "FactHouseModel") ∈ lw_all := lw_g (lw_at lw_m8 115 rfl) rfl
theorem q1986 : (Jvm.Cond.methodLink "FactHouseLaw" (99 : Nat) ({ cls := "FactHouseModel", name := "<init>", desc := "()V" } : Jvm.MethodName)) ∈ lw_all := lw_g (lw_at lw_m8 117 rfl) rfl
theorem q2444 : (Jvm.Cond.methodLink "FactHouseLaw" (108 : Nat) ({ cls := "FactHouseModel", name := "thrown", desc := "()I" } : Jvm.MethodName)) ∈ lw_all := lw_g (lw_at lw_m10 95 rfl) rfl
theorem q2448 : (Jvm.Cond.methodLink "FactHouseLaw" (107 : Nat) ({ cls := "FactHouseModel", name := "type", desc := "(JI)I" } : Jvm.MethodName)) ∈ lw_all := lw_g (lw_at lw_m10 99 rfl) rfl
theorem q2456 : (Jvm.Cond.methodLink "FactHouseLaw" (115 : Nat) ({ cls := "FactHouseModel", name := "file", desc := "()I" } : Jvm.MethodName)) ∈ lw_all := lw_g (lw_at lw_m10 107 rfl) rfl
theorem q2554 : (Jvm.Cond.methodLink "FactHouseLaw" (119 : Nat) ({ cls := "FactHouseModel", name := "root", desc := "(I)I" } : Jvm.MethodName)) ∈ lw_all := lw_g (lw_at lw_m10 205 rfl) rfl
theorem q2558 : (Jvm.Cond.methodLink "FactHouseLaw" (123 : Nat) ({ cls := "FactHouseModel", name := "told", desc := "(I)I" } : Jvm.MethodName)) ∈ lw_all := lw_g (lw_at lw_m10 209 rfl) rfl
theorem q2577 : (Jvm.Cond.methodLink "FactHouseLaw" (127 : Nat) ({ cls := "FactHouseModel", name := "method", desc := "(II)I" } : Jvm.MethodName)) ∈ lw_all := lw_g (lw_at lw_m10 228 rfl) rfl
theorem q2761 : (Jvm.Cond.methodLink "FactHouseLaw" (130 : Nat) ({ cls := "FactHouseModel", name := "classOf", desc := "(I)I" } : Jvm.MethodName)) ∈ lw_all := lw_g (lw_at lw_m11 172 rfl) rfl
theorem q2769 : (Jvm.Cond.methodLink "FactHouseLaw" (133 : Nat) ({ cls := "FactHouseModel", name := "depth", desc := "(II)I" } : Jvm.MethodName)) ∈ lw_all := lw_g (lw_at lw_m11 180 rfl) rfl
theorem q2777 : (Jvm.Cond.methodLink "FactHouseLaw" (136 : Nat) ({ cls := "FactHouseModel", name := "reach", desc := "(II)Z" } : Jvm.MethodName)) ∈ lw_all := lw_g (lw_at lw_m11 188 rfl) rfl
theorem q2781 : (Jvm.Cond.methodLink "FactHouseLaw" (140 : Nat) ({ cls := "FactHouseModel", name := "value", desc := "(IIII)J" } : Jvm.MethodName)) ∈ lw_all := lw_g (lw_at lw_m11 192 rfl) rfl
theorem q2786 : (Jvm.Cond.methodLink "FactHouseLaw" (144 : Nat) ({ cls := "FactHouseModel", name := "locks", desc := "(III)I" } : Jvm.MethodName)) ∈ lw_all := lw_g (lw_at lw_m11 197 rfl) rfl
theorem q2790 : (Jvm.Cond.methodLink "FactHouseLaw" (147 : Nat) ({ cls := "FactHouseModel", name := "throwsAt", desc := "(II)J" } : Jvm.MethodName)) ∈ lw_all := lw_g (lw_at lw_m11 201 rfl) rfl
theorem q2794 : (Jvm.Cond.methodLink "FactHouseLaw" (150 : Nat) ({ cls := "FactHouseModel", name := "calls", desc := "(II)J" } : Jvm.MethodName)) ∈ lw_all := lw_g (lw_at lw_m11 205 rfl) rfl
theorem q2798 : (Jvm.Cond.methodLink "FactHouseLaw" (153 : Nat) ({ cls := "FactHouseModel", name := "outcome", desc := "(II)J" } : Jvm.MethodName)) ∈ lw_all := lw_g (lw_at lw_m11 209 rfl) rfl
theorem q2803 : (Jvm.Cond.methodLink "FactHouseLaw" (156 : Nat) ({ cls := "FactHouseModel", name := "held", desc := "(III)J" } : Jvm.MethodName)) ∈ lw_all := lw_g (lw_at lw_m11 214 rfl) rfl
theorem q2808 : (Jvm.Cond.methodLink "FactHouseLaw" (159 : Nat) ({ cls := "FactHouseModel", name := "statics", desc := "(II)J" } : Jvm.MethodName)) ∈ lw_all := lw_g (lw_at lw_m11 219 rfl) rfl
theorem q2812 : (Jvm.Cond.methodLink "FactHouseLaw" (162 : Nat) ({ cls := "FactHouseModel", name := "sink", desc := "(II)J" } : Jvm.MethodName)) ∈ lw_all := lw_g (lw_at lw_m11 223 rfl) rfl
theorem q2816 : (Jvm.Cond.methodLink "FactHouseLaw" (165 : Nat) ({ cls := "FactHouseModel", name := "live", desc := "(II)I" } : Jvm.MethodName)) ∈ lw_all := lw_g (lw_at lw_m11 227 rfl) rfl
theorem q2820 : (Jvm.Cond.methodLink "FactHouseLaw" (168 : Nat) ({ cls := "FactHouseModel", name := "idle", desc := "(I)I" } : Jvm.MethodName)) ∈ lw_all := lw_g (lw_at lw_m11 231 rfl) rfl
theorem q2824 : (Jvm.Cond.methodLink "FactHouseLaw" (171 : Nat) ({ cls := "FactHouseModel", name := "threads", desc := "(I)I" } : Jvm.MethodName)) ∈ lw_all := lw_g (lw_at lw_m11 235 rfl) rfl
theorem q2852 : (Jvm.Cond.methodLink "FactHouseLaw" (174 : Nat) ({ cls := "FactHouseModel", name := "race", desc := "(II)I" } : Jvm.MethodName)) ∈ lw_all := lw_g (lw_at lw_m12 23 rfl) rfl
theorem q2856 : (Jvm.Cond.methodLink "FactHouseLaw" (177 : Nat) ({ cls := "FactHouseModel", name := "runs", desc := "(I)J" } : Jvm.MethodName)) ∈ lw_all := lw_g (lw_at lw_m12 27 rfl) rfl
theorem q2860 : (Jvm.Cond.methodLink "FactHouseLaw" (180 : Nat) ({ cls := "FactHouseModel", name := "input", desc := "(I)I" } : Jvm.MethodName)) ∈ lw_all := lw_g (lw_at lw_m12 31 rfl) rfl
theorem q2864 : (Jvm.Cond.methodLink "FactHouseLaw" (183 : Nat) ({ cls := "FactHouseModel", name := "walk", desc := "(III)I" } : Jvm.MethodName)) ∈ lw_all := lw_g (lw_at lw_m12 35 rfl) rfl
theorem q2959 : (Jvm.Cond.methodLink "FactHouseLaw" (186 : Nat) ({ cls := "FactHouseModel", name := "walked", desc := "(I)I" } : Jvm.MethodName)) ∈ lw_all := lw_g (lw_at lw_m12 130 rfl) rfl
theorem q2963 : (Jvm.Cond.methodLink "FactHouseLaw" (189 : Nat) ({ cls := "FactHouseModel", name := "output", desc := "(II)I" } : Jvm.MethodName)) ∈ lw_all := lw_g (lw_at lw_m12 134 rfl) rfl
theorem q2967 : (Jvm.Cond.methodLink "FactHouseLaw" (192 : Nat) ({ cls := "FactHouseModel", name := "met", desc := "(II)J" } : Jvm.MethodName)) ∈ lw_all := lw_g (lw_at lw_m12 138 rfl) rfl
theorem q2971 : (Jvm.Cond.constantLong "FactHouseLaw" (100 : Nat) (4294967295 : Int64)) ∈ lw_all := lw_g (lw_at lw_m12 142 rfl) rfl
/-! FactHouse -/
def RX1 : String := "FactHouse"
def TX1 : u_T := fun k => match k with
  | 0 => ("FactHouse", "tape", "[B", true)
  | 1 => ("FactHouse", "tapeSize", "I", false)
  | 2 => ("FactHouse", "program", "LFactHouse$Program;", false)
  | 3 => ("FactHouse", "former", "LFactHouse$Program;", false)
  | 4 => ("FactHouse", "facts", "LFactHouse$Facts;", true)
  | 5 => ("FactHouse", "follow", "LFactHouse$Follow;", true)
  | 6 => ("FactHouse", "machine", "LFactHouse$Machine;", true)
  | 7 => ("FactHouse", "isOld", "Z", false)
  | _ => ("FactHouse", "is16", "[Z", true)
def tyX1 : Nat → FieldType := fun k => match k with
  | 0 => .array .byte
  | 1 => .int
  | 2 => .object "FactHouse$Program"
  | 3 => .object "FactHouse$Program"
  | 4 => .object "FactHouse$Facts"
  | 5 => .object "FactHouse$Follow"
  | 6 => .object "FactHouse$Machine"
  | 7 => .boolean
  | _ => .array .boolean
abbrev wsX10 : List Cond := u_ws RX1 TX1 9
theorem nmX1 : ∀ a, a < 9 → ∀ b, b < 9 → a ≠ b → (TX1 a).2.1 ≠ (TX1 b).2.1 := by decide +kernel
theorem tyX1_ok : ∀ k, k < 9 → parseFieldDescriptor (TX1 k).2.2.1 = some (tyX1 k) := by decide +kernel
abbrev cX1_init : ByteArray := prog_1_method_5_code
def yX1_init : MethodName := ⟨RX1, "<init>", "()V"⟩
abbrev cX1_file : ByteArray := prog_1_method_7_code
def yX1_file : MethodName := ⟨RX1, "file", "()I"⟩
abbrev cX1_isIn : ByteArray := prog_1_method_4_code
def yX1_isIn : MethodName := ⟨RX1, "isIn", "(JJJ)Z"⟩
abbrev cX1_told : ByteArray := prog_1_method_11_code
def yX1_told : MethodName := ⟨RX1, "told", "(I)I"⟩
abbrev cX1_type : ByteArray := prog_1_method_6_code
def yX1_type : MethodName := ⟨RX1, "type", "(JI)I"⟩
abbrev cX1_want : ByteArray := prog_1_method_2_code
def yX1_want : MethodName := ⟨RX1, "want", "(Z)V"⟩
abbrev cX1_must : ByteArray := prog_1_method_3_code
def yX1_must : MethodName := ⟨RX1, "must", "(Z)V"⟩
abbrev cX1_root : ByteArray := prog_1_method_9_code
def yX1_root : MethodName := ⟨RX1, "root", "(I)I"⟩
abbrev cX1_hasMethod : ByteArray := prog_1_method_8_code
def yX1_hasMethod : MethodName := ⟨RX1, "hasMethod", "(I)Z"⟩
abbrev cX1_index : ByteArray := prog_1_method_1_code
def yX1_index : MethodName := ⟨RX1, "index", "(Z)V"⟩
abbrev cX1_method : ByteArray := prog_1_method_12_code
def yX1_method : MethodName := ⟨RX1, "method", "(II)I"⟩
abbrev cX1_know : ByteArray := prog_1_method_10_code
def yX1_know : MethodName := ⟨RX1, "know", "()V"⟩
abbrev cX1_classOf : ByteArray := prog_1_method_14_code
def yX1_classOf : MethodName := ⟨RX1, "classOf", "(I)I"⟩
abbrev cX1_isSite : ByteArray := prog_1_method_13_code
def yX1_isSite : MethodName := ⟨RX1, "isSite", "(I)Z"⟩
abbrev cX1_depth : ByteArray := prog_1_method_16_code
def yX1_depth : MethodName := ⟨RX1, "depth", "(II)I"⟩
abbrev cX1_placeOf : ByteArray := prog_1_method_15_code
def yX1_placeOf : MethodName := ⟨RX1, "placeOf", "(II)I"⟩
abbrev cX1_reach : ByteArray := prog_1_method_17_code
def yX1_reach : MethodName := ⟨RX1, "reach", "(II)Z"⟩
abbrev cX1_value : ByteArray := prog_1_method_19_code
def yX1_value : MethodName := ⟨RX1, "value", "(IIII)J"⟩
abbrev cX1_about : ByteArray := prog_1_method_18_code
def yX1_about : MethodName := ⟨RX1, "about", "(LFactHouse$Fact;I)J"⟩
abbrev cX1_locks : ByteArray := prog_1_method_20_code
def yX1_locks : MethodName := ⟨RX1, "locks", "(III)I"⟩
abbrev cX1_throwsAt : ByteArray := prog_1_method_21_code
def yX1_throwsAt : MethodName := ⟨RX1, "throwsAt", "(II)J"⟩
abbrev cX1_calls : ByteArray := prog_1_method_22_code
def yX1_calls : MethodName := ⟨RX1, "calls", "(II)J"⟩
abbrev cX1_outcome : ByteArray := prog_1_method_23_code
def yX1_outcome : MethodName := ⟨RX1, "outcome", "(II)J"⟩
abbrev cX1_held : ByteArray := prog_1_method_24_code
def yX1_held : MethodName := ⟨RX1, "held", "(III)J"⟩
abbrev cX1_statics : ByteArray := prog_1_method_25_code
def yX1_statics : MethodName := ⟨RX1, "statics", "(II)J"⟩
abbrev cX1_sink : ByteArray := prog_1_method_26_code
def yX1_sink : MethodName := ⟨RX1, "sink", "(II)J"⟩
abbrev cX1_live : ByteArray := prog_1_method_27_code
def yX1_live : MethodName := ⟨RX1, "live", "(II)I"⟩
abbrev cX1_idle : ByteArray := prog_1_method_28_code
def yX1_idle : MethodName := ⟨RX1, "idle", "(I)I"⟩
abbrev cX1_threads : ByteArray := prog_1_method_29_code
def yX1_threads : MethodName := ⟨RX1, "threads", "(I)I"⟩
abbrev cX1_race : ByteArray := prog_1_method_30_code
def yX1_race : MethodName := ⟨RX1, "race", "(II)I"⟩
abbrev cX1_runs : ByteArray := prog_1_method_31_code
def yX1_runs : MethodName := ⟨RX1, "runs", "(I)J"⟩
abbrev cX1_input : ByteArray := prog_1_method_32_code
def yX1_input : MethodName := ⟨RX1, "input", "(I)I"⟩
abbrev cX1_walk : ByteArray := prog_1_method_33_code
def yX1_walk : MethodName := ⟨RX1, "walk", "(III)I"⟩
abbrev cX1_walked : ByteArray := prog_1_method_34_code
def yX1_walked : MethodName := ⟨RX1, "walked", "(I)I"⟩
abbrev cX1_output : ByteArray := prog_1_method_35_code
def yX1_output : MethodName := ⟨RX1, "output", "(II)I"⟩
abbrev cX1_met : ByteArray := prog_1_method_36_code
def yX1_met : MethodName := ⟨RX1, "met", "(II)J"⟩
theorem q190 : (Jvm.Cond.initialized "FactHouse") ∈ lw_all := lw_g (lw_at lw_m1 1 rfl) rfl
theorem q220 : (Jvm.Cond.instantiable "FactHouse" (9 : Nat)) ∈ lw_all := lw_g (lw_at lw_m1 31 rfl) rfl
theorem q222 : (Jvm.Cond.instanceMethod ({ cls := "FactHouse", name := "<init>", desc := "()V" } : Jvm.MethodName)) ∈ lw_all := lw_g (lw_at lw_m1 33 rfl) rfl
theorem q223 : (Jvm.Cond.code ({ cls := "FactHouse", name := "<init>", desc := "()V" } : Jvm.MethodName) prog_1_method_5_code (1 : Nat) (Option.none : Option Jvm.ClassFile.FieldType)) ∈ lw_all := lw_g (lw_at lw_m1 34 rfl) rfl
theorem q224 : (Jvm.Cond.methodLink "FactHouse" (15 : Nat) ({ cls := "java/lang/Object", name := "<init>", desc := "()V" } : Jvm.MethodName)) ∈ lw_all := lw_g (lw_at lw_m1 35 rfl) rfl
theorem q227 : (Jvm.Cond.classLink "FactHouse" (22 : Nat) "FactHouse$Facts") ∈ lw_all := lw_g (lw_at lw_m1 38 rfl) rfl
theorem q229 : (Jvm.Cond.methodLink "FactHouse" (24 : Nat) ({ cls := "FactHouse$Facts", name := "<init>", desc := "()V" } : Jvm.MethodName)) ∈ lw_all := lw_g (lw_at lw_m1 40 rfl) rfl
theorem q255 : (Jvm.Cond.fieldLink "FactHouse" (278 : Nat) "FactHouse$Fact" "there" "Z") ∈ lw_all := lw_g (lw_at lw_m1 66 rfl) rfl
theorem q258 : (Jvm.Cond.fieldLink "FactHouse" (199 : Nat) "FactHouse$Fact" "from" "I") ∈ lw_all := lw_g (lw_at lw_m1 69 rfl) rfl
theorem q261 : (Jvm.Cond.fieldLink "FactHouse" (204 : Nat) "FactHouse$Fact" "to" "I") ∈ lw_all := lw_g (lw_at lw_m1 72 rfl) rfl
theorem q264 : (Jvm.Cond.fieldLink "FactHouse" (207 : Nat) "FactHouse$Fact" "labels" "I") ∈ lw_all := lw_g (lw_at lw_m1 75 rfl) rfl
theorem q267 : (Jvm.Cond.fieldLink "FactHouse" (210 : Nat) "FactHouse$Fact" "sites" "J") ∈ lw_all := lw_g (lw_at lw_m1 78 rfl) rfl
theorem q287 : (Jvm.Cond.fieldLink "FactHouse" (194 : Nat) "FactHouse$State" "reached" "Z") ∈ lw_all := lw_g (lw_at lw_m1 98 rfl) rfl
theorem q290 : (Jvm.Cond.fieldLink "FactHouse" (214 : Nat) "FactHouse$State" "slots" "[LFactHouse$Fact;") ∈ lw_all := lw_g (lw_at lw_m1 101 rfl) rfl
theorem q292 : (Jvm.Cond.fieldLink "FactHouse" (222 : Nat) "FactHouse$State" "sure" "I") ∈ lw_all := lw_g (lw_at lw_m1 103 rfl) rfl
theorem q297 : (Jvm.Cond.fieldLink "FactHouse" (225 : Nat) "FactHouse$State" "perhaps" "I") ∈ lw_all := lw_g (lw_at lw_m1 108 rfl) rfl
theorem q317 : (Jvm.Cond.fieldLink "FactHouse" (241 : Nat) "FactHouse$Outcome" "returns" "Z") ∈ lw_all := lw_g (lw_at lw_m1 128 rfl) rfl
theorem q320 : (Jvm.Cond.fieldLink "FactHouse" (246 : Nat) "FactHouse$Outcome" "value" "LFactHouse$Fact;") ∈ lw_all := lw_g (lw_at lw_m1 131 rfl) rfl
theorem q325 : (Jvm.Cond.fieldLink "FactHouse" (250 : Nat) "FactHouse$Outcome" "escapes" "J") ∈ lw_all := lw_g (lw_at lw_m1 136 rfl) rfl
theorem q330 : (Jvm.Cond.fieldLink "FactHouse" (253 : Nat) "FactHouse$Outcome" "unlocks" "I") ∈ lw_all := lw_g (lw_at lw_m1 141 rfl) rfl
theorem q372 : (Jvm.Cond.fieldLink "FactHouse" (190 : Nat) "FactHouse$Facts" "states" "[LFactHouse$State;") ∈ lw_all := lw_g (lw_at lw_m1 183 rfl) rfl
theorem q374 : (Jvm.Cond.fieldLink "FactHouse" (237 : Nat) "FactHouse$Facts" "outcomes" "[LFactHouse$Outcome;") ∈ lw_all := lw_g (lw_at lw_m1 185 rfl) rfl
theorem q379 : (Jvm.Cond.fieldLink "FactHouse" (275 : Nat) "FactHouse$Facts" "sinks" "[LFactHouse$Fact;") ∈ lw_all := lw_g (lw_at lw_m1 190 rfl) rfl
theorem q382 : (Jvm.Cond.fieldLink "FactHouse" (228 : Nat) "FactHouse$Facts" "thrown" "[J") ∈ lw_all := lw_g (lw_at lw_m1 193 rfl) rfl
theorem q385 : (Jvm.Cond.fieldLink "FactHouse" (232 : Nat) "FactHouse$Facts" "called" "[J") ∈ lw_all := lw_g (lw_at lw_m1 196 rfl) rfl
theorem q466 : (Jvm.Cond.classLink "FactHouse" (29 : Nat) "FactHouse$Follow") ∈ lw_all := lw_g (lw_at lw_m2 37 rfl) rfl
theorem q468 : (Jvm.Cond.methodLinkNest "FactHouse" (31 : Nat) ({ cls := "FactHouse$Follow", name := "<init>", desc := "()V" } : Jvm.MethodName) "FactHouse") ∈ lw_tbl := lw_at lw_m2 39 rfl
theorem q478 : (Jvm.Cond.fieldLink "FactHouse" (291 : Nat) "FactHouse$Follow" "origins" "I") ∈ lw_all := lw_g (lw_at lw_m2 49 rfl) rfl
theorem q480 : (Jvm.Cond.fieldLink "FactHouse" (313 : Nat) "FactHouse$Follow" "runs" "[J") ∈ lw_all := lw_g (lw_at lw_m2 51 rfl) rfl
theorem q482 : (Jvm.Cond.fieldLink "FactHouse" (281 : Nat) "FactHouse$Follow" "live" "[I") ∈ lw_all := lw_g (lw_at lw_m2 53 rfl) rfl
theorem q484 : (Jvm.Cond.fieldLink "FactHouse" (284 : Nat) "FactHouse$Follow" "idle" "[I") ∈ lw_all := lw_g (lw_at lw_m2 55 rfl) rfl
theorem q486 : (Jvm.Cond.fieldLink "FactHouse" (301 : Nat) "FactHouse$Follow" "behind" "[I") ∈ lw_all := lw_g (lw_at lw_m2 57 rfl) rfl
theorem q490 : (Jvm.Cond.fieldLink "FactHouse" (167 : Nat) "FactHouse$Follow" "changed" "J") ∈ lw_all := lw_g (lw_at lw_m2 61 rfl) rfl
theorem q492 : (Jvm.Cond.fieldLink "FactHouse" (171 : Nat) "FactHouse$Follow" "touched" "J") ∈ lw_all := lw_g (lw_at lw_m2 63 rfl) rfl
theorem q497 : (Jvm.Cond.fieldLink "FactHouse" (304 : Nat) "FactHouse$Follow" "raceP" "I") ∈ lw_all := lw_g (lw_at lw_m2 68 rfl) rfl
theorem q499 : (Jvm.Cond.fieldLink "FactHouse" (307 : Nat) "FactHouse$Follow" "raceQ" "I") ∈ lw_all := lw_g (lw_at lw_m2 70 rfl) rfl
theorem q535 : (Jvm.Cond.classLink "FactHouse" (36 : Nat) "FactHouse$Machine") ∈ lw_all := lw_g (lw_at lw_m2 106 rfl) rfl
theorem q537 : (Jvm.Cond.methodLinkNest "FactHouse" (38 : Nat) ({ cls := "FactHouse$Machine", name := "<init>", desc := "()V" } : Jvm.MethodName) "FactHouse") ∈ lw_tbl := lw_at lw_m2 108 rfl
theorem q568 : (Jvm.Cond.fieldLinkNest "FactHouse" (337 : Nat) "FactHouse$Machine" "sinks" "[I" "FactHouse") ∈ lw_tbl := lw_at lw_m2 139 rfl
theorem q570 : (Jvm.Cond.fieldLinkNest "FactHouse" (339 : Nat) "FactHouse$Machine" "numbers" "[I" "FactHouse") ∈ lw_tbl := lw_at lw_m2 141 rfl
theorem q572 : (Jvm.Cond.fieldLinkNest "FactHouse" (329 : Nat) "FactHouse$Machine" "outputs" "I" "FactHouse") ∈ lw_tbl := lw_at lw_m2 143 rfl
theorem q575 : (Jvm.Cond.fieldLinkNest "FactHouse" (124 : Nat) "FactHouse$Machine" "inputCount" "I" "FactHouse") ∈ lw_tbl := lw_at lw_m2 146 rfl
theorem q577 : (Jvm.Cond.fieldLink "FactHouse" (342 : Nat) "FactHouse$Machine" "met" "[J") ∈ lw_all := lw_g (lw_at lw_m2 148 rfl) rfl
theorem q648 : (Jvm.Cond.constant "FactHouse" (47 : Nat) (65540 : Int32)) ∈ lw_all := lw_g (lw_at lw_m2 219 rfl) rfl
theorem q649 : (Jvm.Cond.fieldLink "FactHouse" (18 : Nat) "FactHouse" "tape" "[B") ∈ lw_all := lw_g (lw_at lw_m2 220 rfl) rfl
theorem q650 : (Jvm.Cond.fieldLink "FactHouse" (62 : Nat) "FactHouse" "tapeSize" "I") ∈ lw_all := lw_g (lw_at lw_m2 221 rfl) rfl
theorem q651 : (Jvm.Cond.fieldLink "FactHouse" (83 : Nat) "FactHouse" "program" "LFactHouse$Program;") ∈ lw_all := lw_g (lw_at lw_m2 222 rfl) rfl
theorem q652 : (Jvm.Cond.fieldLink "FactHouse" (87 : Nat) "FactHouse" "former" "LFactHouse$Program;") ∈ lw_all := lw_g (lw_at lw_m2 223 rfl) rfl
theorem q653 : (Jvm.Cond.fieldLink "FactHouse" (25 : Nat) "FactHouse" "facts" "LFactHouse$Facts;") ∈ lw_all := lw_g (lw_at lw_m2 224 rfl) rfl
theorem q654 : (Jvm.Cond.fieldLink "FactHouse" (32 : Nat) "FactHouse" "follow" "LFactHouse$Follow;") ∈ lw_all := lw_g (lw_at lw_m2 225 rfl) rfl
theorem q655 : (Jvm.Cond.fieldLink "FactHouse" (39 : Nat) "FactHouse" "machine" "LFactHouse$Machine;") ∈ lw_all := lw_g (lw_at lw_m2 226 rfl) rfl
theorem q656 : (Jvm.Cond.fieldLink "FactHouse" (43 : Nat) "FactHouse" "isOld" "Z") ∈ lw_all := lw_g (lw_at lw_m2 227 rfl) rfl
theorem q657 : (Jvm.Cond.fieldLink "FactHouse" (48 : Nat) "FactHouse" "is16" "[Z") ∈ lw_all := lw_g (lw_at lw_m2 228 rfl) rfl
theorem q658 : (Jvm.Cond.laysFinal "FactHouse" "FactHouse" "tape" "[B") ∈ lw_all := lw_g (lw_at lw_m2 229 rfl) rfl
theorem q659 : (Jvm.Cond.soleField "FactHouse" "tape") ∈ lw_all := lw_g (lw_at lw_m2 230 rfl) rfl
theorem q660 : (Jvm.Cond.lays "FactHouse" "FactHouse" "tapeSize" "I") ∈ lw_all := lw_g (lw_at lw_m2 231 rfl) rfl
theorem q661 : (Jvm.Cond.soleField "FactHouse" "tapeSize") ∈ lw_all := lw_g (lw_at lw_m2 232 rfl) rfl
theorem q662 : (Jvm.Cond.lays "FactHouse" "FactHouse" "program" "LFactHouse$Program;") ∈ lw_all := lw_g (lw_at lw_m2 233 rfl) rfl
theorem q663 : (Jvm.Cond.soleField "FactHouse" "program") ∈ lw_all := lw_g (lw_at lw_m2 234 rfl) rfl
theorem q664 : (Jvm.Cond.lays "FactHouse" "FactHouse" "former" "LFactHouse$Program;") ∈ lw_all := lw_g (lw_at lw_m2 235 rfl) rfl
theorem q665 : (Jvm.Cond.soleField "FactHouse" "former") ∈ lw_all := lw_g (lw_at lw_m2 236 rfl) rfl
theorem q666 : (Jvm.Cond.laysFinal "FactHouse" "FactHouse" "facts" "LFactHouse$Facts;") ∈ lw_all := lw_g (lw_at lw_m2 237 rfl) rfl
theorem q667 : (Jvm.Cond.soleField "FactHouse" "facts") ∈ lw_all := lw_g (lw_at lw_m2 238 rfl) rfl
theorem q668 : (Jvm.Cond.laysFinal "FactHouse" "FactHouse" "follow" "LFactHouse$Follow;") ∈ lw_all := lw_g (lw_at lw_m2 239 rfl) rfl
theorem q669 : (Jvm.Cond.soleField "FactHouse" "follow") ∈ lw_all := lw_g (lw_at lw_m3 0 rfl) rfl
theorem q670 : (Jvm.Cond.laysFinal "FactHouse" "FactHouse" "machine" "LFactHouse$Machine;") ∈ lw_all := lw_g (lw_at lw_m3 1 rfl) rfl
theorem q671 : (Jvm.Cond.soleField "FactHouse" "machine") ∈ lw_all := lw_g (lw_at lw_m3 2 rfl) rfl
theorem q672 : (Jvm.Cond.lays "FactHouse" "FactHouse" "isOld" "Z") ∈ lw_all := lw_g (lw_at lw_m3 3 rfl) rfl
theorem q673 : (Jvm.Cond.soleField "FactHouse" "isOld") ∈ lw_all := lw_g (lw_at lw_m3 4 rfl) rfl
theorem q674 : (Jvm.Cond.laysFinal "FactHouse" "FactHouse" "is16" "[Z") ∈ lw_all := lw_g (lw_at lw_m3 5 rfl) rfl
theorem q675 : (Jvm.Cond.soleField "FactHouse" "is16") ∈ lw_all := lw_g (lw_at lw_m3 6 rfl) rfl
theorem q676 : (Jvm.Cond.superclass "FactHouse" "java/lang/Object") ∈ lw_all := lw_g (lw_at lw_m3 7 rfl) rfl
theorem q678 : (Jvm.Cond.instanceMethod ({ cls := "FactHouse", name := "file", desc := "()I" } : Jvm.MethodName)) ∈ lw_all := lw_g (lw_at lw_m3 9 rfl) rfl
theorem q679 : (Jvm.Cond.selects "FactHouse" ({ cls := "FactHouse", name := "file", desc := "()I" } : Jvm.MethodName) ({ cls := "FactHouse", name := "file", desc := "()I" } : Jvm.MethodName)) ∈ lw_all := lw_g (lw_at lw_m3 10 rfl) rfl
theorem q680 : (Jvm.Cond.codeWith ({ cls := "FactHouse", name := "file", desc := "()I" } : Jvm.MethodName) prog_1_method_7_code (4 : Nat) (Option.some Jvm.ClassFile.FieldType.int) [((10 : Nat), (30 : Nat), (33 : Nat), (78 : Nat))]) ∈ lw_all := lw_g (lw_at lw_m3 11 rfl) rfl
theorem q681 : (Jvm.Cond.classLink "FactHouse" (78 : Nat) "FactHouse$Wrong") ∈ lw_all := lw_g (lw_at lw_m3 12 rfl) rfl
theorem q682 : (Jvm.Cond.classLink "FactHouse" (69 : Nat) "FactHouse$Reader") ∈ lw_all := lw_g (lw_at lw_m3 13 rfl) rfl
theorem q684 : (Jvm.Cond.methodLink "FactHouse" (71 : Nat) ({ cls := "FactHouse$Reader", name := "<init>", desc := "([BI[Z)V" } : Jvm.MethodName)) ∈ lw_all := lw_g (lw_at lw_m3 15 rfl) rfl
theorem q699 : (Jvm.Cond.fieldLink "FactHouse" (129 : Nat) "FactHouse$Program" "classes" "I") ∈ lw_all := lw_g (lw_at lw_m3 30 rfl) rfl
theorem q707 : (Jvm.Cond.fieldLink "FactHouse" (258 : Nat) "FactHouse$Program" "fields" "[[I") ∈ lw_all := lw_g (lw_at lw_m3 38 rfl) rfl
theorem q711 : (Jvm.Cond.fieldLink "FactHouse" (270 : Nat) "FactHouse$Program" "statics" "[I") ∈ lw_all := lw_g (lw_at lw_m3 42 rfl) rfl
theorem q715 : (Jvm.Cond.fieldLink "FactHouse" (93 : Nat) "FactHouse$Program" "methods" "[LFactHouse$Method;") ∈ lw_all := lw_g (lw_at lw_m3 46 rfl) rfl
theorem q722 : (Jvm.Cond.fieldLink "FactHouse" (139 : Nat) "FactHouse$Program" "places" "I") ∈ lw_all := lw_g (lw_at lw_m3 53 rfl) rfl
theorem q725 : (Jvm.Cond.fieldLink "FactHouse" (132 : Nat) "FactHouse$Program" "sites" "I") ∈ lw_all := lw_g (lw_at lw_m3 56 rfl) rfl
theorem q730 : (Jvm.Cond.fieldLink "FactHouse" (177 : Nat) "FactHouse$Program" "siteClass" "[I") ∈ lw_all := lw_g (lw_at lw_m3 61 rfl) rfl
theorem q738 : (Jvm.Cond.fieldLink "FactHouse" (310 : Nat) "FactHouse$Program" "methodOf" "[I") ∈ lw_all := lw_g (lw_at lw_m3 69 rfl) rfl
theorem q740 : (Jvm.Cond.fieldLink "FactHouse" (135 : Nat) "FactHouse$Program" "marks" "[I") ∈ lw_all := lw_g (lw_at lw_m3 71 rfl) rfl
theorem q745 : (Jvm.Cond.fieldLink "FactHouse" (111 : Nat) "FactHouse$Program" "roots" "[Z") ∈ lw_all := lw_g (lw_at lw_m3 76 rfl) rfl
theorem q746 : (Jvm.Cond.fieldLink "FactHouse" (114 : Nat) "FactHouse$Program" "rootCount" "I") ∈ lw_all := lw_g (lw_at lw_m3 77 rfl) rfl
theorem q800 : (Jvm.Cond.methodLink "FactHouse" (74 : Nat) ({ cls := "FactHouse$Reader", name := "read", desc := "()LFactHouse$Program;" } : Jvm.MethodName)) ∈ lw_all := lw_g (lw_at lw_m3 131 rfl) rfl
theorem q809 : (Jvm.Cond.static ({ cls := "FactHouse", name := "isIn", desc := "(JJJ)Z" } : Jvm.MethodName)) ∈ lw_all := lw_g (lw_at lw_m3 140 rfl) rfl
theorem q810 : (Jvm.Cond.code ({ cls := "FactHouse", name := "isIn", desc := "(JJJ)Z" } : Jvm.MethodName) prog_1_method_4_code (6 : Nat) (Option.some Jvm.ClassFile.FieldType.boolean)) ∈ lw_all := lw_g (lw_at lw_m3 141 rfl) rfl
theorem q871 : (Jvm.Cond.fieldLink "FactHouse" (80 : Nat) "FactHouse$Wrong" "place" "I") ∈ lw_all := lw_g (lw_at lw_m3 202 rfl) rfl
theorem q906 : (Jvm.Cond.fieldLink "FactHouse" (106 : Nat) "FactHouse$Method" "cls" "I") ∈ lw_all := lw_g (lw_at lw_m3 237 rfl) rfl
theorem q911 : (Jvm.Cond.fieldLink "FactHouse" (144 : Nat) "FactHouse$Method" "name" "I") ∈ lw_all := lw_g (lw_at lw_m4 2 rfl) rfl
theorem q917 : (Jvm.Cond.fieldLink "FactHouse" (147 : Nat) "FactHouse$Method" "args" "I") ∈ lw_all := lw_g (lw_at lw_m4 8 rfl) rfl
theorem q921 : (Jvm.Cond.fieldLink "FactHouse" (150 : Nat) "FactHouse$Method" "gives" "I") ∈ lw_all := lw_g (lw_at lw_m4 12 rfl) rfl
theorem q929 : (Jvm.Cond.fieldLink "FactHouse" (153 : Nat) "FactHouse$Method" "kinds" "[I") ∈ lw_all := lw_g (lw_at lw_m4 20 rfl) rfl
theorem q958 : (Jvm.Cond.fieldLink "FactHouse" (160 : Nat) "FactHouse$Method" "handlers" "[LFactHouse$Handler;") ∈ lw_all := lw_g (lw_at lw_m4 49 rfl) rfl
theorem q964 : (Jvm.Cond.fieldLink "FactHouse" (180 : Nat) "FactHouse$Method" "first" "I") ∈ lw_all := lw_g (lw_at lw_m4 55 rfl) rfl
theorem q972 : (Jvm.Cond.fieldLink "FactHouse" (187 : Nat) "FactHouse$Method" "depths" "[I") ∈ lw_all := lw_g (lw_at lw_m4 63 rfl) rfl
theorem q1166 : (Jvm.Cond.methodLink "FactHouse" (90 : Nat) ({ cls := "FactHouse$Machine", name := "forget", desc := "()V" } : Jvm.MethodName)) ∈ lw_all := lw_g (lw_at lw_m5 17 rfl) rfl
theorem q1171 : (Jvm.Cond.instanceMethod ({ cls := "FactHouse", name := "told", desc := "(I)I" } : Jvm.MethodName)) ∈ lw_all := lw_g (lw_at lw_m5 22 rfl) rfl
theorem q1172 : (Jvm.Cond.selects "FactHouse" ({ cls := "FactHouse", name := "told", desc := "(I)I" } : Jvm.MethodName) ({ cls := "FactHouse", name := "told", desc := "(I)I" } : Jvm.MethodName)) ∈ lw_all := lw_g (lw_at lw_m5 23 rfl) rfl
theorem q1173 : (Jvm.Cond.code ({ cls := "FactHouse", name := "told", desc := "(I)I" } : Jvm.MethodName) prog_1_method_11_code (2 : Nat) (Option.some Jvm.ClassFile.FieldType.int)) ∈ lw_all := lw_g (lw_at lw_m5 24 rfl) rfl
theorem q1174 : (Jvm.Cond.constantLong "FactHouse" (127 : Nat) (7 : Int64)) ∈ lw_all := lw_g (lw_at lw_m5 25 rfl) rfl
theorem q1175 : (Jvm.Cond.methodLink "FactHouse" (54 : Nat) ({ cls := "FactHouse", name := "isIn", desc := "(JJJ)Z" } : Jvm.MethodName)) ∈ lw_all := lw_g (lw_at lw_m5 26 rfl) rfl
theorem q1182 : (Jvm.Cond.instanceMethod ({ cls := "FactHouse", name := "type", desc := "(JI)I" } : Jvm.MethodName)) ∈ lw_all := lw_g (lw_at lw_m5 33 rfl) rfl
theorem q1183 : (Jvm.Cond.selects "FactHouse" ({ cls := "FactHouse", name := "type", desc := "(JI)I" } : Jvm.MethodName) ({ cls := "FactHouse", name := "type", desc := "(JI)I" } : Jvm.MethodName)) ∈ lw_all := lw_g (lw_at lw_m5 34 rfl) rfl
theorem q1184 : (Jvm.Cond.code ({ cls := "FactHouse", name := "type", desc := "(JI)I" } : Jvm.MethodName) prog_1_method_6_code (5 : Nat) (Option.some Jvm.ClassFile.FieldType.int)) ∈ lw_all := lw_g (lw_at lw_m5 35 rfl) rfl
theorem q1185 : (Jvm.Cond.constantLong "FactHouse" (52 : Nat) (8 : Int64)) ∈ lw_all := lw_g (lw_at lw_m5 36 rfl) rfl
theorem q1186 : (Jvm.Cond.methodLink "FactHouse" (58 : Nat) ({ cls := "FactHouse", name := "want", desc := "(Z)V" } : Jvm.MethodName)) ∈ lw_all := lw_g (lw_at lw_m5 37 rfl) rfl
theorem q1187 : (Jvm.Cond.static ({ cls := "FactHouse", name := "want", desc := "(Z)V" } : Jvm.MethodName)) ∈ lw_all := lw_g (lw_at lw_m5 38 rfl) rfl
theorem q1188 : (Jvm.Cond.code ({ cls := "FactHouse", name := "want", desc := "(Z)V" } : Jvm.MethodName) prog_1_method_2_code (1 : Nat) (Option.none : Option Jvm.ClassFile.FieldType)) ∈ lw_all := lw_g (lw_at lw_m5 39 rfl) rfl
theorem q1189 : (Jvm.Cond.classLink "FactHouse" (9 : Nat) "java/lang/IllegalArgumentException") ∈ lw_all := lw_g (lw_at lw_m5 40 rfl) rfl
theorem q1198 : (Jvm.Cond.methodLink "FactHouse" (11 : Nat) ({ cls := "java/lang/IllegalArgumentException", name := "<init>", desc := "()V" } : Jvm.MethodName)) ∈ lw_all := lw_g (lw_at lw_m5 49 rfl) rfl
theorem q1210 : (Jvm.Cond.methodLink "FactHouse" (66 : Nat) ({ cls := "FactHouse", name := "must", desc := "(Z)V" } : Jvm.MethodName)) ∈ lw_all := lw_g (lw_at lw_m5 61 rfl) rfl
theorem q1211 : (Jvm.Cond.static ({ cls := "FactHouse", name := "must", desc := "(Z)V" } : Jvm.MethodName)) ∈ lw_all := lw_g (lw_at lw_m5 62 rfl) rfl
theorem q1212 : (Jvm.Cond.code ({ cls := "FactHouse", name := "must", desc := "(Z)V" } : Jvm.MethodName) prog_1_method_3_code (1 : Nat) (Option.none : Option Jvm.ClassFile.FieldType)) ∈ lw_all := lw_g (lw_at lw_m5 63 rfl) rfl
theorem q1213 : (Jvm.Cond.classLink "FactHouse" (12 : Nat) "java/lang/IllegalStateException") ∈ lw_all := lw_g (lw_at lw_m5 64 rfl) rfl
theorem q1222 : (Jvm.Cond.methodLink "FactHouse" (14 : Nat) ({ cls := "java/lang/IllegalStateException", name := "<init>", desc := "()V" } : Jvm.MethodName)) ∈ lw_all := lw_g (lw_at lw_m5 73 rfl) rfl
theorem q1264 : (Jvm.Cond.instanceMethod ({ cls := "FactHouse", name := "root", desc := "(I)I" } : Jvm.MethodName)) ∈ lw_all := lw_g (lw_at lw_m5 115 rfl) rfl
theorem q1265 : (Jvm.Cond.selects "FactHouse" ({ cls := "FactHouse", name := "root", desc := "(I)I" } : Jvm.MethodName) ({ cls := "FactHouse", name := "root", desc := "(I)I" } : Jvm.MethodName)) ∈ lw_all := lw_g (lw_at lw_m5 116 rfl) rfl
theorem q1266 : (Jvm.Cond.code ({ cls := "FactHouse", name := "root", desc := "(I)I" } : Jvm.MethodName) prog_1_method_9_code (2 : Nat) (Option.some Jvm.ClassFile.FieldType.int)) ∈ lw_all := lw_g (lw_at lw_m5 117 rfl) rfl
theorem q1267 : (Jvm.Cond.methodLink "FactHouse" (99 : Nat) ({ cls := "FactHouse", name := "hasMethod", desc := "(I)Z" } : Jvm.MethodName)) ∈ lw_all := lw_g (lw_at lw_m5 118 rfl) rfl
theorem q1268 : (Jvm.Cond.privateMethod ({ cls := "FactHouse", name := "hasMethod", desc := "(I)Z" } : Jvm.MethodName)) ∈ lw_tbl := lw_at lw_m5 119 rfl
theorem q1269 : (Jvm.Cond.instanceMethod ({ cls := "FactHouse", name := "hasMethod", desc := "(I)Z" } : Jvm.MethodName)) ∈ lw_all := lw_g (lw_at lw_m5 120 rfl) rfl
theorem q1270 : (Jvm.Cond.code ({ cls := "FactHouse", name := "hasMethod", desc := "(I)Z" } : Jvm.MethodName) prog_1_method_8_code (2 : Nat) (Option.some Jvm.ClassFile.FieldType.boolean)) ∈ lw_all := lw_g (lw_at lw_m5 121 rfl) rfl
theorem q1271 : (Jvm.Cond.methodLink "FactHouse" (103 : Nat) ({ cls := "FactHouse", name := "index", desc := "(Z)V" } : Jvm.MethodName)) ∈ lw_all := lw_g (lw_at lw_m5 122 rfl) rfl
theorem q1272 : (Jvm.Cond.static ({ cls := "FactHouse", name := "index", desc := "(Z)V" } : Jvm.MethodName)) ∈ lw_all := lw_g (lw_at lw_m5 123 rfl) rfl
theorem q1273 : (Jvm.Cond.code ({ cls := "FactHouse", name := "index", desc := "(Z)V" } : Jvm.MethodName) prog_1_method_1_code (1 : Nat) (Option.none : Option Jvm.ClassFile.FieldType)) ∈ lw_all := lw_g (lw_at lw_m5 124 rfl) rfl
theorem q1274 : (Jvm.Cond.classLink "FactHouse" (3 : Nat) "java/lang/IndexOutOfBoundsException") ∈ lw_all := lw_g (lw_at lw_m5 125 rfl) rfl
theorem q1283 : (Jvm.Cond.methodLink "FactHouse" (5 : Nat) ({ cls := "java/lang/IndexOutOfBoundsException", name := "<init>", desc := "()V" } : Jvm.MethodName)) ∈ lw_all := lw_g (lw_at lw_m5 134 rfl) rfl
theorem q1293 : (Jvm.Cond.instanceMethod ({ cls := "FactHouse", name := "method", desc := "(II)I" } : Jvm.MethodName)) ∈ lw_all := lw_g (lw_at lw_m5 144 rfl) rfl
theorem q1294 : (Jvm.Cond.selects "FactHouse" ({ cls := "FactHouse", name := "method", desc := "(II)I" } : Jvm.MethodName) ({ cls := "FactHouse", name := "method", desc := "(II)I" } : Jvm.MethodName)) ∈ lw_all := lw_g (lw_at lw_m5 145 rfl) rfl
theorem q1295 : (Jvm.Cond.code ({ cls := "FactHouse", name := "method", desc := "(II)I" } : Jvm.MethodName) prog_1_method_12_code (4 : Nat) (Option.some Jvm.ClassFile.FieldType.int)) ∈ lw_all := lw_g (lw_at lw_m5 146 rfl) rfl
theorem q1296 : (Jvm.Cond.constantLong "FactHouse" (142 : Nat) (9 : Int64)) ∈ lw_all := lw_g (lw_at lw_m5 147 rfl) rfl
theorem q1297 : (Jvm.Cond.methodLink "FactHouse" (156 : Nat) ({ cls := "FactHouse$Method", name := "size", desc := "()I" } : Jvm.MethodName)) ∈ lw_all := lw_g (lw_at lw_m5 148 rfl) rfl
theorem q1298 : (Jvm.Cond.methodLink "FactHouse" (164 : Nat) ({ cls := "FactHouse", name := "know", desc := "()V" } : Jvm.MethodName)) ∈ lw_all := lw_g (lw_at lw_m5 149 rfl) rfl
theorem q1299 : (Jvm.Cond.privateMethod ({ cls := "FactHouse", name := "know", desc := "()V" } : Jvm.MethodName)) ∈ lw_tbl := lw_at lw_m5 150 rfl
theorem q1300 : (Jvm.Cond.instanceMethod ({ cls := "FactHouse", name := "know", desc := "()V" } : Jvm.MethodName)) ∈ lw_all := lw_g (lw_at lw_m5 151 rfl) rfl
theorem q1301 : (Jvm.Cond.code ({ cls := "FactHouse", name := "know", desc := "()V" } : Jvm.MethodName) prog_1_method_10_code (1 : Nat) (Option.none : Option Jvm.ClassFile.FieldType)) ∈ lw_all := lw_g (lw_at lw_m5 152 rfl) rfl
theorem q1302 : (Jvm.Cond.methodLink "FactHouse" (117 : Nat) ({ cls := "FactHouse$Facts", name := "find", desc := "(LFactHouse$Program;)V" } : Jvm.MethodName)) ∈ lw_all := lw_g (lw_at lw_m5 153 rfl) rfl
theorem q1592 : (Jvm.Cond.methodLink "FactHouse" (121 : Nat) ({ cls := "FactHouse$Follow", name := "find", desc := "(LFactHouse$Program;LFactHouse$Facts;LFactHouse$Program;)V" } : Jvm.MethodName)) ∈ lw_all := lw_g (lw_at lw_m6 203 rfl) rfl
theorem q1661 : (Jvm.Cond.instanceMethod ({ cls := "FactHouse", name := "classOf", desc := "(I)I" } : Jvm.MethodName)) ∈ lw_all := lw_g (lw_at lw_m7 32 rfl) rfl
theorem q1662 : (Jvm.Cond.selects "FactHouse" ({ cls := "FactHouse", name := "classOf", desc := "(I)I" } : Jvm.MethodName) ({ cls := "FactHouse", name := "classOf", desc := "(I)I" } : Jvm.MethodName)) ∈ lw_all := lw_g (lw_at lw_m7 33 rfl) rfl
theorem q1663 : (Jvm.Cond.code ({ cls := "FactHouse", name := "classOf", desc := "(I)I" } : Jvm.MethodName) prog_1_method_14_code (2 : Nat) (Option.some Jvm.ClassFile.FieldType.int)) ∈ lw_all := lw_g (lw_at lw_m7 34 rfl) rfl
theorem q1664 : (Jvm.Cond.methodLink "FactHouse" (174 : Nat) ({ cls := "FactHouse", name := "isSite", desc := "(I)Z" } : Jvm.MethodName)) ∈ lw_all := lw_g (lw_at lw_m7 35 rfl) rfl
theorem q1665 : (Jvm.Cond.privateMethod ({ cls := "FactHouse", name := "isSite", desc := "(I)Z" } : Jvm.MethodName)) ∈ lw_tbl := lw_at lw_m7 36 rfl
theorem q1666 : (Jvm.Cond.instanceMethod ({ cls := "FactHouse", name := "isSite", desc := "(I)Z" } : Jvm.MethodName)) ∈ lw_all := lw_g (lw_at lw_m7 37 rfl) rfl
theorem q1667 : (Jvm.Cond.code ({ cls := "FactHouse", name := "isSite", desc := "(I)Z" } : Jvm.MethodName) prog_1_method_13_code (2 : Nat) (Option.some Jvm.ClassFile.FieldType.boolean)) ∈ lw_all := lw_g (lw_at lw_m7 38 rfl) rfl
theorem q1672 : (Jvm.Cond.instanceMethod ({ cls := "FactHouse", name := "depth", desc := "(II)I" } : Jvm.MethodName)) ∈ lw_all := lw_g (lw_at lw_m7 43 rfl) rfl
theorem q1673 : (Jvm.Cond.selects "FactHouse" ({ cls := "FactHouse", name := "depth", desc := "(II)I" } : Jvm.MethodName) ({ cls := "FactHouse", name := "depth", desc := "(II)I" } : Jvm.MethodName)) ∈ lw_all := lw_g (lw_at lw_m7 44 rfl) rfl
theorem q1674 : (Jvm.Cond.code ({ cls := "FactHouse", name := "depth", desc := "(II)I" } : Jvm.MethodName) prog_1_method_16_code (4 : Nat) (Option.some Jvm.ClassFile.FieldType.int)) ∈ lw_all := lw_g (lw_at lw_m7 45 rfl) rfl
theorem q1675 : (Jvm.Cond.methodLink "FactHouse" (183 : Nat) ({ cls := "FactHouse", name := "placeOf", desc := "(II)I" } : Jvm.MethodName)) ∈ lw_all := lw_g (lw_at lw_m7 46 rfl) rfl
theorem q1676 : (Jvm.Cond.privateMethod ({ cls := "FactHouse", name := "placeOf", desc := "(II)I" } : Jvm.MethodName)) ∈ lw_tbl := lw_at lw_m7 47 rfl
theorem q1677 : (Jvm.Cond.instanceMethod ({ cls := "FactHouse", name := "placeOf", desc := "(II)I" } : Jvm.MethodName)) ∈ lw_all := lw_g (lw_at lw_m7 48 rfl) rfl
theorem q1678 : (Jvm.Cond.code ({ cls := "FactHouse", name := "placeOf", desc := "(II)I" } : Jvm.MethodName) prog_1_method_15_code (3 : Nat) (Option.some Jvm.ClassFile.FieldType.int)) ∈ lw_all := lw_g (lw_at lw_m7 49 rfl) rfl
theorem q1683 : (Jvm.Cond.instanceMethod ({ cls := "FactHouse", name := "reach", desc := "(II)Z" } : Jvm.MethodName)) ∈ lw_all := lw_g (lw_at lw_m7 54 rfl) rfl
theorem q1684 : (Jvm.Cond.selects "FactHouse" ({ cls := "FactHouse", name := "reach", desc := "(II)Z" } : Jvm.MethodName) ({ cls := "FactHouse", name := "reach", desc := "(II)Z" } : Jvm.MethodName)) ∈ lw_all := lw_g (lw_at lw_m7 55 rfl) rfl
theorem q1685 : (Jvm.Cond.code ({ cls := "FactHouse", name := "reach", desc := "(II)Z" } : Jvm.MethodName) prog_1_method_17_code (3 : Nat) (Option.some Jvm.ClassFile.FieldType.boolean)) ∈ lw_all := lw_g (lw_at lw_m7 56 rfl) rfl
theorem q1690 : (Jvm.Cond.instanceMethod ({ cls := "FactHouse", name := "value", desc := "(IIII)J" } : Jvm.MethodName)) ∈ lw_all := lw_g (lw_at lw_m7 61 rfl) rfl
theorem q1691 : (Jvm.Cond.selects "FactHouse" ({ cls := "FactHouse", name := "value", desc := "(IIII)J" } : Jvm.MethodName) ({ cls := "FactHouse", name := "value", desc := "(IIII)J" } : Jvm.MethodName)) ∈ lw_all := lw_g (lw_at lw_m7 62 rfl) rfl
theorem q1692 : (Jvm.Cond.code ({ cls := "FactHouse", name := "value", desc := "(IIII)J" } : Jvm.MethodName) prog_1_method_19_code (7 : Nat) (Option.some Jvm.ClassFile.FieldType.long)) ∈ lw_all := lw_g (lw_at lw_m7 63 rfl) rfl
theorem q1693 : (Jvm.Cond.constantLong "FactHouse" (212 : Nat) (3 : Int64)) ∈ lw_all := lw_g (lw_at lw_m7 64 rfl) rfl
theorem q1694 : (Jvm.Cond.methodLink "FactHouse" (218 : Nat) ({ cls := "FactHouse", name := "about", desc := "(LFactHouse$Fact;I)J" } : Jvm.MethodName)) ∈ lw_all := lw_g (lw_at lw_m7 65 rfl) rfl
theorem q1695 : (Jvm.Cond.static ({ cls := "FactHouse", name := "about", desc := "(LFactHouse$Fact;I)J" } : Jvm.MethodName)) ∈ lw_all := lw_g (lw_at lw_m7 66 rfl) rfl
theorem q1696 : (Jvm.Cond.code ({ cls := "FactHouse", name := "about", desc := "(LFactHouse$Fact;I)J" } : Jvm.MethodName) prog_1_method_18_code (2 : Nat) (Option.some Jvm.ClassFile.FieldType.long)) ∈ lw_all := lw_g (lw_at lw_m7 67 rfl) rfl
theorem q1701 : (Jvm.Cond.instanceMethod ({ cls := "FactHouse", name := "locks", desc := "(III)I" } : Jvm.MethodName)) ∈ lw_all := lw_g (lw_at lw_m7 72 rfl) rfl
theorem q1702 : (Jvm.Cond.selects "FactHouse" ({ cls := "FactHouse", name := "locks", desc := "(III)I" } : Jvm.MethodName) ({ cls := "FactHouse", name := "locks", desc := "(III)I" } : Jvm.MethodName)) ∈ lw_all := lw_g (lw_at lw_m7 73 rfl) rfl
theorem q1703 : (Jvm.Cond.code ({ cls := "FactHouse", name := "locks", desc := "(III)I" } : Jvm.MethodName) prog_1_method_20_code (5 : Nat) (Option.some Jvm.ClassFile.FieldType.int)) ∈ lw_all := lw_g (lw_at lw_m7 74 rfl) rfl
theorem q1708 : (Jvm.Cond.instanceMethod ({ cls := "FactHouse", name := "throwsAt", desc := "(II)J" } : Jvm.MethodName)) ∈ lw_all := lw_g (lw_at lw_m7 79 rfl) rfl
theorem q1709 : (Jvm.Cond.selects "FactHouse" ({ cls := "FactHouse", name := "throwsAt", desc := "(II)J" } : Jvm.MethodName) ({ cls := "FactHouse", name := "throwsAt", desc := "(II)J" } : Jvm.MethodName)) ∈ lw_all := lw_g (lw_at lw_m7 80 rfl) rfl
theorem q1710 : (Jvm.Cond.code ({ cls := "FactHouse", name := "throwsAt", desc := "(II)J" } : Jvm.MethodName) prog_1_method_21_code (3 : Nat) (Option.some Jvm.ClassFile.FieldType.long)) ∈ lw_all := lw_g (lw_at lw_m7 81 rfl) rfl
theorem q1715 : (Jvm.Cond.instanceMethod ({ cls := "FactHouse", name := "calls", desc := "(II)J" } : Jvm.MethodName)) ∈ lw_all := lw_g (lw_at lw_m7 86 rfl) rfl
theorem q1716 : (Jvm.Cond.selects "FactHouse" ({ cls := "FactHouse", name := "calls", desc := "(II)J" } : Jvm.MethodName) ({ cls := "FactHouse", name := "calls", desc := "(II)J" } : Jvm.MethodName)) ∈ lw_all := lw_g (lw_at lw_m7 87 rfl) rfl
theorem q1717 : (Jvm.Cond.code ({ cls := "FactHouse", name := "calls", desc := "(II)J" } : Jvm.MethodName) prog_1_method_22_code (3 : Nat) (Option.some Jvm.ClassFile.FieldType.long)) ∈ lw_all := lw_g (lw_at lw_m7 88 rfl) rfl
theorem q1722 : (Jvm.Cond.instanceMethod ({ cls := "FactHouse", name := "outcome", desc := "(II)J" } : Jvm.MethodName)) ∈ lw_all := lw_g (lw_at lw_m7 93 rfl) rfl
theorem q1723 : (Jvm.Cond.selects "FactHouse" ({ cls := "FactHouse", name := "outcome", desc := "(II)J" } : Jvm.MethodName) ({ cls := "FactHouse", name := "outcome", desc := "(II)J" } : Jvm.MethodName)) ∈ lw_all := lw_g (lw_at lw_m7 94 rfl) rfl
theorem q1724 : (Jvm.Cond.code ({ cls := "FactHouse", name := "outcome", desc := "(II)J" } : Jvm.MethodName) prog_1_method_23_code (4 : Nat) (Option.some Jvm.ClassFile.FieldType.long)) ∈ lw_all := lw_g (lw_at lw_m7 95 rfl) rfl
theorem q1725 : (Jvm.Cond.constantLong "FactHouse" (235 : Nat) (6 : Int64)) ∈ lw_all := lw_g (lw_at lw_m7 96 rfl) rfl
theorem q1730 : (Jvm.Cond.instanceMethod ({ cls := "FactHouse", name := "held", desc := "(III)J" } : Jvm.MethodName)) ∈ lw_all := lw_g (lw_at lw_m7 101 rfl) rfl
theorem q1731 : (Jvm.Cond.selects "FactHouse" ({ cls := "FactHouse", name := "held", desc := "(III)J" } : Jvm.MethodName) ({ cls := "FactHouse", name := "held", desc := "(III)J" } : Jvm.MethodName)) ∈ lw_all := lw_g (lw_at lw_m7 102 rfl) rfl
theorem q1732 : (Jvm.Cond.code ({ cls := "FactHouse", name := "held", desc := "(III)J" } : Jvm.MethodName) prog_1_method_24_code (5 : Nat) (Option.some Jvm.ClassFile.FieldType.long)) ∈ lw_all := lw_g (lw_at lw_m7 103 rfl) rfl
theorem q1733 : (Jvm.Cond.constantLong "FactHouse" (256 : Nat) (5 : Int64)) ∈ lw_all := lw_g (lw_at lw_m7 104 rfl) rfl
theorem q1734 : (Jvm.Cond.methodLink "FactHouse" (262 : Nat) ({ cls := "FactHouse$Facts", name := "field", desc := "(II)LFactHouse$Fact;" } : Jvm.MethodName)) ∈ lw_all := lw_g (lw_at lw_m7 105 rfl) rfl
theorem q1738 : (Jvm.Cond.methodLink "FactHouse" (266 : Nat) ({ cls := "FactHouse$Facts", name := "length", desc := "(I)LFactHouse$Fact;" } : Jvm.MethodName)) ∈ lw_all := lw_g (lw_at lw_m7 109 rfl) rfl
theorem q1746 : (Jvm.Cond.instanceMethod ({ cls := "FactHouse", name := "statics", desc := "(II)J" } : Jvm.MethodName)) ∈ lw_all := lw_g (lw_at lw_m7 117 rfl) rfl
theorem q1747 : (Jvm.Cond.selects "FactHouse" ({ cls := "FactHouse", name := "statics", desc := "(II)J" } : Jvm.MethodName) ({ cls := "FactHouse", name := "statics", desc := "(II)J" } : Jvm.MethodName)) ∈ lw_all := lw_g (lw_at lw_m7 118 rfl) rfl
theorem q1748 : (Jvm.Cond.code ({ cls := "FactHouse", name := "statics", desc := "(II)J" } : Jvm.MethodName) prog_1_method_25_code (3 : Nat) (Option.some Jvm.ClassFile.FieldType.long)) ∈ lw_all := lw_g (lw_at lw_m7 119 rfl) rfl
theorem q1749 : (Jvm.Cond.methodLink "FactHouse" (273 : Nat) ({ cls := "FactHouse$Facts", name := "statics", desc := "(I)LFactHouse$Fact;" } : Jvm.MethodName)) ∈ lw_all := lw_g (lw_at lw_m7 120 rfl) rfl
theorem q1757 : (Jvm.Cond.instanceMethod ({ cls := "FactHouse", name := "sink", desc := "(II)J" } : Jvm.MethodName)) ∈ lw_all := lw_g (lw_at lw_m7 128 rfl) rfl
theorem q1758 : (Jvm.Cond.selects "FactHouse" ({ cls := "FactHouse", name := "sink", desc := "(II)J" } : Jvm.MethodName) ({ cls := "FactHouse", name := "sink", desc := "(II)J" } : Jvm.MethodName)) ∈ lw_all := lw_g (lw_at lw_m7 129 rfl) rfl
theorem q1759 : (Jvm.Cond.code ({ cls := "FactHouse", name := "sink", desc := "(II)J" } : Jvm.MethodName) prog_1_method_26_code (4 : Nat) (Option.some Jvm.ClassFile.FieldType.long)) ∈ lw_all := lw_g (lw_at lw_m7 130 rfl) rfl
theorem q1764 : (Jvm.Cond.instanceMethod ({ cls := "FactHouse", name := "live", desc := "(II)I" } : Jvm.MethodName)) ∈ lw_all := lw_g (lw_at lw_m7 135 rfl) rfl
theorem q1765 : (Jvm.Cond.selects "FactHouse" ({ cls := "FactHouse", name := "live", desc := "(II)I" } : Jvm.MethodName) ({ cls := "FactHouse", name := "live", desc := "(II)I" } : Jvm.MethodName)) ∈ lw_all := lw_g (lw_at lw_m7 136 rfl) rfl
theorem q1766 : (Jvm.Cond.code ({ cls := "FactHouse", name := "live", desc := "(II)I" } : Jvm.MethodName) prog_1_method_27_code (3 : Nat) (Option.some Jvm.ClassFile.FieldType.int)) ∈ lw_all := lw_g (lw_at lw_m7 137 rfl) rfl
theorem q1771 : (Jvm.Cond.instanceMethod ({ cls := "FactHouse", name := "idle", desc := "(I)I" } : Jvm.MethodName)) ∈ lw_all := lw_g (lw_at lw_m7 142 rfl) rfl
theorem q1772 : (Jvm.Cond.selects "FactHouse" ({ cls := "FactHouse", name := "idle", desc := "(I)I" } : Jvm.MethodName) ({ cls := "FactHouse", name := "idle", desc := "(I)I" } : Jvm.MethodName)) ∈ lw_all := lw_g (lw_at lw_m7 143 rfl) rfl
theorem q1773 : (Jvm.Cond.code ({ cls := "FactHouse", name := "idle", desc := "(I)I" } : Jvm.MethodName) prog_1_method_28_code (2 : Nat) (Option.some Jvm.ClassFile.FieldType.int)) ∈ lw_all := lw_g (lw_at lw_m7 144 rfl) rfl
theorem q1778 : (Jvm.Cond.instanceMethod ({ cls := "FactHouse", name := "threads", desc := "(I)I" } : Jvm.MethodName)) ∈ lw_all := lw_g (lw_at lw_m7 149 rfl) rfl
theorem q1779 : (Jvm.Cond.selects "FactHouse" ({ cls := "FactHouse", name := "threads", desc := "(I)I" } : Jvm.MethodName) ({ cls := "FactHouse", name := "threads", desc := "(I)I" } : Jvm.MethodName)) ∈ lw_all := lw_g (lw_at lw_m7 150 rfl) rfl
theorem q1780 : (Jvm.Cond.code ({ cls := "FactHouse", name := "threads", desc := "(I)I" } : Jvm.MethodName) prog_1_method_29_code (2 : Nat) (Option.some Jvm.ClassFile.FieldType.int)) ∈ lw_all := lw_g (lw_at lw_m7 151 rfl) rfl
theorem q1781 : (Jvm.Cond.constantLong "FactHouse" (287 : Nat) (2 : Int64)) ∈ lw_all := lw_g (lw_at lw_m7 152 rfl) rfl
theorem q1782 : (Jvm.Cond.constantLong "FactHouse" (289 : Nat) (15 : Int64)) ∈ lw_all := lw_g (lw_at lw_m7 153 rfl) rfl
theorem q1783 : (Jvm.Cond.methodLink "FactHouse" (294 : Nat) ({ cls := "FactHouse$Follow", name := "countRaces", desc := "(I)I" } : Jvm.MethodName)) ∈ lw_all := lw_g (lw_at lw_m7 154 rfl) rfl
theorem q1799 : (Jvm.Cond.methodLink "FactHouse" (298 : Nat) ({ cls := "FactHouse$Follow", name := "rings", desc := "()I" } : Jvm.MethodName)) ∈ lw_all := lw_g (lw_at lw_m7 170 rfl) rfl
theorem q1808 : (Jvm.Cond.instanceMethod ({ cls := "FactHouse", name := "race", desc := "(II)I" } : Jvm.MethodName)) ∈ lw_all := lw_g (lw_at lw_m7 179 rfl) rfl
theorem q1809 : (Jvm.Cond.selects "FactHouse" ({ cls := "FactHouse", name := "race", desc := "(II)I" } : Jvm.MethodName) ({ cls := "FactHouse", name := "race", desc := "(II)I" } : Jvm.MethodName)) ∈ lw_all := lw_g (lw_at lw_m7 180 rfl) rfl
theorem q1810 : (Jvm.Cond.code ({ cls := "FactHouse", name := "race", desc := "(II)I" } : Jvm.MethodName) prog_1_method_30_code (6 : Nat) (Option.some Jvm.ClassFile.FieldType.int)) ∈ lw_all := lw_g (lw_at lw_m7 181 rfl) rfl
theorem q1815 : (Jvm.Cond.instanceMethod ({ cls := "FactHouse", name := "runs", desc := "(I)J" } : Jvm.MethodName)) ∈ lw_all := lw_g (lw_at lw_m7 186 rfl) rfl
theorem q1816 : (Jvm.Cond.selects "FactHouse" ({ cls := "FactHouse", name := "runs", desc := "(I)J" } : Jvm.MethodName) ({ cls := "FactHouse", name := "runs", desc := "(I)J" } : Jvm.MethodName)) ∈ lw_all := lw_g (lw_at lw_m7 187 rfl) rfl
theorem q1817 : (Jvm.Cond.code ({ cls := "FactHouse", name := "runs", desc := "(I)J" } : Jvm.MethodName) prog_1_method_31_code (2 : Nat) (Option.some Jvm.ClassFile.FieldType.long)) ∈ lw_all := lw_g (lw_at lw_m7 188 rfl) rfl
theorem q1822 : (Jvm.Cond.instanceMethod ({ cls := "FactHouse", name := "input", desc := "(I)I" } : Jvm.MethodName)) ∈ lw_all := lw_g (lw_at lw_m7 193 rfl) rfl
theorem q1823 : (Jvm.Cond.selects "FactHouse" ({ cls := "FactHouse", name := "input", desc := "(I)I" } : Jvm.MethodName) ({ cls := "FactHouse", name := "input", desc := "(I)I" } : Jvm.MethodName)) ∈ lw_all := lw_g (lw_at lw_m7 194 rfl) rfl
theorem q1824 : (Jvm.Cond.code ({ cls := "FactHouse", name := "input", desc := "(I)I" } : Jvm.MethodName) prog_1_method_32_code (2 : Nat) (Option.some Jvm.ClassFile.FieldType.int)) ∈ lw_all := lw_g (lw_at lw_m7 195 rfl) rfl
theorem q1825 : (Jvm.Cond.methodLink "FactHouse" (316 : Nat) ({ cls := "FactHouse$Machine", name := "input", desc := "(I)I" } : Jvm.MethodName)) ∈ lw_all := lw_g (lw_at lw_m7 196 rfl) rfl
theorem q1833 : (Jvm.Cond.instanceMethod ({ cls := "FactHouse", name := "walk", desc := "(III)I" } : Jvm.MethodName)) ∈ lw_all := lw_g (lw_at lw_m7 204 rfl) rfl
theorem q1834 : (Jvm.Cond.selects "FactHouse" ({ cls := "FactHouse", name := "walk", desc := "(III)I" } : Jvm.MethodName) ({ cls := "FactHouse", name := "walk", desc := "(III)I" } : Jvm.MethodName)) ∈ lw_all := lw_g (lw_at lw_m7 205 rfl) rfl
theorem q1835 : (Jvm.Cond.code ({ cls := "FactHouse", name := "walk", desc := "(III)I" } : Jvm.MethodName) prog_1_method_33_code (4 : Nat) (Option.some Jvm.ClassFile.FieldType.int)) ∈ lw_all := lw_g (lw_at lw_m7 206 rfl) rfl
theorem q1836 : (Jvm.Cond.constantLong "FactHouse" (319 : Nat) (50 : Int64)) ∈ lw_all := lw_g (lw_at lw_m7 207 rfl) rfl
theorem q1837 : (Jvm.Cond.constantLong "FactHouse" (321 : Nat) (5000 : Int64)) ∈ lw_all := lw_g (lw_at lw_m7 208 rfl) rfl
theorem q1838 : (Jvm.Cond.methodLink "FactHouse" (323 : Nat) ({ cls := "FactHouse$Machine", name := "walk", desc := "(LFactHouse$Program;III)I" } : Jvm.MethodName)) ∈ lw_all := lw_g (lw_at lw_m7 209 rfl) rfl
theorem q1962 : (Jvm.Cond.instanceMethod ({ cls := "FactHouse", name := "walked", desc := "(I)I" } : Jvm.MethodName)) ∈ lw_all := lw_g (lw_at lw_m8 93 rfl) rfl
theorem q1963 : (Jvm.Cond.selects "FactHouse" ({ cls := "FactHouse", name := "walked", desc := "(I)I" } : Jvm.MethodName) ({ cls := "FactHouse", name := "walked", desc := "(I)I" } : Jvm.MethodName)) ∈ lw_all := lw_g (lw_at lw_m8 94 rfl) rfl
theorem q1964 : (Jvm.Cond.code ({ cls := "FactHouse", name := "walked", desc := "(I)I" } : Jvm.MethodName) prog_1_method_34_code (2 : Nat) (Option.some Jvm.ClassFile.FieldType.int)) ∈ lw_all := lw_g (lw_at lw_m8 95 rfl) rfl
theorem q1965 : (Jvm.Cond.methodLink "FactHouse" (327 : Nat) ({ cls := "FactHouse$Machine", name := "about", desc := "(I)I" } : Jvm.MethodName)) ∈ lw_all := lw_g (lw_at lw_m8 96 rfl) rfl
theorem q1973 : (Jvm.Cond.instanceMethod ({ cls := "FactHouse", name := "output", desc := "(II)I" } : Jvm.MethodName)) ∈ lw_all := lw_g (lw_at lw_m8 104 rfl) rfl
theorem q1974 : (Jvm.Cond.selects "FactHouse" ({ cls := "FactHouse", name := "output", desc := "(II)I" } : Jvm.MethodName) ({ cls := "FactHouse", name := "output", desc := "(II)I" } : Jvm.MethodName)) ∈ lw_all := lw_g (lw_at lw_m8 105 rfl) rfl
theorem q1975 : (Jvm.Cond.code ({ cls := "FactHouse", name := "output", desc := "(II)I" } : Jvm.MethodName) prog_1_method_35_code (3 : Nat) (Option.some Jvm.ClassFile.FieldType.int)) ∈ lw_all := lw_g (lw_at lw_m8 106 rfl) rfl
theorem q1976 : (Jvm.Cond.methodLink "FactHouse" (332 : Nat) ({ cls := "java/lang/Math", name := "min", desc := "(II)I" } : Jvm.MethodName)) ∈ lw_all := lw_g (lw_at lw_m8 107 rfl) rfl
theorem q1981 : (Jvm.Cond.instanceMethod ({ cls := "FactHouse", name := "met", desc := "(II)J" } : Jvm.MethodName)) ∈ lw_all := lw_g (lw_at lw_m8 112 rfl) rfl
theorem q1982 : (Jvm.Cond.selects "FactHouse" ({ cls := "FactHouse", name := "met", desc := "(II)J" } : Jvm.MethodName) ({ cls := "FactHouse", name := "met", desc := "(II)J" } : Jvm.MethodName)) ∈ lw_all := lw_g (lw_at lw_m8 113 rfl) rfl
theorem q1983 : (Jvm.Cond.code ({ cls := "FactHouse", name := "met", desc := "(II)J" } : Jvm.MethodName) prog_1_method_36_code (3 : Nat) (Option.some Jvm.ClassFile.FieldType.long)) ∈ lw_all := lw_g (lw_at lw_m8 114 rfl) rfl
theorem in_X1 : ∀ w ∈ wsX10, w ∈ lw_all := lw_in wsX10 [658, 660, 662, 664, 666, 668, 670, 672, 674] (by decide +kernel) (by decide +kernel)
/-! FactHouse$Facts -/
def RX2 : String := "FactHouse$Facts"
def TX2 : u_T := fun k => match k with
  | 0 => ("FactHouse$Facts", "p", "LFactHouse$Program;", false)
  | 1 => ("FactHouse$Facts", "states", "[LFactHouse$State;", true)
  | 2 => ("FactHouse$Facts", "outcomes", "[LFactHouse$Outcome;", true)
  | 3 => ("FactHouse$Facts", "fields", "[[LFactHouse$Cell;", true)
  | 4 => ("FactHouse$Facts", "lengths", "[LFactHouse$Cell;", true)
  | 5 => ("FactHouse$Facts", "statics", "[LFactHouse$Cell;", true)
  | 6 => ("FactHouse$Facts", "sinks", "[LFactHouse$Fact;", true)
  | 7 => ("FactHouse$Facts", "thrown", "[J", true)
  | 8 => ("FactHouse$Facts", "called", "[J", true)
  | 9 => ("FactHouse$Facts", "falls", "[Z", true)
  | 10 => ("FactHouse$Facts", "jumps", "[Z", true)
  | 11 => ("FactHouse$Facts", "uses", "[J", true)
  | 12 => ("FactHouse$Facts", "queue", "[I", true)
  | 13 => ("FactHouse$Facts", "waits", "[Z", true)
  | 14 => ("FactHouse$Facts", "head", "I", false)
  | 15 => ("FactHouse$Facts", "waiting", "I", false)
  | 16 => ("FactHouse$Facts", "m", "LFactHouse$Method;", false)
  | 17 => ("FactHouse$Facts", "i", "I", false)
  | 18 => ("FactHouse$Facts", "place", "I", false)
  | 19 => ("FactHouse$Facts", "now", "LFactHouse$State;", true)
  | 20 => ("FactHouse$Facts", "other", "LFactHouse$State;", true)
  | 21 => ("FactHouse$Facts", "before", "LFactHouse$State;", true)
  | 22 => ("FactHouse$Facts", "one", "LFactHouse$Fact;", true)
  | 23 => ("FactHouse$Facts", "two", "LFactHouse$Fact;", true)
  | 24 => ("FactHouse$Facts", "made", "LFactHouse$Fact;", true)
  | 25 => ("FactHouse$Facts", "depth", "I", false)
  | 26 => ("FactHouse$Facts", "three", "LFactHouse$Fact;", true)
  | 27 => ("FactHouse$Facts", "arguments", "[LFactHouse$Fact;", true)
  | _ => ("FactHouse$Facts", "receivers", "[J", true)
def tyX2 : Nat → FieldType := fun k => match k with
  | 0 => .object "FactHouse$Program"
  | 1 => .array (.object "FactHouse$State")
  | 2 => .array (.object "FactHouse$Outcome")
  | 3 => .array (.array (.object "FactHouse$Cell"))
  | 4 => .array (.object "FactHouse$Cell")
  | 5 => .array (.object "FactHouse$Cell")
  | 6 => .array (.object "FactHouse$Fact")
  | 7 => .array .long
  | 8 => .array .long
  | 9 => .array .boolean
  | 10 => .array .boolean
  | 11 => .array .long
  | 12 => .array .int
  | 13 => .array .boolean
  | 14 => .int
  | 15 => .int
  | 16 => .object "FactHouse$Method"
  | 17 => .int
  | 18 => .int
  | 19 => .object "FactHouse$State"
  | 20 => .object "FactHouse$State"
  | 21 => .object "FactHouse$State"
  | 22 => .object "FactHouse$Fact"
  | 23 => .object "FactHouse$Fact"
  | 24 => .object "FactHouse$Fact"
  | 25 => .int
  | 26 => .object "FactHouse$Fact"
  | 27 => .array (.object "FactHouse$Fact")
  | _ => .array .long
abbrev wsX20 : List Cond := u_ws RX2 TX2 29
theorem nmX2 : ∀ a, a < 29 → ∀ b, b < 29 → a ≠ b → (TX2 a).2.1 ≠ (TX2 b).2.1 := by decide +kernel
theorem tyX2_ok : ∀ k, k < 29 → parseFieldDescriptor (TX2 k).2.2.1 = some (tyX2 k) := by decide +kernel
abbrev cX2_init : ByteArray := prog_5_method_1_code
def yX2_init : MethodName := ⟨RX2, "<init>", "()V"⟩
abbrev cX2_find : ByteArray := prog_5_method_8_code
def yX2_find : MethodName := ⟨RX2, "find", "(LFactHouse$Program;)V"⟩
abbrev cX2_make : ByteArray := prog_5_method_2_code
def yX2_make : MethodName := ⟨RX2, "make", "(LFactHouse$Program;)V"⟩
abbrev cX2_fieldsOf : ByteArray := prog_5_method_3_code
def yX2_fieldsOf : MethodName := ⟨RX2, "fieldsOf", "(I)I"⟩
abbrev cX2_enterRoot : ByteArray := prog_5_method_9_code
def yX2_enterRoot : MethodName := ⟨RX2, "enterRoot", "(LFactHouse$Method;)V"⟩
abbrev cX2_come : ByteArray := prog_5_method_13_code
def yX2_come : MethodName := ⟨RX2, "come", "(LFactHouse$Method;ILFactHouse$State;)V"⟩
abbrev cX2_wake : ByteArray := prog_5_method_10_code
def yX2_wake : MethodName := ⟨RX2, "wake", "(I)V"⟩
abbrev cX2_work : ByteArray := prog_5_method_30_code
def yX2_work : MethodName := ⟨RX2, "work", "(I)V"⟩
abbrev cX2_simple : ByteArray := prog_5_method_31_code
def yX2_simple : MethodName := ⟨RX2, "simple", "(III)V"⟩
abbrev cX2_put : ByteArray := prog_5_method_28_code
def yX2_put : MethodName := ⟨RX2, "put", "(LFactHouse$Fact;)V"⟩
abbrev cX2_take : ByteArray := prog_5_method_29_code
def yX2_take : MethodName := ⟨RX2, "take", "(LFactHouse$Fact;)LFactHouse$Fact;"⟩
abbrev cX2_goOn : ByteArray := prog_5_method_14_code
def yX2_goOn : MethodName := ⟨RX2, "goOn", "(I)V"⟩
abbrev cX2_numbers : ByteArray := prog_5_method_32_code
def yX2_numbers : MethodName := ⟨RX2, "numbers", "(III)V"⟩
abbrev cX2_span : ByteArray := prog_5_method_19_code
def yX2_span : MethodName := ⟨RX2, "span", "(JJI)V"⟩
abbrev cX2_fits : ByteArray := prog_5_method_18_code
def yX2_fits : MethodName := ⟨RX2, "fits", "(J)Z"⟩
abbrev cX2_hurl : ByteArray := prog_5_method_34_code
def yX2_hurl : MethodName := ⟨RX2, "hurl", "(J)V"⟩
abbrev cX2_hurl_2 : ByteArray := prog_5_method_35_code
def yX2_hurl_2 : MethodName := ⟨RX2, "hurl", "(JII)V"⟩
abbrev cX2_escape : ByteArray := prog_5_method_36_code
def yX2_escape : MethodName := ⟨RX2, "escape", "(JII)V"⟩
abbrev cX2_wakeAll : ByteArray := prog_5_method_11_code
def yX2_wakeAll : MethodName := ⟨RX2, "wakeAll", "([J)V"⟩
abbrev cX2_reckon : ByteArray := prog_5_method_24_code
def yX2_reckon : MethodName := ⟨RX2, "reckon", "(ILFactHouse$Fact;LFactHouse$Fact;)Z"⟩
abbrev cX2_least : ByteArray := prog_5_method_20_code
def yX2_least : MethodName := ⟨RX2, "least", "(JJJJ)J"⟩
abbrev cX2_most : ByteArray := prog_5_method_21_code
def yX2_most : MethodName := ⟨RX2, "most", "(JJJJ)J"⟩
abbrev cX2_quotient : ByteArray := prog_5_method_22_code
def yX2_quotient : MethodName := ⟨RX2, "quotient", "(LFactHouse$Fact;LFactHouse$Fact;)Z"⟩
abbrev cX2_rest : ByteArray := prog_5_method_23_code
def yX2_rest : MethodName := ⟨RX2, "rest", "(LFactHouse$Fact;LFactHouse$Fact;)Z"⟩
abbrev cX2_jumps : ByteArray := prog_5_method_33_code
def yX2_jumps : MethodName := ⟨RX2, "jumps", "(III)V"⟩
abbrev cX2_may : ByteArray := prog_5_method_25_code
def yX2_may : MethodName := ⟨RX2, "may", "(IIIII)Z"⟩
abbrev cX2_turned : ByteArray := prog_5_method_26_code
def yX2_turned : MethodName := ⟨RX2, "turned", "(I)I"⟩
abbrev cX2_cut : ByteArray := prog_5_method_27_code
def yX2_cut : MethodName := ⟨RX2, "cut", "(LFactHouse$Fact;II)Z"⟩
abbrev cX2_objects : ByteArray := prog_5_method_37_code
def yX2_objects : MethodName := ⟨RX2, "objects", "(III)V"⟩
abbrev cX2_makeNew : ByteArray := prog_5_method_38_code
def yX2_makeNew : MethodName := ⟨RX2, "makeNew", "(I)V"⟩
abbrev cX2_kindOf : ByteArray := prog_5_method_4_code
def yX2_kindOf : MethodName := ⟨RX2, "kindOf", "(II)I"⟩
abbrev cX2_join : ByteArray := prog_5_method_16_code
def yX2_join : MethodName := ⟨RX2, "join", "(LFactHouse$Cell;LFactHouse$Fact;)V"⟩
abbrev cX2_makeArray : ByteArray := prog_5_method_39_code
def yX2_makeArray : MethodName := ⟨RX2, "makeArray", "(II)V"⟩
abbrev cX2_lengthOf : ByteArray := prog_5_method_41_code
def yX2_lengthOf : MethodName := ⟨RX2, "lengthOf", "()V"⟩
abbrev cX2_refuse : ByteArray := prog_5_method_40_code
def yX2_refuse : MethodName := ⟨RX2, "refuse", "(LFactHouse$Fact;J)V"⟩
abbrev cX2_gather : ByteArray := prog_5_method_17_code
def yX2_gather : MethodName := ⟨RX2, "gather", "(LFactHouse$Cell;)V"⟩
abbrev cX2_use : ByteArray := prog_5_method_12_code
def yX2_use : MethodName := ⟨RX2, "use", "([J)V"⟩
abbrev cX2_element : ByteArray := prog_5_method_42_code
def yX2_element : MethodName := ⟨RX2, "element", "(II)V"⟩
abbrev cX2_fieldAct : ByteArray := prog_5_method_43_code
def yX2_fieldAct : MethodName := ⟨RX2, "fieldAct", "(III)V"⟩
abbrev cX2_calls : ByteArray := prog_5_method_44_code
def yX2_calls : MethodName := ⟨RX2, "calls", "(III)V"⟩
abbrev cX2_call : ByteArray := prog_5_method_47_code
def yX2_call : MethodName := ⟨RX2, "call", "(LFactHouse$Method;J)V"⟩
abbrev cX2_enter : ByteArray := prog_5_method_46_code
def yX2_enter : MethodName := ⟨RX2, "enter", "(LFactHouse$Method;ZII)V"⟩
abbrev cX2_unlock : ByteArray := prog_5_method_48_code
def yX2_unlock : MethodName := ⟨RX2, "unlock", "(LFactHouse$Outcome;I)V"⟩
abbrev cX2_findReceivers : ByteArray := prog_5_method_45_code
def yX2_findReceivers : MethodName := ⟨RX2, "findReceivers", "(LFactHouse$Fact;I)J"⟩
abbrev cX2_threads : ByteArray := prog_5_method_49_code
def yX2_threads : MethodName := ⟨RX2, "threads", "(II)V"⟩
abbrev cX2_goes : ByteArray := prog_5_method_15_code
def yX2_goes : MethodName := ⟨RX2, "goes", "(LFactHouse$Method;II)Z"⟩
abbrev cX2_field : ByteArray := prog_5_method_5_code
def yX2_field : MethodName := ⟨RX2, "field", "(II)LFactHouse$Fact;"⟩
abbrev cX2_length : ByteArray := prog_5_method_6_code
def yX2_length : MethodName := ⟨RX2, "length", "(I)LFactHouse$Fact;"⟩
abbrev cX2_statics : ByteArray := prog_5_method_7_code
def yX2_statics : MethodName := ⟨RX2, "statics", "(I)LFactHouse$Fact;"⟩
theorem q191 : (Jvm.Cond.initialized "FactHouse$Facts") ∈ lw_all := lw_g (lw_at lw_m1 2 rfl) rfl
theorem q228 : (Jvm.Cond.instantiable "FactHouse$Facts" (29 : Nat)) ∈ lw_all := lw_g (lw_at lw_m1 39 rfl) rfl
theorem q230 : (Jvm.Cond.instanceMethod ({ cls := "FactHouse$Facts", name := "<init>", desc := "()V" } : Jvm.MethodName)) ∈ lw_all := lw_g (lw_at lw_m1 41 rfl) rfl
theorem q231 : (Jvm.Cond.code ({ cls := "FactHouse$Facts", name := "<init>", desc := "()V" } : Jvm.MethodName) prog_5_method_1_code (2 : Nat) (Option.none : Option Jvm.ClassFile.FieldType)) ∈ lw_all := lw_g (lw_at lw_m1 42 rfl) rfl
theorem q232 : (Jvm.Cond.methodLink "FactHouse$Facts" (3 : Nat) ({ cls := "java/lang/Object", name := "<init>", desc := "()V" } : Jvm.MethodName)) ∈ lw_all := lw_g (lw_at lw_m1 43 rfl) rfl
theorem q233 : (Jvm.Cond.classLink "FactHouse$Facts" (9 : Nat) "FactHouse$State") ∈ lw_all := lw_g (lw_at lw_m1 44 rfl) rfl
theorem q235 : (Jvm.Cond.classLink "FactHouse$Facts" (17 : Nat) "FactHouse$Outcome") ∈ lw_all := lw_g (lw_at lw_m1 46 rfl) rfl
theorem q237 : (Jvm.Cond.classLink "FactHouse$Facts" (23 : Nat) "[[LFactHouse$Cell;") ∈ lw_all := lw_g (lw_at lw_m1 48 rfl) rfl
theorem q240 : (Jvm.Cond.classLink "FactHouse$Facts" (28 : Nat) "FactHouse$Cell") ∈ lw_all := lw_g (lw_at lw_m1 51 rfl) rfl
theorem q241 : (Jvm.Cond.classLink "FactHouse$Facts" (37 : Nat) "FactHouse$Fact") ∈ lw_all := lw_g (lw_at lw_m1 52 rfl) rfl
theorem q244 : (Jvm.Cond.methodLink "FactHouse$Facts" (67 : Nat) ({ cls := "FactHouse$State", name := "<init>", desc := "()V" } : Jvm.MethodName)) ∈ lw_all := lw_g (lw_at lw_m1 55 rfl) rfl
theorem q256 : (Jvm.Cond.fieldLink "FactHouse$Facts" (464 : Nat) "FactHouse$Fact" "there" "Z") ∈ lw_all := lw_g (lw_at lw_m1 67 rfl) rfl
theorem q259 : (Jvm.Cond.fieldLink "FactHouse$Facts" (261 : Nat) "FactHouse$Fact" "from" "I") ∈ lw_all := lw_g (lw_at lw_m1 70 rfl) rfl
theorem q262 : (Jvm.Cond.fieldLink "FactHouse$Facts" (267 : Nat) "FactHouse$Fact" "to" "I") ∈ lw_all := lw_g (lw_at lw_m1 73 rfl) rfl
theorem q265 : (Jvm.Cond.fieldLink "FactHouse$Facts" (279 : Nat) "FactHouse$Fact" "labels" "I") ∈ lw_all := lw_g (lw_at lw_m1 76 rfl) rfl
theorem q268 : (Jvm.Cond.fieldLink "FactHouse$Facts" (372 : Nat) "FactHouse$Fact" "sites" "J") ∈ lw_all := lw_g (lw_at lw_m1 79 rfl) rfl
theorem q286 : (Jvm.Cond.fieldLink "FactHouse$Facts" (198 : Nat) "FactHouse$State" "reached" "Z") ∈ lw_all := lw_g (lw_at lw_m1 97 rfl) rfl
theorem q289 : (Jvm.Cond.fieldLink "FactHouse$Facts" (171 : Nat) "FactHouse$State" "slots" "[LFactHouse$Fact;") ∈ lw_all := lw_g (lw_at lw_m1 100 rfl) rfl
theorem q294 : (Jvm.Cond.fieldLink "FactHouse$Facts" (381 : Nat) "FactHouse$State" "sure" "I") ∈ lw_all := lw_g (lw_at lw_m1 105 rfl) rfl
theorem q298 : (Jvm.Cond.fieldLink "FactHouse$Facts" (384 : Nat) "FactHouse$State" "perhaps" "I") ∈ lw_all := lw_g (lw_at lw_m1 109 rfl) rfl
theorem q308 : (Jvm.Cond.methodLinkNest "FactHouse$Facts" (78 : Nat) ({ cls := "FactHouse$Fact", name := "<init>", desc := "()V" } : Jvm.MethodName) "FactHouse") ∈ lw_tbl := lw_at lw_m1 119 rfl
theorem q310 : (Jvm.Cond.methodLinkNest "FactHouse$Facts" (98 : Nat) ({ cls := "FactHouse$Outcome", name := "<init>", desc := "()V" } : Jvm.MethodName) "FactHouse") ∈ lw_tbl := lw_at lw_m1 121 rfl
theorem q318 : (Jvm.Cond.fieldLink "FactHouse$Facts" (484 : Nat) "FactHouse$Outcome" "returns" "Z") ∈ lw_all := lw_g (lw_at lw_m1 129 rfl) rfl
theorem q321 : (Jvm.Cond.fieldLink "FactHouse$Facts" (489 : Nat) "FactHouse$Outcome" "value" "LFactHouse$Fact;") ∈ lw_all := lw_g (lw_at lw_m1 132 rfl) rfl
theorem q322 : (Jvm.Cond.fieldLink "FactHouse$Facts" (487 : Nat) "FactHouse$Outcome" "sure" "I") ∈ lw_all := lw_g (lw_at lw_m1 133 rfl) rfl
theorem q323 : (Jvm.Cond.fieldLink "FactHouse$Facts" (488 : Nat) "FactHouse$Outcome" "perhaps" "I") ∈ lw_all := lw_g (lw_at lw_m1 134 rfl) rfl
theorem q326 : (Jvm.Cond.fieldLink "FactHouse$Facts" (409 : Nat) "FactHouse$Outcome" "escapes" "J") ∈ lw_all := lw_g (lw_at lw_m1 137 rfl) rfl
theorem q327 : (Jvm.Cond.fieldLink "FactHouse$Facts" (412 : Nat) "FactHouse$Outcome" "escapeSure" "I") ∈ lw_all := lw_g (lw_at lw_m1 138 rfl) rfl
theorem q328 : (Jvm.Cond.fieldLink "FactHouse$Facts" (415 : Nat) "FactHouse$Outcome" "escapePerhaps" "I") ∈ lw_all := lw_g (lw_at lw_m1 139 rfl) rfl
theorem q331 : (Jvm.Cond.fieldLink "FactHouse$Facts" (500 : Nat) "FactHouse$Outcome" "unlocks" "I") ∈ lw_all := lw_g (lw_at lw_m1 142 rfl) rfl
theorem q333 : (Jvm.Cond.fieldLink "FactHouse$Facts" (418 : Nat) "FactHouse$Outcome" "callers" "[J") ∈ lw_all := lw_g (lw_at lw_m1 144 rfl) rfl
theorem q354 : (Jvm.Cond.methodLinkNest "FactHouse$Facts" (99 : Nat) ({ cls := "FactHouse$Cell", name := "<init>", desc := "()V" } : Jvm.MethodName) "FactHouse") ∈ lw_tbl := lw_at lw_m1 165 rfl
theorem q361 : (Jvm.Cond.fieldLink "FactHouse$Facts" (125 : Nat) "FactHouse$Cell" "fact" "LFactHouse$Fact;") ∈ lw_all := lw_g (lw_at lw_m1 172 rfl) rfl
theorem q363 : (Jvm.Cond.fieldLink "FactHouse$Facts" (224 : Nat) "FactHouse$Cell" "users" "[J") ∈ lw_all := lw_g (lw_at lw_m1 174 rfl) rfl
theorem q369 : (Jvm.Cond.fieldLink "FactHouse$Facts" (100 : Nat) "FactHouse$Facts" "p" "LFactHouse$Program;") ∈ lw_all := lw_g (lw_at lw_m1 180 rfl) rfl
theorem q370 : (Jvm.Cond.fieldLink "FactHouse$Facts" (11 : Nat) "FactHouse$Facts" "states" "[LFactHouse$State;") ∈ lw_all := lw_g (lw_at lw_m1 181 rfl) rfl
theorem q373 : (Jvm.Cond.fieldLink "FactHouse$Facts" (19 : Nat) "FactHouse$Facts" "outcomes" "[LFactHouse$Outcome;") ∈ lw_all := lw_g (lw_at lw_m1 184 rfl) rfl
theorem q375 : (Jvm.Cond.fieldLink "FactHouse$Facts" (25 : Nat) "FactHouse$Facts" "fields" "[[LFactHouse$Cell;") ∈ lw_all := lw_g (lw_at lw_m1 186 rfl) rfl
theorem q376 : (Jvm.Cond.fieldLink "FactHouse$Facts" (30 : Nat) "FactHouse$Facts" "lengths" "[LFactHouse$Cell;") ∈ lw_all := lw_g (lw_at lw_m1 187 rfl) rfl
theorem q377 : (Jvm.Cond.fieldLink "FactHouse$Facts" (34 : Nat) "FactHouse$Facts" "statics" "[LFactHouse$Cell;") ∈ lw_all := lw_g (lw_at lw_m1 188 rfl) rfl
theorem q378 : (Jvm.Cond.fieldLink "FactHouse$Facts" (39 : Nat) "FactHouse$Facts" "sinks" "[LFactHouse$Fact;") ∈ lw_all := lw_g (lw_at lw_m1 189 rfl) rfl
theorem q380 : (Jvm.Cond.fieldLink "FactHouse$Facts" (43 : Nat) "FactHouse$Facts" "thrown" "[J") ∈ lw_all := lw_g (lw_at lw_m1 191 rfl) rfl
theorem q383 : (Jvm.Cond.fieldLink "FactHouse$Facts" (47 : Nat) "FactHouse$Facts" "called" "[J") ∈ lw_all := lw_g (lw_at lw_m1 194 rfl) rfl
theorem q386 : (Jvm.Cond.fieldLink "FactHouse$Facts" (50 : Nat) "FactHouse$Facts" "falls" "[Z") ∈ lw_all := lw_g (lw_at lw_m1 197 rfl) rfl
theorem q387 : (Jvm.Cond.fieldLink "FactHouse$Facts" (54 : Nat) "FactHouse$Facts" "jumps" "[Z") ∈ lw_all := lw_g (lw_at lw_m1 198 rfl) rfl
theorem q388 : (Jvm.Cond.fieldLink "FactHouse$Facts" (57 : Nat) "FactHouse$Facts" "uses" "[J") ∈ lw_all := lw_g (lw_at lw_m1 199 rfl) rfl
theorem q390 : (Jvm.Cond.fieldLink "FactHouse$Facts" (60 : Nat) "FactHouse$Facts" "queue" "[I") ∈ lw_all := lw_g (lw_at lw_m1 201 rfl) rfl
theorem q391 : (Jvm.Cond.fieldLink "FactHouse$Facts" (64 : Nat) "FactHouse$Facts" "waits" "[Z") ∈ lw_all := lw_g (lw_at lw_m1 202 rfl) rfl
theorem q392 : (Jvm.Cond.fieldLink "FactHouse$Facts" (132 : Nat) "FactHouse$Facts" "head" "I") ∈ lw_all := lw_g (lw_at lw_m1 203 rfl) rfl
theorem q393 : (Jvm.Cond.fieldLink "FactHouse$Facts" (135 : Nat) "FactHouse$Facts" "waiting" "I") ∈ lw_all := lw_g (lw_at lw_m1 204 rfl) rfl
theorem q394 : (Jvm.Cond.fieldLink "FactHouse$Facts" (214 : Nat) "FactHouse$Facts" "m" "LFactHouse$Method;") ∈ lw_all := lw_g (lw_at lw_m1 205 rfl) rfl
theorem q395 : (Jvm.Cond.fieldLink "FactHouse$Facts" (211 : Nat) "FactHouse$Facts" "i" "I") ∈ lw_all := lw_g (lw_at lw_m1 206 rfl) rfl
theorem q396 : (Jvm.Cond.fieldLink "FactHouse$Facts" (195 : Nat) "FactHouse$Facts" "place" "I") ∈ lw_all := lw_g (lw_at lw_m1 207 rfl) rfl
theorem q397 : (Jvm.Cond.fieldLink "FactHouse$Facts" (68 : Nat) "FactHouse$Facts" "now" "LFactHouse$State;") ∈ lw_all := lw_g (lw_at lw_m1 208 rfl) rfl
theorem q398 : (Jvm.Cond.fieldLink "FactHouse$Facts" (72 : Nat) "FactHouse$Facts" "other" "LFactHouse$State;") ∈ lw_all := lw_g (lw_at lw_m1 209 rfl) rfl
theorem q399 : (Jvm.Cond.fieldLink "FactHouse$Facts" (75 : Nat) "FactHouse$Facts" "before" "LFactHouse$State;") ∈ lw_all := lw_g (lw_at lw_m1 210 rfl) rfl
theorem q400 : (Jvm.Cond.fieldLink "FactHouse$Facts" (79 : Nat) "FactHouse$Facts" "one" "LFactHouse$Fact;") ∈ lw_all := lw_g (lw_at lw_m1 211 rfl) rfl
theorem q401 : (Jvm.Cond.fieldLink "FactHouse$Facts" (83 : Nat) "FactHouse$Facts" "two" "LFactHouse$Fact;") ∈ lw_all := lw_g (lw_at lw_m1 212 rfl) rfl
theorem q402 : (Jvm.Cond.fieldLink "FactHouse$Facts" (86 : Nat) "FactHouse$Facts" "made" "LFactHouse$Fact;") ∈ lw_all := lw_g (lw_at lw_m1 213 rfl) rfl
theorem q403 : (Jvm.Cond.fieldLink "FactHouse$Facts" (301 : Nat) "FactHouse$Facts" "depth" "I") ∈ lw_all := lw_g (lw_at lw_m1 214 rfl) rfl
theorem q404 : (Jvm.Cond.fieldLink "FactHouse$Facts" (89 : Nat) "FactHouse$Facts" "three" "LFactHouse$Fact;") ∈ lw_all := lw_g (lw_at lw_m1 215 rfl) rfl
theorem q405 : (Jvm.Cond.fieldLink "FactHouse$Facts" (92 : Nat) "FactHouse$Facts" "arguments" "[LFactHouse$Fact;") ∈ lw_all := lw_g (lw_at lw_m1 216 rfl) rfl
theorem q406 : (Jvm.Cond.fieldLink "FactHouse$Facts" (95 : Nat) "FactHouse$Facts" "receivers" "[J") ∈ lw_all := lw_g (lw_at lw_m1 217 rfl) rfl
theorem q407 : (Jvm.Cond.lays "FactHouse$Facts" "FactHouse$Facts" "p" "LFactHouse$Program;") ∈ lw_all := lw_g (lw_at lw_m1 218 rfl) rfl
theorem q408 : (Jvm.Cond.soleField "FactHouse$Facts" "p") ∈ lw_all := lw_g (lw_at lw_m1 219 rfl) rfl
theorem q409 : (Jvm.Cond.laysFinal "FactHouse$Facts" "FactHouse$Facts" "states" "[LFactHouse$State;") ∈ lw_all := lw_g (lw_at lw_m1 220 rfl) rfl
theorem q410 : (Jvm.Cond.soleField "FactHouse$Facts" "states") ∈ lw_all := lw_g (lw_at lw_m1 221 rfl) rfl
theorem q411 : (Jvm.Cond.laysFinal "FactHouse$Facts" "FactHouse$Facts" "outcomes" "[LFactHouse$Outcome;") ∈ lw_all := lw_g (lw_at lw_m1 222 rfl) rfl
theorem q412 : (Jvm.Cond.soleField "FactHouse$Facts" "outcomes") ∈ lw_all := lw_g (lw_at lw_m1 223 rfl) rfl
theorem q413 : (Jvm.Cond.laysFinal "FactHouse$Facts" "FactHouse$Facts" "fields" "[[LFactHouse$Cell;") ∈ lw_all := lw_g (lw_at lw_m1 224 rfl) rfl
theorem q414 : (Jvm.Cond.soleField "FactHouse$Facts" "fields") ∈ lw_all := lw_g (lw_at lw_m1 225 rfl) rfl
theorem q415 : (Jvm.Cond.laysFinal "FactHouse$Facts" "FactHouse$Facts" "lengths" "[LFactHouse$Cell;") ∈ lw_all := lw_g (lw_at lw_m1 226 rfl) rfl
theorem q416 : (Jvm.Cond.soleField "FactHouse$Facts" "lengths") ∈ lw_all := lw_g (lw_at lw_m1 227 rfl) rfl
theorem q417 : (Jvm.Cond.laysFinal "FactHouse$Facts" "FactHouse$Facts" "statics" "[LFactHouse$Cell;") ∈ lw_all := lw_g (lw_at lw_m1 228 rfl) rfl
theorem q418 : (Jvm.Cond.soleField "FactHouse$Facts" "statics") ∈ lw_all := lw_g (lw_at lw_m1 229 rfl) rfl
theorem q419 : (Jvm.Cond.laysFinal "FactHouse$Facts" "FactHouse$Facts" "sinks" "[LFactHouse$Fact;") ∈ lw_all := lw_g (lw_at lw_m1 230 rfl) rfl
theorem q420 : (Jvm.Cond.soleField "FactHouse$Facts" "sinks") ∈ lw_all := lw_g (lw_at lw_m1 231 rfl) rfl
theorem q421 : (Jvm.Cond.laysFinal "FactHouse$Facts" "FactHouse$Facts" "thrown" "[J") ∈ lw_all := lw_g (lw_at lw_m1 232 rfl) rfl
theorem q422 : (Jvm.Cond.soleField "FactHouse$Facts" "thrown") ∈ lw_all := lw_g (lw_at lw_m1 233 rfl) rfl
theorem q423 : (Jvm.Cond.laysFinal "FactHouse$Facts" "FactHouse$Facts" "called" "[J") ∈ lw_all := lw_g (lw_at lw_m1 234 rfl) rfl
theorem q424 : (Jvm.Cond.soleField "FactHouse$Facts" "called") ∈ lw_all := lw_g (lw_at lw_m1 235 rfl) rfl
theorem q425 : (Jvm.Cond.laysFinal "FactHouse$Facts" "FactHouse$Facts" "falls" "[Z") ∈ lw_all := lw_g (lw_at lw_m1 236 rfl) rfl
theorem q426 : (Jvm.Cond.soleField "FactHouse$Facts" "falls") ∈ lw_all := lw_g (lw_at lw_m1 237 rfl) rfl
theorem q427 : (Jvm.Cond.laysFinal "FactHouse$Facts" "FactHouse$Facts" "jumps" "[Z") ∈ lw_all := lw_g (lw_at lw_m1 238 rfl) rfl
theorem q428 : (Jvm.Cond.soleField "FactHouse$Facts" "jumps") ∈ lw_all := lw_g (lw_at lw_m1 239 rfl) rfl
theorem q429 : (Jvm.Cond.laysFinal "FactHouse$Facts" "FactHouse$Facts" "uses" "[J") ∈ lw_all := lw_g (lw_at lw_m2 0 rfl) rfl
theorem q430 : (Jvm.Cond.soleField "FactHouse$Facts" "uses") ∈ lw_all := lw_g (lw_at lw_m2 1 rfl) rfl
theorem q431 : (Jvm.Cond.laysFinal "FactHouse$Facts" "FactHouse$Facts" "queue" "[I") ∈ lw_all := lw_g (lw_at lw_m2 2 rfl) rfl
theorem q432 : (Jvm.Cond.soleField "FactHouse$Facts" "queue") ∈ lw_all := lw_g (lw_at lw_m2 3 rfl) rfl
theorem q433 : (Jvm.Cond.laysFinal "FactHouse$Facts" "FactHouse$Facts" "waits" "[Z") ∈ lw_all := lw_g (lw_at lw_m2 4 rfl) rfl
theorem q434 : (Jvm.Cond.soleField "FactHouse$Facts" "waits") ∈ lw_all := lw_g (lw_at lw_m2 5 rfl) rfl
theorem q435 : (Jvm.Cond.lays "FactHouse$Facts" "FactHouse$Facts" "head" "I") ∈ lw_all := lw_g (lw_at lw_m2 6 rfl) rfl
theorem q436 : (Jvm.Cond.soleField "FactHouse$Facts" "head") ∈ lw_all := lw_g (lw_at lw_m2 7 rfl) rfl
theorem q437 : (Jvm.Cond.lays "FactHouse$Facts" "FactHouse$Facts" "waiting" "I") ∈ lw_all := lw_g (lw_at lw_m2 8 rfl) rfl
theorem q438 : (Jvm.Cond.soleField "FactHouse$Facts" "waiting") ∈ lw_all := lw_g (lw_at lw_m2 9 rfl) rfl
theorem q439 : (Jvm.Cond.lays "FactHouse$Facts" "FactHouse$Facts" "m" "LFactHouse$Method;") ∈ lw_all := lw_g (lw_at lw_m2 10 rfl) rfl
theorem q440 : (Jvm.Cond.soleField "FactHouse$Facts" "m") ∈ lw_all := lw_g (lw_at lw_m2 11 rfl) rfl
theorem q441 : (Jvm.Cond.lays "FactHouse$Facts" "FactHouse$Facts" "i" "I") ∈ lw_all := lw_g (lw_at lw_m2 12 rfl) rfl
theorem q442 : (Jvm.Cond.soleField "FactHouse$Facts" "i") ∈ lw_all := lw_g (lw_at lw_m2 13 rfl) rfl
theorem q443 : (Jvm.Cond.lays "FactHouse$Facts" "FactHouse$Facts" "place" "I") ∈ lw_all := lw_g (lw_at lw_m2 14 rfl) rfl
theorem q444 : (Jvm.Cond.soleField "FactHouse$Facts" "place") ∈ lw_all := lw_g (lw_at lw_m2 15 rfl) rfl
theorem q445 : (Jvm.Cond.laysFinal "FactHouse$Facts" "FactHouse$Facts" "now" "LFactHouse$State;") ∈ lw_all := lw_g (lw_at lw_m2 16 rfl) rfl
theorem q446 : (Jvm.Cond.soleField "FactHouse$Facts" "now") ∈ lw_all := lw_g (lw_at lw_m2 17 rfl) rfl
theorem q447 : (Jvm.Cond.laysFinal "FactHouse$Facts" "FactHouse$Facts" "other" "LFactHouse$State;") ∈ lw_all := lw_g (lw_at lw_m2 18 rfl) rfl
theorem q448 : (Jvm.Cond.soleField "FactHouse$Facts" "other") ∈ lw_all := lw_g (lw_at lw_m2 19 rfl) rfl
theorem q449 : (Jvm.Cond.laysFinal "FactHouse$Facts" "FactHouse$Facts" "before" "LFactHouse$State;") ∈ lw_all := lw_g (lw_at lw_m2 20 rfl) rfl
theorem q450 : (Jvm.Cond.soleField "FactHouse$Facts" "before") ∈ lw_all := lw_g (lw_at lw_m2 21 rfl) rfl
theorem q451 : (Jvm.Cond.laysFinal "FactHouse$Facts" "FactHouse$Facts" "one" "LFactHouse$Fact;") ∈ lw_all := lw_g (lw_at lw_m2 22 rfl) rfl
theorem q452 : (Jvm.Cond.soleField "FactHouse$Facts" "one") ∈ lw_all := lw_g (lw_at lw_m2 23 rfl) rfl
theorem q453 : (Jvm.Cond.laysFinal "FactHouse$Facts" "FactHouse$Facts" "two" "LFactHouse$Fact;") ∈ lw_all := lw_g (lw_at lw_m2 24 rfl) rfl
theorem q454 : (Jvm.Cond.soleField "FactHouse$Facts" "two") ∈ lw_all := lw_g (lw_at lw_m2 25 rfl) rfl
theorem q455 : (Jvm.Cond.laysFinal "FactHouse$Facts" "FactHouse$Facts" "made" "LFactHouse$Fact;") ∈ lw_all := lw_g (lw_at lw_m2 26 rfl) rfl
theorem q456 : (Jvm.Cond.soleField "FactHouse$Facts" "made") ∈ lw_all := lw_g (lw_at lw_m2 27 rfl) rfl
theorem q457 : (Jvm.Cond.lays "FactHouse$Facts" "FactHouse$Facts" "depth" "I") ∈ lw_all := lw_g (lw_at lw_m2 28 rfl) rfl
theorem q458 : (Jvm.Cond.soleField "FactHouse$Facts" "depth") ∈ lw_all := lw_g (lw_at lw_m2 29 rfl) rfl
theorem q459 : (Jvm.Cond.laysFinal "FactHouse$Facts" "FactHouse$Facts" "three" "LFactHouse$Fact;") ∈ lw_all := lw_g (lw_at lw_m2 30 rfl) rfl
theorem q460 : (Jvm.Cond.soleField "FactHouse$Facts" "three") ∈ lw_all := lw_g (lw_at lw_m2 31 rfl) rfl
theorem q461 : (Jvm.Cond.laysFinal "FactHouse$Facts" "FactHouse$Facts" "arguments" "[LFactHouse$Fact;") ∈ lw_all := lw_g (lw_at lw_m2 32 rfl) rfl
theorem q462 : (Jvm.Cond.soleField "FactHouse$Facts" "arguments") ∈ lw_all := lw_g (lw_at lw_m2 33 rfl) rfl
theorem q463 : (Jvm.Cond.laysFinal "FactHouse$Facts" "FactHouse$Facts" "receivers" "[J") ∈ lw_all := lw_g (lw_at lw_m2 34 rfl) rfl
theorem q464 : (Jvm.Cond.soleField "FactHouse$Facts" "receivers") ∈ lw_all := lw_g (lw_at lw_m2 35 rfl) rfl
theorem q465 : (Jvm.Cond.superclass "FactHouse$Facts" "java/lang/Object") ∈ lw_all := lw_g (lw_at lw_m2 36 rfl) rfl
theorem q703 : (Jvm.Cond.fieldLink "FactHouse$Facts" (141 : Nat) "FactHouse$Program" "fields" "[[I") ∈ lw_all := lw_g (lw_at lw_m3 34 rfl) rfl
theorem q708 : (Jvm.Cond.fieldLink "FactHouse$Facts" (123 : Nat) "FactHouse$Program" "statics" "[I") ∈ lw_all := lw_g (lw_at lw_m3 39 rfl) rfl
theorem q716 : (Jvm.Cond.fieldLink "FactHouse$Facts" (148 : Nat) "FactHouse$Program" "methods" "[LFactHouse$Method;") ∈ lw_all := lw_g (lw_at lw_m3 47 rfl) rfl
theorem q719 : (Jvm.Cond.fieldLink "FactHouse$Facts" (104 : Nat) "FactHouse$Program" "places" "I") ∈ lw_all := lw_g (lw_at lw_m3 50 rfl) rfl
theorem q723 : (Jvm.Cond.fieldLink "FactHouse$Facts" (113 : Nat) "FactHouse$Program" "sites" "I") ∈ lw_all := lw_g (lw_at lw_m3 54 rfl) rfl
theorem q728 : (Jvm.Cond.fieldLink "FactHouse$Facts" (138 : Nat) "FactHouse$Program" "siteClass" "[I") ∈ lw_all := lw_g (lw_at lw_m3 59 rfl) rfl
theorem q734 : (Jvm.Cond.fieldLink "FactHouse$Facts" (421 : Nat) "FactHouse$Program" "siteOf" "[I") ∈ lw_all := lw_g (lw_at lw_m3 65 rfl) rfl
theorem q737 : (Jvm.Cond.fieldLink "FactHouse$Facts" (308 : Nat) "FactHouse$Program" "methodOf" "[I") ∈ lw_all := lw_g (lw_at lw_m3 68 rfl) rfl
theorem q744 : (Jvm.Cond.fieldLink "FactHouse$Facts" (152 : Nat) "FactHouse$Program" "roots" "[Z") ∈ lw_all := lw_g (lw_at lw_m3 75 rfl) rfl
theorem q904 : (Jvm.Cond.fieldLink "FactHouse$Facts" (407 : Nat) "FactHouse$Method" "number" "I") ∈ lw_all := lw_g (lw_at lw_m3 235 rfl) rfl
theorem q914 : (Jvm.Cond.fieldLink "FactHouse$Facts" (168 : Nat) "FactHouse$Method" "args" "I") ∈ lw_all := lw_g (lw_at lw_m4 5 rfl) rfl
theorem q923 : (Jvm.Cond.fieldLink "FactHouse$Facts" (481 : Nat) "FactHouse$Method" "gives" "I") ∈ lw_all := lw_g (lw_at lw_m4 14 rfl) rfl
theorem q926 : (Jvm.Cond.fieldLink "FactHouse$Facts" (163 : Nat) "FactHouse$Method" "kinds" "[I") ∈ lw_all := lw_g (lw_at lw_m4 17 rfl) rfl
theorem q937 : (Jvm.Cond.fieldLink "FactHouse$Facts" (314 : Nat) "FactHouse$Method" "ops" "[I") ∈ lw_all := lw_g (lw_at lw_m4 28 rfl) rfl
theorem q942 : (Jvm.Cond.fieldLink "FactHouse$Facts" (317 : Nat) "FactHouse$Method" "xs" "[I") ∈ lw_all := lw_g (lw_at lw_m4 33 rfl) rfl
theorem q947 : (Jvm.Cond.fieldLink "FactHouse$Facts" (320 : Nat) "FactHouse$Method" "ys" "[I") ∈ lw_all := lw_g (lw_at lw_m4 38 rfl) rfl
theorem q950 : (Jvm.Cond.fieldLink "FactHouse$Facts" (218 : Nat) "FactHouse$Method" "zs" "[I") ∈ lw_all := lw_g (lw_at lw_m4 41 rfl) rfl
theorem q960 : (Jvm.Cond.fieldLink "FactHouse$Facts" (390 : Nat) "FactHouse$Method" "handlers" "[LFactHouse$Handler;") ∈ lw_all := lw_g (lw_at lw_m4 51 rfl) rfl
theorem q963 : (Jvm.Cond.fieldLink "FactHouse$Facts" (202 : Nat) "FactHouse$Method" "first" "I") ∈ lw_all := lw_g (lw_at lw_m4 54 rfl) rfl
theorem q971 : (Jvm.Cond.fieldLink "FactHouse$Facts" (204 : Nat) "FactHouse$Method" "depths" "[I") ∈ lw_all := lw_g (lw_at lw_m4 62 rfl) rfl
theorem q1055 : (Jvm.Cond.fieldLink "FactHouse$Facts" (394 : Nat) "FactHouse$Handler" "from" "I") ∈ lw_all := lw_g (lw_at lw_m4 146 rfl) rfl
theorem q1059 : (Jvm.Cond.fieldLink "FactHouse$Facts" (397 : Nat) "FactHouse$Handler" "to" "I") ∈ lw_all := lw_g (lw_at lw_m4 150 rfl) rfl
theorem q1064 : (Jvm.Cond.fieldLink "FactHouse$Facts" (401 : Nat) "FactHouse$Handler" "at" "I") ∈ lw_all := lw_g (lw_at lw_m4 155 rfl) rfl
theorem q1068 : (Jvm.Cond.fieldLink "FactHouse$Facts" (398 : Nat) "FactHouse$Handler" "cls" "I") ∈ lw_all := lw_g (lw_at lw_m4 159 rfl) rfl
theorem q1303 : (Jvm.Cond.instanceMethod ({ cls := "FactHouse$Facts", name := "find", desc := "(LFactHouse$Program;)V" } : Jvm.MethodName)) ∈ lw_all := lw_g (lw_at lw_m5 154 rfl) rfl
theorem q1304 : (Jvm.Cond.selects "FactHouse$Facts" ({ cls := "FactHouse$Facts", name := "find", desc := "(LFactHouse$Program;)V" } : Jvm.MethodName) ({ cls := "FactHouse$Facts", name := "find", desc := "(LFactHouse$Program;)V" } : Jvm.MethodName)) ∈ lw_all := lw_g (lw_at lw_m5 155 rfl) rfl
theorem q1305 : (Jvm.Cond.code ({ cls := "FactHouse$Facts", name := "find", desc := "(LFactHouse$Program;)V" } : Jvm.MethodName) prog_5_method_8_code (3 : Nat) (Option.none : Option Jvm.ClassFile.FieldType)) ∈ lw_all := lw_g (lw_at lw_m5 156 rfl) rfl
theorem q1306 : (Jvm.Cond.methodLink "FactHouse$Facts" (144 : Nat) ({ cls := "FactHouse$Facts", name := "make", desc := "(LFactHouse$Program;)V" } : Jvm.MethodName)) ∈ lw_all := lw_g (lw_at lw_m5 157 rfl) rfl
theorem q1307 : (Jvm.Cond.privateMethod ({ cls := "FactHouse$Facts", name := "make", desc := "(LFactHouse$Program;)V" } : Jvm.MethodName)) ∈ lw_tbl := lw_at lw_m5 158 rfl
theorem q1308 : (Jvm.Cond.instanceMethod ({ cls := "FactHouse$Facts", name := "make", desc := "(LFactHouse$Program;)V" } : Jvm.MethodName)) ∈ lw_all := lw_g (lw_at lw_m5 159 rfl) rfl
theorem q1309 : (Jvm.Cond.code ({ cls := "FactHouse$Facts", name := "make", desc := "(LFactHouse$Program;)V" } : Jvm.MethodName) prog_5_method_2_code (4 : Nat) (Option.none : Option Jvm.ClassFile.FieldType)) ∈ lw_all := lw_g (lw_at lw_m5 160 rfl) rfl
theorem q1310 : (Jvm.Cond.methodLink "FactHouse$Facts" (110 : Nat) ({ cls := "FactHouse$State", name := "none", desc := "()V" } : Jvm.MethodName)) ∈ lw_all := lw_g (lw_at lw_m5 161 rfl) rfl
theorem q1318 : (Jvm.Cond.methodLink "FactHouse$Facts" (116 : Nat) ({ cls := "FactHouse$Cell", name := "none", desc := "()V" } : Jvm.MethodName)) ∈ lw_all := lw_g (lw_at lw_m5 169 rfl) rfl
theorem q1323 : (Jvm.Cond.methodLink "FactHouse$Facts" (117 : Nat) ({ cls := "FactHouse$Facts", name := "fieldsOf", desc := "(I)I" } : Jvm.MethodName)) ∈ lw_all := lw_g (lw_at lw_m5 174 rfl) rfl
theorem q1324 : (Jvm.Cond.instanceMethod ({ cls := "FactHouse$Facts", name := "fieldsOf", desc := "(I)I" } : Jvm.MethodName)) ∈ lw_all := lw_g (lw_at lw_m5 175 rfl) rfl
theorem q1325 : (Jvm.Cond.selects "FactHouse$Facts" ({ cls := "FactHouse$Facts", name := "fieldsOf", desc := "(I)I" } : Jvm.MethodName) ({ cls := "FactHouse$Facts", name := "fieldsOf", desc := "(I)I" } : Jvm.MethodName)) ∈ lw_all := lw_g (lw_at lw_m5 176 rfl) rfl
theorem q1326 : (Jvm.Cond.code ({ cls := "FactHouse$Facts", name := "fieldsOf", desc := "(I)I" } : Jvm.MethodName) prog_5_method_3_code (3 : Nat) (Option.some Jvm.ClassFile.FieldType.int)) ∈ lw_all := lw_g (lw_at lw_m5 177 rfl) rfl
theorem q1327 : (Jvm.Cond.methodLink "FactHouse$Facts" (121 : Nat) ({ cls := "FactHouse$Outcome", name := "none", desc := "()V" } : Jvm.MethodName)) ∈ lw_all := lw_g (lw_at lw_m5 178 rfl) rfl
theorem q1332 : (Jvm.Cond.methodLink "FactHouse$Facts" (122 : Nat) ({ cls := "FactHouse$Fact", name := "none", desc := "()V" } : Jvm.MethodName)) ∈ lw_all := lw_g (lw_at lw_m5 183 rfl) rfl
theorem q1333 : (Jvm.Cond.methodLink "FactHouse$Facts" (128 : Nat) ({ cls := "FactHouse$Fact", name := "first", desc := "(I)LFactHouse$Fact;" } : Jvm.MethodName)) ∈ lw_all := lw_g (lw_at lw_m5 184 rfl) rfl
theorem q1345 : (Jvm.Cond.methodLink "FactHouse$Facts" (155 : Nat) ({ cls := "FactHouse$Facts", name := "enterRoot", desc := "(LFactHouse$Method;)V" } : Jvm.MethodName)) ∈ lw_all := lw_g (lw_at lw_m5 196 rfl) rfl
theorem q1346 : (Jvm.Cond.privateMethod ({ cls := "FactHouse$Facts", name := "enterRoot", desc := "(LFactHouse$Method;)V" } : Jvm.MethodName)) ∈ lw_tbl := lw_at lw_m5 197 rfl
theorem q1347 : (Jvm.Cond.instanceMethod ({ cls := "FactHouse$Facts", name := "enterRoot", desc := "(LFactHouse$Method;)V" } : Jvm.MethodName)) ∈ lw_all := lw_g (lw_at lw_m5 198 rfl) rfl
theorem q1348 : (Jvm.Cond.code ({ cls := "FactHouse$Facts", name := "enterRoot", desc := "(LFactHouse$Method;)V" } : Jvm.MethodName) prog_5_method_9_code (3 : Nat) (Option.none : Option Jvm.ClassFile.FieldType)) ∈ lw_all := lw_g (lw_at lw_m5 199 rfl) rfl
theorem q1349 : (Jvm.Cond.constant "FactHouse$Facts" (176 : Nat) (-2147483648 : Int32)) ∈ lw_all := lw_g (lw_at lw_m5 200 rfl) rfl
theorem q1350 : (Jvm.Cond.constant "FactHouse$Facts" (177 : Nat) (2147483647 : Int32)) ∈ lw_all := lw_g (lw_at lw_m5 201 rfl) rfl
theorem q1351 : (Jvm.Cond.methodLink "FactHouse$Facts" (178 : Nat) ({ cls := "FactHouse$Fact", name := "number", desc := "(III)LFactHouse$Fact;" } : Jvm.MethodName)) ∈ lw_all := lw_g (lw_at lw_m5 202 rfl) rfl
theorem q1352 : (Jvm.Cond.methodLink "FactHouse$Facts" (182 : Nat) ({ cls := "FactHouse$Facts", name := "come", desc := "(LFactHouse$Method;ILFactHouse$State;)V" } : Jvm.MethodName)) ∈ lw_all := lw_g (lw_at lw_m5 203 rfl) rfl
theorem q1353 : (Jvm.Cond.privateMethod ({ cls := "FactHouse$Facts", name := "come", desc := "(LFactHouse$Method;ILFactHouse$State;)V" } : Jvm.MethodName)) ∈ lw_tbl := lw_at lw_m5 204 rfl
theorem q1354 : (Jvm.Cond.instanceMethod ({ cls := "FactHouse$Facts", name := "come", desc := "(LFactHouse$Method;ILFactHouse$State;)V" } : Jvm.MethodName)) ∈ lw_all := lw_g (lw_at lw_m5 205 rfl) rfl
theorem q1355 : (Jvm.Cond.code ({ cls := "FactHouse$Facts", name := "come", desc := "(LFactHouse$Method;ILFactHouse$State;)V" } : Jvm.MethodName) prog_5_method_13_code (4 : Nat) (Option.none : Option Jvm.ClassFile.FieldType)) ∈ lw_all := lw_g (lw_at lw_m5 206 rfl) rfl
theorem q1356 : (Jvm.Cond.methodLink "FactHouse$Facts" (207 : Nat) ({ cls := "FactHouse$State", name := "join", desc := "(LFactHouse$State;II)Z" } : Jvm.MethodName)) ∈ lw_all := lw_g (lw_at lw_m5 207 rfl) rfl
theorem q1375 : (Jvm.Cond.methodLink "FactHouse$Facts" (192 : Nat) ({ cls := "FactHouse$Facts", name := "wake", desc := "(I)V" } : Jvm.MethodName)) ∈ lw_all := lw_g (lw_at lw_m5 226 rfl) rfl
theorem q1376 : (Jvm.Cond.privateMethod ({ cls := "FactHouse$Facts", name := "wake", desc := "(I)V" } : Jvm.MethodName)) ∈ lw_tbl := lw_at lw_m5 227 rfl
theorem q1377 : (Jvm.Cond.instanceMethod ({ cls := "FactHouse$Facts", name := "wake", desc := "(I)V" } : Jvm.MethodName)) ∈ lw_all := lw_g (lw_at lw_m5 228 rfl) rfl
theorem q1378 : (Jvm.Cond.code ({ cls := "FactHouse$Facts", name := "wake", desc := "(I)V" } : Jvm.MethodName) prog_5_method_10_code (2 : Nat) (Option.none : Option Jvm.ClassFile.FieldType)) ∈ lw_all := lw_g (lw_at lw_m5 229 rfl) rfl
theorem q1379 : (Jvm.Cond.methodLink "FactHouse$Facts" (159 : Nat) ({ cls := "FactHouse$Facts", name := "work", desc := "(I)V" } : Jvm.MethodName)) ∈ lw_all := lw_g (lw_at lw_m5 230 rfl) rfl
theorem q1380 : (Jvm.Cond.privateMethod ({ cls := "FactHouse$Facts", name := "work", desc := "(I)V" } : Jvm.MethodName)) ∈ lw_tbl := lw_at lw_m5 231 rfl
theorem q1381 : (Jvm.Cond.instanceMethod ({ cls := "FactHouse$Facts", name := "work", desc := "(I)V" } : Jvm.MethodName)) ∈ lw_all := lw_g (lw_at lw_m5 232 rfl) rfl
theorem q1382 : (Jvm.Cond.code ({ cls := "FactHouse$Facts", name := "work", desc := "(I)V" } : Jvm.MethodName) prog_5_method_30_code (5 : Nat) (Option.none : Option Jvm.ClassFile.FieldType)) ∈ lw_all := lw_g (lw_at lw_m5 233 rfl) rfl
theorem q1383 : (Jvm.Cond.methodLink "FactHouse$Facts" (311 : Nat) ({ cls := "FactHouse$State", name := "become", desc := "(LFactHouse$State;)V" } : Jvm.MethodName)) ∈ lw_all := lw_g (lw_at lw_m5 234 rfl) rfl
theorem q1388 : (Jvm.Cond.methodLink "FactHouse$Facts" (323 : Nat) ({ cls := "FactHouse$Facts", name := "simple", desc := "(III)V" } : Jvm.MethodName)) ∈ lw_all := lw_g (lw_at lw_m5 239 rfl) rfl
theorem q1389 : (Jvm.Cond.privateMethod ({ cls := "FactHouse$Facts", name := "simple", desc := "(III)V" } : Jvm.MethodName)) ∈ lw_tbl := lw_at lw_m6 0 rfl
theorem q1390 : (Jvm.Cond.instanceMethod ({ cls := "FactHouse$Facts", name := "simple", desc := "(III)V" } : Jvm.MethodName)) ∈ lw_all := lw_g (lw_at lw_m6 1 rfl) rfl
theorem q1391 : (Jvm.Cond.code ({ cls := "FactHouse$Facts", name := "simple", desc := "(III)V" } : Jvm.MethodName) prog_5_method_31_code (6 : Nat) (Option.none : Option Jvm.ClassFile.FieldType)) ∈ lw_all := lw_g (lw_at lw_m6 2 rfl) rfl
theorem q1392 : (Jvm.Cond.methodLink "FactHouse$Facts" (342 : Nat) ({ cls := "FactHouse$Facts", name := "put", desc := "(LFactHouse$Fact;)V" } : Jvm.MethodName)) ∈ lw_all := lw_g (lw_at lw_m6 3 rfl) rfl
theorem q1393 : (Jvm.Cond.privateMethod ({ cls := "FactHouse$Facts", name := "put", desc := "(LFactHouse$Fact;)V" } : Jvm.MethodName)) ∈ lw_tbl := lw_at lw_m6 4 rfl
theorem q1394 : (Jvm.Cond.instanceMethod ({ cls := "FactHouse$Facts", name := "put", desc := "(LFactHouse$Fact;)V" } : Jvm.MethodName)) ∈ lw_all := lw_g (lw_at lw_m6 5 rfl) rfl
theorem q1395 : (Jvm.Cond.code ({ cls := "FactHouse$Facts", name := "put", desc := "(LFactHouse$Fact;)V" } : Jvm.MethodName) prog_5_method_28_code (2 : Nat) (Option.none : Option Jvm.ClassFile.FieldType)) ∈ lw_all := lw_g (lw_at lw_m6 6 rfl) rfl
theorem q1396 : (Jvm.Cond.methodLink "FactHouse$Facts" (304 : Nat) ({ cls := "FactHouse$Fact", name := "become", desc := "(LFactHouse$Fact;)LFactHouse$Fact;" } : Jvm.MethodName)) ∈ lw_all := lw_g (lw_at lw_m6 7 rfl) rfl
theorem q1397 : (Jvm.Cond.methodLink "FactHouse$Facts" (346 : Nat) ({ cls := "FactHouse$Fact", name := "sites", desc := "(J)LFactHouse$Fact;" } : Jvm.MethodName)) ∈ lw_all := lw_g (lw_at lw_m6 8 rfl) rfl
theorem q1398 : (Jvm.Cond.methodLink "FactHouse$Facts" (349 : Nat) ({ cls := "FactHouse$Facts", name := "take", desc := "(LFactHouse$Fact;)LFactHouse$Fact;" } : Jvm.MethodName)) ∈ lw_all := lw_g (lw_at lw_m6 9 rfl) rfl
theorem q1399 : (Jvm.Cond.privateMethod ({ cls := "FactHouse$Facts", name := "take", desc := "(LFactHouse$Fact;)LFactHouse$Fact;" } : Jvm.MethodName)) ∈ lw_tbl := lw_at lw_m6 10 rfl
theorem q1400 : (Jvm.Cond.instanceMethod ({ cls := "FactHouse$Facts", name := "take", desc := "(LFactHouse$Fact;)LFactHouse$Fact;" } : Jvm.MethodName)) ∈ lw_all := lw_g (lw_at lw_m6 11 rfl) rfl
theorem q1401 : (Jvm.Cond.code ({ cls := "FactHouse$Facts", name := "take", desc := "(LFactHouse$Fact;)LFactHouse$Fact;" } : Jvm.MethodName) prog_5_method_29_code (3 : Nat) (Option.some (Jvm.ClassFile.FieldType.object "FactHouse$Fact"))) ∈ lw_all := lw_g (lw_at lw_m6 12 rfl) rfl
theorem q1402 : (Jvm.Cond.methodLink "FactHouse$Facts" (352 : Nat) ({ cls := "FactHouse$Facts", name := "goOn", desc := "(I)V" } : Jvm.MethodName)) ∈ lw_all := lw_g (lw_at lw_m6 13 rfl) rfl
theorem q1403 : (Jvm.Cond.privateMethod ({ cls := "FactHouse$Facts", name := "goOn", desc := "(I)V" } : Jvm.MethodName)) ∈ lw_tbl := lw_at lw_m6 14 rfl
theorem q1404 : (Jvm.Cond.instanceMethod ({ cls := "FactHouse$Facts", name := "goOn", desc := "(I)V" } : Jvm.MethodName)) ∈ lw_all := lw_g (lw_at lw_m6 15 rfl) rfl
theorem q1405 : (Jvm.Cond.code ({ cls := "FactHouse$Facts", name := "goOn", desc := "(I)V" } : Jvm.MethodName) prog_5_method_14_code (2 : Nat) (Option.none : Option Jvm.ClassFile.FieldType)) ∈ lw_all := lw_g (lw_at lw_m6 16 rfl) rfl
theorem q1406 : (Jvm.Cond.methodLink "FactHouse$Facts" (327 : Nat) ({ cls := "FactHouse$Facts", name := "numbers", desc := "(III)V" } : Jvm.MethodName)) ∈ lw_all := lw_g (lw_at lw_m6 17 rfl) rfl
theorem q1407 : (Jvm.Cond.privateMethod ({ cls := "FactHouse$Facts", name := "numbers", desc := "(III)V" } : Jvm.MethodName)) ∈ lw_tbl := lw_at lw_m6 18 rfl
theorem q1408 : (Jvm.Cond.instanceMethod ({ cls := "FactHouse$Facts", name := "numbers", desc := "(III)V" } : Jvm.MethodName)) ∈ lw_all := lw_g (lw_at lw_m6 19 rfl) rfl
theorem q1409 : (Jvm.Cond.code ({ cls := "FactHouse$Facts", name := "numbers", desc := "(III)V" } : Jvm.MethodName) prog_5_method_32_code (6 : Nat) (Option.none : Option Jvm.ClassFile.FieldType)) ∈ lw_all := lw_g (lw_at lw_m6 20 rfl) rfl
theorem q1410 : (Jvm.Cond.methodLink "FactHouse$Facts" (221 : Nat) ({ cls := "FactHouse$Fact", name := "join", desc := "(LFactHouse$Fact;)Z" } : Jvm.MethodName)) ∈ lw_all := lw_g (lw_at lw_m6 21 rfl) rfl
theorem q1411 : (Jvm.Cond.methodLink "FactHouse$Facts" (282 : Nat) ({ cls := "FactHouse$Facts", name := "span", desc := "(JJI)V" } : Jvm.MethodName)) ∈ lw_all := lw_g (lw_at lw_m6 22 rfl) rfl
theorem q1412 : (Jvm.Cond.privateMethod ({ cls := "FactHouse$Facts", name := "span", desc := "(JJI)V" } : Jvm.MethodName)) ∈ lw_tbl := lw_at lw_m6 23 rfl
theorem q1413 : (Jvm.Cond.instanceMethod ({ cls := "FactHouse$Facts", name := "span", desc := "(JJI)V" } : Jvm.MethodName)) ∈ lw_all := lw_g (lw_at lw_m6 24 rfl) rfl
theorem q1414 : (Jvm.Cond.code ({ cls := "FactHouse$Facts", name := "span", desc := "(JJI)V" } : Jvm.MethodName) prog_5_method_19_code (6 : Nat) (Option.none : Option Jvm.ClassFile.FieldType)) ∈ lw_all := lw_g (lw_at lw_m6 25 rfl) rfl
theorem q1415 : (Jvm.Cond.methodLink "FactHouse$Facts" (238 : Nat) ({ cls := "FactHouse$Facts", name := "fits", desc := "(J)Z" } : Jvm.MethodName)) ∈ lw_all := lw_g (lw_at lw_m6 26 rfl) rfl
theorem q1416 : (Jvm.Cond.static ({ cls := "FactHouse$Facts", name := "fits", desc := "(J)Z" } : Jvm.MethodName)) ∈ lw_all := lw_g (lw_at lw_m6 27 rfl) rfl
theorem q1417 : (Jvm.Cond.code ({ cls := "FactHouse$Facts", name := "fits", desc := "(J)Z" } : Jvm.MethodName) prog_5_method_18_code (2 : Nat) (Option.some Jvm.ClassFile.FieldType.boolean)) ∈ lw_all := lw_g (lw_at lw_m6 28 rfl) rfl
theorem q1418 : (Jvm.Cond.constantLong "FactHouse$Facts" (234 : Nat) (-2147483648 : Int64)) ∈ lw_all := lw_g (lw_at lw_m6 29 rfl) rfl
theorem q1419 : (Jvm.Cond.constantLong "FactHouse$Facts" (236 : Nat) (2147483647 : Int64)) ∈ lw_all := lw_g (lw_at lw_m6 30 rfl) rfl
theorem q1420 : (Jvm.Cond.methodLink "FactHouse$Facts" (242 : Nat) ({ cls := "FactHouse$Program", name := "down", desc := "(J)I" } : Jvm.MethodName)) ∈ lw_all := lw_g (lw_at lw_m6 31 rfl) rfl
theorem q1424 : (Jvm.Cond.methodLink "FactHouse$Facts" (245 : Nat) ({ cls := "FactHouse$Program", name := "up", desc := "(J)I" } : Jvm.MethodName)) ∈ lw_all := lw_g (lw_at lw_m6 35 rfl) rfl
theorem q1428 : (Jvm.Cond.constantLong "FactHouse$Facts" (355 : Nat) (16 : Int64)) ∈ lw_all := lw_g (lw_at lw_m6 39 rfl) rfl
theorem q1429 : (Jvm.Cond.methodLink "FactHouse$Facts" (357 : Nat) ({ cls := "FactHouse$Facts", name := "hurl", desc := "(J)V" } : Jvm.MethodName)) ∈ lw_all := lw_g (lw_at lw_m6 40 rfl) rfl
theorem q1430 : (Jvm.Cond.privateMethod ({ cls := "FactHouse$Facts", name := "hurl", desc := "(J)V" } : Jvm.MethodName)) ∈ lw_tbl := lw_at lw_m6 41 rfl
theorem q1431 : (Jvm.Cond.instanceMethod ({ cls := "FactHouse$Facts", name := "hurl", desc := "(J)V" } : Jvm.MethodName)) ∈ lw_all := lw_g (lw_at lw_m6 42 rfl) rfl
theorem q1432 : (Jvm.Cond.code ({ cls := "FactHouse$Facts", name := "hurl", desc := "(J)V" } : Jvm.MethodName) prog_5_method_34_code (3 : Nat) (Option.none : Option Jvm.ClassFile.FieldType)) ∈ lw_all := lw_g (lw_at lw_m6 43 rfl) rfl
theorem q1433 : (Jvm.Cond.methodLink "FactHouse$Facts" (387 : Nat) ({ cls := "FactHouse$Facts", name := "hurl", desc := "(JII)V" } : Jvm.MethodName)) ∈ lw_all := lw_g (lw_at lw_m6 44 rfl) rfl
theorem q1434 : (Jvm.Cond.privateMethod ({ cls := "FactHouse$Facts", name := "hurl", desc := "(JII)V" } : Jvm.MethodName)) ∈ lw_tbl := lw_at lw_m6 45 rfl
theorem q1435 : (Jvm.Cond.instanceMethod ({ cls := "FactHouse$Facts", name := "hurl", desc := "(JII)V" } : Jvm.MethodName)) ∈ lw_all := lw_g (lw_at lw_m6 46 rfl) rfl
theorem q1436 : (Jvm.Cond.code ({ cls := "FactHouse$Facts", name := "hurl", desc := "(JII)V" } : Jvm.MethodName) prog_5_method_35_code (14 : Nat) (Option.none : Option Jvm.ClassFile.FieldType)) ∈ lw_all := lw_g (lw_at lw_m6 47 rfl) rfl
theorem q1437 : (Jvm.Cond.methodLink "FactHouse$Facts" (375 : Nat) ({ cls := "FactHouse$Program", name := "ofClass", desc := "(JI)J" } : Jvm.MethodName)) ∈ lw_all := lw_g (lw_at lw_m6 48 rfl) rfl
theorem q1449 : (Jvm.Cond.constantLong "FactHouse$Facts" (379 : Nat) (-1 : Int64)) ∈ lw_all := lw_g (lw_at lw_m6 60 rfl) rfl
theorem q1450 : (Jvm.Cond.methodLink "FactHouse$Facts" (404 : Nat) ({ cls := "FactHouse$Facts", name := "escape", desc := "(JII)V" } : Jvm.MethodName)) ∈ lw_all := lw_g (lw_at lw_m6 61 rfl) rfl
theorem q1451 : (Jvm.Cond.privateMethod ({ cls := "FactHouse$Facts", name := "escape", desc := "(JII)V" } : Jvm.MethodName)) ∈ lw_tbl := lw_at lw_m6 62 rfl
theorem q1452 : (Jvm.Cond.instanceMethod ({ cls := "FactHouse$Facts", name := "escape", desc := "(JII)V" } : Jvm.MethodName)) ∈ lw_all := lw_g (lw_at lw_m6 63 rfl) rfl
theorem q1453 : (Jvm.Cond.code ({ cls := "FactHouse$Facts", name := "escape", desc := "(JII)V" } : Jvm.MethodName) prog_5_method_36_code (7 : Nat) (Option.none : Option Jvm.ClassFile.FieldType)) ∈ lw_all := lw_g (lw_at lw_m6 64 rfl) rfl
theorem q1454 : (Jvm.Cond.methodLink "FactHouse$Facts" (227 : Nat) ({ cls := "FactHouse$Facts", name := "wakeAll", desc := "([J)V" } : Jvm.MethodName)) ∈ lw_all := lw_g (lw_at lw_m6 65 rfl) rfl
theorem q1455 : (Jvm.Cond.privateMethod ({ cls := "FactHouse$Facts", name := "wakeAll", desc := "([J)V" } : Jvm.MethodName)) ∈ lw_tbl := lw_at lw_m6 66 rfl
theorem q1456 : (Jvm.Cond.instanceMethod ({ cls := "FactHouse$Facts", name := "wakeAll", desc := "([J)V" } : Jvm.MethodName)) ∈ lw_all := lw_g (lw_at lw_m6 67 rfl) rfl
theorem q1457 : (Jvm.Cond.code ({ cls := "FactHouse$Facts", name := "wakeAll", desc := "([J)V" } : Jvm.MethodName) prog_5_method_11_code (5 : Nat) (Option.none : Option Jvm.ClassFile.FieldType)) ∈ lw_all := lw_g (lw_at lw_m6 68 rfl) rfl
theorem q1458 : (Jvm.Cond.methodLink "FactHouse$Facts" (186 : Nat) ({ cls := "java/lang/Long", name := "numberOfTrailingZeros", desc := "(J)I" } : Jvm.MethodName)) ∈ lw_all := lw_g (lw_at lw_m6 69 rfl) rfl
theorem q1465 : (Jvm.Cond.methodLink "FactHouse$Facts" (361 : Nat) ({ cls := "FactHouse$Facts", name := "reckon", desc := "(ILFactHouse$Fact;LFactHouse$Fact;)Z" } : Jvm.MethodName)) ∈ lw_all := lw_g (lw_at lw_m6 76 rfl) rfl
theorem q1466 : (Jvm.Cond.privateMethod ({ cls := "FactHouse$Facts", name := "reckon", desc := "(ILFactHouse$Fact;LFactHouse$Fact;)Z" } : Jvm.MethodName)) ∈ lw_tbl := lw_at lw_m6 77 rfl
theorem q1467 : (Jvm.Cond.instanceMethod ({ cls := "FactHouse$Facts", name := "reckon", desc := "(ILFactHouse$Fact;LFactHouse$Fact;)Z" } : Jvm.MethodName)) ∈ lw_all := lw_g (lw_at lw_m6 78 rfl) rfl
theorem q1468 : (Jvm.Cond.code ({ cls := "FactHouse$Facts", name := "reckon", desc := "(ILFactHouse$Fact;LFactHouse$Fact;)Z" } : Jvm.MethodName) prog_5_method_24_code (13 : Nat) (Option.some Jvm.ClassFile.FieldType.boolean)) ∈ lw_all := lw_g (lw_at lw_m6 79 rfl) rfl
theorem q1469 : (Jvm.Cond.methodLink "FactHouse$Facts" (272 : Nat) ({ cls := "FactHouse$Facts", name := "least", desc := "(JJJJ)J" } : Jvm.MethodName)) ∈ lw_all := lw_g (lw_at lw_m6 80 rfl) rfl
theorem q1470 : (Jvm.Cond.static ({ cls := "FactHouse$Facts", name := "least", desc := "(JJJJ)J" } : Jvm.MethodName)) ∈ lw_all := lw_g (lw_at lw_m6 81 rfl) rfl
theorem q1471 : (Jvm.Cond.code ({ cls := "FactHouse$Facts", name := "least", desc := "(JJJJ)J" } : Jvm.MethodName) prog_5_method_20_code (8 : Nat) (Option.some Jvm.ClassFile.FieldType.long)) ∈ lw_all := lw_g (lw_at lw_m6 82 rfl) rfl
theorem q1472 : (Jvm.Cond.methodLink "FactHouse$Facts" (248 : Nat) ({ cls := "java/lang/Math", name := "min", desc := "(JJ)J" } : Jvm.MethodName)) ∈ lw_all := lw_g (lw_at lw_m6 83 rfl) rfl
theorem q1475 : (Jvm.Cond.methodLink "FactHouse$Facts" (276 : Nat) ({ cls := "FactHouse$Facts", name := "most", desc := "(JJJJ)J" } : Jvm.MethodName)) ∈ lw_all := lw_g (lw_at lw_m6 86 rfl) rfl
theorem q1476 : (Jvm.Cond.static ({ cls := "FactHouse$Facts", name := "most", desc := "(JJJJ)J" } : Jvm.MethodName)) ∈ lw_all := lw_g (lw_at lw_m6 87 rfl) rfl
theorem q1477 : (Jvm.Cond.code ({ cls := "FactHouse$Facts", name := "most", desc := "(JJJJ)J" } : Jvm.MethodName) prog_5_method_21_code (8 : Nat) (Option.some Jvm.ClassFile.FieldType.long)) ∈ lw_all := lw_g (lw_at lw_m6 88 rfl) rfl
theorem q1478 : (Jvm.Cond.methodLink "FactHouse$Facts" (254 : Nat) ({ cls := "java/lang/Math", name := "max", desc := "(JJ)J" } : Jvm.MethodName)) ∈ lw_all := lw_g (lw_at lw_m6 89 rfl) rfl
theorem q1481 : (Jvm.Cond.methodLink "FactHouse$Facts" (290 : Nat) ({ cls := "FactHouse$Facts", name := "quotient", desc := "(LFactHouse$Fact;LFactHouse$Fact;)Z" } : Jvm.MethodName)) ∈ lw_all := lw_g (lw_at lw_m6 92 rfl) rfl
theorem q1482 : (Jvm.Cond.privateMethod ({ cls := "FactHouse$Facts", name := "quotient", desc := "(LFactHouse$Fact;LFactHouse$Fact;)Z" } : Jvm.MethodName)) ∈ lw_tbl := lw_at lw_m6 93 rfl
theorem q1483 : (Jvm.Cond.instanceMethod ({ cls := "FactHouse$Facts", name := "quotient", desc := "(LFactHouse$Fact;LFactHouse$Fact;)Z" } : Jvm.MethodName)) ∈ lw_all := lw_g (lw_at lw_m6 94 rfl) rfl
theorem q1484 : (Jvm.Cond.code ({ cls := "FactHouse$Facts", name := "quotient", desc := "(LFactHouse$Fact;LFactHouse$Fact;)Z" } : Jvm.MethodName) prog_5_method_22_code (12 : Nat) (Option.some Jvm.ClassFile.FieldType.boolean)) ∈ lw_all := lw_g (lw_at lw_m6 95 rfl) rfl
theorem q1485 : (Jvm.Cond.constantLong "FactHouse$Facts" (257 : Nat) (9223372036854775807 : Int64)) ∈ lw_all := lw_g (lw_at lw_m6 96 rfl) rfl
theorem q1486 : (Jvm.Cond.constantLong "FactHouse$Facts" (259 : Nat) (-9223372036854775808 : Int64)) ∈ lw_all := lw_g (lw_at lw_m6 97 rfl) rfl
theorem q1487 : (Jvm.Cond.methodLink "FactHouse$Facts" (264 : Nat) ({ cls := "java/lang/Math", name := "max", desc := "(II)I" } : Jvm.MethodName)) ∈ lw_all := lw_g (lw_at lw_m6 98 rfl) rfl
theorem q1488 : (Jvm.Cond.methodLink "FactHouse$Facts" (270 : Nat) ({ cls := "java/lang/Math", name := "min", desc := "(II)I" } : Jvm.MethodName)) ∈ lw_all := lw_g (lw_at lw_m6 99 rfl) rfl
theorem q1489 : (Jvm.Cond.methodLink "FactHouse$Facts" (294 : Nat) ({ cls := "FactHouse$Facts", name := "rest", desc := "(LFactHouse$Fact;LFactHouse$Fact;)Z" } : Jvm.MethodName)) ∈ lw_all := lw_g (lw_at lw_m6 100 rfl) rfl
theorem q1490 : (Jvm.Cond.privateMethod ({ cls := "FactHouse$Facts", name := "rest", desc := "(LFactHouse$Fact;LFactHouse$Fact;)Z" } : Jvm.MethodName)) ∈ lw_tbl := lw_at lw_m6 101 rfl
theorem q1491 : (Jvm.Cond.instanceMethod ({ cls := "FactHouse$Facts", name := "rest", desc := "(LFactHouse$Fact;LFactHouse$Fact;)Z" } : Jvm.MethodName)) ∈ lw_all := lw_g (lw_at lw_m6 102 rfl) rfl
theorem q1492 : (Jvm.Cond.code ({ cls := "FactHouse$Facts", name := "rest", desc := "(LFactHouse$Fact;LFactHouse$Fact;)Z" } : Jvm.MethodName) prog_5_method_23_code (9 : Nat) (Option.some Jvm.ClassFile.FieldType.boolean)) ∈ lw_all := lw_g (lw_at lw_m6 103 rfl) rfl
theorem q1493 : (Jvm.Cond.methodLink "FactHouse$Facts" (286 : Nat) ({ cls := "java/lang/Math", name := "abs", desc := "(J)J" } : Jvm.MethodName)) ∈ lw_all := lw_g (lw_at lw_m6 104 rfl) rfl
theorem q1496 : (Jvm.Cond.methodLink "FactHouse$Facts" (330 : Nat) ({ cls := "FactHouse$Facts", name := "jumps", desc := "(III)V" } : Jvm.MethodName)) ∈ lw_all := lw_g (lw_at lw_m6 107 rfl) rfl
theorem q1497 : (Jvm.Cond.privateMethod ({ cls := "FactHouse$Facts", name := "jumps", desc := "(III)V" } : Jvm.MethodName)) ∈ lw_tbl := lw_at lw_m6 108 rfl
theorem q1498 : (Jvm.Cond.instanceMethod ({ cls := "FactHouse$Facts", name := "jumps", desc := "(III)V" } : Jvm.MethodName)) ∈ lw_all := lw_g (lw_at lw_m6 109 rfl) rfl
theorem q1499 : (Jvm.Cond.code ({ cls := "FactHouse$Facts", name := "jumps", desc := "(III)V" } : Jvm.MethodName) prog_5_method_33_code (10 : Nat) (Option.none : Option Jvm.ClassFile.FieldType)) ∈ lw_all := lw_g (lw_at lw_m6 110 rfl) rfl
theorem q1500 : (Jvm.Cond.methodLink "FactHouse$Facts" (297 : Nat) ({ cls := "FactHouse$Facts", name := "may", desc := "(IIIII)Z" } : Jvm.MethodName)) ∈ lw_all := lw_g (lw_at lw_m6 111 rfl) rfl
theorem q1501 : (Jvm.Cond.static ({ cls := "FactHouse$Facts", name := "may", desc := "(IIIII)Z" } : Jvm.MethodName)) ∈ lw_all := lw_g (lw_at lw_m6 112 rfl) rfl
theorem q1502 : (Jvm.Cond.code ({ cls := "FactHouse$Facts", name := "may", desc := "(IIIII)Z" } : Jvm.MethodName) prog_5_method_25_code (5 : Nat) (Option.some Jvm.ClassFile.FieldType.boolean)) ∈ lw_all := lw_g (lw_at lw_m6 113 rfl) rfl
theorem q1503 : (Jvm.Cond.methodLink "FactHouse$Facts" (365 : Nat) ({ cls := "FactHouse$Facts", name := "turned", desc := "(I)I" } : Jvm.MethodName)) ∈ lw_all := lw_g (lw_at lw_m6 114 rfl) rfl
theorem q1504 : (Jvm.Cond.static ({ cls := "FactHouse$Facts", name := "turned", desc := "(I)I" } : Jvm.MethodName)) ∈ lw_all := lw_g (lw_at lw_m6 115 rfl) rfl
theorem q1505 : (Jvm.Cond.code ({ cls := "FactHouse$Facts", name := "turned", desc := "(I)I" } : Jvm.MethodName) prog_5_method_26_code (1 : Nat) (Option.some Jvm.ClassFile.FieldType.int)) ∈ lw_all := lw_g (lw_at lw_m6 116 rfl) rfl
theorem q1506 : (Jvm.Cond.methodLink "FactHouse$Facts" (368 : Nat) ({ cls := "FactHouse$Facts", name := "cut", desc := "(LFactHouse$Fact;II)Z" } : Jvm.MethodName)) ∈ lw_all := lw_g (lw_at lw_m6 117 rfl) rfl
theorem q1507 : (Jvm.Cond.static ({ cls := "FactHouse$Facts", name := "cut", desc := "(LFactHouse$Fact;II)Z" } : Jvm.MethodName)) ∈ lw_all := lw_g (lw_at lw_m6 118 rfl) rfl
theorem q1508 : (Jvm.Cond.code ({ cls := "FactHouse$Facts", name := "cut", desc := "(LFactHouse$Fact;II)Z" } : Jvm.MethodName) prog_5_method_27_code (3 : Nat) (Option.some Jvm.ClassFile.FieldType.boolean)) ∈ lw_all := lw_g (lw_at lw_m6 119 rfl) rfl
theorem q1509 : (Jvm.Cond.methodLink "FactHouse$Facts" (332 : Nat) ({ cls := "FactHouse$Facts", name := "objects", desc := "(III)V" } : Jvm.MethodName)) ∈ lw_all := lw_g (lw_at lw_m6 120 rfl) rfl
theorem q1510 : (Jvm.Cond.privateMethod ({ cls := "FactHouse$Facts", name := "objects", desc := "(III)V" } : Jvm.MethodName)) ∈ lw_tbl := lw_at lw_m6 121 rfl
theorem q1511 : (Jvm.Cond.instanceMethod ({ cls := "FactHouse$Facts", name := "objects", desc := "(III)V" } : Jvm.MethodName)) ∈ lw_all := lw_g (lw_at lw_m6 122 rfl) rfl
theorem q1512 : (Jvm.Cond.code ({ cls := "FactHouse$Facts", name := "objects", desc := "(III)V" } : Jvm.MethodName) prog_5_method_37_code (4 : Nat) (Option.none : Option Jvm.ClassFile.FieldType)) ∈ lw_all := lw_g (lw_at lw_m6 123 rfl) rfl
theorem q1513 : (Jvm.Cond.methodLink "FactHouse$Facts" (424 : Nat) ({ cls := "FactHouse$Facts", name := "makeNew", desc := "(I)V" } : Jvm.MethodName)) ∈ lw_all := lw_g (lw_at lw_m6 124 rfl) rfl
theorem q1514 : (Jvm.Cond.privateMethod ({ cls := "FactHouse$Facts", name := "makeNew", desc := "(I)V" } : Jvm.MethodName)) ∈ lw_tbl := lw_at lw_m6 125 rfl
theorem q1515 : (Jvm.Cond.instanceMethod ({ cls := "FactHouse$Facts", name := "makeNew", desc := "(I)V" } : Jvm.MethodName)) ∈ lw_all := lw_g (lw_at lw_m6 126 rfl) rfl
theorem q1516 : (Jvm.Cond.code ({ cls := "FactHouse$Facts", name := "makeNew", desc := "(I)V" } : Jvm.MethodName) prog_5_method_38_code (3 : Nat) (Option.none : Option Jvm.ClassFile.FieldType)) ∈ lw_all := lw_g (lw_at lw_m6 127 rfl) rfl
theorem q1517 : (Jvm.Cond.methodLink "FactHouse$Facts" (446 : Nat) ({ cls := "FactHouse$Facts", name := "kindOf", desc := "(II)I" } : Jvm.MethodName)) ∈ lw_all := lw_g (lw_at lw_m6 128 rfl) rfl
theorem q1518 : (Jvm.Cond.instanceMethod ({ cls := "FactHouse$Facts", name := "kindOf", desc := "(II)I" } : Jvm.MethodName)) ∈ lw_all := lw_g (lw_at lw_m6 129 rfl) rfl
theorem q1519 : (Jvm.Cond.selects "FactHouse$Facts" ({ cls := "FactHouse$Facts", name := "kindOf", desc := "(II)I" } : Jvm.MethodName) ({ cls := "FactHouse$Facts", name := "kindOf", desc := "(II)I" } : Jvm.MethodName)) ∈ lw_all := lw_g (lw_at lw_m6 130 rfl) rfl
theorem q1520 : (Jvm.Cond.code ({ cls := "FactHouse$Facts", name := "kindOf", desc := "(II)I" } : Jvm.MethodName) prog_5_method_4_code (4 : Nat) (Option.some Jvm.ClassFile.FieldType.int)) ∈ lw_all := lw_g (lw_at lw_m6 131 rfl) rfl
theorem q1521 : (Jvm.Cond.methodLink "FactHouse$Facts" (443 : Nat) ({ cls := "FactHouse$Facts", name := "join", desc := "(LFactHouse$Cell;LFactHouse$Fact;)V" } : Jvm.MethodName)) ∈ lw_all := lw_g (lw_at lw_m6 132 rfl) rfl
theorem q1522 : (Jvm.Cond.privateMethod ({ cls := "FactHouse$Facts", name := "join", desc := "(LFactHouse$Cell;LFactHouse$Fact;)V" } : Jvm.MethodName)) ∈ lw_tbl := lw_at lw_m6 133 rfl
theorem q1523 : (Jvm.Cond.instanceMethod ({ cls := "FactHouse$Facts", name := "join", desc := "(LFactHouse$Cell;LFactHouse$Fact;)V" } : Jvm.MethodName)) ∈ lw_all := lw_g (lw_at lw_m6 134 rfl) rfl
theorem q1524 : (Jvm.Cond.code ({ cls := "FactHouse$Facts", name := "join", desc := "(LFactHouse$Cell;LFactHouse$Fact;)V" } : Jvm.MethodName) prog_5_method_16_code (3 : Nat) (Option.none : Option Jvm.ClassFile.FieldType)) ∈ lw_all := lw_g (lw_at lw_m6 135 rfl) rfl
theorem q1525 : (Jvm.Cond.methodLink "FactHouse$Facts" (427 : Nat) ({ cls := "FactHouse$Facts", name := "makeArray", desc := "(II)V" } : Jvm.MethodName)) ∈ lw_all := lw_g (lw_at lw_m6 136 rfl) rfl
theorem q1526 : (Jvm.Cond.privateMethod ({ cls := "FactHouse$Facts", name := "makeArray", desc := "(II)V" } : Jvm.MethodName)) ∈ lw_tbl := lw_at lw_m6 137 rfl
theorem q1527 : (Jvm.Cond.instanceMethod ({ cls := "FactHouse$Facts", name := "makeArray", desc := "(II)V" } : Jvm.MethodName)) ∈ lw_all := lw_g (lw_at lw_m6 138 rfl) rfl
theorem q1528 : (Jvm.Cond.code ({ cls := "FactHouse$Facts", name := "makeArray", desc := "(II)V" } : Jvm.MethodName) prog_5_method_39_code (3 : Nat) (Option.none : Option Jvm.ClassFile.FieldType)) ∈ lw_all := lw_g (lw_at lw_m6 139 rfl) rfl
theorem q1529 : (Jvm.Cond.constantLong "FactHouse$Facts" (449 : Nat) (8 : Int64)) ∈ lw_all := lw_g (lw_at lw_m6 140 rfl) rfl
theorem q1530 : (Jvm.Cond.methodLink "FactHouse$Facts" (430 : Nat) ({ cls := "FactHouse$Facts", name := "lengthOf", desc := "()V" } : Jvm.MethodName)) ∈ lw_all := lw_g (lw_at lw_m6 141 rfl) rfl
theorem q1531 : (Jvm.Cond.privateMethod ({ cls := "FactHouse$Facts", name := "lengthOf", desc := "()V" } : Jvm.MethodName)) ∈ lw_tbl := lw_at lw_m6 142 rfl
theorem q1532 : (Jvm.Cond.instanceMethod ({ cls := "FactHouse$Facts", name := "lengthOf", desc := "()V" } : Jvm.MethodName)) ∈ lw_all := lw_g (lw_at lw_m6 143 rfl) rfl
theorem q1533 : (Jvm.Cond.code ({ cls := "FactHouse$Facts", name := "lengthOf", desc := "()V" } : Jvm.MethodName) prog_5_method_41_code (4 : Nat) (Option.none : Option Jvm.ClassFile.FieldType)) ∈ lw_all := lw_g (lw_at lw_m6 144 rfl) rfl
theorem q1534 : (Jvm.Cond.methodLink "FactHouse$Facts" (457 : Nat) ({ cls := "FactHouse$Program", name := "arrays", desc := "(JI)J" } : Jvm.MethodName)) ∈ lw_all := lw_g (lw_at lw_m6 145 rfl) rfl
theorem q1538 : (Jvm.Cond.methodLink "FactHouse$Facts" (460 : Nat) ({ cls := "FactHouse$Facts", name := "refuse", desc := "(LFactHouse$Fact;J)V" } : Jvm.MethodName)) ∈ lw_all := lw_g (lw_at lw_m6 149 rfl) rfl
theorem q1539 : (Jvm.Cond.privateMethod ({ cls := "FactHouse$Facts", name := "refuse", desc := "(LFactHouse$Fact;J)V" } : Jvm.MethodName)) ∈ lw_tbl := lw_at lw_m6 150 rfl
theorem q1540 : (Jvm.Cond.instanceMethod ({ cls := "FactHouse$Facts", name := "refuse", desc := "(LFactHouse$Fact;J)V" } : Jvm.MethodName)) ∈ lw_all := lw_g (lw_at lw_m6 151 rfl) rfl
theorem q1541 : (Jvm.Cond.code ({ cls := "FactHouse$Facts", name := "refuse", desc := "(LFactHouse$Fact;J)V" } : Jvm.MethodName) prog_5_method_40_code (4 : Nat) (Option.none : Option Jvm.ClassFile.FieldType)) ∈ lw_all := lw_g (lw_at lw_m6 152 rfl) rfl
theorem q1542 : (Jvm.Cond.constantLong "FactHouse$Facts" (451 : Nat) (2 : Int64)) ∈ lw_all := lw_g (lw_at lw_m6 153 rfl) rfl
theorem q1543 : (Jvm.Cond.constantLong "FactHouse$Facts" (453 : Nat) (-2 : Int64)) ∈ lw_all := lw_g (lw_at lw_m6 154 rfl) rfl
theorem q1544 : (Jvm.Cond.constantLong "FactHouse$Facts" (455 : Nat) (32 : Int64)) ∈ lw_all := lw_g (lw_at lw_m6 155 rfl) rfl
theorem q1545 : (Jvm.Cond.methodLink "FactHouse$Facts" (439 : Nat) ({ cls := "FactHouse$Facts", name := "gather", desc := "(LFactHouse$Cell;)V" } : Jvm.MethodName)) ∈ lw_all := lw_g (lw_at lw_m6 156 rfl) rfl
theorem q1546 : (Jvm.Cond.privateMethod ({ cls := "FactHouse$Facts", name := "gather", desc := "(LFactHouse$Cell;)V" } : Jvm.MethodName)) ∈ lw_tbl := lw_at lw_m6 157 rfl
theorem q1547 : (Jvm.Cond.instanceMethod ({ cls := "FactHouse$Facts", name := "gather", desc := "(LFactHouse$Cell;)V" } : Jvm.MethodName)) ∈ lw_all := lw_g (lw_at lw_m6 158 rfl) rfl
theorem q1548 : (Jvm.Cond.code ({ cls := "FactHouse$Facts", name := "gather", desc := "(LFactHouse$Cell;)V" } : Jvm.MethodName) prog_5_method_17_code (2 : Nat) (Option.none : Option Jvm.ClassFile.FieldType)) ∈ lw_all := lw_g (lw_at lw_m6 159 rfl) rfl
theorem q1549 : (Jvm.Cond.methodLink "FactHouse$Facts" (231 : Nat) ({ cls := "FactHouse$Facts", name := "use", desc := "([J)V" } : Jvm.MethodName)) ∈ lw_all := lw_g (lw_at lw_m6 160 rfl) rfl
theorem q1550 : (Jvm.Cond.privateMethod ({ cls := "FactHouse$Facts", name := "use", desc := "([J)V" } : Jvm.MethodName)) ∈ lw_tbl := lw_at lw_m6 161 rfl
theorem q1551 : (Jvm.Cond.instanceMethod ({ cls := "FactHouse$Facts", name := "use", desc := "([J)V" } : Jvm.MethodName)) ∈ lw_all := lw_g (lw_at lw_m6 162 rfl) rfl
theorem q1552 : (Jvm.Cond.code ({ cls := "FactHouse$Facts", name := "use", desc := "([J)V" } : Jvm.MethodName) prog_5_method_12_code (2 : Nat) (Option.none : Option Jvm.ClassFile.FieldType)) ∈ lw_all := lw_g (lw_at lw_m6 163 rfl) rfl
theorem q1553 : (Jvm.Cond.methodLink "FactHouse$Facts" (433 : Nat) ({ cls := "FactHouse$Facts", name := "element", desc := "(II)V" } : Jvm.MethodName)) ∈ lw_all := lw_g (lw_at lw_m6 164 rfl) rfl
theorem q1554 : (Jvm.Cond.privateMethod ({ cls := "FactHouse$Facts", name := "element", desc := "(II)V" } : Jvm.MethodName)) ∈ lw_tbl := lw_at lw_m6 165 rfl
theorem q1555 : (Jvm.Cond.instanceMethod ({ cls := "FactHouse$Facts", name := "element", desc := "(II)V" } : Jvm.MethodName)) ∈ lw_all := lw_g (lw_at lw_m6 166 rfl) rfl
theorem q1556 : (Jvm.Cond.code ({ cls := "FactHouse$Facts", name := "element", desc := "(II)V" } : Jvm.MethodName) prog_5_method_42_code (9 : Nat) (Option.none : Option Jvm.ClassFile.FieldType)) ∈ lw_all := lw_g (lw_at lw_m6 167 rfl) rfl
theorem q1557 : (Jvm.Cond.constantLong "FactHouse$Facts" (467 : Nat) (4 : Int64)) ∈ lw_all := lw_g (lw_at lw_m6 168 rfl) rfl
theorem q1558 : (Jvm.Cond.methodLink "FactHouse$Facts" (436 : Nat) ({ cls := "FactHouse$Facts", name := "fieldAct", desc := "(III)V" } : Jvm.MethodName)) ∈ lw_all := lw_g (lw_at lw_m6 169 rfl) rfl
theorem q1559 : (Jvm.Cond.privateMethod ({ cls := "FactHouse$Facts", name := "fieldAct", desc := "(III)V" } : Jvm.MethodName)) ∈ lw_tbl := lw_at lw_m6 170 rfl
theorem q1560 : (Jvm.Cond.instanceMethod ({ cls := "FactHouse$Facts", name := "fieldAct", desc := "(III)V" } : Jvm.MethodName)) ∈ lw_all := lw_g (lw_at lw_m6 171 rfl) rfl
theorem q1561 : (Jvm.Cond.code ({ cls := "FactHouse$Facts", name := "fieldAct", desc := "(III)V" } : Jvm.MethodName) prog_5_method_43_code (7 : Nat) (Option.none : Option Jvm.ClassFile.FieldType)) ∈ lw_all := lw_g (lw_at lw_m6 172 rfl) rfl
theorem q1562 : (Jvm.Cond.methodLink "FactHouse$Facts" (335 : Nat) ({ cls := "FactHouse$Facts", name := "calls", desc := "(III)V" } : Jvm.MethodName)) ∈ lw_all := lw_g (lw_at lw_m6 173 rfl) rfl
theorem q1563 : (Jvm.Cond.privateMethod ({ cls := "FactHouse$Facts", name := "calls", desc := "(III)V" } : Jvm.MethodName)) ∈ lw_tbl := lw_at lw_m6 174 rfl
theorem q1564 : (Jvm.Cond.instanceMethod ({ cls := "FactHouse$Facts", name := "calls", desc := "(III)V" } : Jvm.MethodName)) ∈ lw_all := lw_g (lw_at lw_m6 175 rfl) rfl
theorem q1565 : (Jvm.Cond.code ({ cls := "FactHouse$Facts", name := "calls", desc := "(III)V" } : Jvm.MethodName) prog_5_method_44_code (12 : Nat) (Option.none : Option Jvm.ClassFile.FieldType)) ∈ lw_all := lw_g (lw_at lw_m6 176 rfl) rfl
theorem q1566 : (Jvm.Cond.methodLink "FactHouse$Facts" (469 : Nat) ({ cls := "FactHouse$Facts", name := "call", desc := "(LFactHouse$Method;J)V" } : Jvm.MethodName)) ∈ lw_all := lw_g (lw_at lw_m6 177 rfl) rfl
theorem q1567 : (Jvm.Cond.privateMethod ({ cls := "FactHouse$Facts", name := "call", desc := "(LFactHouse$Method;J)V" } : Jvm.MethodName)) ∈ lw_tbl := lw_at lw_m6 178 rfl
theorem q1568 : (Jvm.Cond.instanceMethod ({ cls := "FactHouse$Facts", name := "call", desc := "(LFactHouse$Method;J)V" } : Jvm.MethodName)) ∈ lw_all := lw_g (lw_at lw_m6 179 rfl) rfl
theorem q1569 : (Jvm.Cond.code ({ cls := "FactHouse$Facts", name := "call", desc := "(LFactHouse$Method;J)V" } : Jvm.MethodName) prog_5_method_47_code (12 : Nat) (Option.none : Option Jvm.ClassFile.FieldType)) ∈ lw_all := lw_g (lw_at lw_m6 180 rfl) rfl
theorem q1570 : (Jvm.Cond.methodLink "FactHouse$Facts" (496 : Nat) ({ cls := "FactHouse$Facts", name := "enter", desc := "(LFactHouse$Method;ZII)V" } : Jvm.MethodName)) ∈ lw_all := lw_g (lw_at lw_m6 181 rfl) rfl
theorem q1571 : (Jvm.Cond.privateMethod ({ cls := "FactHouse$Facts", name := "enter", desc := "(LFactHouse$Method;ZII)V" } : Jvm.MethodName)) ∈ lw_tbl := lw_at lw_m6 182 rfl
theorem q1572 : (Jvm.Cond.instanceMethod ({ cls := "FactHouse$Facts", name := "enter", desc := "(LFactHouse$Method;ZII)V" } : Jvm.MethodName)) ∈ lw_all := lw_g (lw_at lw_m6 183 rfl) rfl
theorem q1573 : (Jvm.Cond.code ({ cls := "FactHouse$Facts", name := "enter", desc := "(LFactHouse$Method;ZII)V" } : Jvm.MethodName) prog_5_method_46_code (6 : Nat) (Option.none : Option Jvm.ClassFile.FieldType)) ∈ lw_all := lw_g (lw_at lw_m6 184 rfl) rfl
theorem q1574 : (Jvm.Cond.methodLink "FactHouse$Facts" (503 : Nat) ({ cls := "FactHouse$Facts", name := "unlock", desc := "(LFactHouse$Outcome;I)V" } : Jvm.MethodName)) ∈ lw_all := lw_g (lw_at lw_m6 185 rfl) rfl
theorem q1575 : (Jvm.Cond.privateMethod ({ cls := "FactHouse$Facts", name := "unlock", desc := "(LFactHouse$Outcome;I)V" } : Jvm.MethodName)) ∈ lw_tbl := lw_at lw_m6 186 rfl
theorem q1576 : (Jvm.Cond.instanceMethod ({ cls := "FactHouse$Facts", name := "unlock", desc := "(LFactHouse$Outcome;I)V" } : Jvm.MethodName)) ∈ lw_all := lw_g (lw_at lw_m6 187 rfl) rfl
theorem q1577 : (Jvm.Cond.code ({ cls := "FactHouse$Facts", name := "unlock", desc := "(LFactHouse$Outcome;I)V" } : Jvm.MethodName) prog_5_method_48_code (3 : Nat) (Option.none : Option Jvm.ClassFile.FieldType)) ∈ lw_all := lw_g (lw_at lw_m6 188 rfl) rfl
theorem q1578 : (Jvm.Cond.methodLink "FactHouse$Facts" (473 : Nat) ({ cls := "FactHouse$Program", name := "named", desc := "(I)LFactHouse$Method;" } : Jvm.MethodName)) ∈ lw_all := lw_g (lw_at lw_m6 189 rfl) rfl
theorem q1579 : (Jvm.Cond.methodLink "FactHouse$Facts" (477 : Nat) ({ cls := "FactHouse$Facts", name := "findReceivers", desc := "(LFactHouse$Fact;I)J" } : Jvm.MethodName)) ∈ lw_all := lw_g (lw_at lw_m6 190 rfl) rfl
theorem q1580 : (Jvm.Cond.privateMethod ({ cls := "FactHouse$Facts", name := "findReceivers", desc := "(LFactHouse$Fact;I)J" } : Jvm.MethodName)) ∈ lw_tbl := lw_at lw_m6 191 rfl
theorem q1581 : (Jvm.Cond.instanceMethod ({ cls := "FactHouse$Facts", name := "findReceivers", desc := "(LFactHouse$Fact;I)J" } : Jvm.MethodName)) ∈ lw_all := lw_g (lw_at lw_m6 192 rfl) rfl
theorem q1582 : (Jvm.Cond.code ({ cls := "FactHouse$Facts", name := "findReceivers", desc := "(LFactHouse$Fact;I)J" } : Jvm.MethodName) prog_5_method_45_code (7 : Nat) (Option.some Jvm.ClassFile.FieldType.long)) ∈ lw_all := lw_g (lw_at lw_m6 193 rfl) rfl
theorem q1583 : (Jvm.Cond.methodLink "FactHouse$Facts" (492 : Nat) ({ cls := "FactHouse$Program", name := "find", desc := "(II)LFactHouse$Method;" } : Jvm.MethodName)) ∈ lw_all := lw_g (lw_at lw_m6 194 rfl) rfl
theorem q1587 : (Jvm.Cond.methodLink "FactHouse$Facts" (338 : Nat) ({ cls := "FactHouse$Facts", name := "threads", desc := "(II)V" } : Jvm.MethodName)) ∈ lw_all := lw_g (lw_at lw_m6 198 rfl) rfl
theorem q1588 : (Jvm.Cond.privateMethod ({ cls := "FactHouse$Facts", name := "threads", desc := "(II)V" } : Jvm.MethodName)) ∈ lw_tbl := lw_at lw_m6 199 rfl
theorem q1589 : (Jvm.Cond.instanceMethod ({ cls := "FactHouse$Facts", name := "threads", desc := "(II)V" } : Jvm.MethodName)) ∈ lw_all := lw_g (lw_at lw_m6 200 rfl) rfl
theorem q1590 : (Jvm.Cond.code ({ cls := "FactHouse$Facts", name := "threads", desc := "(II)V" } : Jvm.MethodName) prog_5_method_49_code (7 : Nat) (Option.none : Option Jvm.ClassFile.FieldType)) ∈ lw_all := lw_g (lw_at lw_m6 201 rfl) rfl
theorem q1591 : (Jvm.Cond.constantLong "FactHouse$Facts" (507 : Nat) (64 : Int64)) ∈ lw_all := lw_g (lw_at lw_m6 202 rfl) rfl
theorem q1643 : (Jvm.Cond.instanceMethod ({ cls := "FactHouse$Facts", name := "goes", desc := "(LFactHouse$Method;II)Z" } : Jvm.MethodName)) ∈ lw_all := lw_g (lw_at lw_m7 14 rfl) rfl
theorem q1644 : (Jvm.Cond.selects "FactHouse$Facts" ({ cls := "FactHouse$Facts", name := "goes", desc := "(LFactHouse$Method;II)Z" } : Jvm.MethodName) ({ cls := "FactHouse$Facts", name := "goes", desc := "(LFactHouse$Method;II)Z" } : Jvm.MethodName)) ∈ lw_all := lw_g (lw_at lw_m7 15 rfl) rfl
theorem q1645 : (Jvm.Cond.code ({ cls := "FactHouse$Facts", name := "goes", desc := "(LFactHouse$Method;II)Z" } : Jvm.MethodName) prog_5_method_15_code (4 : Nat) (Option.some Jvm.ClassFile.FieldType.boolean)) ∈ lw_all := lw_g (lw_at lw_m7 16 rfl) rfl
theorem q1735 : (Jvm.Cond.instanceMethod ({ cls := "FactHouse$Facts", name := "field", desc := "(II)LFactHouse$Fact;" } : Jvm.MethodName)) ∈ lw_all := lw_g (lw_at lw_m7 106 rfl) rfl
theorem q1736 : (Jvm.Cond.selects "FactHouse$Facts" ({ cls := "FactHouse$Facts", name := "field", desc := "(II)LFactHouse$Fact;" } : Jvm.MethodName) ({ cls := "FactHouse$Facts", name := "field", desc := "(II)LFactHouse$Fact;" } : Jvm.MethodName)) ∈ lw_all := lw_g (lw_at lw_m7 107 rfl) rfl
theorem q1737 : (Jvm.Cond.code ({ cls := "FactHouse$Facts", name := "field", desc := "(II)LFactHouse$Fact;" } : Jvm.MethodName) prog_5_method_5_code (3 : Nat) (Option.some (Jvm.ClassFile.FieldType.object "FactHouse$Fact"))) ∈ lw_all := lw_g (lw_at lw_m7 108 rfl) rfl
theorem q1739 : (Jvm.Cond.instanceMethod ({ cls := "FactHouse$Facts", name := "length", desc := "(I)LFactHouse$Fact;" } : Jvm.MethodName)) ∈ lw_all := lw_g (lw_at lw_m7 110 rfl) rfl
theorem q1740 : (Jvm.Cond.selects "FactHouse$Facts" ({ cls := "FactHouse$Facts", name := "length", desc := "(I)LFactHouse$Fact;" } : Jvm.MethodName) ({ cls := "FactHouse$Facts", name := "length", desc := "(I)LFactHouse$Fact;" } : Jvm.MethodName)) ∈ lw_all := lw_g (lw_at lw_m7 111 rfl) rfl
theorem q1741 : (Jvm.Cond.code ({ cls := "FactHouse$Facts", name := "length", desc := "(I)LFactHouse$Fact;" } : Jvm.MethodName) prog_5_method_6_code (2 : Nat) (Option.some (Jvm.ClassFile.FieldType.object "FactHouse$Fact"))) ∈ lw_all := lw_g (lw_at lw_m7 112 rfl) rfl
theorem q1750 : (Jvm.Cond.instanceMethod ({ cls := "FactHouse$Facts", name := "statics", desc := "(I)LFactHouse$Fact;" } : Jvm.MethodName)) ∈ lw_all := lw_g (lw_at lw_m7 121 rfl) rfl
theorem q1751 : (Jvm.Cond.selects "FactHouse$Facts" ({ cls := "FactHouse$Facts", name := "statics", desc := "(I)LFactHouse$Fact;" } : Jvm.MethodName) ({ cls := "FactHouse$Facts", name := "statics", desc := "(I)LFactHouse$Fact;" } : Jvm.MethodName)) ∈ lw_all := lw_g (lw_at lw_m7 122 rfl) rfl
theorem q1752 : (Jvm.Cond.code ({ cls := "FactHouse$Facts", name := "statics", desc := "(I)LFactHouse$Fact;" } : Jvm.MethodName) prog_5_method_7_code (2 : Nat) (Option.some (Jvm.ClassFile.FieldType.object "FactHouse$Fact"))) ∈ lw_all := lw_g (lw_at lw_m7 123 rfl) rfl
theorem in_X2 : ∀ w ∈ wsX20, w ∈ lw_all := lw_in wsX20 [407, 409, 411, 413, 415, 417, 419, 421, 423, 425, 427, 429, 431, 433, 435, 437, 439, 441, 443, 445, 447, 449, 451, 453, 455, 457, 459, 461, 463] (by decide +kernel) (by decide +kernel)
/-! FactHouse$State -/
def RX3 : String := "FactHouse$State"
def TX3 : u_T := fun k => match k with
  | 0 => ("FactHouse$State", "reached", "Z", false)
  | 1 => ("FactHouse$State", "slots", "[LFactHouse$Fact;", true)
  | 2 => ("FactHouse$State", "sure", "I", false)
  | _ => ("FactHouse$State", "perhaps", "I", false)
def tyX3 : Nat → FieldType := fun k => match k with
  | 0 => .boolean
  | 1 => .array (.object "FactHouse$Fact")
  | 2 => .int
  | _ => .int
abbrev wsX30 : List Cond := u_ws RX3 TX3 4
theorem nmX3 : ∀ a, a < 4 → ∀ b, b < 4 → a ≠ b → (TX3 a).2.1 ≠ (TX3 b).2.1 := by decide +kernel
theorem tyX3_ok : ∀ k, k < 4 → parseFieldDescriptor (TX3 k).2.2.1 = some (tyX3 k) := by decide +kernel
abbrev cX3_init : ByteArray := prog_13_method_1_code
def yX3_init : MethodName := ⟨RX3, "<init>", "()V"⟩
abbrev cX3_none : ByteArray := prog_13_method_2_code
def yX3_none : MethodName := ⟨RX3, "none", "()V"⟩
abbrev cX3_join : ByteArray := prog_13_method_4_code
def yX3_join : MethodName := ⟨RX3, "join", "(LFactHouse$State;II)Z"⟩
abbrev cX3_become : ByteArray := prog_13_method_3_code
def yX3_become : MethodName := ⟨RX3, "become", "(LFactHouse$State;)V"⟩
theorem q192 : (Jvm.Cond.initialized "FactHouse$State") ∈ lw_all := lw_g (lw_at lw_m1 3 rfl) rfl
theorem q243 : (Jvm.Cond.instantiable "FactHouse$State" (4 : Nat)) ∈ lw_all := lw_g (lw_at lw_m1 54 rfl) rfl
theorem q245 : (Jvm.Cond.instanceMethod ({ cls := "FactHouse$State", name := "<init>", desc := "()V" } : Jvm.MethodName)) ∈ lw_all := lw_g (lw_at lw_m1 56 rfl) rfl
theorem q246 : (Jvm.Cond.code ({ cls := "FactHouse$State", name := "<init>", desc := "()V" } : Jvm.MethodName) prog_13_method_1_code (2 : Nat) (Option.none : Option Jvm.ClassFile.FieldType)) ∈ lw_all := lw_g (lw_at lw_m1 57 rfl) rfl
theorem q247 : (Jvm.Cond.methodLink "FactHouse$State" (3 : Nat) ({ cls := "java/lang/Object", name := "<init>", desc := "()V" } : Jvm.MethodName)) ∈ lw_all := lw_g (lw_at lw_m1 58 rfl) rfl
theorem q248 : (Jvm.Cond.classLink "FactHouse$State" (9 : Nat) "FactHouse$Fact") ∈ lw_all := lw_g (lw_at lw_m1 59 rfl) rfl
theorem q250 : (Jvm.Cond.methodLinkNest "FactHouse$State" (17 : Nat) ({ cls := "FactHouse$Fact", name := "<init>", desc := "()V" } : Jvm.MethodName) "FactHouse") ∈ lw_tbl := lw_at lw_m1 61 rfl
theorem q284 : (Jvm.Cond.fieldLink "FactHouse$State" (18 : Nat) "FactHouse$State" "reached" "Z") ∈ lw_all := lw_g (lw_at lw_m1 95 rfl) rfl
theorem q288 : (Jvm.Cond.fieldLink "FactHouse$State" (11 : Nat) "FactHouse$State" "slots" "[LFactHouse$Fact;") ∈ lw_all := lw_g (lw_at lw_m1 99 rfl) rfl
theorem q291 : (Jvm.Cond.fieldLink "FactHouse$State" (22 : Nat) "FactHouse$State" "sure" "I") ∈ lw_all := lw_g (lw_at lw_m1 102 rfl) rfl
theorem q295 : (Jvm.Cond.fieldLink "FactHouse$State" (26 : Nat) "FactHouse$State" "perhaps" "I") ∈ lw_all := lw_g (lw_at lw_m1 106 rfl) rfl
theorem q299 : (Jvm.Cond.lays "FactHouse$State" "FactHouse$State" "reached" "Z") ∈ lw_all := lw_g (lw_at lw_m1 110 rfl) rfl
theorem q300 : (Jvm.Cond.soleField "FactHouse$State" "reached") ∈ lw_all := lw_g (lw_at lw_m1 111 rfl) rfl
theorem q301 : (Jvm.Cond.laysFinal "FactHouse$State" "FactHouse$State" "slots" "[LFactHouse$Fact;") ∈ lw_all := lw_g (lw_at lw_m1 112 rfl) rfl
theorem q302 : (Jvm.Cond.soleField "FactHouse$State" "slots") ∈ lw_all := lw_g (lw_at lw_m1 113 rfl) rfl
theorem q303 : (Jvm.Cond.lays "FactHouse$State" "FactHouse$State" "sure" "I") ∈ lw_all := lw_g (lw_at lw_m1 114 rfl) rfl
theorem q304 : (Jvm.Cond.soleField "FactHouse$State" "sure") ∈ lw_all := lw_g (lw_at lw_m1 115 rfl) rfl
theorem q305 : (Jvm.Cond.lays "FactHouse$State" "FactHouse$State" "perhaps" "I") ∈ lw_all := lw_g (lw_at lw_m1 116 rfl) rfl
theorem q306 : (Jvm.Cond.soleField "FactHouse$State" "perhaps") ∈ lw_all := lw_g (lw_at lw_m1 117 rfl) rfl
theorem q307 : (Jvm.Cond.superclass "FactHouse$State" "java/lang/Object") ∈ lw_all := lw_g (lw_at lw_m1 118 rfl) rfl
theorem q1311 : (Jvm.Cond.instanceMethod ({ cls := "FactHouse$State", name := "none", desc := "()V" } : Jvm.MethodName)) ∈ lw_all := lw_g (lw_at lw_m5 162 rfl) rfl
theorem q1312 : (Jvm.Cond.selects "FactHouse$State" ({ cls := "FactHouse$State", name := "none", desc := "()V" } : Jvm.MethodName) ({ cls := "FactHouse$State", name := "none", desc := "()V" } : Jvm.MethodName)) ∈ lw_all := lw_g (lw_at lw_m5 163 rfl) rfl
theorem q1313 : (Jvm.Cond.code ({ cls := "FactHouse$State", name := "none", desc := "()V" } : Jvm.MethodName) prog_13_method_2_code (2 : Nat) (Option.none : Option Jvm.ClassFile.FieldType)) ∈ lw_all := lw_g (lw_at lw_m5 164 rfl) rfl
theorem q1314 : (Jvm.Cond.methodLink "FactHouse$State" (29 : Nat) ({ cls := "FactHouse$Fact", name := "none", desc := "()V" } : Jvm.MethodName)) ∈ lw_all := lw_g (lw_at lw_m5 165 rfl) rfl
theorem q1357 : (Jvm.Cond.instanceMethod ({ cls := "FactHouse$State", name := "join", desc := "(LFactHouse$State;II)Z" } : Jvm.MethodName)) ∈ lw_all := lw_g (lw_at lw_m5 208 rfl) rfl
theorem q1358 : (Jvm.Cond.selects "FactHouse$State" ({ cls := "FactHouse$State", name := "join", desc := "(LFactHouse$State;II)Z" } : Jvm.MethodName) ({ cls := "FactHouse$State", name := "join", desc := "(LFactHouse$State;II)Z" } : Jvm.MethodName)) ∈ lw_all := lw_g (lw_at lw_m5 209 rfl) rfl
theorem q1359 : (Jvm.Cond.code ({ cls := "FactHouse$State", name := "join", desc := "(LFactHouse$State;II)Z" } : Jvm.MethodName) prog_13_method_4_code (6 : Nat) (Option.some Jvm.ClassFile.FieldType.boolean)) ∈ lw_all := lw_g (lw_at lw_m5 210 rfl) rfl
theorem q1360 : (Jvm.Cond.methodLink "FactHouse$State" (36 : Nat) ({ cls := "FactHouse$Fact", name := "join", desc := "(LFactHouse$Fact;)Z" } : Jvm.MethodName)) ∈ lw_all := lw_g (lw_at lw_m5 211 rfl) rfl
theorem q1384 : (Jvm.Cond.instanceMethod ({ cls := "FactHouse$State", name := "become", desc := "(LFactHouse$State;)V" } : Jvm.MethodName)) ∈ lw_all := lw_g (lw_at lw_m5 235 rfl) rfl
theorem q1385 : (Jvm.Cond.selects "FactHouse$State" ({ cls := "FactHouse$State", name := "become", desc := "(LFactHouse$State;)V" } : Jvm.MethodName) ({ cls := "FactHouse$State", name := "become", desc := "(LFactHouse$State;)V" } : Jvm.MethodName)) ∈ lw_all := lw_g (lw_at lw_m5 236 rfl) rfl
theorem q1386 : (Jvm.Cond.code ({ cls := "FactHouse$State", name := "become", desc := "(LFactHouse$State;)V" } : Jvm.MethodName) prog_13_method_3_code (3 : Nat) (Option.none : Option Jvm.ClassFile.FieldType)) ∈ lw_all := lw_g (lw_at lw_m5 237 rfl) rfl
theorem q1387 : (Jvm.Cond.methodLink "FactHouse$State" (32 : Nat) ({ cls := "FactHouse$Fact", name := "become", desc := "(LFactHouse$Fact;)LFactHouse$Fact;" } : Jvm.MethodName)) ∈ lw_all := lw_g (lw_at lw_m5 238 rfl) rfl
theorem in_X3 : ∀ w ∈ wsX30, w ∈ lw_all := lw_in wsX30 [299, 301, 303, 305] (by decide +kernel) (by decide +kernel)
/-! FactHouse$Fact -/
def RX4 : String := "FactHouse$Fact"
def TX4 : u_T := fun k => match k with
  | 0 => ("FactHouse$Fact", "there", "Z", false)
  | 1 => ("FactHouse$Fact", "from", "I", false)
  | 2 => ("FactHouse$Fact", "to", "I", false)
  | 3 => ("FactHouse$Fact", "labels", "I", false)
  | _ => ("FactHouse$Fact", "sites", "J", false)
def tyX4 : Nat → FieldType := fun k => match k with
  | 0 => .boolean
  | 1 => .int
  | 2 => .int
  | 3 => .int
  | _ => .long
abbrev wsX40 : List Cond := u_ws RX4 TX4 5
theorem nmX4 : ∀ a, a < 5 → ∀ b, b < 5 → a ≠ b → (TX4 a).2.1 ≠ (TX4 b).2.1 := by decide +kernel
theorem tyX4_ok : ∀ k, k < 5 → parseFieldDescriptor (TX4 k).2.2.1 = some (tyX4 k) := by decide +kernel
abbrev cX4_init : ByteArray := prog_4_method_1_code
def yX4_init : MethodName := ⟨RX4, "<init>", "()V"⟩
abbrev cX4_none : ByteArray := prog_4_method_2_code
def yX4_none : MethodName := ⟨RX4, "none", "()V"⟩
abbrev cX4_first : ByteArray := prog_4_method_5_code
def yX4_first : MethodName := ⟨RX4, "first", "(I)LFactHouse$Fact;"⟩
abbrev cX4_number : ByteArray := prog_4_method_3_code
def yX4_number : MethodName := ⟨RX4, "number", "(III)LFactHouse$Fact;"⟩
abbrev cX4_sites : ByteArray := prog_4_method_4_code
def yX4_sites : MethodName := ⟨RX4, "sites", "(J)LFactHouse$Fact;"⟩
abbrev cX4_join : ByteArray := prog_4_method_7_code
def yX4_join : MethodName := ⟨RX4, "join", "(LFactHouse$Fact;)Z"⟩
abbrev cX4_become : ByteArray := prog_4_method_6_code
def yX4_become : MethodName := ⟨RX4, "become", "(LFactHouse$Fact;)LFactHouse$Fact;"⟩
theorem q193 : (Jvm.Cond.initialized "FactHouse$Fact") ∈ lw_all := lw_g (lw_at lw_m1 4 rfl) rfl
theorem q249 : (Jvm.Cond.instantiable "FactHouse$Fact" (5 : Nat)) ∈ lw_all := lw_g (lw_at lw_m1 60 rfl) rfl
theorem q251 : (Jvm.Cond.instanceMethod ({ cls := "FactHouse$Fact", name := "<init>", desc := "()V" } : Jvm.MethodName)) ∈ lw_all := lw_g (lw_at lw_m1 62 rfl) rfl
theorem q252 : (Jvm.Cond.code ({ cls := "FactHouse$Fact", name := "<init>", desc := "()V" } : Jvm.MethodName) prog_4_method_1_code (1 : Nat) (Option.none : Option Jvm.ClassFile.FieldType)) ∈ lw_all := lw_g (lw_at lw_m1 63 rfl) rfl
theorem q253 : (Jvm.Cond.methodLink "FactHouse$Fact" (3 : Nat) ({ cls := "java/lang/Object", name := "<init>", desc := "()V" } : Jvm.MethodName)) ∈ lw_all := lw_g (lw_at lw_m1 64 rfl) rfl
theorem q254 : (Jvm.Cond.fieldLink "FactHouse$Fact" (9 : Nat) "FactHouse$Fact" "there" "Z") ∈ lw_all := lw_g (lw_at lw_m1 65 rfl) rfl
theorem q257 : (Jvm.Cond.fieldLink "FactHouse$Fact" (15 : Nat) "FactHouse$Fact" "from" "I") ∈ lw_all := lw_g (lw_at lw_m1 68 rfl) rfl
theorem q260 : (Jvm.Cond.fieldLink "FactHouse$Fact" (19 : Nat) "FactHouse$Fact" "to" "I") ∈ lw_all := lw_g (lw_at lw_m1 71 rfl) rfl
theorem q263 : (Jvm.Cond.fieldLink "FactHouse$Fact" (22 : Nat) "FactHouse$Fact" "labels" "I") ∈ lw_all := lw_g (lw_at lw_m1 74 rfl) rfl
theorem q266 : (Jvm.Cond.fieldLink "FactHouse$Fact" (25 : Nat) "FactHouse$Fact" "sites" "J") ∈ lw_all := lw_g (lw_at lw_m1 77 rfl) rfl
theorem q269 : (Jvm.Cond.lays "FactHouse$Fact" "FactHouse$Fact" "there" "Z") ∈ lw_all := lw_g (lw_at lw_m1 80 rfl) rfl
theorem q270 : (Jvm.Cond.soleField "FactHouse$Fact" "there") ∈ lw_all := lw_g (lw_at lw_m1 81 rfl) rfl
theorem q271 : (Jvm.Cond.lays "FactHouse$Fact" "FactHouse$Fact" "from" "I") ∈ lw_all := lw_g (lw_at lw_m1 82 rfl) rfl
theorem q272 : (Jvm.Cond.soleField "FactHouse$Fact" "from") ∈ lw_all := lw_g (lw_at lw_m1 83 rfl) rfl
theorem q273 : (Jvm.Cond.lays "FactHouse$Fact" "FactHouse$Fact" "to" "I") ∈ lw_all := lw_g (lw_at lw_m1 84 rfl) rfl
theorem q274 : (Jvm.Cond.soleField "FactHouse$Fact" "to") ∈ lw_all := lw_g (lw_at lw_m1 85 rfl) rfl
theorem q275 : (Jvm.Cond.lays "FactHouse$Fact" "FactHouse$Fact" "labels" "I") ∈ lw_all := lw_g (lw_at lw_m1 86 rfl) rfl
theorem q276 : (Jvm.Cond.soleField "FactHouse$Fact" "labels") ∈ lw_all := lw_g (lw_at lw_m1 87 rfl) rfl
theorem q277 : (Jvm.Cond.lays "FactHouse$Fact" "FactHouse$Fact" "sites" "J") ∈ lw_all := lw_g (lw_at lw_m1 88 rfl) rfl
theorem q278 : (Jvm.Cond.soleField "FactHouse$Fact" "sites") ∈ lw_all := lw_g (lw_at lw_m1 89 rfl) rfl
theorem q279 : (Jvm.Cond.superclass "FactHouse$Fact" "java/lang/Object") ∈ lw_all := lw_g (lw_at lw_m1 90 rfl) rfl
theorem q1315 : (Jvm.Cond.instanceMethod ({ cls := "FactHouse$Fact", name := "none", desc := "()V" } : Jvm.MethodName)) ∈ lw_all := lw_g (lw_at lw_m5 166 rfl) rfl
theorem q1316 : (Jvm.Cond.selects "FactHouse$Fact" ({ cls := "FactHouse$Fact", name := "none", desc := "()V" } : Jvm.MethodName) ({ cls := "FactHouse$Fact", name := "none", desc := "()V" } : Jvm.MethodName)) ∈ lw_all := lw_g (lw_at lw_m5 167 rfl) rfl
theorem q1317 : (Jvm.Cond.code ({ cls := "FactHouse$Fact", name := "none", desc := "()V" } : Jvm.MethodName) prog_4_method_2_code (1 : Nat) (Option.none : Option Jvm.ClassFile.FieldType)) ∈ lw_all := lw_g (lw_at lw_m5 168 rfl) rfl
theorem q1334 : (Jvm.Cond.instanceMethod ({ cls := "FactHouse$Fact", name := "first", desc := "(I)LFactHouse$Fact;" } : Jvm.MethodName)) ∈ lw_all := lw_g (lw_at lw_m5 185 rfl) rfl
theorem q1335 : (Jvm.Cond.selects "FactHouse$Fact" ({ cls := "FactHouse$Fact", name := "first", desc := "(I)LFactHouse$Fact;" } : Jvm.MethodName) ({ cls := "FactHouse$Fact", name := "first", desc := "(I)LFactHouse$Fact;" } : Jvm.MethodName)) ∈ lw_all := lw_g (lw_at lw_m5 186 rfl) rfl
theorem q1336 : (Jvm.Cond.code ({ cls := "FactHouse$Fact", name := "first", desc := "(I)LFactHouse$Fact;" } : Jvm.MethodName) prog_4_method_5_code (2 : Nat) (Option.some (Jvm.ClassFile.FieldType.object "FactHouse$Fact"))) ∈ lw_all := lw_g (lw_at lw_m5 187 rfl) rfl
theorem q1337 : (Jvm.Cond.methodLink "FactHouse$Fact" (29 : Nat) ({ cls := "FactHouse$Fact", name := "number", desc := "(III)LFactHouse$Fact;" } : Jvm.MethodName)) ∈ lw_all := lw_g (lw_at lw_m5 188 rfl) rfl
theorem q1338 : (Jvm.Cond.instanceMethod ({ cls := "FactHouse$Fact", name := "number", desc := "(III)LFactHouse$Fact;" } : Jvm.MethodName)) ∈ lw_all := lw_g (lw_at lw_m5 189 rfl) rfl
theorem q1339 : (Jvm.Cond.selects "FactHouse$Fact" ({ cls := "FactHouse$Fact", name := "number", desc := "(III)LFactHouse$Fact;" } : Jvm.MethodName) ({ cls := "FactHouse$Fact", name := "number", desc := "(III)LFactHouse$Fact;" } : Jvm.MethodName)) ∈ lw_all := lw_g (lw_at lw_m5 190 rfl) rfl
theorem q1340 : (Jvm.Cond.code ({ cls := "FactHouse$Fact", name := "number", desc := "(III)LFactHouse$Fact;" } : Jvm.MethodName) prog_4_method_3_code (4 : Nat) (Option.some (Jvm.ClassFile.FieldType.object "FactHouse$Fact"))) ∈ lw_all := lw_g (lw_at lw_m5 191 rfl) rfl
theorem q1341 : (Jvm.Cond.methodLink "FactHouse$Fact" (33 : Nat) ({ cls := "FactHouse$Fact", name := "sites", desc := "(J)LFactHouse$Fact;" } : Jvm.MethodName)) ∈ lw_all := lw_g (lw_at lw_m5 192 rfl) rfl
theorem q1342 : (Jvm.Cond.instanceMethod ({ cls := "FactHouse$Fact", name := "sites", desc := "(J)LFactHouse$Fact;" } : Jvm.MethodName)) ∈ lw_all := lw_g (lw_at lw_m5 193 rfl) rfl
theorem q1343 : (Jvm.Cond.selects "FactHouse$Fact" ({ cls := "FactHouse$Fact", name := "sites", desc := "(J)LFactHouse$Fact;" } : Jvm.MethodName) ({ cls := "FactHouse$Fact", name := "sites", desc := "(J)LFactHouse$Fact;" } : Jvm.MethodName)) ∈ lw_all := lw_g (lw_at lw_m5 194 rfl) rfl
theorem q1344 : (Jvm.Cond.code ({ cls := "FactHouse$Fact", name := "sites", desc := "(J)LFactHouse$Fact;" } : Jvm.MethodName) prog_4_method_4_code (3 : Nat) (Option.some (Jvm.ClassFile.FieldType.object "FactHouse$Fact"))) ∈ lw_all := lw_g (lw_at lw_m5 195 rfl) rfl
theorem q1361 : (Jvm.Cond.instanceMethod ({ cls := "FactHouse$Fact", name := "join", desc := "(LFactHouse$Fact;)Z" } : Jvm.MethodName)) ∈ lw_all := lw_g (lw_at lw_m5 212 rfl) rfl
theorem q1362 : (Jvm.Cond.selects "FactHouse$Fact" ({ cls := "FactHouse$Fact", name := "join", desc := "(LFactHouse$Fact;)Z" } : Jvm.MethodName) ({ cls := "FactHouse$Fact", name := "join", desc := "(LFactHouse$Fact;)Z" } : Jvm.MethodName)) ∈ lw_all := lw_g (lw_at lw_m5 213 rfl) rfl
theorem q1363 : (Jvm.Cond.code ({ cls := "FactHouse$Fact", name := "join", desc := "(LFactHouse$Fact;)Z" } : Jvm.MethodName) prog_4_method_7_code (3 : Nat) (Option.some Jvm.ClassFile.FieldType.boolean)) ∈ lw_all := lw_g (lw_at lw_m5 214 rfl) rfl
theorem q1364 : (Jvm.Cond.methodLink "FactHouse$Fact" (36 : Nat) ({ cls := "FactHouse$Fact", name := "become", desc := "(LFactHouse$Fact;)LFactHouse$Fact;" } : Jvm.MethodName)) ∈ lw_all := lw_g (lw_at lw_m5 215 rfl) rfl
theorem q1365 : (Jvm.Cond.instanceMethod ({ cls := "FactHouse$Fact", name := "become", desc := "(LFactHouse$Fact;)LFactHouse$Fact;" } : Jvm.MethodName)) ∈ lw_all := lw_g (lw_at lw_m5 216 rfl) rfl
theorem q1366 : (Jvm.Cond.selects "FactHouse$Fact" ({ cls := "FactHouse$Fact", name := "become", desc := "(LFactHouse$Fact;)LFactHouse$Fact;" } : Jvm.MethodName) ({ cls := "FactHouse$Fact", name := "become", desc := "(LFactHouse$Fact;)LFactHouse$Fact;" } : Jvm.MethodName)) ∈ lw_all := lw_g (lw_at lw_m5 217 rfl) rfl
theorem q1367 : (Jvm.Cond.code ({ cls := "FactHouse$Fact", name := "become", desc := "(LFactHouse$Fact;)LFactHouse$Fact;" } : Jvm.MethodName) prog_4_method_6_code (2 : Nat) (Option.some (Jvm.ClassFile.FieldType.object "FactHouse$Fact"))) ∈ lw_all := lw_g (lw_at lw_m5 218 rfl) rfl
theorem q1368 : (Jvm.Cond.constantLong "FactHouse$Fact" (40 : Nat) (-1 : Int64)) ∈ lw_all := lw_g (lw_at lw_m5 219 rfl) rfl
theorem q1369 : (Jvm.Cond.methodLink "FactHouse$Fact" (42 : Nat) ({ cls := "java/lang/Math", name := "min", desc := "(II)I" } : Jvm.MethodName)) ∈ lw_all := lw_g (lw_at lw_m5 220 rfl) rfl
theorem q1372 : (Jvm.Cond.methodLink "FactHouse$Fact" (48 : Nat) ({ cls := "java/lang/Math", name := "max", desc := "(II)I" } : Jvm.MethodName)) ∈ lw_all := lw_g (lw_at lw_m5 223 rfl) rfl
theorem in_X4 : ∀ w ∈ wsX40, w ∈ lw_all := lw_in wsX40 [269, 271, 273, 275, 277] (by decide +kernel) (by decide +kernel)
/-! FactHouse$Outcome -/
def RX5 : String := "FactHouse$Outcome"
def TX5 : u_T := fun k => match k with
  | 0 => ("FactHouse$Outcome", "returns", "Z", false)
  | 1 => ("FactHouse$Outcome", "value", "LFactHouse$Fact;", true)
  | 2 => ("FactHouse$Outcome", "sure", "I", false)
  | 3 => ("FactHouse$Outcome", "perhaps", "I", false)
  | 4 => ("FactHouse$Outcome", "escapes", "J", false)
  | 5 => ("FactHouse$Outcome", "escapeSure", "I", false)
  | 6 => ("FactHouse$Outcome", "escapePerhaps", "I", false)
  | 7 => ("FactHouse$Outcome", "unlocks", "I", false)
  | _ => ("FactHouse$Outcome", "callers", "[J", true)
def tyX5 : Nat → FieldType := fun k => match k with
  | 0 => .boolean
  | 1 => .object "FactHouse$Fact"
  | 2 => .int
  | 3 => .int
  | 4 => .long
  | 5 => .int
  | 6 => .int
  | 7 => .int
  | _ => .array .long
abbrev wsX50 : List Cond := u_ws RX5 TX5 9
theorem nmX5 : ∀ a, a < 9 → ∀ b, b < 9 → a ≠ b → (TX5 a).2.1 ≠ (TX5 b).2.1 := by decide +kernel
theorem tyX5_ok : ∀ k, k < 9 → parseFieldDescriptor (TX5 k).2.2.1 = some (tyX5 k) := by decide +kernel
abbrev cX5_init : ByteArray := prog_10_method_1_code
def yX5_init : MethodName := ⟨RX5, "<init>", "()V"⟩
abbrev cX5_none : ByteArray := prog_10_method_2_code
def yX5_none : MethodName := ⟨RX5, "none", "()V"⟩
theorem q194 : (Jvm.Cond.initialized "FactHouse$Outcome") ∈ lw_all := lw_g (lw_at lw_m1 5 rfl) rfl
theorem q309 : (Jvm.Cond.instantiable "FactHouse$Outcome" (9 : Nat)) ∈ lw_all := lw_g (lw_at lw_m1 120 rfl) rfl
theorem q311 : (Jvm.Cond.instanceMethod ({ cls := "FactHouse$Outcome", name := "<init>", desc := "()V" } : Jvm.MethodName)) ∈ lw_all := lw_g (lw_at lw_m1 122 rfl) rfl
theorem q312 : (Jvm.Cond.code ({ cls := "FactHouse$Outcome", name := "<init>", desc := "()V" } : Jvm.MethodName) prog_10_method_1_code (1 : Nat) (Option.none : Option Jvm.ClassFile.FieldType)) ∈ lw_all := lw_g (lw_at lw_m1 123 rfl) rfl
theorem q313 : (Jvm.Cond.methodLink "FactHouse$Outcome" (3 : Nat) ({ cls := "java/lang/Object", name := "<init>", desc := "()V" } : Jvm.MethodName)) ∈ lw_all := lw_g (lw_at lw_m1 124 rfl) rfl
theorem q314 : (Jvm.Cond.classLink "FactHouse$Outcome" (9 : Nat) "FactHouse$Fact") ∈ lw_all := lw_g (lw_at lw_m1 125 rfl) rfl
theorem q315 : (Jvm.Cond.methodLinkNest "FactHouse$Outcome" (11 : Nat) ({ cls := "FactHouse$Fact", name := "<init>", desc := "()V" } : Jvm.MethodName) "FactHouse") ∈ lw_tbl := lw_at lw_m1 126 rfl
theorem q316 : (Jvm.Cond.fieldLink "FactHouse$Outcome" (22 : Nat) "FactHouse$Outcome" "returns" "Z") ∈ lw_all := lw_g (lw_at lw_m1 127 rfl) rfl
theorem q319 : (Jvm.Cond.fieldLink "FactHouse$Outcome" (12 : Nat) "FactHouse$Outcome" "value" "LFactHouse$Fact;") ∈ lw_all := lw_g (lw_at lw_m1 130 rfl) rfl
theorem q324 : (Jvm.Cond.fieldLink "FactHouse$Outcome" (29 : Nat) "FactHouse$Outcome" "escapes" "J") ∈ lw_all := lw_g (lw_at lw_m1 135 rfl) rfl
theorem q329 : (Jvm.Cond.fieldLink "FactHouse$Outcome" (33 : Nat) "FactHouse$Outcome" "unlocks" "I") ∈ lw_all := lw_g (lw_at lw_m1 140 rfl) rfl
theorem q332 : (Jvm.Cond.fieldLink "FactHouse$Outcome" (18 : Nat) "FactHouse$Outcome" "callers" "[J") ∈ lw_all := lw_g (lw_at lw_m1 143 rfl) rfl
theorem q334 : (Jvm.Cond.lays "FactHouse$Outcome" "FactHouse$Outcome" "returns" "Z") ∈ lw_all := lw_g (lw_at lw_m1 145 rfl) rfl
theorem q335 : (Jvm.Cond.soleField "FactHouse$Outcome" "returns") ∈ lw_all := lw_g (lw_at lw_m1 146 rfl) rfl
theorem q336 : (Jvm.Cond.laysFinal "FactHouse$Outcome" "FactHouse$Outcome" "value" "LFactHouse$Fact;") ∈ lw_all := lw_g (lw_at lw_m1 147 rfl) rfl
theorem q337 : (Jvm.Cond.soleField "FactHouse$Outcome" "value") ∈ lw_all := lw_g (lw_at lw_m1 148 rfl) rfl
theorem q338 : (Jvm.Cond.lays "FactHouse$Outcome" "FactHouse$Outcome" "sure" "I") ∈ lw_all := lw_g (lw_at lw_m1 149 rfl) rfl
theorem q339 : (Jvm.Cond.soleField "FactHouse$Outcome" "sure") ∈ lw_all := lw_g (lw_at lw_m1 150 rfl) rfl
theorem q340 : (Jvm.Cond.lays "FactHouse$Outcome" "FactHouse$Outcome" "perhaps" "I") ∈ lw_all := lw_g (lw_at lw_m1 151 rfl) rfl
theorem q341 : (Jvm.Cond.soleField "FactHouse$Outcome" "perhaps") ∈ lw_all := lw_g (lw_at lw_m1 152 rfl) rfl
theorem q342 : (Jvm.Cond.lays "FactHouse$Outcome" "FactHouse$Outcome" "escapes" "J") ∈ lw_all := lw_g (lw_at lw_m1 153 rfl) rfl
theorem q343 : (Jvm.Cond.soleField "FactHouse$Outcome" "escapes") ∈ lw_all := lw_g (lw_at lw_m1 154 rfl) rfl
theorem q344 : (Jvm.Cond.lays "FactHouse$Outcome" "FactHouse$Outcome" "escapeSure" "I") ∈ lw_all := lw_g (lw_at lw_m1 155 rfl) rfl
theorem q345 : (Jvm.Cond.soleField "FactHouse$Outcome" "escapeSure") ∈ lw_all := lw_g (lw_at lw_m1 156 rfl) rfl
theorem q346 : (Jvm.Cond.lays "FactHouse$Outcome" "FactHouse$Outcome" "escapePerhaps" "I") ∈ lw_all := lw_g (lw_at lw_m1 157 rfl) rfl
theorem q347 : (Jvm.Cond.soleField "FactHouse$Outcome" "escapePerhaps") ∈ lw_all := lw_g (lw_at lw_m1 158 rfl) rfl
theorem q348 : (Jvm.Cond.lays "FactHouse$Outcome" "FactHouse$Outcome" "unlocks" "I") ∈ lw_all := lw_g (lw_at lw_m1 159 rfl) rfl
theorem q349 : (Jvm.Cond.soleField "FactHouse$Outcome" "unlocks") ∈ lw_all := lw_g (lw_at lw_m1 160 rfl) rfl
theorem q350 : (Jvm.Cond.laysFinal "FactHouse$Outcome" "FactHouse$Outcome" "callers" "[J") ∈ lw_all := lw_g (lw_at lw_m1 161 rfl) rfl
theorem q351 : (Jvm.Cond.soleField "FactHouse$Outcome" "callers") ∈ lw_all := lw_g (lw_at lw_m1 162 rfl) rfl
theorem q352 : (Jvm.Cond.superclass "FactHouse$Outcome" "java/lang/Object") ∈ lw_all := lw_g (lw_at lw_m1 163 rfl) rfl
theorem q1328 : (Jvm.Cond.instanceMethod ({ cls := "FactHouse$Outcome", name := "none", desc := "()V" } : Jvm.MethodName)) ∈ lw_all := lw_g (lw_at lw_m5 179 rfl) rfl
theorem q1329 : (Jvm.Cond.selects "FactHouse$Outcome" ({ cls := "FactHouse$Outcome", name := "none", desc := "()V" } : Jvm.MethodName) ({ cls := "FactHouse$Outcome", name := "none", desc := "()V" } : Jvm.MethodName)) ∈ lw_all := lw_g (lw_at lw_m5 180 rfl) rfl
theorem q1330 : (Jvm.Cond.code ({ cls := "FactHouse$Outcome", name := "none", desc := "()V" } : Jvm.MethodName) prog_10_method_2_code (2 : Nat) (Option.none : Option Jvm.ClassFile.FieldType)) ∈ lw_all := lw_g (lw_at lw_m5 181 rfl) rfl
theorem q1331 : (Jvm.Cond.methodLink "FactHouse$Outcome" (26 : Nat) ({ cls := "FactHouse$Fact", name := "none", desc := "()V" } : Jvm.MethodName)) ∈ lw_all := lw_g (lw_at lw_m5 182 rfl) rfl
theorem in_X5 : ∀ w ∈ wsX50, w ∈ lw_all := lw_in wsX50 [334, 336, 338, 340, 342, 344, 346, 348, 350] (by decide +kernel) (by decide +kernel)
/-! FactHouse$Cell -/
def RX6 : String := "FactHouse$Cell"
def TX6 : u_T := fun k => match k with
  | 0 => ("FactHouse$Cell", "fact", "LFactHouse$Fact;", true)
  | _ => ("FactHouse$Cell", "users", "[J", true)
def tyX6 : Nat → FieldType := fun k => match k with
  | 0 => .object "FactHouse$Fact"
  | _ => .array .long
abbrev wsX60 : List Cond := u_ws RX6 TX6 2
theorem nmX6 : ∀ a, a < 2 → ∀ b, b < 2 → a ≠ b → (TX6 a).2.1 ≠ (TX6 b).2.1 := by decide +kernel
theorem tyX6_ok : ∀ k, k < 2 → parseFieldDescriptor (TX6 k).2.2.1 = some (tyX6 k) := by decide +kernel
abbrev cX6_init : ByteArray := prog_2_method_1_code
def yX6_init : MethodName := ⟨RX6, "<init>", "()V"⟩
abbrev cX6_none : ByteArray := prog_2_method_2_code
def yX6_none : MethodName := ⟨RX6, "none", "()V"⟩
theorem q195 : (Jvm.Cond.initialized "FactHouse$Cell") ∈ lw_all := lw_g (lw_at lw_m1 6 rfl) rfl
theorem q353 : (Jvm.Cond.instantiable "FactHouse$Cell" (2 : Nat)) ∈ lw_all := lw_g (lw_at lw_m1 164 rfl) rfl
theorem q355 : (Jvm.Cond.instanceMethod ({ cls := "FactHouse$Cell", name := "<init>", desc := "()V" } : Jvm.MethodName)) ∈ lw_all := lw_g (lw_at lw_m1 166 rfl) rfl
theorem q356 : (Jvm.Cond.code ({ cls := "FactHouse$Cell", name := "<init>", desc := "()V" } : Jvm.MethodName) prog_2_method_1_code (1 : Nat) (Option.none : Option Jvm.ClassFile.FieldType)) ∈ lw_all := lw_g (lw_at lw_m1 167 rfl) rfl
theorem q357 : (Jvm.Cond.methodLink "FactHouse$Cell" (3 : Nat) ({ cls := "java/lang/Object", name := "<init>", desc := "()V" } : Jvm.MethodName)) ∈ lw_all := lw_g (lw_at lw_m1 168 rfl) rfl
theorem q358 : (Jvm.Cond.classLink "FactHouse$Cell" (9 : Nat) "FactHouse$Fact") ∈ lw_all := lw_g (lw_at lw_m1 169 rfl) rfl
theorem q359 : (Jvm.Cond.methodLinkNest "FactHouse$Cell" (11 : Nat) ({ cls := "FactHouse$Fact", name := "<init>", desc := "()V" } : Jvm.MethodName) "FactHouse") ∈ lw_tbl := lw_at lw_m1 170 rfl
theorem q360 : (Jvm.Cond.fieldLink "FactHouse$Cell" (12 : Nat) "FactHouse$Cell" "fact" "LFactHouse$Fact;") ∈ lw_all := lw_g (lw_at lw_m1 171 rfl) rfl
theorem q362 : (Jvm.Cond.fieldLink "FactHouse$Cell" (18 : Nat) "FactHouse$Cell" "users" "[J") ∈ lw_all := lw_g (lw_at lw_m1 173 rfl) rfl
theorem q364 : (Jvm.Cond.laysFinal "FactHouse$Cell" "FactHouse$Cell" "fact" "LFactHouse$Fact;") ∈ lw_all := lw_g (lw_at lw_m1 175 rfl) rfl
theorem q365 : (Jvm.Cond.soleField "FactHouse$Cell" "fact") ∈ lw_all := lw_g (lw_at lw_m1 176 rfl) rfl
theorem q366 : (Jvm.Cond.laysFinal "FactHouse$Cell" "FactHouse$Cell" "users" "[J") ∈ lw_all := lw_g (lw_at lw_m1 177 rfl) rfl
theorem q367 : (Jvm.Cond.soleField "FactHouse$Cell" "users") ∈ lw_all := lw_g (lw_at lw_m1 178 rfl) rfl
theorem q368 : (Jvm.Cond.superclass "FactHouse$Cell" "java/lang/Object") ∈ lw_all := lw_g (lw_at lw_m1 179 rfl) rfl
theorem q1319 : (Jvm.Cond.instanceMethod ({ cls := "FactHouse$Cell", name := "none", desc := "()V" } : Jvm.MethodName)) ∈ lw_all := lw_g (lw_at lw_m5 170 rfl) rfl
theorem q1320 : (Jvm.Cond.selects "FactHouse$Cell" ({ cls := "FactHouse$Cell", name := "none", desc := "()V" } : Jvm.MethodName) ({ cls := "FactHouse$Cell", name := "none", desc := "()V" } : Jvm.MethodName)) ∈ lw_all := lw_g (lw_at lw_m5 171 rfl) rfl
theorem q1321 : (Jvm.Cond.code ({ cls := "FactHouse$Cell", name := "none", desc := "()V" } : Jvm.MethodName) prog_2_method_2_code (2 : Nat) (Option.none : Option Jvm.ClassFile.FieldType)) ∈ lw_all := lw_g (lw_at lw_m5 172 rfl) rfl
theorem q1322 : (Jvm.Cond.methodLink "FactHouse$Cell" (22 : Nat) ({ cls := "FactHouse$Fact", name := "none", desc := "()V" } : Jvm.MethodName)) ∈ lw_all := lw_g (lw_at lw_m5 173 rfl) rfl
theorem in_X6 : ∀ w ∈ wsX60, w ∈ lw_all := lw_in wsX60 [364, 366] (by decide +kernel) (by decide +kernel)
/-! FactHouse$Follow -/
def RX7 : String := "FactHouse$Follow"
def TX7 : u_T := fun k => match k with
  | 0 => ("FactHouse$Follow", "p", "LFactHouse$Program;", false)
  | 1 => ("FactHouse$Follow", "f", "LFactHouse$Facts;", false)
  | 2 => ("FactHouse$Follow", "starts", "[I", true)
  | 3 => ("FactHouse$Follow", "origins", "I", false)
  | 4 => ("FactHouse$Follow", "runs", "[J", true)
  | 5 => ("FactHouse$Follow", "live", "[I", true)
  | 6 => ("FactHouse$Follow", "idle", "[I", true)
  | 7 => ("FactHouse$Follow", "behind", "[I", true)
  | 8 => ("FactHouse$Follow", "calls", "[J", true)
  | 9 => ("FactHouse$Follow", "begins", "[J", true)
  | 10 => ("FactHouse$Follow", "over", "[I", true)
  | 11 => ("FactHouse$Follow", "changed", "J", false)
  | 12 => ("FactHouse$Follow", "touched", "J", false)
  | 13 => ("FactHouse$Follow", "may", "[[Z", true)
  | 14 => ("FactHouse$Follow", "races", "I", false)
  | 15 => ("FactHouse$Follow", "raceP", "I", false)
  | _ => ("FactHouse$Follow", "raceQ", "I", false)
def tyX7 : Nat → FieldType := fun k => match k with
  | 0 => .object "FactHouse$Program"
  | 1 => .object "FactHouse$Facts"
  | 2 => .array .int
  | 3 => .int
  | 4 => .array .long
  | 5 => .array .int
  | 6 => .array .int
  | 7 => .array .int
  | 8 => .array .long
  | 9 => .array .long
  | 10 => .array .int
  | 11 => .long
  | 12 => .long
  | 13 => .array (.array .boolean)
  | 14 => .int
  | 15 => .int
  | _ => .int
abbrev wsX70 : List Cond := u_ws RX7 TX7 17
theorem nmX7 : ∀ a, a < 17 → ∀ b, b < 17 → a ≠ b → (TX7 a).2.1 ≠ (TX7 b).2.1 := by decide +kernel
theorem tyX7_ok : ∀ k, k < 17 → parseFieldDescriptor (TX7 k).2.2.1 = some (tyX7 k) := by decide +kernel
abbrev cX7_init : ByteArray := prog_6_method_1_code
def yX7_init : MethodName := ⟨RX7, "<init>", "()V"⟩
abbrev cX7_find : ByteArray := prog_6_method_2_code
def yX7_find : MethodName := ⟨RX7, "find", "(LFactHouse$Program;LFactHouse$Facts;LFactHouse$Program;)V"⟩
abbrev cX7_findCalls : ByteArray := prog_6_method_6_code
def yX7_findCalls : MethodName := ⟨RX7, "findCalls", "()V"⟩
abbrev cX7_isReached : ByteArray := prog_6_method_5_code
def yX7_isReached : MethodName := ⟨RX7, "isReached", "(I)Z"⟩
abbrev cX7_op : ByteArray := prog_6_method_3_code
def yX7_op : MethodName := ⟨RX7, "op", "(I)I"⟩
abbrev cX7_findOrigins : ByteArray := prog_6_method_8_code
def yX7_findOrigins : MethodName := ⟨RX7, "findOrigins", "()V"⟩
abbrev cX7_closure : ByteArray := prog_6_method_7_code
def yX7_closure : MethodName := ⟨RX7, "closure", "(J)J"⟩
abbrev cX7_findRings : ByteArray := prog_6_method_9_code
def yX7_findRings : MethodName := ⟨RX7, "findRings", "()V"⟩
abbrev cX7_x : ByteArray := prog_6_method_4_code
def yX7_x : MethodName := ⟨RX7, "x", "(I)I"⟩
abbrev cX7_findLive : ByteArray := prog_6_method_13_code
def yX7_findLive : MethodName := ⟨RX7, "findLive", "()V"⟩
abbrev cX7_findLive_2 : ByteArray := prog_6_method_14_code
def yX7_findLive_2 : MethodName := ⟨RX7, "findLive", "(LFactHouse$Method;)V"⟩
abbrev cX7_reads : ByteArray := prog_6_method_12_code
def yX7_reads : MethodName := ⟨RX7, "reads", "(II)I"⟩
abbrev cX7_liveBehind : ByteArray := prog_6_method_11_code
def yX7_liveBehind : MethodName := ⟨RX7, "liveBehind", "(LFactHouse$Method;IZ)I"⟩
abbrev cX7_findTouched : ByteArray := prog_6_method_16_code
def yX7_findTouched : MethodName := ⟨RX7, "findTouched", "(LFactHouse$Program;)V"⟩
abbrev cX7_areSame : ByteArray := prog_6_method_15_code
def yX7_areSame : MethodName := ⟨RX7, "areSame", "(LFactHouse$Program;LFactHouse$Program;I)Z"⟩
abbrev cX7_together : ByteArray := prog_6_method_20_code
def yX7_together : MethodName := ⟨RX7, "together", "(II)Z"⟩
abbrev cX7_countRaces : ByteArray := prog_6_method_21_code
def yX7_countRaces : MethodName := ⟨RX7, "countRaces", "(I)I"⟩
abbrev cX7_isUse : ByteArray := prog_6_method_19_code
def yX7_isUse : MethodName := ⟨RX7, "isUse", "(I)Z"⟩
abbrev cX7_meet : ByteArray := prog_6_method_18_code
def yX7_meet : MethodName := ⟨RX7, "meet", "(II)Z"⟩
abbrev cX7_uses : ByteArray := prog_6_method_17_code
def yX7_uses : MethodName := ⟨RX7, "uses", "(I)J"⟩
abbrev cX7_rings : ByteArray := prog_6_method_10_code
def yX7_rings : MethodName := ⟨RX7, "rings", "()I"⟩
theorem q196 : (Jvm.Cond.initialized "FactHouse$Follow") ∈ lw_all := lw_g (lw_at lw_m1 7 rfl) rfl
theorem q285 : (Jvm.Cond.fieldLink "FactHouse$Follow" (100 : Nat) "FactHouse$State" "reached" "Z") ∈ lw_all := lw_g (lw_at lw_m1 96 rfl) rfl
theorem q293 : (Jvm.Cond.fieldLink "FactHouse$Follow" (221 : Nat) "FactHouse$State" "sure" "I") ∈ lw_all := lw_g (lw_at lw_m1 104 rfl) rfl
theorem q296 : (Jvm.Cond.fieldLink "FactHouse$Follow" (134 : Nat) "FactHouse$State" "perhaps" "I") ∈ lw_all := lw_g (lw_at lw_m1 107 rfl) rfl
theorem q371 : (Jvm.Cond.fieldLink "FactHouse$Follow" (94 : Nat) "FactHouse$Facts" "states" "[LFactHouse$State;") ∈ lw_all := lw_g (lw_at lw_m1 182 rfl) rfl
theorem q381 : (Jvm.Cond.fieldLink "FactHouse$Follow" (143 : Nat) "FactHouse$Facts" "thrown" "[J") ∈ lw_all := lw_g (lw_at lw_m1 192 rfl) rfl
theorem q384 : (Jvm.Cond.fieldLink "FactHouse$Follow" (117 : Nat) "FactHouse$Facts" "called" "[J") ∈ lw_all := lw_g (lw_at lw_m1 195 rfl) rfl
theorem q389 : (Jvm.Cond.fieldLink "FactHouse$Follow" (209 : Nat) "FactHouse$Facts" "uses" "[J") ∈ lw_all := lw_g (lw_at lw_m1 200 rfl) rfl
theorem q467 : (Jvm.Cond.instantiable "FactHouse$Follow" (17 : Nat)) ∈ lw_all := lw_g (lw_at lw_m2 38 rfl) rfl
theorem q469 : (Jvm.Cond.instanceMethod ({ cls := "FactHouse$Follow", name := "<init>", desc := "()V" } : Jvm.MethodName)) ∈ lw_all := lw_g (lw_at lw_m2 40 rfl) rfl
theorem q470 : (Jvm.Cond.code ({ cls := "FactHouse$Follow", name := "<init>", desc := "()V" } : Jvm.MethodName) prog_6_method_1_code (1 : Nat) (Option.none : Option Jvm.ClassFile.FieldType)) ∈ lw_all := lw_g (lw_at lw_m2 41 rfl) rfl
theorem q471 : (Jvm.Cond.methodLink "FactHouse$Follow" (3 : Nat) ({ cls := "java/lang/Object", name := "<init>", desc := "()V" } : Jvm.MethodName)) ∈ lw_all := lw_g (lw_at lw_m2 42 rfl) rfl
theorem q472 : (Jvm.Cond.classLink "FactHouse$Follow" (37 : Nat) "[[Z") ∈ lw_all := lw_g (lw_at lw_m2 43 rfl) rfl
theorem q474 : (Jvm.Cond.fieldLink "FactHouse$Follow" (42 : Nat) "FactHouse$Follow" "p" "LFactHouse$Program;") ∈ lw_all := lw_g (lw_at lw_m2 45 rfl) rfl
theorem q475 : (Jvm.Cond.fieldLink "FactHouse$Follow" (46 : Nat) "FactHouse$Follow" "f" "LFactHouse$Facts;") ∈ lw_all := lw_g (lw_at lw_m2 46 rfl) rfl
theorem q476 : (Jvm.Cond.fieldLink "FactHouse$Follow" (9 : Nat) "FactHouse$Follow" "starts" "[I") ∈ lw_all := lw_g (lw_at lw_m2 47 rfl) rfl
theorem q477 : (Jvm.Cond.fieldLink "FactHouse$Follow" (124 : Nat) "FactHouse$Follow" "origins" "I") ∈ lw_all := lw_g (lw_at lw_m2 48 rfl) rfl
theorem q479 : (Jvm.Cond.fieldLink "FactHouse$Follow" (15 : Nat) "FactHouse$Follow" "runs" "[J") ∈ lw_all := lw_g (lw_at lw_m2 50 rfl) rfl
theorem q481 : (Jvm.Cond.fieldLink "FactHouse$Follow" (19 : Nat) "FactHouse$Follow" "live" "[I") ∈ lw_all := lw_g (lw_at lw_m2 52 rfl) rfl
theorem q483 : (Jvm.Cond.fieldLink "FactHouse$Follow" (22 : Nat) "FactHouse$Follow" "idle" "[I") ∈ lw_all := lw_g (lw_at lw_m2 54 rfl) rfl
theorem q485 : (Jvm.Cond.fieldLink "FactHouse$Follow" (25 : Nat) "FactHouse$Follow" "behind" "[I") ∈ lw_all := lw_g (lw_at lw_m2 56 rfl) rfl
theorem q487 : (Jvm.Cond.fieldLink "FactHouse$Follow" (28 : Nat) "FactHouse$Follow" "calls" "[J") ∈ lw_all := lw_g (lw_at lw_m2 58 rfl) rfl
theorem q488 : (Jvm.Cond.fieldLink "FactHouse$Follow" (31 : Nat) "FactHouse$Follow" "begins" "[J") ∈ lw_all := lw_g (lw_at lw_m2 59 rfl) rfl
theorem q489 : (Jvm.Cond.fieldLink "FactHouse$Follow" (34 : Nat) "FactHouse$Follow" "over" "[I") ∈ lw_all := lw_g (lw_at lw_m2 60 rfl) rfl
theorem q491 : (Jvm.Cond.fieldLink "FactHouse$Follow" (198 : Nat) "FactHouse$Follow" "changed" "J") ∈ lw_all := lw_g (lw_at lw_m2 62 rfl) rfl
theorem q493 : (Jvm.Cond.fieldLink "FactHouse$Follow" (206 : Nat) "FactHouse$Follow" "touched" "J") ∈ lw_all := lw_g (lw_at lw_m2 64 rfl) rfl
theorem q494 : (Jvm.Cond.fieldLink "FactHouse$Follow" (39 : Nat) "FactHouse$Follow" "may" "[[Z") ∈ lw_all := lw_g (lw_at lw_m2 65 rfl) rfl
theorem q495 : (Jvm.Cond.fieldLink "FactHouse$Follow" (76 : Nat) "FactHouse$Follow" "races" "I") ∈ lw_all := lw_g (lw_at lw_m2 66 rfl) rfl
theorem q496 : (Jvm.Cond.fieldLink "FactHouse$Follow" (227 : Nat) "FactHouse$Follow" "raceP" "I") ∈ lw_all := lw_g (lw_at lw_m2 67 rfl) rfl
theorem q498 : (Jvm.Cond.fieldLink "FactHouse$Follow" (230 : Nat) "FactHouse$Follow" "raceQ" "I") ∈ lw_all := lw_g (lw_at lw_m2 69 rfl) rfl
theorem q500 : (Jvm.Cond.lays "FactHouse$Follow" "FactHouse$Follow" "p" "LFactHouse$Program;") ∈ lw_all := lw_g (lw_at lw_m2 71 rfl) rfl
theorem q501 : (Jvm.Cond.soleField "FactHouse$Follow" "p") ∈ lw_all := lw_g (lw_at lw_m2 72 rfl) rfl
theorem q502 : (Jvm.Cond.lays "FactHouse$Follow" "FactHouse$Follow" "f" "LFactHouse$Facts;") ∈ lw_all := lw_g (lw_at lw_m2 73 rfl) rfl
theorem q503 : (Jvm.Cond.soleField "FactHouse$Follow" "f") ∈ lw_all := lw_g (lw_at lw_m2 74 rfl) rfl
theorem q504 : (Jvm.Cond.laysFinal "FactHouse$Follow" "FactHouse$Follow" "starts" "[I") ∈ lw_all := lw_g (lw_at lw_m2 75 rfl) rfl
theorem q505 : (Jvm.Cond.soleField "FactHouse$Follow" "starts") ∈ lw_all := lw_g (lw_at lw_m2 76 rfl) rfl
theorem q506 : (Jvm.Cond.lays "FactHouse$Follow" "FactHouse$Follow" "origins" "I") ∈ lw_all := lw_g (lw_at lw_m2 77 rfl) rfl
theorem q507 : (Jvm.Cond.soleField "FactHouse$Follow" "origins") ∈ lw_all := lw_g (lw_at lw_m2 78 rfl) rfl
theorem q508 : (Jvm.Cond.laysFinal "FactHouse$Follow" "FactHouse$Follow" "runs" "[J") ∈ lw_all := lw_g (lw_at lw_m2 79 rfl) rfl
theorem q509 : (Jvm.Cond.soleField "FactHouse$Follow" "runs") ∈ lw_all := lw_g (lw_at lw_m2 80 rfl) rfl
theorem q510 : (Jvm.Cond.laysFinal "FactHouse$Follow" "FactHouse$Follow" "live" "[I") ∈ lw_all := lw_g (lw_at lw_m2 81 rfl) rfl
theorem q511 : (Jvm.Cond.soleField "FactHouse$Follow" "live") ∈ lw_all := lw_g (lw_at lw_m2 82 rfl) rfl
theorem q512 : (Jvm.Cond.laysFinal "FactHouse$Follow" "FactHouse$Follow" "idle" "[I") ∈ lw_all := lw_g (lw_at lw_m2 83 rfl) rfl
theorem q513 : (Jvm.Cond.soleField "FactHouse$Follow" "idle") ∈ lw_all := lw_g (lw_at lw_m2 84 rfl) rfl
theorem q514 : (Jvm.Cond.laysFinal "FactHouse$Follow" "FactHouse$Follow" "behind" "[I") ∈ lw_all := lw_g (lw_at lw_m2 85 rfl) rfl
theorem q515 : (Jvm.Cond.soleField "FactHouse$Follow" "behind") ∈ lw_all := lw_g (lw_at lw_m2 86 rfl) rfl
theorem q516 : (Jvm.Cond.laysFinal "FactHouse$Follow" "FactHouse$Follow" "calls" "[J") ∈ lw_all := lw_g (lw_at lw_m2 87 rfl) rfl
theorem q517 : (Jvm.Cond.soleField "FactHouse$Follow" "calls") ∈ lw_all := lw_g (lw_at lw_m2 88 rfl) rfl
theorem q518 : (Jvm.Cond.laysFinal "FactHouse$Follow" "FactHouse$Follow" "begins" "[J") ∈ lw_all := lw_g (lw_at lw_m2 89 rfl) rfl
theorem q519 : (Jvm.Cond.soleField "FactHouse$Follow" "begins") ∈ lw_all := lw_g (lw_at lw_m2 90 rfl) rfl
theorem q520 : (Jvm.Cond.laysFinal "FactHouse$Follow" "FactHouse$Follow" "over" "[I") ∈ lw_all := lw_g (lw_at lw_m2 91 rfl) rfl
theorem q521 : (Jvm.Cond.soleField "FactHouse$Follow" "over") ∈ lw_all := lw_g (lw_at lw_m2 92 rfl) rfl
theorem q522 : (Jvm.Cond.lays "FactHouse$Follow" "FactHouse$Follow" "changed" "J") ∈ lw_all := lw_g (lw_at lw_m2 93 rfl) rfl
theorem q523 : (Jvm.Cond.soleField "FactHouse$Follow" "changed") ∈ lw_all := lw_g (lw_at lw_m2 94 rfl) rfl
theorem q524 : (Jvm.Cond.lays "FactHouse$Follow" "FactHouse$Follow" "touched" "J") ∈ lw_all := lw_g (lw_at lw_m2 95 rfl) rfl
theorem q525 : (Jvm.Cond.soleField "FactHouse$Follow" "touched") ∈ lw_all := lw_g (lw_at lw_m2 96 rfl) rfl
theorem q526 : (Jvm.Cond.laysFinal "FactHouse$Follow" "FactHouse$Follow" "may" "[[Z") ∈ lw_all := lw_g (lw_at lw_m2 97 rfl) rfl
theorem q527 : (Jvm.Cond.soleField "FactHouse$Follow" "may") ∈ lw_all := lw_g (lw_at lw_m2 98 rfl) rfl
theorem q528 : (Jvm.Cond.lays "FactHouse$Follow" "FactHouse$Follow" "races" "I") ∈ lw_all := lw_g (lw_at lw_m2 99 rfl) rfl
theorem q529 : (Jvm.Cond.soleField "FactHouse$Follow" "races") ∈ lw_all := lw_g (lw_at lw_m2 100 rfl) rfl
theorem q530 : (Jvm.Cond.lays "FactHouse$Follow" "FactHouse$Follow" "raceP" "I") ∈ lw_all := lw_g (lw_at lw_m2 101 rfl) rfl
theorem q531 : (Jvm.Cond.soleField "FactHouse$Follow" "raceP") ∈ lw_all := lw_g (lw_at lw_m2 102 rfl) rfl
theorem q532 : (Jvm.Cond.lays "FactHouse$Follow" "FactHouse$Follow" "raceQ" "I") ∈ lw_all := lw_g (lw_at lw_m2 103 rfl) rfl
theorem q533 : (Jvm.Cond.soleField "FactHouse$Follow" "raceQ") ∈ lw_all := lw_g (lw_at lw_m2 104 rfl) rfl
theorem q534 : (Jvm.Cond.superclass "FactHouse$Follow" "java/lang/Object") ∈ lw_all := lw_g (lw_at lw_m2 105 rfl) rfl
theorem q696 : (Jvm.Cond.fieldLink "FactHouse$Follow" (194 : Nat) "FactHouse$Program" "file" "[B") ∈ lw_all := lw_g (lw_at lw_m3 27 rfl) rfl
theorem q712 : (Jvm.Cond.fieldLink "FactHouse$Follow" (66 : Nat) "FactHouse$Program" "methods" "[LFactHouse$Method;") ∈ lw_all := lw_g (lw_at lw_m3 43 rfl) rfl
theorem q720 : (Jvm.Cond.fieldLink "FactHouse$Follow" (106 : Nat) "FactHouse$Program" "places" "I") ∈ lw_all := lw_g (lw_at lw_m3 51 rfl) rfl
theorem q735 : (Jvm.Cond.fieldLink "FactHouse$Follow" (80 : Nat) "FactHouse$Program" "methodOf" "[I") ∈ lw_all := lw_g (lw_at lw_m3 66 rfl) rfl
theorem q743 : (Jvm.Cond.fieldLink "FactHouse$Follow" (120 : Nat) "FactHouse$Program" "roots" "[Z") ∈ lw_all := lw_g (lw_at lw_m3 74 rfl) rfl
theorem q903 : (Jvm.Cond.fieldLink "FactHouse$Follow" (189 : Nat) "FactHouse$Method" "number" "I") ∈ lw_all := lw_g (lw_at lw_m3 234 rfl) rfl
theorem q933 : (Jvm.Cond.fieldLink "FactHouse$Follow" (83 : Nat) "FactHouse$Method" "ops" "[I") ∈ lw_all := lw_g (lw_at lw_m4 24 rfl) rfl
theorem q938 : (Jvm.Cond.fieldLink "FactHouse$Follow" (91 : Nat) "FactHouse$Method" "xs" "[I") ∈ lw_all := lw_g (lw_at lw_m4 29 rfl) rfl
theorem q946 : (Jvm.Cond.fieldLink "FactHouse$Follow" (215 : Nat) "FactHouse$Method" "ys" "[I") ∈ lw_all := lw_g (lw_at lw_m4 37 rfl) rfl
theorem q957 : (Jvm.Cond.fieldLink "FactHouse$Follow" (146 : Nat) "FactHouse$Method" "handlers" "[LFactHouse$Handler;") ∈ lw_all := lw_g (lw_at lw_m4 48 rfl) rfl
theorem q961 : (Jvm.Cond.fieldLink "FactHouse$Follow" (88 : Nat) "FactHouse$Method" "first" "I") ∈ lw_all := lw_g (lw_at lw_m4 52 rfl) rfl
theorem q967 : (Jvm.Cond.fieldLink "FactHouse$Follow" (193 : Nat) "FactHouse$Method" "from" "I") ∈ lw_all := lw_g (lw_at lw_m4 58 rfl) rfl
theorem q969 : (Jvm.Cond.fieldLink "FactHouse$Follow" (192 : Nat) "FactHouse$Method" "to" "I") ∈ lw_all := lw_g (lw_at lw_m4 60 rfl) rfl
theorem q1053 : (Jvm.Cond.fieldLink "FactHouse$Follow" (150 : Nat) "FactHouse$Handler" "from" "I") ∈ lw_all := lw_g (lw_at lw_m4 144 rfl) rfl
theorem q1057 : (Jvm.Cond.fieldLink "FactHouse$Follow" (155 : Nat) "FactHouse$Handler" "to" "I") ∈ lw_all := lw_g (lw_at lw_m4 148 rfl) rfl
theorem q1062 : (Jvm.Cond.fieldLink "FactHouse$Follow" (167 : Nat) "FactHouse$Handler" "at" "I") ∈ lw_all := lw_g (lw_at lw_m4 153 rfl) rfl
theorem q1066 : (Jvm.Cond.fieldLink "FactHouse$Follow" (158 : Nat) "FactHouse$Handler" "cls" "I") ∈ lw_all := lw_g (lw_at lw_m4 157 rfl) rfl
theorem q1593 : (Jvm.Cond.instanceMethod ({ cls := "FactHouse$Follow", name := "find", desc := "(LFactHouse$Program;LFactHouse$Facts;LFactHouse$Program;)V" } : Jvm.MethodName)) ∈ lw_all := lw_g (lw_at lw_m6 204 rfl) rfl
theorem q1594 : (Jvm.Cond.selects "FactHouse$Follow" ({ cls := "FactHouse$Follow", name := "find", desc := "(LFactHouse$Program;LFactHouse$Facts;LFactHouse$Program;)V" } : Jvm.MethodName) ({ cls := "FactHouse$Follow", name := "find", desc := "(LFactHouse$Program;LFactHouse$Facts;LFactHouse$Program;)V" } : Jvm.MethodName)) ∈ lw_all := lw_g (lw_at lw_m6 205 rfl) rfl
theorem q1595 : (Jvm.Cond.code ({ cls := "FactHouse$Follow", name := "find", desc := "(LFactHouse$Program;LFactHouse$Facts;LFactHouse$Program;)V" } : Jvm.MethodName) prog_6_method_2_code (6 : Nat) (Option.none : Option Jvm.ClassFile.FieldType)) ∈ lw_all := lw_g (lw_at lw_m6 206 rfl) rfl
theorem q1596 : (Jvm.Cond.methodLink "FactHouse$Follow" (50 : Nat) ({ cls := "FactHouse$Follow", name := "findCalls", desc := "()V" } : Jvm.MethodName)) ∈ lw_all := lw_g (lw_at lw_m6 207 rfl) rfl
theorem q1597 : (Jvm.Cond.privateMethod ({ cls := "FactHouse$Follow", name := "findCalls", desc := "()V" } : Jvm.MethodName)) ∈ lw_tbl := lw_at lw_m6 208 rfl
theorem q1598 : (Jvm.Cond.instanceMethod ({ cls := "FactHouse$Follow", name := "findCalls", desc := "()V" } : Jvm.MethodName)) ∈ lw_all := lw_g (lw_at lw_m6 209 rfl) rfl
theorem q1599 : (Jvm.Cond.code ({ cls := "FactHouse$Follow", name := "findCalls", desc := "()V" } : Jvm.MethodName) prog_6_method_6_code (2 : Nat) (Option.none : Option Jvm.ClassFile.FieldType)) ∈ lw_all := lw_g (lw_at lw_m6 210 rfl) rfl
theorem q1600 : (Jvm.Cond.methodLink "FactHouse$Follow" (109 : Nat) ({ cls := "FactHouse$Follow", name := "isReached", desc := "(I)Z" } : Jvm.MethodName)) ∈ lw_all := lw_g (lw_at lw_m6 211 rfl) rfl
theorem q1601 : (Jvm.Cond.privateMethod ({ cls := "FactHouse$Follow", name := "isReached", desc := "(I)Z" } : Jvm.MethodName)) ∈ lw_tbl := lw_at lw_m6 212 rfl
theorem q1602 : (Jvm.Cond.instanceMethod ({ cls := "FactHouse$Follow", name := "isReached", desc := "(I)Z" } : Jvm.MethodName)) ∈ lw_all := lw_g (lw_at lw_m6 213 rfl) rfl
theorem q1603 : (Jvm.Cond.code ({ cls := "FactHouse$Follow", name := "isReached", desc := "(I)Z" } : Jvm.MethodName) prog_6_method_5_code (2 : Nat) (Option.some Jvm.ClassFile.FieldType.boolean)) ∈ lw_all := lw_g (lw_at lw_m6 214 rfl) rfl
theorem q1604 : (Jvm.Cond.methodLink "FactHouse$Follow" (113 : Nat) ({ cls := "FactHouse$Follow", name := "op", desc := "(I)I" } : Jvm.MethodName)) ∈ lw_all := lw_g (lw_at lw_m6 215 rfl) rfl
theorem q1605 : (Jvm.Cond.privateMethod ({ cls := "FactHouse$Follow", name := "op", desc := "(I)I" } : Jvm.MethodName)) ∈ lw_tbl := lw_at lw_m6 216 rfl
theorem q1606 : (Jvm.Cond.instanceMethod ({ cls := "FactHouse$Follow", name := "op", desc := "(I)I" } : Jvm.MethodName)) ∈ lw_all := lw_g (lw_at lw_m6 217 rfl) rfl
theorem q1607 : (Jvm.Cond.code ({ cls := "FactHouse$Follow", name := "op", desc := "(I)I" } : Jvm.MethodName) prog_6_method_3_code (3 : Nat) (Option.some Jvm.ClassFile.FieldType.int)) ∈ lw_all := lw_g (lw_at lw_m6 218 rfl) rfl
theorem q1608 : (Jvm.Cond.methodLink "FactHouse$Follow" (53 : Nat) ({ cls := "FactHouse$Follow", name := "findOrigins", desc := "()V" } : Jvm.MethodName)) ∈ lw_all := lw_g (lw_at lw_m6 219 rfl) rfl
theorem q1609 : (Jvm.Cond.privateMethod ({ cls := "FactHouse$Follow", name := "findOrigins", desc := "()V" } : Jvm.MethodName)) ∈ lw_tbl := lw_at lw_m6 220 rfl
theorem q1610 : (Jvm.Cond.instanceMethod ({ cls := "FactHouse$Follow", name := "findOrigins", desc := "()V" } : Jvm.MethodName)) ∈ lw_all := lw_g (lw_at lw_m6 221 rfl) rfl
theorem q1611 : (Jvm.Cond.code ({ cls := "FactHouse$Follow", name := "findOrigins", desc := "()V" } : Jvm.MethodName) prog_6_method_8_code (4 : Nat) (Option.none : Option Jvm.ClassFile.FieldType)) ∈ lw_all := lw_g (lw_at lw_m6 222 rfl) rfl
theorem q1612 : (Jvm.Cond.methodLink "FactHouse$Follow" (127 : Nat) ({ cls := "FactHouse$Follow", name := "closure", desc := "(J)J" } : Jvm.MethodName)) ∈ lw_all := lw_g (lw_at lw_m6 223 rfl) rfl
theorem q1613 : (Jvm.Cond.privateMethod ({ cls := "FactHouse$Follow", name := "closure", desc := "(J)J" } : Jvm.MethodName)) ∈ lw_tbl := lw_at lw_m6 224 rfl
theorem q1614 : (Jvm.Cond.instanceMethod ({ cls := "FactHouse$Follow", name := "closure", desc := "(J)J" } : Jvm.MethodName)) ∈ lw_all := lw_g (lw_at lw_m6 225 rfl) rfl
theorem q1615 : (Jvm.Cond.code ({ cls := "FactHouse$Follow", name := "closure", desc := "(J)J" } : Jvm.MethodName) prog_6_method_7_code (8 : Nat) (Option.some Jvm.ClassFile.FieldType.long)) ∈ lw_all := lw_g (lw_at lw_m6 226 rfl) rfl
theorem q1616 : (Jvm.Cond.methodLink "FactHouse$Follow" (56 : Nat) ({ cls := "FactHouse$Follow", name := "findRings", desc := "()V" } : Jvm.MethodName)) ∈ lw_all := lw_g (lw_at lw_m6 227 rfl) rfl
theorem q1617 : (Jvm.Cond.privateMethod ({ cls := "FactHouse$Follow", name := "findRings", desc := "()V" } : Jvm.MethodName)) ∈ lw_tbl := lw_at lw_m6 228 rfl
theorem q1618 : (Jvm.Cond.instanceMethod ({ cls := "FactHouse$Follow", name := "findRings", desc := "()V" } : Jvm.MethodName)) ∈ lw_all := lw_g (lw_at lw_m6 229 rfl) rfl
theorem q1619 : (Jvm.Cond.code ({ cls := "FactHouse$Follow", name := "findRings", desc := "()V" } : Jvm.MethodName) prog_6_method_9_code (2 : Nat) (Option.none : Option Jvm.ClassFile.FieldType)) ∈ lw_all := lw_g (lw_at lw_m6 230 rfl) rfl
theorem q1620 : (Jvm.Cond.methodLink "FactHouse$Follow" (131 : Nat) ({ cls := "FactHouse$Follow", name := "x", desc := "(I)I" } : Jvm.MethodName)) ∈ lw_all := lw_g (lw_at lw_m6 231 rfl) rfl
theorem q1621 : (Jvm.Cond.privateMethod ({ cls := "FactHouse$Follow", name := "x", desc := "(I)I" } : Jvm.MethodName)) ∈ lw_tbl := lw_at lw_m6 232 rfl
theorem q1622 : (Jvm.Cond.instanceMethod ({ cls := "FactHouse$Follow", name := "x", desc := "(I)I" } : Jvm.MethodName)) ∈ lw_all := lw_g (lw_at lw_m6 233 rfl) rfl
theorem q1623 : (Jvm.Cond.code ({ cls := "FactHouse$Follow", name := "x", desc := "(I)I" } : Jvm.MethodName) prog_6_method_4_code (3 : Nat) (Option.some Jvm.ClassFile.FieldType.int)) ∈ lw_all := lw_g (lw_at lw_m6 234 rfl) rfl
theorem q1624 : (Jvm.Cond.methodLink "FactHouse$Follow" (59 : Nat) ({ cls := "FactHouse$Follow", name := "findLive", desc := "()V" } : Jvm.MethodName)) ∈ lw_all := lw_g (lw_at lw_m6 235 rfl) rfl
theorem q1625 : (Jvm.Cond.privateMethod ({ cls := "FactHouse$Follow", name := "findLive", desc := "()V" } : Jvm.MethodName)) ∈ lw_tbl := lw_at lw_m6 236 rfl
theorem q1626 : (Jvm.Cond.instanceMethod ({ cls := "FactHouse$Follow", name := "findLive", desc := "()V" } : Jvm.MethodName)) ∈ lw_all := lw_g (lw_at lw_m6 237 rfl) rfl
theorem q1627 : (Jvm.Cond.code ({ cls := "FactHouse$Follow", name := "findLive", desc := "()V" } : Jvm.MethodName) prog_6_method_13_code (2 : Nat) (Option.none : Option Jvm.ClassFile.FieldType)) ∈ lw_all := lw_g (lw_at lw_m6 238 rfl) rfl
theorem q1628 : (Jvm.Cond.methodLink "FactHouse$Follow" (178 : Nat) ({ cls := "FactHouse$Follow", name := "findLive", desc := "(LFactHouse$Method;)V" } : Jvm.MethodName)) ∈ lw_all := lw_g (lw_at lw_m6 239 rfl) rfl
theorem q1629 : (Jvm.Cond.privateMethod ({ cls := "FactHouse$Follow", name := "findLive", desc := "(LFactHouse$Method;)V" } : Jvm.MethodName)) ∈ lw_tbl := lw_at lw_m7 0 rfl
theorem q1630 : (Jvm.Cond.instanceMethod ({ cls := "FactHouse$Follow", name := "findLive", desc := "(LFactHouse$Method;)V" } : Jvm.MethodName)) ∈ lw_all := lw_g (lw_at lw_m7 1 rfl) rfl
theorem q1631 : (Jvm.Cond.code ({ cls := "FactHouse$Follow", name := "findLive", desc := "(LFactHouse$Method;)V" } : Jvm.MethodName) prog_6_method_14_code (7 : Nat) (Option.none : Option Jvm.ClassFile.FieldType)) ∈ lw_all := lw_g (lw_at lw_m7 2 rfl) rfl
theorem q1632 : (Jvm.Cond.methodLink "FactHouse$Follow" (170 : Nat) ({ cls := "FactHouse$Method", name := "size", desc := "()I" } : Jvm.MethodName)) ∈ lw_all := lw_g (lw_at lw_m7 3 rfl) rfl
theorem q1633 : (Jvm.Cond.methodLink "FactHouse$Follow" (181 : Nat) ({ cls := "FactHouse$Follow", name := "reads", desc := "(II)I" } : Jvm.MethodName)) ∈ lw_all := lw_g (lw_at lw_m7 4 rfl) rfl
theorem q1634 : (Jvm.Cond.static ({ cls := "FactHouse$Follow", name := "reads", desc := "(II)I" } : Jvm.MethodName)) ∈ lw_all := lw_g (lw_at lw_m7 5 rfl) rfl
theorem q1635 : (Jvm.Cond.code ({ cls := "FactHouse$Follow", name := "reads", desc := "(II)I" } : Jvm.MethodName) prog_6_method_12_code (2 : Nat) (Option.some Jvm.ClassFile.FieldType.int)) ∈ lw_all := lw_g (lw_at lw_m7 6 rfl) rfl
theorem q1636 : (Jvm.Cond.methodLink "FactHouse$Follow" (185 : Nat) ({ cls := "FactHouse$Follow", name := "liveBehind", desc := "(LFactHouse$Method;IZ)I" } : Jvm.MethodName)) ∈ lw_all := lw_g (lw_at lw_m7 7 rfl) rfl
theorem q1637 : (Jvm.Cond.privateMethod ({ cls := "FactHouse$Follow", name := "liveBehind", desc := "(LFactHouse$Method;IZ)I" } : Jvm.MethodName)) ∈ lw_tbl := lw_at lw_m7 8 rfl
theorem q1638 : (Jvm.Cond.instanceMethod ({ cls := "FactHouse$Follow", name := "liveBehind", desc := "(LFactHouse$Method;IZ)I" } : Jvm.MethodName)) ∈ lw_all := lw_g (lw_at lw_m7 9 rfl) rfl
theorem q1639 : (Jvm.Cond.code ({ cls := "FactHouse$Follow", name := "liveBehind", desc := "(LFactHouse$Method;IZ)I" } : Jvm.MethodName) prog_6_method_11_code (14 : Nat) (Option.some Jvm.ClassFile.FieldType.int)) ∈ lw_all := lw_g (lw_at lw_m7 10 rfl) rfl
theorem q1640 : (Jvm.Cond.methodLink "FactHouse$Follow" (161 : Nat) ({ cls := "FactHouse$Program", name := "ofClass", desc := "(JI)J" } : Jvm.MethodName)) ∈ lw_all := lw_g (lw_at lw_m7 11 rfl) rfl
theorem q1641 : (Jvm.Cond.constantLong "FactHouse$Follow" (165 : Nat) (-1 : Int64)) ∈ lw_all := lw_g (lw_at lw_m7 12 rfl) rfl
theorem q1642 : (Jvm.Cond.methodLink "FactHouse$Follow" (174 : Nat) ({ cls := "FactHouse$Facts", name := "goes", desc := "(LFactHouse$Method;II)Z" } : Jvm.MethodName)) ∈ lw_all := lw_g (lw_at lw_m7 13 rfl) rfl
theorem q1646 : (Jvm.Cond.methodLink "FactHouse$Follow" (62 : Nat) ({ cls := "FactHouse$Follow", name := "findTouched", desc := "(LFactHouse$Program;)V" } : Jvm.MethodName)) ∈ lw_all := lw_g (lw_at lw_m7 17 rfl) rfl
theorem q1647 : (Jvm.Cond.privateMethod ({ cls := "FactHouse$Follow", name := "findTouched", desc := "(LFactHouse$Program;)V" } : Jvm.MethodName)) ∈ lw_tbl := lw_at lw_m7 18 rfl
theorem q1648 : (Jvm.Cond.instanceMethod ({ cls := "FactHouse$Follow", name := "findTouched", desc := "(LFactHouse$Program;)V" } : Jvm.MethodName)) ∈ lw_all := lw_g (lw_at lw_m7 19 rfl) rfl
theorem q1649 : (Jvm.Cond.code ({ cls := "FactHouse$Follow", name := "findTouched", desc := "(LFactHouse$Program;)V" } : Jvm.MethodName) prog_6_method_16_code (5 : Nat) (Option.none : Option Jvm.ClassFile.FieldType)) ∈ lw_all := lw_g (lw_at lw_m7 20 rfl) rfl
theorem q1650 : (Jvm.Cond.methodLink "FactHouse$Follow" (202 : Nat) ({ cls := "FactHouse$Follow", name := "areSame", desc := "(LFactHouse$Program;LFactHouse$Program;I)Z" } : Jvm.MethodName)) ∈ lw_all := lw_g (lw_at lw_m7 21 rfl) rfl
theorem q1651 : (Jvm.Cond.static ({ cls := "FactHouse$Follow", name := "areSame", desc := "(LFactHouse$Program;LFactHouse$Program;I)Z" } : Jvm.MethodName)) ∈ lw_all := lw_g (lw_at lw_m7 22 rfl) rfl
theorem q1652 : (Jvm.Cond.code ({ cls := "FactHouse$Follow", name := "areSame", desc := "(LFactHouse$Program;LFactHouse$Program;I)Z" } : Jvm.MethodName) prog_6_method_15_code (7 : Nat) (Option.some Jvm.ClassFile.FieldType.boolean)) ∈ lw_all := lw_g (lw_at lw_m7 23 rfl) rfl
theorem q1653 : (Jvm.Cond.methodLink "FactHouse$Follow" (72 : Nat) ({ cls := "FactHouse$Follow", name := "together", desc := "(II)Z" } : Jvm.MethodName)) ∈ lw_all := lw_g (lw_at lw_m7 24 rfl) rfl
theorem q1654 : (Jvm.Cond.privateMethod ({ cls := "FactHouse$Follow", name := "together", desc := "(II)Z" } : Jvm.MethodName)) ∈ lw_tbl := lw_at lw_m7 25 rfl
theorem q1655 : (Jvm.Cond.instanceMethod ({ cls := "FactHouse$Follow", name := "together", desc := "(II)Z" } : Jvm.MethodName)) ∈ lw_all := lw_g (lw_at lw_m7 26 rfl) rfl
theorem q1656 : (Jvm.Cond.code ({ cls := "FactHouse$Follow", name := "together", desc := "(II)Z" } : Jvm.MethodName) prog_6_method_20_code (5 : Nat) (Option.some Jvm.ClassFile.FieldType.boolean)) ∈ lw_all := lw_g (lw_at lw_m7 27 rfl) rfl
theorem q1784 : (Jvm.Cond.instanceMethod ({ cls := "FactHouse$Follow", name := "countRaces", desc := "(I)I" } : Jvm.MethodName)) ∈ lw_all := lw_g (lw_at lw_m7 155 rfl) rfl
theorem q1785 : (Jvm.Cond.selects "FactHouse$Follow" ({ cls := "FactHouse$Follow", name := "countRaces", desc := "(I)I" } : Jvm.MethodName) ({ cls := "FactHouse$Follow", name := "countRaces", desc := "(I)I" } : Jvm.MethodName)) ∈ lw_all := lw_g (lw_at lw_m7 156 rfl) rfl
theorem q1786 : (Jvm.Cond.code ({ cls := "FactHouse$Follow", name := "countRaces", desc := "(I)I" } : Jvm.MethodName) prog_6_method_21_code (5 : Nat) (Option.some Jvm.ClassFile.FieldType.int)) ∈ lw_all := lw_g (lw_at lw_m7 157 rfl) rfl
theorem q1787 : (Jvm.Cond.methodLink "FactHouse$Follow" (218 : Nat) ({ cls := "FactHouse$Follow", name := "isUse", desc := "(I)Z" } : Jvm.MethodName)) ∈ lw_all := lw_g (lw_at lw_m7 158 rfl) rfl
theorem q1788 : (Jvm.Cond.privateMethod ({ cls := "FactHouse$Follow", name := "isUse", desc := "(I)Z" } : Jvm.MethodName)) ∈ lw_tbl := lw_at lw_m7 159 rfl
theorem q1789 : (Jvm.Cond.instanceMethod ({ cls := "FactHouse$Follow", name := "isUse", desc := "(I)Z" } : Jvm.MethodName)) ∈ lw_all := lw_g (lw_at lw_m7 160 rfl) rfl
theorem q1790 : (Jvm.Cond.code ({ cls := "FactHouse$Follow", name := "isUse", desc := "(I)Z" } : Jvm.MethodName) prog_6_method_19_code (2 : Nat) (Option.some Jvm.ClassFile.FieldType.boolean)) ∈ lw_all := lw_g (lw_at lw_m7 161 rfl) rfl
theorem q1791 : (Jvm.Cond.methodLink "FactHouse$Follow" (224 : Nat) ({ cls := "FactHouse$Follow", name := "meet", desc := "(II)Z" } : Jvm.MethodName)) ∈ lw_all := lw_g (lw_at lw_m7 162 rfl) rfl
theorem q1792 : (Jvm.Cond.privateMethod ({ cls := "FactHouse$Follow", name := "meet", desc := "(II)Z" } : Jvm.MethodName)) ∈ lw_tbl := lw_at lw_m7 163 rfl
theorem q1793 : (Jvm.Cond.instanceMethod ({ cls := "FactHouse$Follow", name := "meet", desc := "(II)Z" } : Jvm.MethodName)) ∈ lw_all := lw_g (lw_at lw_m7 164 rfl) rfl
theorem q1794 : (Jvm.Cond.code ({ cls := "FactHouse$Follow", name := "meet", desc := "(II)Z" } : Jvm.MethodName) prog_6_method_18_code (7 : Nat) (Option.some Jvm.ClassFile.FieldType.boolean)) ∈ lw_all := lw_g (lw_at lw_m7 165 rfl) rfl
theorem q1795 : (Jvm.Cond.methodLink "FactHouse$Follow" (212 : Nat) ({ cls := "FactHouse$Follow", name := "uses", desc := "(I)J" } : Jvm.MethodName)) ∈ lw_all := lw_g (lw_at lw_m7 166 rfl) rfl
theorem q1796 : (Jvm.Cond.privateMethod ({ cls := "FactHouse$Follow", name := "uses", desc := "(I)J" } : Jvm.MethodName)) ∈ lw_tbl := lw_at lw_m7 167 rfl
theorem q1797 : (Jvm.Cond.instanceMethod ({ cls := "FactHouse$Follow", name := "uses", desc := "(I)J" } : Jvm.MethodName)) ∈ lw_all := lw_g (lw_at lw_m7 168 rfl) rfl
theorem q1798 : (Jvm.Cond.code ({ cls := "FactHouse$Follow", name := "uses", desc := "(I)J" } : Jvm.MethodName) prog_6_method_17_code (2 : Nat) (Option.some Jvm.ClassFile.FieldType.long)) ∈ lw_all := lw_g (lw_at lw_m7 169 rfl) rfl
theorem q1800 : (Jvm.Cond.instanceMethod ({ cls := "FactHouse$Follow", name := "rings", desc := "()I" } : Jvm.MethodName)) ∈ lw_all := lw_g (lw_at lw_m7 171 rfl) rfl
theorem q1801 : (Jvm.Cond.selects "FactHouse$Follow" ({ cls := "FactHouse$Follow", name := "rings", desc := "()I" } : Jvm.MethodName) ({ cls := "FactHouse$Follow", name := "rings", desc := "()I" } : Jvm.MethodName)) ∈ lw_all := lw_g (lw_at lw_m7 172 rfl) rfl
theorem q1802 : (Jvm.Cond.code ({ cls := "FactHouse$Follow", name := "rings", desc := "()I" } : Jvm.MethodName) prog_6_method_10_code (3 : Nat) (Option.some Jvm.ClassFile.FieldType.int)) ∈ lw_all := lw_g (lw_at lw_m7 173 rfl) rfl
theorem q1803 : (Jvm.Cond.methodLink "FactHouse$Follow" (137 : Nat) ({ cls := "java/lang/System", name := "arraycopy", desc := "(Ljava/lang/Object;ILjava/lang/Object;II)V" } : Jvm.MethodName)) ∈ lw_all := lw_g (lw_at lw_m7 174 rfl) rfl
theorem in_X7 : ∀ w ∈ wsX70, w ∈ lw_all := lw_in wsX70 [500, 502, 504, 506, 508, 510, 512, 514, 516, 518, 520, 522, 524, 526, 528, 530, 532] (by decide +kernel) (by decide +kernel)
/-! FactHouse$Machine -/
def RX8 : String := "FactHouse$Machine"
def TX8 : u_T := fun k => match k with
  | 0 => ("FactHouse$Machine", "p", "LFactHouse$Program;", false)
  | 1 => ("FactHouse$Machine", "siteOf", "[I", true)
  | 2 => ("FactHouse$Machine", "valuesOf", "[I", true)
  | 3 => ("FactHouse$Machine", "sizeOf", "[I", true)
  | 4 => ("FactHouse$Machine", "objects", "I", false)
  | 5 => ("FactHouse$Machine", "values", "[I", false)
  | 6 => ("FactHouse$Machine", "used", "I", false)
  | 7 => ("FactHouse$Machine", "statics", "[I", true)
  | 8 => ("FactHouse$Machine", "owner", "[I", true)
  | 9 => ("FactHouse$Machine", "deep", "[I", true)
  | 10 => ("FactHouse$Machine", "methods", "[[LFactHouse$Method;", true)
  | 11 => ("FactHouse$Machine", "places", "[[I", true)
  | 12 => ("FactHouse$Machine", "depths", "[[I", true)
  | 13 => ("FactHouse$Machine", "slots", "[[I", true)
  | 14 => ("FactHouse$Machine", "begins", "[I", true)
  | 15 => ("FactHouse$Machine", "threads", "I", false)
  | 16 => ("FactHouse$Machine", "ended", "I", false)
  | 17 => ("FactHouse$Machine", "steps", "I", false)
  | 18 => ("FactHouse$Machine", "taken", "I", false)
  | 19 => ("FactHouse$Machine", "gave", "I", false)
  | 20 => ("FactHouse$Machine", "endedBy", "I", false)
  | 21 => ("FactHouse$Machine", "sinks", "[I", true)
  | 22 => ("FactHouse$Machine", "numbers", "[I", true)
  | 23 => ("FactHouse$Machine", "outputs", "I", false)
  | 24 => ("FactHouse$Machine", "inputs", "[I", true)
  | 25 => ("FactHouse$Machine", "inputCount", "I", false)
  | 26 => ("FactHouse$Machine", "met", "[J", true)
  | 27 => ("FactHouse$Machine", "t", "I", false)
  | 28 => ("FactHouse$Machine", "m", "LFactHouse$Method;", false)
  | 29 => ("FactHouse$Machine", "base", "I", false)
  | 30 => ("FactHouse$Machine", "depth", "I", false)
  | _ => ("FactHouse$Machine", "isFull", "Z", false)
def tyX8 : Nat → FieldType := fun k => match k with
  | 0 => .object "FactHouse$Program"
  | 1 => .array .int
  | 2 => .array .int
  | 3 => .array .int
  | 4 => .int
  | 5 => .array .int
  | 6 => .int
  | 7 => .array .int
  | 8 => .array .int
  | 9 => .array .int
  | 10 => .array (.array (.object "FactHouse$Method"))
  | 11 => .array (.array .int)
  | 12 => .array (.array .int)
  | 13 => .array (.array .int)
  | 14 => .array .int
  | 15 => .int
  | 16 => .int
  | 17 => .int
  | 18 => .int
  | 19 => .int
  | 20 => .int
  | 21 => .array .int
  | 22 => .array .int
  | 23 => .int
  | 24 => .array .int
  | 25 => .int
  | 26 => .array .long
  | 27 => .int
  | 28 => .object "FactHouse$Method"
  | 29 => .int
  | 30 => .int
  | _ => .boolean
abbrev wsX80 : List Cond := u_ws RX8 TX8 32
theorem nmX8 : ∀ a, a < 32 → ∀ b, b < 32 → a ≠ b → (TX8 a).2.1 ≠ (TX8 b).2.1 := by decide +kernel
theorem tyX8_ok : ∀ k, k < 32 → parseFieldDescriptor (TX8 k).2.2.1 = some (tyX8 k) := by decide +kernel
abbrev cX8_init : ByteArray := prog_8_method_1_code
def yX8_init : MethodName := ⟨RX8, "<init>", "()V"⟩
abbrev cX8_forget : ByteArray := prog_8_method_32_code
def yX8_forget : MethodName := ⟨RX8, "forget", "()V"⟩
abbrev cX8_input : ByteArray := prog_8_method_30_code
def yX8_input : MethodName := ⟨RX8, "input", "(I)I"⟩
abbrev cX8_walk : ByteArray := prog_8_method_10_code
def yX8_walk : MethodName := ⟨RX8, "walk", "(LFactHouse$Program;III)I"⟩
abbrev cX8_begin : ByteArray := prog_8_method_2_code
def yX8_begin : MethodName := ⟨RX8, "begin", "(LFactHouse$Program;)V"⟩
abbrev cX8_addThread : ByteArray := prog_8_method_4_code
def yX8_addThread : MethodName := ⟨RX8, "addThread", "(LFactHouse$Method;)V"⟩
abbrev cX8_pushFrame : ByteArray := prog_8_method_5_code
def yX8_pushFrame : MethodName := ⟨RX8, "pushFrame", "(LFactHouse$Method;)V"⟩
abbrev cX8_nextInput : ByteArray := prog_8_method_3_code
def yX8_nextInput : MethodName := ⟨RX8, "nextInput", "()I"⟩
abbrev cX8_turns : ByteArray := prog_8_method_11_code
def yX8_turns : MethodName := ⟨RX8, "turns", "(II)I"⟩
abbrev cX8_canGo : ByteArray := prog_8_method_12_code
def yX8_canGo : MethodName := ⟨RX8, "canGo", "()Z"⟩
abbrev cX8_load : ByteArray := prog_8_method_6_code
def yX8_load : MethodName := ⟨RX8, "load", "()V"⟩
abbrev cX8_at : ByteArray := prog_8_method_7_code
def yX8_at : MethodName := ⟨RX8, "at", "()I"⟩
abbrev cX8_step : ByteArray := prog_8_method_14_code
def yX8_step : MethodName := ⟨RX8, "step", "()V"⟩
abbrev cX8_simple : ByteArray := prog_8_method_15_code
def yX8_simple : MethodName := ⟨RX8, "simple", "(IIII)V"⟩
abbrev cX8_put : ByteArray := prog_8_method_8_code
def yX8_put : MethodName := ⟨RX8, "put", "(I)V"⟩
abbrev cX8_take : ByteArray := prog_8_method_9_code
def yX8_take : MethodName := ⟨RX8, "take", "()I"⟩
abbrev cX8_goOn : ByteArray := prog_8_method_13_code
def yX8_goOn : MethodName := ⟨RX8, "goOn", "(I)V"⟩
abbrev cX8_numbers : ByteArray := prog_8_method_16_code
def yX8_numbers : MethodName := ⟨RX8, "numbers", "(IIII)V"⟩
abbrev cX8_hurl : ByteArray := prog_8_method_27_code
def yX8_hurl : MethodName := ⟨RX8, "hurl", "(I)V"⟩
abbrev cX8_jumps : ByteArray := prog_8_method_18_code
def yX8_jumps : MethodName := ⟨RX8, "jumps", "(IIII)V"⟩
abbrev cX8_isSo : ByteArray := prog_8_method_17_code
def yX8_isSo : MethodName := ⟨RX8, "isSo", "(III)Z"⟩
abbrev cX8_objectActs : ByteArray := prog_8_method_21_code
def yX8_objectActs : MethodName := ⟨RX8, "objectActs", "(IIII)V"⟩
abbrev cX8_make : ByteArray := prog_8_method_19_code
def yX8_make : MethodName := ⟨RX8, "make", "(II)I"⟩
abbrev cX8_isArray : ByteArray := prog_8_method_20_code
def yX8_isArray : MethodName := ⟨RX8, "isArray", "(II)Z"⟩
abbrev cX8_element : ByteArray := prog_8_method_22_code
def yX8_element : MethodName := ⟨RX8, "element", "(II)Z"⟩
abbrev cX8_field : ByteArray := prog_8_method_23_code
def yX8_field : MethodName := ⟨RX8, "field", "(III)Z"⟩
abbrev cX8_calls : ByteArray := prog_8_method_24_code
def yX8_calls : MethodName := ⟨RX8, "calls", "(IIII)V"⟩
abbrev cX8_call : ByteArray := prog_8_method_25_code
def yX8_call : MethodName := ⟨RX8, "call", "(ILFactHouse$Method;)V"⟩
abbrev cX8_leave : ByteArray := prog_8_method_26_code
def yX8_leave : MethodName := ⟨RX8, "leave", "(II)V"⟩
abbrev cX8_locks : ByteArray := prog_8_method_28_code
def yX8_locks : MethodName := ⟨RX8, "locks", "(III)V"⟩
abbrev cX8_start : ByteArray := prog_8_method_29_code
def yX8_start : MethodName := ⟨RX8, "start", "(II)V"⟩
abbrev cX8_about : ByteArray := prog_8_method_31_code
def yX8_about : MethodName := ⟨RX8, "about", "(I)I"⟩
theorem q197 : (Jvm.Cond.initialized "FactHouse$Machine") ∈ lw_all := lw_g (lw_at lw_m1 8 rfl) rfl
theorem q536 : (Jvm.Cond.instantiable "FactHouse$Machine" (32 : Nat)) ∈ lw_all := lw_g (lw_at lw_m2 107 rfl) rfl
theorem q538 : (Jvm.Cond.instanceMethod ({ cls := "FactHouse$Machine", name := "<init>", desc := "()V" } : Jvm.MethodName)) ∈ lw_all := lw_g (lw_at lw_m2 109 rfl) rfl
theorem q539 : (Jvm.Cond.code ({ cls := "FactHouse$Machine", name := "<init>", desc := "()V" } : Jvm.MethodName) prog_8_method_1_code (1 : Nat) (Option.none : Option Jvm.ClassFile.FieldType)) ∈ lw_all := lw_g (lw_at lw_m2 110 rfl) rfl
theorem q540 : (Jvm.Cond.methodLink "FactHouse$Machine" (3 : Nat) ({ cls := "java/lang/Object", name := "<init>", desc := "()V" } : Jvm.MethodName)) ∈ lw_all := lw_g (lw_at lw_m2 111 rfl) rfl
theorem q541 : (Jvm.Cond.classLink "FactHouse$Machine" (33 : Nat) "[[LFactHouse$Method;") ∈ lw_all := lw_g (lw_at lw_m2 112 rfl) rfl
theorem q544 : (Jvm.Cond.classLink "FactHouse$Machine" (38 : Nat) "[[I") ∈ lw_all := lw_g (lw_at lw_m2 115 rfl) rfl
theorem q546 : (Jvm.Cond.fieldLink "FactHouse$Machine" (65 : Nat) "FactHouse$Machine" "p" "LFactHouse$Program;") ∈ lw_all := lw_g (lw_at lw_m2 117 rfl) rfl
theorem q547 : (Jvm.Cond.fieldLink "FactHouse$Machine" (11 : Nat) "FactHouse$Machine" "siteOf" "[I") ∈ lw_all := lw_g (lw_at lw_m2 118 rfl) rfl
theorem q548 : (Jvm.Cond.fieldLink "FactHouse$Machine" (15 : Nat) "FactHouse$Machine" "valuesOf" "[I") ∈ lw_all := lw_g (lw_at lw_m2 119 rfl) rfl
theorem q549 : (Jvm.Cond.fieldLink "FactHouse$Machine" (18 : Nat) "FactHouse$Machine" "sizeOf" "[I") ∈ lw_all := lw_g (lw_at lw_m2 120 rfl) rfl
theorem q550 : (Jvm.Cond.fieldLink "FactHouse$Machine" (69 : Nat) "FactHouse$Machine" "objects" "I") ∈ lw_all := lw_g (lw_at lw_m2 121 rfl) rfl
theorem q551 : (Jvm.Cond.fieldLink "FactHouse$Machine" (21 : Nat) "FactHouse$Machine" "values" "[I") ∈ lw_all := lw_g (lw_at lw_m2 122 rfl) rfl
theorem q552 : (Jvm.Cond.fieldLink "FactHouse$Machine" (73 : Nat) "FactHouse$Machine" "used" "I") ∈ lw_all := lw_g (lw_at lw_m2 123 rfl) rfl
theorem q553 : (Jvm.Cond.fieldLink "FactHouse$Machine" (24 : Nat) "FactHouse$Machine" "statics" "[I") ∈ lw_all := lw_g (lw_at lw_m2 124 rfl) rfl
theorem q554 : (Jvm.Cond.fieldLink "FactHouse$Machine" (27 : Nat) "FactHouse$Machine" "owner" "[I") ∈ lw_all := lw_g (lw_at lw_m2 125 rfl) rfl
theorem q555 : (Jvm.Cond.fieldLink "FactHouse$Machine" (30 : Nat) "FactHouse$Machine" "deep" "[I") ∈ lw_all := lw_g (lw_at lw_m2 126 rfl) rfl
theorem q556 : (Jvm.Cond.fieldLink "FactHouse$Machine" (35 : Nat) "FactHouse$Machine" "methods" "[[LFactHouse$Method;") ∈ lw_all := lw_g (lw_at lw_m2 127 rfl) rfl
theorem q557 : (Jvm.Cond.fieldLink "FactHouse$Machine" (40 : Nat) "FactHouse$Machine" "places" "[[I") ∈ lw_all := lw_g (lw_at lw_m2 128 rfl) rfl
theorem q558 : (Jvm.Cond.fieldLink "FactHouse$Machine" (43 : Nat) "FactHouse$Machine" "depths" "[[I") ∈ lw_all := lw_g (lw_at lw_m2 129 rfl) rfl
theorem q559 : (Jvm.Cond.fieldLink "FactHouse$Machine" (46 : Nat) "FactHouse$Machine" "slots" "[[I") ∈ lw_all := lw_g (lw_at lw_m2 130 rfl) rfl
theorem q560 : (Jvm.Cond.fieldLink "FactHouse$Machine" (49 : Nat) "FactHouse$Machine" "begins" "[I") ∈ lw_all := lw_g (lw_at lw_m2 131 rfl) rfl
theorem q561 : (Jvm.Cond.fieldLink "FactHouse$Machine" (76 : Nat) "FactHouse$Machine" "threads" "I") ∈ lw_all := lw_g (lw_at lw_m2 132 rfl) rfl
theorem q562 : (Jvm.Cond.fieldLink "FactHouse$Machine" (79 : Nat) "FactHouse$Machine" "ended" "I") ∈ lw_all := lw_g (lw_at lw_m2 133 rfl) rfl
theorem q563 : (Jvm.Cond.fieldLink "FactHouse$Machine" (82 : Nat) "FactHouse$Machine" "steps" "I") ∈ lw_all := lw_g (lw_at lw_m2 134 rfl) rfl
theorem q564 : (Jvm.Cond.fieldLink "FactHouse$Machine" (85 : Nat) "FactHouse$Machine" "taken" "I") ∈ lw_all := lw_g (lw_at lw_m2 135 rfl) rfl
theorem q565 : (Jvm.Cond.fieldLink "FactHouse$Machine" (88 : Nat) "FactHouse$Machine" "gave" "I") ∈ lw_all := lw_g (lw_at lw_m2 136 rfl) rfl
theorem q566 : (Jvm.Cond.fieldLink "FactHouse$Machine" (91 : Nat) "FactHouse$Machine" "endedBy" "I") ∈ lw_all := lw_g (lw_at lw_m2 137 rfl) rfl
theorem q567 : (Jvm.Cond.fieldLink "FactHouse$Machine" (52 : Nat) "FactHouse$Machine" "sinks" "[I") ∈ lw_all := lw_g (lw_at lw_m2 138 rfl) rfl
theorem q569 : (Jvm.Cond.fieldLink "FactHouse$Machine" (55 : Nat) "FactHouse$Machine" "numbers" "[I") ∈ lw_all := lw_g (lw_at lw_m2 140 rfl) rfl
theorem q571 : (Jvm.Cond.fieldLink "FactHouse$Machine" (94 : Nat) "FactHouse$Machine" "outputs" "I") ∈ lw_all := lw_g (lw_at lw_m2 142 rfl) rfl
theorem q573 : (Jvm.Cond.fieldLink "FactHouse$Machine" (58 : Nat) "FactHouse$Machine" "inputs" "[I") ∈ lw_all := lw_g (lw_at lw_m2 144 rfl) rfl
theorem q574 : (Jvm.Cond.fieldLink "FactHouse$Machine" (101 : Nat) "FactHouse$Machine" "inputCount" "I") ∈ lw_all := lw_g (lw_at lw_m2 145 rfl) rfl
theorem q576 : (Jvm.Cond.fieldLink "FactHouse$Machine" (61 : Nat) "FactHouse$Machine" "met" "[J") ∈ lw_all := lw_g (lw_at lw_m2 147 rfl) rfl
theorem q578 : (Jvm.Cond.fieldLink "FactHouse$Machine" (104 : Nat) "FactHouse$Machine" "t" "I") ∈ lw_all := lw_g (lw_at lw_m2 149 rfl) rfl
theorem q579 : (Jvm.Cond.fieldLink "FactHouse$Machine" (114 : Nat) "FactHouse$Machine" "m" "LFactHouse$Method;") ∈ lw_all := lw_g (lw_at lw_m2 150 rfl) rfl
theorem q580 : (Jvm.Cond.fieldLink "FactHouse$Machine" (111 : Nat) "FactHouse$Machine" "base" "I") ∈ lw_all := lw_g (lw_at lw_m2 151 rfl) rfl
theorem q581 : (Jvm.Cond.fieldLink "FactHouse$Machine" (118 : Nat) "FactHouse$Machine" "depth" "I") ∈ lw_all := lw_g (lw_at lw_m2 152 rfl) rfl
theorem q582 : (Jvm.Cond.fieldLink "FactHouse$Machine" (97 : Nat) "FactHouse$Machine" "isFull" "Z") ∈ lw_all := lw_g (lw_at lw_m2 153 rfl) rfl
theorem q583 : (Jvm.Cond.lays "FactHouse$Machine" "FactHouse$Machine" "p" "LFactHouse$Program;") ∈ lw_all := lw_g (lw_at lw_m2 154 rfl) rfl
theorem q584 : (Jvm.Cond.soleField "FactHouse$Machine" "p") ∈ lw_all := lw_g (lw_at lw_m2 155 rfl) rfl
theorem q585 : (Jvm.Cond.laysFinal "FactHouse$Machine" "FactHouse$Machine" "siteOf" "[I") ∈ lw_all := lw_g (lw_at lw_m2 156 rfl) rfl
theorem q586 : (Jvm.Cond.soleField "FactHouse$Machine" "siteOf") ∈ lw_all := lw_g (lw_at lw_m2 157 rfl) rfl
theorem q587 : (Jvm.Cond.laysFinal "FactHouse$Machine" "FactHouse$Machine" "valuesOf" "[I") ∈ lw_all := lw_g (lw_at lw_m2 158 rfl) rfl
theorem q588 : (Jvm.Cond.soleField "FactHouse$Machine" "valuesOf") ∈ lw_all := lw_g (lw_at lw_m2 159 rfl) rfl
theorem q589 : (Jvm.Cond.laysFinal "FactHouse$Machine" "FactHouse$Machine" "sizeOf" "[I") ∈ lw_all := lw_g (lw_at lw_m2 160 rfl) rfl
theorem q590 : (Jvm.Cond.soleField "FactHouse$Machine" "sizeOf") ∈ lw_all := lw_g (lw_at lw_m2 161 rfl) rfl
theorem q591 : (Jvm.Cond.lays "FactHouse$Machine" "FactHouse$Machine" "objects" "I") ∈ lw_all := lw_g (lw_at lw_m2 162 rfl) rfl
theorem q592 : (Jvm.Cond.soleField "FactHouse$Machine" "objects") ∈ lw_all := lw_g (lw_at lw_m2 163 rfl) rfl
theorem q593 : (Jvm.Cond.lays "FactHouse$Machine" "FactHouse$Machine" "values" "[I") ∈ lw_all := lw_g (lw_at lw_m2 164 rfl) rfl
theorem q594 : (Jvm.Cond.soleField "FactHouse$Machine" "values") ∈ lw_all := lw_g (lw_at lw_m2 165 rfl) rfl
theorem q595 : (Jvm.Cond.lays "FactHouse$Machine" "FactHouse$Machine" "used" "I") ∈ lw_all := lw_g (lw_at lw_m2 166 rfl) rfl
theorem q596 : (Jvm.Cond.soleField "FactHouse$Machine" "used") ∈ lw_all := lw_g (lw_at lw_m2 167 rfl) rfl
theorem q597 : (Jvm.Cond.laysFinal "FactHouse$Machine" "FactHouse$Machine" "statics" "[I") ∈ lw_all := lw_g (lw_at lw_m2 168 rfl) rfl
theorem q598 : (Jvm.Cond.soleField "FactHouse$Machine" "statics") ∈ lw_all := lw_g (lw_at lw_m2 169 rfl) rfl
theorem q599 : (Jvm.Cond.laysFinal "FactHouse$Machine" "FactHouse$Machine" "owner" "[I") ∈ lw_all := lw_g (lw_at lw_m2 170 rfl) rfl
theorem q600 : (Jvm.Cond.soleField "FactHouse$Machine" "owner") ∈ lw_all := lw_g (lw_at lw_m2 171 rfl) rfl
theorem q601 : (Jvm.Cond.laysFinal "FactHouse$Machine" "FactHouse$Machine" "deep" "[I") ∈ lw_all := lw_g (lw_at lw_m2 172 rfl) rfl
theorem q602 : (Jvm.Cond.soleField "FactHouse$Machine" "deep") ∈ lw_all := lw_g (lw_at lw_m2 173 rfl) rfl
theorem q603 : (Jvm.Cond.laysFinal "FactHouse$Machine" "FactHouse$Machine" "methods" "[[LFactHouse$Method;") ∈ lw_all := lw_g (lw_at lw_m2 174 rfl) rfl
theorem q604 : (Jvm.Cond.soleField "FactHouse$Machine" "methods") ∈ lw_all := lw_g (lw_at lw_m2 175 rfl) rfl
theorem q605 : (Jvm.Cond.laysFinal "FactHouse$Machine" "FactHouse$Machine" "places" "[[I") ∈ lw_all := lw_g (lw_at lw_m2 176 rfl) rfl
theorem q606 : (Jvm.Cond.soleField "FactHouse$Machine" "places") ∈ lw_all := lw_g (lw_at lw_m2 177 rfl) rfl
theorem q607 : (Jvm.Cond.laysFinal "FactHouse$Machine" "FactHouse$Machine" "depths" "[[I") ∈ lw_all := lw_g (lw_at lw_m2 178 rfl) rfl
theorem q608 : (Jvm.Cond.soleField "FactHouse$Machine" "depths") ∈ lw_all := lw_g (lw_at lw_m2 179 rfl) rfl
theorem q609 : (Jvm.Cond.laysFinal "FactHouse$Machine" "FactHouse$Machine" "slots" "[[I") ∈ lw_all := lw_g (lw_at lw_m2 180 rfl) rfl
theorem q610 : (Jvm.Cond.soleField "FactHouse$Machine" "slots") ∈ lw_all := lw_g (lw_at lw_m2 181 rfl) rfl
theorem q611 : (Jvm.Cond.laysFinal "FactHouse$Machine" "FactHouse$Machine" "begins" "[I") ∈ lw_all := lw_g (lw_at lw_m2 182 rfl) rfl
theorem q612 : (Jvm.Cond.soleField "FactHouse$Machine" "begins") ∈ lw_all := lw_g (lw_at lw_m2 183 rfl) rfl
theorem q613 : (Jvm.Cond.lays "FactHouse$Machine" "FactHouse$Machine" "threads" "I") ∈ lw_all := lw_g (lw_at lw_m2 184 rfl) rfl
theorem q614 : (Jvm.Cond.soleField "FactHouse$Machine" "threads") ∈ lw_all := lw_g (lw_at lw_m2 185 rfl) rfl
theorem q615 : (Jvm.Cond.lays "FactHouse$Machine" "FactHouse$Machine" "ended" "I") ∈ lw_all := lw_g (lw_at lw_m2 186 rfl) rfl
theorem q616 : (Jvm.Cond.soleField "FactHouse$Machine" "ended") ∈ lw_all := lw_g (lw_at lw_m2 187 rfl) rfl
theorem q617 : (Jvm.Cond.lays "FactHouse$Machine" "FactHouse$Machine" "steps" "I") ∈ lw_all := lw_g (lw_at lw_m2 188 rfl) rfl
theorem q618 : (Jvm.Cond.soleField "FactHouse$Machine" "steps") ∈ lw_all := lw_g (lw_at lw_m2 189 rfl) rfl
theorem q619 : (Jvm.Cond.lays "FactHouse$Machine" "FactHouse$Machine" "taken" "I") ∈ lw_all := lw_g (lw_at lw_m2 190 rfl) rfl
theorem q620 : (Jvm.Cond.soleField "FactHouse$Machine" "taken") ∈ lw_all := lw_g (lw_at lw_m2 191 rfl) rfl
theorem q621 : (Jvm.Cond.lays "FactHouse$Machine" "FactHouse$Machine" "gave" "I") ∈ lw_all := lw_g (lw_at lw_m2 192 rfl) rfl
theorem q622 : (Jvm.Cond.soleField "FactHouse$Machine" "gave") ∈ lw_all := lw_g (lw_at lw_m2 193 rfl) rfl
theorem q623 : (Jvm.Cond.lays "FactHouse$Machine" "FactHouse$Machine" "endedBy" "I") ∈ lw_all := lw_g (lw_at lw_m2 194 rfl) rfl
theorem q624 : (Jvm.Cond.soleField "FactHouse$Machine" "endedBy") ∈ lw_all := lw_g (lw_at lw_m2 195 rfl) rfl
theorem q625 : (Jvm.Cond.laysFinal "FactHouse$Machine" "FactHouse$Machine" "sinks" "[I") ∈ lw_all := lw_g (lw_at lw_m2 196 rfl) rfl
theorem q626 : (Jvm.Cond.soleField "FactHouse$Machine" "sinks") ∈ lw_all := lw_g (lw_at lw_m2 197 rfl) rfl
theorem q627 : (Jvm.Cond.laysFinal "FactHouse$Machine" "FactHouse$Machine" "numbers" "[I") ∈ lw_all := lw_g (lw_at lw_m2 198 rfl) rfl
theorem q628 : (Jvm.Cond.soleField "FactHouse$Machine" "numbers") ∈ lw_all := lw_g (lw_at lw_m2 199 rfl) rfl
theorem q629 : (Jvm.Cond.lays "FactHouse$Machine" "FactHouse$Machine" "outputs" "I") ∈ lw_all := lw_g (lw_at lw_m2 200 rfl) rfl
theorem q630 : (Jvm.Cond.soleField "FactHouse$Machine" "outputs") ∈ lw_all := lw_g (lw_at lw_m2 201 rfl) rfl
theorem q631 : (Jvm.Cond.laysFinal "FactHouse$Machine" "FactHouse$Machine" "inputs" "[I") ∈ lw_all := lw_g (lw_at lw_m2 202 rfl) rfl
theorem q632 : (Jvm.Cond.soleField "FactHouse$Machine" "inputs") ∈ lw_all := lw_g (lw_at lw_m2 203 rfl) rfl
theorem q633 : (Jvm.Cond.lays "FactHouse$Machine" "FactHouse$Machine" "inputCount" "I") ∈ lw_all := lw_g (lw_at lw_m2 204 rfl) rfl
theorem q634 : (Jvm.Cond.soleField "FactHouse$Machine" "inputCount") ∈ lw_all := lw_g (lw_at lw_m2 205 rfl) rfl
theorem q635 : (Jvm.Cond.laysFinal "FactHouse$Machine" "FactHouse$Machine" "met" "[J") ∈ lw_all := lw_g (lw_at lw_m2 206 rfl) rfl
theorem q636 : (Jvm.Cond.soleField "FactHouse$Machine" "met") ∈ lw_all := lw_g (lw_at lw_m2 207 rfl) rfl
theorem q637 : (Jvm.Cond.lays "FactHouse$Machine" "FactHouse$Machine" "t" "I") ∈ lw_all := lw_g (lw_at lw_m2 208 rfl) rfl
theorem q638 : (Jvm.Cond.soleField "FactHouse$Machine" "t") ∈ lw_all := lw_g (lw_at lw_m2 209 rfl) rfl
theorem q639 : (Jvm.Cond.lays "FactHouse$Machine" "FactHouse$Machine" "m" "LFactHouse$Method;") ∈ lw_all := lw_g (lw_at lw_m2 210 rfl) rfl
theorem q640 : (Jvm.Cond.soleField "FactHouse$Machine" "m") ∈ lw_all := lw_g (lw_at lw_m2 211 rfl) rfl
theorem q641 : (Jvm.Cond.lays "FactHouse$Machine" "FactHouse$Machine" "base" "I") ∈ lw_all := lw_g (lw_at lw_m2 212 rfl) rfl
theorem q642 : (Jvm.Cond.soleField "FactHouse$Machine" "base") ∈ lw_all := lw_g (lw_at lw_m2 213 rfl) rfl
theorem q643 : (Jvm.Cond.lays "FactHouse$Machine" "FactHouse$Machine" "depth" "I") ∈ lw_all := lw_g (lw_at lw_m2 214 rfl) rfl
theorem q644 : (Jvm.Cond.soleField "FactHouse$Machine" "depth") ∈ lw_all := lw_g (lw_at lw_m2 215 rfl) rfl
theorem q645 : (Jvm.Cond.lays "FactHouse$Machine" "FactHouse$Machine" "isFull" "Z") ∈ lw_all := lw_g (lw_at lw_m2 216 rfl) rfl
theorem q646 : (Jvm.Cond.soleField "FactHouse$Machine" "isFull") ∈ lw_all := lw_g (lw_at lw_m2 217 rfl) rfl
theorem q647 : (Jvm.Cond.superclass "FactHouse$Machine" "java/lang/Object") ∈ lw_all := lw_g (lw_at lw_m2 218 rfl) rfl
theorem q706 : (Jvm.Cond.fieldLink "FactHouse$Machine" (239 : Nat) "FactHouse$Program" "fields" "[[I") ∈ lw_all := lw_g (lw_at lw_m3 37 rfl) rfl
theorem q717 : (Jvm.Cond.fieldLink "FactHouse$Machine" (125 : Nat) "FactHouse$Program" "methods" "[LFactHouse$Method;") ∈ lw_all := lw_g (lw_at lw_m3 48 rfl) rfl
theorem q731 : (Jvm.Cond.fieldLink "FactHouse$Machine" (232 : Nat) "FactHouse$Program" "siteClass" "[I") ∈ lw_all := lw_g (lw_at lw_m3 62 rfl) rfl
theorem q733 : (Jvm.Cond.fieldLink "FactHouse$Machine" (235 : Nat) "FactHouse$Program" "siteOf" "[I") ∈ lw_all := lw_g (lw_at lw_m3 64 rfl) rfl
theorem q915 : (Jvm.Cond.fieldLink "FactHouse$Machine" (133 : Nat) "FactHouse$Method" "args" "I") ∈ lw_all := lw_g (lw_at lw_m4 6 rfl) rfl
theorem q922 : (Jvm.Cond.fieldLink "FactHouse$Machine" (270 : Nat) "FactHouse$Method" "gives" "I") ∈ lw_all := lw_g (lw_at lw_m4 13 rfl) rfl
theorem q927 : (Jvm.Cond.fieldLink "FactHouse$Machine" (138 : Nat) "FactHouse$Method" "kinds" "[I") ∈ lw_all := lw_g (lw_at lw_m4 18 rfl) rfl
theorem q936 : (Jvm.Cond.fieldLink "FactHouse$Machine" (162 : Nat) "FactHouse$Method" "ops" "[I") ∈ lw_all := lw_g (lw_at lw_m4 27 rfl) rfl
theorem q941 : (Jvm.Cond.fieldLink "FactHouse$Machine" (165 : Nat) "FactHouse$Method" "xs" "[I") ∈ lw_all := lw_g (lw_at lw_m4 32 rfl) rfl
theorem q945 : (Jvm.Cond.fieldLink "FactHouse$Machine" (168 : Nat) "FactHouse$Method" "ys" "[I") ∈ lw_all := lw_g (lw_at lw_m4 36 rfl) rfl
theorem q951 : (Jvm.Cond.fieldLink "FactHouse$Machine" (200 : Nat) "FactHouse$Method" "zs" "[I") ∈ lw_all := lw_g (lw_at lw_m4 42 rfl) rfl
theorem q959 : (Jvm.Cond.fieldLink "FactHouse$Machine" (277 : Nat) "FactHouse$Method" "handlers" "[LFactHouse$Handler;") ∈ lw_all := lw_g (lw_at lw_m4 50 rfl) rfl
theorem q965 : (Jvm.Cond.fieldLink "FactHouse$Machine" (236 : Nat) "FactHouse$Method" "first" "I") ∈ lw_all := lw_g (lw_at lw_m4 56 rfl) rfl
theorem q1054 : (Jvm.Cond.fieldLink "FactHouse$Machine" (281 : Nat) "FactHouse$Handler" "from" "I") ∈ lw_all := lw_g (lw_at lw_m4 145 rfl) rfl
theorem q1058 : (Jvm.Cond.fieldLink "FactHouse$Machine" (286 : Nat) "FactHouse$Handler" "to" "I") ∈ lw_all := lw_g (lw_at lw_m4 149 rfl) rfl
theorem q1063 : (Jvm.Cond.fieldLink "FactHouse$Machine" (292 : Nat) "FactHouse$Handler" "at" "I") ∈ lw_all := lw_g (lw_at lw_m4 154 rfl) rfl
theorem q1067 : (Jvm.Cond.fieldLink "FactHouse$Machine" (289 : Nat) "FactHouse$Handler" "cls" "I") ∈ lw_all := lw_g (lw_at lw_m4 158 rfl) rfl
theorem q1167 : (Jvm.Cond.instanceMethod ({ cls := "FactHouse$Machine", name := "forget", desc := "()V" } : Jvm.MethodName)) ∈ lw_all := lw_g (lw_at lw_m5 18 rfl) rfl
theorem q1168 : (Jvm.Cond.selects "FactHouse$Machine" ({ cls := "FactHouse$Machine", name := "forget", desc := "()V" } : Jvm.MethodName) ({ cls := "FactHouse$Machine", name := "forget", desc := "()V" } : Jvm.MethodName)) ∈ lw_all := lw_g (lw_at lw_m5 19 rfl) rfl
theorem q1169 : (Jvm.Cond.code ({ cls := "FactHouse$Machine", name := "forget", desc := "()V" } : Jvm.MethodName) prog_8_method_32_code (2 : Nat) (Option.none : Option Jvm.ClassFile.FieldType)) ∈ lw_all := lw_g (lw_at lw_m5 20 rfl) rfl
theorem q1826 : (Jvm.Cond.instanceMethod ({ cls := "FactHouse$Machine", name := "input", desc := "(I)I" } : Jvm.MethodName)) ∈ lw_all := lw_g (lw_at lw_m7 197 rfl) rfl
theorem q1827 : (Jvm.Cond.selects "FactHouse$Machine" ({ cls := "FactHouse$Machine", name := "input", desc := "(I)I" } : Jvm.MethodName) ({ cls := "FactHouse$Machine", name := "input", desc := "(I)I" } : Jvm.MethodName)) ∈ lw_all := lw_g (lw_at lw_m7 198 rfl) rfl
theorem q1828 : (Jvm.Cond.code ({ cls := "FactHouse$Machine", name := "input", desc := "(I)I" } : Jvm.MethodName) prog_8_method_30_code (2 : Nat) (Option.some Jvm.ClassFile.FieldType.int)) ∈ lw_all := lw_g (lw_at lw_m7 199 rfl) rfl
theorem q1839 : (Jvm.Cond.instanceMethod ({ cls := "FactHouse$Machine", name := "walk", desc := "(LFactHouse$Program;III)I" } : Jvm.MethodName)) ∈ lw_all := lw_g (lw_at lw_m7 210 rfl) rfl
theorem q1840 : (Jvm.Cond.selects "FactHouse$Machine" ({ cls := "FactHouse$Machine", name := "walk", desc := "(LFactHouse$Program;III)I" } : Jvm.MethodName) ({ cls := "FactHouse$Machine", name := "walk", desc := "(LFactHouse$Program;III)I" } : Jvm.MethodName)) ∈ lw_all := lw_g (lw_at lw_m7 211 rfl) rfl
theorem q1841 : (Jvm.Cond.code ({ cls := "FactHouse$Machine", name := "walk", desc := "(LFactHouse$Program;III)I" } : Jvm.MethodName) prog_8_method_10_code (7 : Nat) (Option.some Jvm.ClassFile.FieldType.int)) ∈ lw_all := lw_g (lw_at lw_m7 212 rfl) rfl
theorem q1842 : (Jvm.Cond.methodLink "FactHouse$Machine" (121 : Nat) ({ cls := "FactHouse$Machine", name := "begin", desc := "(LFactHouse$Program;)V" } : Jvm.MethodName)) ∈ lw_all := lw_g (lw_at lw_m7 213 rfl) rfl
theorem q1843 : (Jvm.Cond.privateMethod ({ cls := "FactHouse$Machine", name := "begin", desc := "(LFactHouse$Program;)V" } : Jvm.MethodName)) ∈ lw_tbl := lw_at lw_m7 214 rfl
theorem q1844 : (Jvm.Cond.instanceMethod ({ cls := "FactHouse$Machine", name := "begin", desc := "(LFactHouse$Program;)V" } : Jvm.MethodName)) ∈ lw_all := lw_g (lw_at lw_m7 215 rfl) rfl
theorem q1845 : (Jvm.Cond.code ({ cls := "FactHouse$Machine", name := "begin", desc := "(LFactHouse$Program;)V" } : Jvm.MethodName) prog_8_method_2_code (3 : Nat) (Option.none : Option Jvm.ClassFile.FieldType)) ∈ lw_all := lw_g (lw_at lw_m7 216 rfl) rfl
theorem q1846 : (Jvm.Cond.methodLink "FactHouse$Machine" (130 : Nat) ({ cls := "FactHouse$Machine", name := "addThread", desc := "(LFactHouse$Method;)V" } : Jvm.MethodName)) ∈ lw_all := lw_g (lw_at lw_m7 217 rfl) rfl
theorem q1847 : (Jvm.Cond.privateMethod ({ cls := "FactHouse$Machine", name := "addThread", desc := "(LFactHouse$Method;)V" } : Jvm.MethodName)) ∈ lw_tbl := lw_at lw_m7 218 rfl
theorem q1848 : (Jvm.Cond.instanceMethod ({ cls := "FactHouse$Machine", name := "addThread", desc := "(LFactHouse$Method;)V" } : Jvm.MethodName)) ∈ lw_all := lw_g (lw_at lw_m7 219 rfl) rfl
theorem q1849 : (Jvm.Cond.code ({ cls := "FactHouse$Machine", name := "addThread", desc := "(LFactHouse$Method;)V" } : Jvm.MethodName) prog_8_method_4_code (2 : Nat) (Option.none : Option Jvm.ClassFile.FieldType)) ∈ lw_all := lw_g (lw_at lw_m7 220 rfl) rfl
theorem q1850 : (Jvm.Cond.methodLink "FactHouse$Machine" (107 : Nat) ({ cls := "FactHouse$Machine", name := "pushFrame", desc := "(LFactHouse$Method;)V" } : Jvm.MethodName)) ∈ lw_all := lw_g (lw_at lw_m7 221 rfl) rfl
theorem q1851 : (Jvm.Cond.privateMethod ({ cls := "FactHouse$Machine", name := "pushFrame", desc := "(LFactHouse$Method;)V" } : Jvm.MethodName)) ∈ lw_tbl := lw_at lw_m7 222 rfl
theorem q1852 : (Jvm.Cond.instanceMethod ({ cls := "FactHouse$Machine", name := "pushFrame", desc := "(LFactHouse$Method;)V" } : Jvm.MethodName)) ∈ lw_all := lw_g (lw_at lw_m7 223 rfl) rfl
theorem q1853 : (Jvm.Cond.code ({ cls := "FactHouse$Machine", name := "pushFrame", desc := "(LFactHouse$Method;)V" } : Jvm.MethodName) prog_8_method_5_code (4 : Nat) (Option.none : Option Jvm.ClassFile.FieldType)) ∈ lw_all := lw_g (lw_at lw_m7 224 rfl) rfl
theorem q1854 : (Jvm.Cond.methodLink "FactHouse$Machine" (141 : Nat) ({ cls := "FactHouse$Machine", name := "nextInput", desc := "()I" } : Jvm.MethodName)) ∈ lw_all := lw_g (lw_at lw_m7 225 rfl) rfl
theorem q1855 : (Jvm.Cond.privateMethod ({ cls := "FactHouse$Machine", name := "nextInput", desc := "()I" } : Jvm.MethodName)) ∈ lw_tbl := lw_at lw_m7 226 rfl
theorem q1856 : (Jvm.Cond.instanceMethod ({ cls := "FactHouse$Machine", name := "nextInput", desc := "()I" } : Jvm.MethodName)) ∈ lw_all := lw_g (lw_at lw_m7 227 rfl) rfl
theorem q1857 : (Jvm.Cond.code ({ cls := "FactHouse$Machine", name := "nextInput", desc := "()I" } : Jvm.MethodName) prog_8_method_3_code (1 : Nat) (Option.some Jvm.ClassFile.FieldType.int)) ∈ lw_all := lw_g (lw_at lw_m7 228 rfl) rfl
theorem q1858 : (Jvm.Cond.methodLink "FactHouse$Machine" (145 : Nat) ({ cls := "FactHouse$Machine", name := "turns", desc := "(II)I" } : Jvm.MethodName)) ∈ lw_all := lw_g (lw_at lw_m7 229 rfl) rfl
theorem q1859 : (Jvm.Cond.privateMethod ({ cls := "FactHouse$Machine", name := "turns", desc := "(II)I" } : Jvm.MethodName)) ∈ lw_tbl := lw_at lw_m7 230 rfl
theorem q1860 : (Jvm.Cond.instanceMethod ({ cls := "FactHouse$Machine", name := "turns", desc := "(II)I" } : Jvm.MethodName)) ∈ lw_all := lw_g (lw_at lw_m7 231 rfl) rfl
theorem q1861 : (Jvm.Cond.code ({ cls := "FactHouse$Machine", name := "turns", desc := "(II)I" } : Jvm.MethodName) prog_8_method_11_code (6 : Nat) (Option.some Jvm.ClassFile.FieldType.int)) ∈ lw_all := lw_g (lw_at lw_m7 232 rfl) rfl
theorem q1862 : (Jvm.Cond.methodLink "FactHouse$Machine" (149 : Nat) ({ cls := "FactHouse$Machine", name := "canGo", desc := "()Z" } : Jvm.MethodName)) ∈ lw_all := lw_g (lw_at lw_m7 233 rfl) rfl
theorem q1863 : (Jvm.Cond.privateMethod ({ cls := "FactHouse$Machine", name := "canGo", desc := "()Z" } : Jvm.MethodName)) ∈ lw_tbl := lw_at lw_m7 234 rfl
theorem q1864 : (Jvm.Cond.instanceMethod ({ cls := "FactHouse$Machine", name := "canGo", desc := "()Z" } : Jvm.MethodName)) ∈ lw_all := lw_g (lw_at lw_m7 235 rfl) rfl
theorem q1865 : (Jvm.Cond.code ({ cls := "FactHouse$Machine", name := "canGo", desc := "()Z" } : Jvm.MethodName) prog_8_method_12_code (3 : Nat) (Option.some Jvm.ClassFile.FieldType.boolean)) ∈ lw_all := lw_g (lw_at lw_m7 236 rfl) rfl
theorem q1866 : (Jvm.Cond.methodLink "FactHouse$Machine" (156 : Nat) ({ cls := "FactHouse$Machine", name := "load", desc := "()V" } : Jvm.MethodName)) ∈ lw_all := lw_g (lw_at lw_m7 237 rfl) rfl
theorem q1867 : (Jvm.Cond.privateMethod ({ cls := "FactHouse$Machine", name := "load", desc := "()V" } : Jvm.MethodName)) ∈ lw_tbl := lw_at lw_m7 238 rfl
theorem q1868 : (Jvm.Cond.instanceMethod ({ cls := "FactHouse$Machine", name := "load", desc := "()V" } : Jvm.MethodName)) ∈ lw_all := lw_g (lw_at lw_m7 239 rfl) rfl
theorem q1869 : (Jvm.Cond.code ({ cls := "FactHouse$Machine", name := "load", desc := "()V" } : Jvm.MethodName) prog_8_method_6_code (2 : Nat) (Option.none : Option Jvm.ClassFile.FieldType)) ∈ lw_all := lw_g (lw_at lw_m8 0 rfl) rfl
theorem q1870 : (Jvm.Cond.methodLink "FactHouse$Machine" (159 : Nat) ({ cls := "FactHouse$Machine", name := "at", desc := "()I" } : Jvm.MethodName)) ∈ lw_all := lw_g (lw_at lw_m8 1 rfl) rfl
theorem q1871 : (Jvm.Cond.privateMethod ({ cls := "FactHouse$Machine", name := "at", desc := "()I" } : Jvm.MethodName)) ∈ lw_tbl := lw_at lw_m8 2 rfl
theorem q1872 : (Jvm.Cond.instanceMethod ({ cls := "FactHouse$Machine", name := "at", desc := "()I" } : Jvm.MethodName)) ∈ lw_all := lw_g (lw_at lw_m8 3 rfl) rfl
theorem q1873 : (Jvm.Cond.code ({ cls := "FactHouse$Machine", name := "at", desc := "()I" } : Jvm.MethodName) prog_8_method_7_code (1 : Nat) (Option.some Jvm.ClassFile.FieldType.int)) ∈ lw_all := lw_g (lw_at lw_m8 4 rfl) rfl
theorem q1874 : (Jvm.Cond.methodLink "FactHouse$Machine" (153 : Nat) ({ cls := "FactHouse$Machine", name := "step", desc := "()V" } : Jvm.MethodName)) ∈ lw_all := lw_g (lw_at lw_m8 5 rfl) rfl
theorem q1875 : (Jvm.Cond.privateMethod ({ cls := "FactHouse$Machine", name := "step", desc := "()V" } : Jvm.MethodName)) ∈ lw_tbl := lw_at lw_m8 6 rfl
theorem q1876 : (Jvm.Cond.instanceMethod ({ cls := "FactHouse$Machine", name := "step", desc := "()V" } : Jvm.MethodName)) ∈ lw_all := lw_g (lw_at lw_m8 7 rfl) rfl
theorem q1877 : (Jvm.Cond.code ({ cls := "FactHouse$Machine", name := "step", desc := "()V" } : Jvm.MethodName) prog_8_method_14_code (3 : Nat) (Option.none : Option Jvm.ClassFile.FieldType)) ∈ lw_all := lw_g (lw_at lw_m8 8 rfl) rfl
theorem q1878 : (Jvm.Cond.methodLink "FactHouse$Machine" (171 : Nat) ({ cls := "FactHouse$Machine", name := "simple", desc := "(IIII)V" } : Jvm.MethodName)) ∈ lw_all := lw_g (lw_at lw_m8 9 rfl) rfl
theorem q1879 : (Jvm.Cond.privateMethod ({ cls := "FactHouse$Machine", name := "simple", desc := "(IIII)V" } : Jvm.MethodName)) ∈ lw_tbl := lw_at lw_m8 10 rfl
theorem q1880 : (Jvm.Cond.instanceMethod ({ cls := "FactHouse$Machine", name := "simple", desc := "(IIII)V" } : Jvm.MethodName)) ∈ lw_all := lw_g (lw_at lw_m8 11 rfl) rfl
theorem q1881 : (Jvm.Cond.code ({ cls := "FactHouse$Machine", name := "simple", desc := "(IIII)V" } : Jvm.MethodName) prog_8_method_15_code (7 : Nat) (Option.none : Option Jvm.ClassFile.FieldType)) ∈ lw_all := lw_g (lw_at lw_m8 12 rfl) rfl
theorem q1882 : (Jvm.Cond.methodLink "FactHouse$Machine" (190 : Nat) ({ cls := "FactHouse$Machine", name := "put", desc := "(I)V" } : Jvm.MethodName)) ∈ lw_all := lw_g (lw_at lw_m8 13 rfl) rfl
theorem q1883 : (Jvm.Cond.privateMethod ({ cls := "FactHouse$Machine", name := "put", desc := "(I)V" } : Jvm.MethodName)) ∈ lw_tbl := lw_at lw_m8 14 rfl
theorem q1884 : (Jvm.Cond.instanceMethod ({ cls := "FactHouse$Machine", name := "put", desc := "(I)V" } : Jvm.MethodName)) ∈ lw_all := lw_g (lw_at lw_m8 15 rfl) rfl
theorem q1885 : (Jvm.Cond.code ({ cls := "FactHouse$Machine", name := "put", desc := "(I)V" } : Jvm.MethodName) prog_8_method_8_code (2 : Nat) (Option.none : Option Jvm.ClassFile.FieldType)) ∈ lw_all := lw_g (lw_at lw_m8 16 rfl) rfl
theorem q1886 : (Jvm.Cond.methodLink "FactHouse$Machine" (194 : Nat) ({ cls := "FactHouse$Machine", name := "take", desc := "()I" } : Jvm.MethodName)) ∈ lw_all := lw_g (lw_at lw_m8 17 rfl) rfl
theorem q1887 : (Jvm.Cond.privateMethod ({ cls := "FactHouse$Machine", name := "take", desc := "()I" } : Jvm.MethodName)) ∈ lw_tbl := lw_at lw_m8 18 rfl
theorem q1888 : (Jvm.Cond.instanceMethod ({ cls := "FactHouse$Machine", name := "take", desc := "()I" } : Jvm.MethodName)) ∈ lw_all := lw_g (lw_at lw_m8 19 rfl) rfl
theorem q1889 : (Jvm.Cond.code ({ cls := "FactHouse$Machine", name := "take", desc := "()I" } : Jvm.MethodName) prog_8_method_9_code (1 : Nat) (Option.some Jvm.ClassFile.FieldType.int)) ∈ lw_all := lw_g (lw_at lw_m8 20 rfl) rfl
theorem q1890 : (Jvm.Cond.methodLink "FactHouse$Machine" (197 : Nat) ({ cls := "FactHouse$Machine", name := "goOn", desc := "(I)V" } : Jvm.MethodName)) ∈ lw_all := lw_g (lw_at lw_m8 21 rfl) rfl
theorem q1891 : (Jvm.Cond.privateMethod ({ cls := "FactHouse$Machine", name := "goOn", desc := "(I)V" } : Jvm.MethodName)) ∈ lw_tbl := lw_at lw_m8 22 rfl
theorem q1892 : (Jvm.Cond.instanceMethod ({ cls := "FactHouse$Machine", name := "goOn", desc := "(I)V" } : Jvm.MethodName)) ∈ lw_all := lw_g (lw_at lw_m8 23 rfl) rfl
theorem q1893 : (Jvm.Cond.code ({ cls := "FactHouse$Machine", name := "goOn", desc := "(I)V" } : Jvm.MethodName) prog_8_method_13_code (3 : Nat) (Option.none : Option Jvm.ClassFile.FieldType)) ∈ lw_all := lw_g (lw_at lw_m8 24 rfl) rfl
theorem q1894 : (Jvm.Cond.methodLink "FactHouse$Machine" (175 : Nat) ({ cls := "FactHouse$Machine", name := "numbers", desc := "(IIII)V" } : Jvm.MethodName)) ∈ lw_all := lw_g (lw_at lw_m8 25 rfl) rfl
theorem q1895 : (Jvm.Cond.privateMethod ({ cls := "FactHouse$Machine", name := "numbers", desc := "(IIII)V" } : Jvm.MethodName)) ∈ lw_tbl := lw_at lw_m8 26 rfl
theorem q1896 : (Jvm.Cond.instanceMethod ({ cls := "FactHouse$Machine", name := "numbers", desc := "(IIII)V" } : Jvm.MethodName)) ∈ lw_all := lw_g (lw_at lw_m8 27 rfl) rfl
theorem q1897 : (Jvm.Cond.code ({ cls := "FactHouse$Machine", name := "numbers", desc := "(IIII)V" } : Jvm.MethodName) prog_8_method_16_code (7 : Nat) (Option.none : Option Jvm.ClassFile.FieldType)) ∈ lw_all := lw_g (lw_at lw_m8 28 rfl) rfl
theorem q1898 : (Jvm.Cond.methodLink "FactHouse$Machine" (203 : Nat) ({ cls := "java/lang/Math", name := "floorMod", desc := "(JJ)J" } : Jvm.MethodName)) ∈ lw_all := lw_g (lw_at lw_m8 29 rfl) rfl
theorem q1901 : (Jvm.Cond.methodLink "FactHouse$Machine" (209 : Nat) ({ cls := "FactHouse$Machine", name := "hurl", desc := "(I)V" } : Jvm.MethodName)) ∈ lw_all := lw_g (lw_at lw_m8 32 rfl) rfl
theorem q1902 : (Jvm.Cond.privateMethod ({ cls := "FactHouse$Machine", name := "hurl", desc := "(I)V" } : Jvm.MethodName)) ∈ lw_tbl := lw_at lw_m8 33 rfl
theorem q1903 : (Jvm.Cond.instanceMethod ({ cls := "FactHouse$Machine", name := "hurl", desc := "(I)V" } : Jvm.MethodName)) ∈ lw_all := lw_g (lw_at lw_m8 34 rfl) rfl
theorem q1904 : (Jvm.Cond.code ({ cls := "FactHouse$Machine", name := "hurl", desc := "(I)V" } : Jvm.MethodName) prog_8_method_27_code (7 : Nat) (Option.none : Option Jvm.ClassFile.FieldType)) ∈ lw_all := lw_g (lw_at lw_m8 35 rfl) rfl
theorem q1905 : (Jvm.Cond.methodLink "FactHouse$Machine" (222 : Nat) ({ cls := "FactHouse$Program", name := "siteIsOf", desc := "(II)Z" } : Jvm.MethodName)) ∈ lw_all := lw_g (lw_at lw_m8 36 rfl) rfl
theorem q1906 : (Jvm.Cond.methodLink "FactHouse$Machine" (177 : Nat) ({ cls := "FactHouse$Machine", name := "jumps", desc := "(IIII)V" } : Jvm.MethodName)) ∈ lw_all := lw_g (lw_at lw_m8 37 rfl) rfl
theorem q1907 : (Jvm.Cond.privateMethod ({ cls := "FactHouse$Machine", name := "jumps", desc := "(IIII)V" } : Jvm.MethodName)) ∈ lw_tbl := lw_at lw_m8 38 rfl
theorem q1908 : (Jvm.Cond.instanceMethod ({ cls := "FactHouse$Machine", name := "jumps", desc := "(IIII)V" } : Jvm.MethodName)) ∈ lw_all := lw_g (lw_at lw_m8 39 rfl) rfl
theorem q1909 : (Jvm.Cond.code ({ cls := "FactHouse$Machine", name := "jumps", desc := "(IIII)V" } : Jvm.MethodName) prog_8_method_18_code (7 : Nat) (Option.none : Option Jvm.ClassFile.FieldType)) ∈ lw_all := lw_g (lw_at lw_m8 40 rfl) rfl
theorem q1910 : (Jvm.Cond.methodLink "FactHouse$Machine" (218 : Nat) ({ cls := "FactHouse$Machine", name := "isSo", desc := "(III)Z" } : Jvm.MethodName)) ∈ lw_all := lw_g (lw_at lw_m8 41 rfl) rfl
theorem q1911 : (Jvm.Cond.static ({ cls := "FactHouse$Machine", name := "isSo", desc := "(III)Z" } : Jvm.MethodName)) ∈ lw_all := lw_g (lw_at lw_m8 42 rfl) rfl
theorem q1912 : (Jvm.Cond.code ({ cls := "FactHouse$Machine", name := "isSo", desc := "(III)Z" } : Jvm.MethodName) prog_8_method_17_code (3 : Nat) (Option.some Jvm.ClassFile.FieldType.boolean)) ∈ lw_all := lw_g (lw_at lw_m8 43 rfl) rfl
theorem q1913 : (Jvm.Cond.methodLinkNest "FactHouse$Machine" (212 : Nat) ({ cls := "FactHouse$Facts", name := "may", desc := "(IIIII)Z" } : Jvm.MethodName) "FactHouse") ∈ lw_tbl := lw_at lw_m8 44 rfl
theorem q1914 : (Jvm.Cond.methodLink "FactHouse$Machine" (180 : Nat) ({ cls := "FactHouse$Machine", name := "objectActs", desc := "(IIII)V" } : Jvm.MethodName)) ∈ lw_all := lw_g (lw_at lw_m8 45 rfl) rfl
theorem q1915 : (Jvm.Cond.privateMethod ({ cls := "FactHouse$Machine", name := "objectActs", desc := "(IIII)V" } : Jvm.MethodName)) ∈ lw_tbl := lw_at lw_m8 46 rfl
theorem q1916 : (Jvm.Cond.instanceMethod ({ cls := "FactHouse$Machine", name := "objectActs", desc := "(IIII)V" } : Jvm.MethodName)) ∈ lw_all := lw_g (lw_at lw_m8 47 rfl) rfl
theorem q1917 : (Jvm.Cond.code ({ cls := "FactHouse$Machine", name := "objectActs", desc := "(IIII)V" } : Jvm.MethodName) prog_8_method_21_code (9 : Nat) (Option.none : Option Jvm.ClassFile.FieldType)) ∈ lw_all := lw_g (lw_at lw_m8 48 rfl) rfl
theorem q1918 : (Jvm.Cond.methodLink "FactHouse$Machine" (242 : Nat) ({ cls := "FactHouse$Machine", name := "make", desc := "(II)I" } : Jvm.MethodName)) ∈ lw_all := lw_g (lw_at lw_m8 49 rfl) rfl
theorem q1919 : (Jvm.Cond.privateMethod ({ cls := "FactHouse$Machine", name := "make", desc := "(II)I" } : Jvm.MethodName)) ∈ lw_tbl := lw_at lw_m8 50 rfl
theorem q1920 : (Jvm.Cond.instanceMethod ({ cls := "FactHouse$Machine", name := "make", desc := "(II)I" } : Jvm.MethodName)) ∈ lw_all := lw_g (lw_at lw_m8 51 rfl) rfl
theorem q1921 : (Jvm.Cond.code ({ cls := "FactHouse$Machine", name := "make", desc := "(II)I" } : Jvm.MethodName) prog_8_method_19_code (4 : Nat) (Option.some Jvm.ClassFile.FieldType.int)) ∈ lw_all := lw_g (lw_at lw_m8 52 rfl) rfl
theorem q1922 : (Jvm.Cond.methodLink "FactHouse$Machine" (226 : Nat) ({ cls := "java/lang/System", name := "arraycopy", desc := "(Ljava/lang/Object;ILjava/lang/Object;II)V" } : Jvm.MethodName)) ∈ lw_all := lw_g (lw_at lw_m8 53 rfl) rfl
theorem q1923 : (Jvm.Cond.methodLink "FactHouse$Machine" (245 : Nat) ({ cls := "FactHouse$Machine", name := "isArray", desc := "(II)Z" } : Jvm.MethodName)) ∈ lw_all := lw_g (lw_at lw_m8 54 rfl) rfl
theorem q1924 : (Jvm.Cond.privateMethod ({ cls := "FactHouse$Machine", name := "isArray", desc := "(II)Z" } : Jvm.MethodName)) ∈ lw_tbl := lw_at lw_m8 55 rfl
theorem q1925 : (Jvm.Cond.instanceMethod ({ cls := "FactHouse$Machine", name := "isArray", desc := "(II)Z" } : Jvm.MethodName)) ∈ lw_all := lw_g (lw_at lw_m8 56 rfl) rfl
theorem q1926 : (Jvm.Cond.code ({ cls := "FactHouse$Machine", name := "isArray", desc := "(II)Z" } : Jvm.MethodName) prog_8_method_20_code (3 : Nat) (Option.some Jvm.ClassFile.FieldType.boolean)) ∈ lw_all := lw_g (lw_at lw_m8 57 rfl) rfl
theorem q1927 : (Jvm.Cond.methodLink "FactHouse$Machine" (248 : Nat) ({ cls := "FactHouse$Machine", name := "element", desc := "(II)Z" } : Jvm.MethodName)) ∈ lw_all := lw_g (lw_at lw_m8 58 rfl) rfl
theorem q1928 : (Jvm.Cond.privateMethod ({ cls := "FactHouse$Machine", name := "element", desc := "(II)Z" } : Jvm.MethodName)) ∈ lw_tbl := lw_at lw_m8 59 rfl
theorem q1929 : (Jvm.Cond.instanceMethod ({ cls := "FactHouse$Machine", name := "element", desc := "(II)Z" } : Jvm.MethodName)) ∈ lw_all := lw_g (lw_at lw_m8 60 rfl) rfl
theorem q1930 : (Jvm.Cond.code ({ cls := "FactHouse$Machine", name := "element", desc := "(II)Z" } : Jvm.MethodName) prog_8_method_22_code (6 : Nat) (Option.some Jvm.ClassFile.FieldType.boolean)) ∈ lw_all := lw_g (lw_at lw_m8 61 rfl) rfl
theorem q1931 : (Jvm.Cond.methodLinkNest "FactHouse$Machine" (254 : Nat) ({ cls := "FactHouse", name := "isIn", desc := "(JJJ)Z" } : Jvm.MethodName) "FactHouse") ∈ lw_tbl := lw_at lw_m8 62 rfl
theorem q1932 : (Jvm.Cond.methodLink "FactHouse$Machine" (251 : Nat) ({ cls := "FactHouse$Machine", name := "field", desc := "(III)Z" } : Jvm.MethodName)) ∈ lw_all := lw_g (lw_at lw_m8 63 rfl) rfl
theorem q1933 : (Jvm.Cond.privateMethod ({ cls := "FactHouse$Machine", name := "field", desc := "(III)Z" } : Jvm.MethodName)) ∈ lw_tbl := lw_at lw_m8 64 rfl
theorem q1934 : (Jvm.Cond.instanceMethod ({ cls := "FactHouse$Machine", name := "field", desc := "(III)Z" } : Jvm.MethodName)) ∈ lw_all := lw_g (lw_at lw_m8 65 rfl) rfl
theorem q1935 : (Jvm.Cond.code ({ cls := "FactHouse$Machine", name := "field", desc := "(III)Z" } : Jvm.MethodName) prog_8_method_23_code (6 : Nat) (Option.some Jvm.ClassFile.FieldType.boolean)) ∈ lw_all := lw_g (lw_at lw_m8 66 rfl) rfl
theorem q1936 : (Jvm.Cond.methodLink "FactHouse$Machine" (183 : Nat) ({ cls := "FactHouse$Machine", name := "calls", desc := "(IIII)V" } : Jvm.MethodName)) ∈ lw_all := lw_g (lw_at lw_m8 67 rfl) rfl
theorem q1937 : (Jvm.Cond.privateMethod ({ cls := "FactHouse$Machine", name := "calls", desc := "(IIII)V" } : Jvm.MethodName)) ∈ lw_tbl := lw_at lw_m8 68 rfl
theorem q1938 : (Jvm.Cond.instanceMethod ({ cls := "FactHouse$Machine", name := "calls", desc := "(IIII)V" } : Jvm.MethodName)) ∈ lw_all := lw_g (lw_at lw_m8 69 rfl) rfl
theorem q1939 : (Jvm.Cond.code ({ cls := "FactHouse$Machine", name := "calls", desc := "(IIII)V" } : Jvm.MethodName) prog_8_method_24_code (10 : Nat) (Option.none : Option Jvm.ClassFile.FieldType)) ∈ lw_all := lw_g (lw_at lw_m8 70 rfl) rfl
theorem q1940 : (Jvm.Cond.methodLink "FactHouse$Machine" (258 : Nat) ({ cls := "FactHouse$Machine", name := "call", desc := "(ILFactHouse$Method;)V" } : Jvm.MethodName)) ∈ lw_all := lw_g (lw_at lw_m8 71 rfl) rfl
theorem q1941 : (Jvm.Cond.privateMethod ({ cls := "FactHouse$Machine", name := "call", desc := "(ILFactHouse$Method;)V" } : Jvm.MethodName)) ∈ lw_tbl := lw_at lw_m8 72 rfl
theorem q1942 : (Jvm.Cond.instanceMethod ({ cls := "FactHouse$Machine", name := "call", desc := "(ILFactHouse$Method;)V" } : Jvm.MethodName)) ∈ lw_all := lw_g (lw_at lw_m8 73 rfl) rfl
theorem q1943 : (Jvm.Cond.code ({ cls := "FactHouse$Machine", name := "call", desc := "(ILFactHouse$Method;)V" } : Jvm.MethodName) prog_8_method_25_code (5 : Nat) (Option.none : Option Jvm.ClassFile.FieldType)) ∈ lw_all := lw_g (lw_at lw_m8 74 rfl) rfl
theorem q1944 : (Jvm.Cond.methodLink "FactHouse$Machine" (262 : Nat) ({ cls := "FactHouse$Program", name := "named", desc := "(I)LFactHouse$Method;" } : Jvm.MethodName)) ∈ lw_all := lw_g (lw_at lw_m8 75 rfl) rfl
theorem q1945 : (Jvm.Cond.methodLink "FactHouse$Machine" (266 : Nat) ({ cls := "FactHouse$Program", name := "find", desc := "(II)LFactHouse$Method;" } : Jvm.MethodName)) ∈ lw_all := lw_g (lw_at lw_m8 76 rfl) rfl
theorem q1946 : (Jvm.Cond.methodLink "FactHouse$Machine" (273 : Nat) ({ cls := "FactHouse$Machine", name := "leave", desc := "(II)V" } : Jvm.MethodName)) ∈ lw_all := lw_g (lw_at lw_m8 77 rfl) rfl
theorem q1947 : (Jvm.Cond.privateMethod ({ cls := "FactHouse$Machine", name := "leave", desc := "(II)V" } : Jvm.MethodName)) ∈ lw_tbl := lw_at lw_m8 78 rfl
theorem q1948 : (Jvm.Cond.instanceMethod ({ cls := "FactHouse$Machine", name := "leave", desc := "(II)V" } : Jvm.MethodName)) ∈ lw_all := lw_g (lw_at lw_m8 79 rfl) rfl
theorem q1949 : (Jvm.Cond.code ({ cls := "FactHouse$Machine", name := "leave", desc := "(II)V" } : Jvm.MethodName) prog_8_method_26_code (3 : Nat) (Option.none : Option Jvm.ClassFile.FieldType)) ∈ lw_all := lw_g (lw_at lw_m8 80 rfl) rfl
theorem q1950 : (Jvm.Cond.methodLink "FactHouse$Machine" (186 : Nat) ({ cls := "FactHouse$Machine", name := "locks", desc := "(III)V" } : Jvm.MethodName)) ∈ lw_all := lw_g (lw_at lw_m8 81 rfl) rfl
theorem q1951 : (Jvm.Cond.privateMethod ({ cls := "FactHouse$Machine", name := "locks", desc := "(III)V" } : Jvm.MethodName)) ∈ lw_tbl := lw_at lw_m8 82 rfl
theorem q1952 : (Jvm.Cond.instanceMethod ({ cls := "FactHouse$Machine", name := "locks", desc := "(III)V" } : Jvm.MethodName)) ∈ lw_all := lw_g (lw_at lw_m8 83 rfl) rfl
theorem q1953 : (Jvm.Cond.code ({ cls := "FactHouse$Machine", name := "locks", desc := "(III)V" } : Jvm.MethodName) prog_8_method_28_code (4 : Nat) (Option.none : Option Jvm.ClassFile.FieldType)) ∈ lw_all := lw_g (lw_at lw_m8 84 rfl) rfl
theorem q1954 : (Jvm.Cond.methodLink "FactHouse$Machine" (294 : Nat) ({ cls := "FactHouse$Machine", name := "start", desc := "(II)V" } : Jvm.MethodName)) ∈ lw_all := lw_g (lw_at lw_m8 85 rfl) rfl
theorem q1955 : (Jvm.Cond.privateMethod ({ cls := "FactHouse$Machine", name := "start", desc := "(II)V" } : Jvm.MethodName)) ∈ lw_tbl := lw_at lw_m8 86 rfl
theorem q1956 : (Jvm.Cond.instanceMethod ({ cls := "FactHouse$Machine", name := "start", desc := "(II)V" } : Jvm.MethodName)) ∈ lw_all := lw_g (lw_at lw_m8 87 rfl) rfl
theorem q1957 : (Jvm.Cond.code ({ cls := "FactHouse$Machine", name := "start", desc := "(II)V" } : Jvm.MethodName) prog_8_method_29_code (6 : Nat) (Option.none : Option Jvm.ClassFile.FieldType)) ∈ lw_all := lw_g (lw_at lw_m8 88 rfl) rfl
theorem q1966 : (Jvm.Cond.instanceMethod ({ cls := "FactHouse$Machine", name := "about", desc := "(I)I" } : Jvm.MethodName)) ∈ lw_all := lw_g (lw_at lw_m8 97 rfl) rfl
theorem q1967 : (Jvm.Cond.selects "FactHouse$Machine" ({ cls := "FactHouse$Machine", name := "about", desc := "(I)I" } : Jvm.MethodName) ({ cls := "FactHouse$Machine", name := "about", desc := "(I)I" } : Jvm.MethodName)) ∈ lw_all := lw_g (lw_at lw_m8 98 rfl) rfl
theorem q1968 : (Jvm.Cond.code ({ cls := "FactHouse$Machine", name := "about", desc := "(I)I" } : Jvm.MethodName) prog_8_method_31_code (2 : Nat) (Option.some Jvm.ClassFile.FieldType.int)) ∈ lw_all := lw_g (lw_at lw_m8 99 rfl) rfl
theorem in_X8 : ∀ w ∈ wsX80, w ∈ lw_all := lw_in wsX80 [583, 585, 587, 589, 591, 593, 595, 597, 599, 601, 603, 605, 607, 609, 611, 613, 615, 617, 619, 621, 623, 625, 627, 629, 631, 633, 635, 637, 639, 641, 643, 645] (by decide +kernel) (by decide +kernel)
/-! FactHouseModel -/
def RX9 : String := "FactHouseModel"
def TX9 : u_T := fun k => match k with
  | 0 => ("FactHouseModel", "thrown", "I", false)
  | 1 => ("FactHouseModel", "tape", "[B", true)
  | 2 => ("FactHouseModel", "tapeSize", "I", false)
  | 3 => ("FactHouseModel", "file", "LFactHouseModel$Load;", false)
  | 4 => ("FactHouseModel", "next", "LFactHouseModel$Load;", false)
  | 5 => ("FactHouseModel", "spare", "LFactHouseModel$Load;", false)
  | 6 => ("FactHouseModel", "changed", "[Z", true)
  | 7 => ("FactHouseModel", "isRoot", "[Z", true)
  | 8 => ("FactHouseModel", "roots", "I", false)
  | 9 => ("FactHouseModel", "p", "I", false)
  | 10 => ("FactHouseModel", "size", "I", false)
  | 11 => ("FactHouseModel", "isKnown", "Z", false)
  | 12 => ("FactHouseModel", "changedSites", "J", false)
  | 13 => ("FactHouseModel", "changedStatics", "I", false)
  | 14 => ("FactHouseModel", "changedMethods", "J", false)
  | 15 => ("FactHouseModel", "stirred", "[Z", true)
  | 16 => ("FactHouseModel", "marks", "I", false)
  | 17 => ("FactHouseModel", "mark", "[I", true)
  | 18 => ("FactHouseModel", "reached", "[Z", true)
  | 19 => ("FactHouseModel", "low", "[I", true)
  | 20 => ("FactHouseModel", "high", "[I", true)
  | 21 => ("FactHouseModel", "label", "[I", true)
  | 22 => ("FactHouseModel", "sites", "[J", true)
  | 23 => ("FactHouseModel", "sure", "[I", true)
  | 24 => ("FactHouseModel", "perhaps", "[I", true)
  | 25 => ("FactHouseModel", "thrownAt", "[J", true)
  | 26 => ("FactHouseModel", "callsAt", "[J", true)
  | 27 => ("FactHouseModel", "goes", "[J", true)
  | 28 => ("FactHouseModel", "caught", "[J", true)
  | 29 => ("FactHouseModel", "used", "[J", true)
  | 30 => ("FactHouseModel", "isMade", "[Z", true)
  | 31 => ("FactHouseModel", "heldLow", "[I", true)
  | 32 => ("FactHouseModel", "heldHigh", "[I", true)
  | 33 => ("FactHouseModel", "heldLabel", "[I", true)
  | 34 => ("FactHouseModel", "heldSites", "[J", true)
  | 35 => ("FactHouseModel", "lengthLow", "[I", true)
  | 36 => ("FactHouseModel", "lengthHigh", "[I", true)
  | 37 => ("FactHouseModel", "hasLength", "[Z", true)
  | 38 => ("FactHouseModel", "staticLow", "[I", true)
  | 39 => ("FactHouseModel", "staticHigh", "[I", true)
  | 40 => ("FactHouseModel", "staticLabel", "[I", true)
  | 41 => ("FactHouseModel", "staticSites", "[J", true)
  | 42 => ("FactHouseModel", "sinks", "[Z", true)
  | 43 => ("FactHouseModel", "sinkLow", "[I", true)
  | 44 => ("FactHouseModel", "sinkHigh", "[I", true)
  | 45 => ("FactHouseModel", "sinkLabel", "[I", true)
  | 46 => ("FactHouseModel", "returns", "[Z", true)
  | 47 => ("FactHouseModel", "givenLow", "[I", true)
  | 48 => ("FactHouseModel", "givenHigh", "[I", true)
  | 49 => ("FactHouseModel", "givenLabel", "[I", true)
  | 50 => ("FactHouseModel", "givenSites", "[J", true)
  | 51 => ("FactHouseModel", "returnSure", "[I", true)
  | 52 => ("FactHouseModel", "returnPerhaps", "[I", true)
  | 53 => ("FactHouseModel", "escapes", "[J", true)
  | 54 => ("FactHouseModel", "escapeSure", "[I", true)
  | 55 => ("FactHouseModel", "escapePerhaps", "[I", true)
  | 56 => ("FactHouseModel", "unlocks", "[I", true)
  | 57 => ("FactHouseModel", "cl", "[I", true)
  | 58 => ("FactHouseModel", "ch", "[I", true)
  | 59 => ("FactHouseModel", "cb", "[I", true)
  | 60 => ("FactHouseModel", "cs", "[J", true)
  | 61 => ("FactHouseModel", "cd", "I", false)
  | 62 => ("FactHouseModel", "cSure", "I", false)
  | 63 => ("FactHouseModel", "cPerhaps", "I", false)
  | 64 => ("FactHouseModel", "nl", "I", false)
  | 65 => ("FactHouseModel", "nh", "I", false)
  | 66 => ("FactHouseModel", "nb", "I", false)
  | 67 => ("FactHouseModel", "ns", "J", false)
  | 68 => ("FactHouseModel", "codeDepth", "I", false)
  | 69 => ("FactHouseModel", "codeKinds", "I", false)
  | 70 => ("FactHouseModel", "codeMost", "I", false)
  | 71 => ("FactHouseModel", "codeAt", "I", false)
  | 72 => ("FactHouseModel", "hasValue", "Z", false)
  | 73 => ("FactHouseModel", "liveAt", "[I", true)
  | 74 => ("FactHouseModel", "origins", "I", false)
  | 75 => ("FactHouseModel", "originAt", "[I", true)
  | 76 => ("FactHouseModel", "runsOf", "[J", true)
  | 77 => ("FactHouseModel", "apart", "[Z", true)
  | 78 => ("FactHouseModel", "raceA", "I", false)
  | 79 => ("FactHouseModel", "raceB", "I", false)
  | 80 => ("FactHouseModel", "inputs", "I", false)
  | 81 => ("FactHouseModel", "input", "[I", true)
  | 82 => ("FactHouseModel", "usedInputs", "I", false)
  | 83 => ("FactHouseModel", "begun", "I", false)
  | 84 => ("FactHouseModel", "hasEnded", "[Z", true)
  | 85 => ("FactHouseModel", "frames", "[I", true)
  | 86 => ("FactHouseModel", "calledMethod", "[I", true)
  | 87 => ("FactHouseModel", "calledAt", "[I", true)
  | 88 => ("FactHouseModel", "calledDepth", "[I", true)
  | 89 => ("FactHouseModel", "values", "[I", true)
  | 90 => ("FactHouseModel", "ownerOf", "[I", true)
  | 91 => ("FactHouseModel", "objects", "I", false)
  | 92 => ("FactHouseModel", "objectSite", "[I", true)
  | 93 => ("FactHouseModel", "objectSize", "[I", true)
  | 94 => ("FactHouseModel", "cells", "[I", true)
  | 95 => ("FactHouseModel", "steps", "I", false)
  | 96 => ("FactHouseModel", "outputs", "I", false)
  | 97 => ("FactHouseModel", "outputSink", "[I", true)
  | 98 => ("FactHouseModel", "outputValue", "[I", true)
  | 99 => ("FactHouseModel", "gave", "I", false)
  | 100 => ("FactHouseModel", "endedBy", "I", false)
  | 101 => ("FactHouseModel", "broken", "I", false)
  | 102 => ("FactHouseModel", "isBroken", "Z", false)
  | 103 => ("FactHouseModel", "isFull", "Z", false)
  | 104 => ("FactHouseModel", "met", "[J", true)
  | _ => ("FactHouseModel", "staticNow", "[I", true)
def tyX9 : Nat → FieldType := fun k => match k with
  | 0 => .int
  | 1 => .array .byte
  | 2 => .int
  | 3 => .object "FactHouseModel$Load"
  | 4 => .object "FactHouseModel$Load"
  | 5 => .object "FactHouseModel$Load"
  | 6 => .array .boolean
  | 7 => .array .boolean
  | 8 => .int
  | 9 => .int
  | 10 => .int
  | 11 => .boolean
  | 12 => .long
  | 13 => .int
  | 14 => .long
  | 15 => .array .boolean
  | 16 => .int
  | 17 => .array .int
  | 18 => .array .boolean
  | 19 => .array .int
  | 20 => .array .int
  | 21 => .array .int
  | 22 => .array .long
  | 23 => .array .int
  | 24 => .array .int
  | 25 => .array .long
  | 26 => .array .long
  | 27 => .array .long
  | 28 => .array .long
  | 29 => .array .long
  | 30 => .array .boolean
  | 31 => .array .int
  | 32 => .array .int
  | 33 => .array .int
  | 34 => .array .long
  | 35 => .array .int
  | 36 => .array .int
  | 37 => .array .boolean
  | 38 => .array .int
  | 39 => .array .int
  | 40 => .array .int
  | 41 => .array .long
  | 42 => .array .boolean
  | 43 => .array .int
  | 44 => .array .int
  | 45 => .array .int
  | 46 => .array .boolean
  | 47 => .array .int
  | 48 => .array .int
  | 49 => .array .int
  | 50 => .array .long
  | 51 => .array .int
  | 52 => .array .int
  | 53 => .array .long
  | 54 => .array .int
  | 55 => .array .int
  | 56 => .array .int
  | 57 => .array .int
  | 58 => .array .int
  | 59 => .array .int
  | 60 => .array .long
  | 61 => .int
  | 62 => .int
  | 63 => .int
  | 64 => .int
  | 65 => .int
  | 66 => .int
  | 67 => .long
  | 68 => .int
  | 69 => .int
  | 70 => .int
  | 71 => .int
  | 72 => .boolean
  | 73 => .array .int
  | 74 => .int
  | 75 => .array .int
  | 76 => .array .long
  | 77 => .array .boolean
  | 78 => .int
  | 79 => .int
  | 80 => .int
  | 81 => .array .int
  | 82 => .int
  | 83 => .int
  | 84 => .array .boolean
  | 85 => .array .int
  | 86 => .array .int
  | 87 => .array .int
  | 88 => .array .int
  | 89 => .array .int
  | 90 => .array .int
  | 91 => .int
  | 92 => .array .int
  | 93 => .array .int
  | 94 => .array .int
  | 95 => .int
  | 96 => .int
  | 97 => .array .int
  | 98 => .array .int
  | 99 => .int
  | 100 => .int
  | 101 => .int
  | 102 => .boolean
  | 103 => .boolean
  | 104 => .array .long
  | _ => .array .int
abbrev wsX90 : List Cond := u_ws RX9 TX9 106
theorem nmX9 : ∀ a, a < 106 → ∀ b, b < 106 → a ≠ b → (TX9 a).2.1 ≠ (TX9 b).2.1 := by decide +kernel
theorem tyX9_ok : ∀ k, k < 106 → parseFieldDescriptor (TX9 k).2.2.1 = some (tyX9 k) := by decide +kernel
abbrev cX9_init : ByteArray := prog_16_method_1_code
def yX9_init : MethodName := ⟨RX9, "<init>", "()V"⟩
abbrev cX9_thrown : ByteArray := prog_16_method_2_code
def yX9_thrown : MethodName := ⟨RX9, "thrown", "()I"⟩
abbrev cX9_type : ByteArray := prog_16_method_4_code
def yX9_type : MethodName := ⟨RX9, "type", "(JI)I"⟩
abbrev cX9_in : ByteArray := prog_16_method_3_code
def yX9_in : MethodName := ⟨RX9, "in", "(JJJ)Z"⟩
abbrev cX9_file : ByteArray := prog_16_method_13_code
def yX9_file : MethodName := ⟨RX9, "file", "()I"⟩
abbrev cX9_take : ByteArray := prog_16_method_5_code
def yX9_take : MethodName := ⟨RX9, "take", "()I"⟩
abbrev cX9_readClasses : ByteArray := prog_16_method_8_code
def yX9_readClasses : MethodName := ⟨RX9, "readClasses", "(LFactHouseModel$Load;)V"⟩
abbrev cX9_take_2 : ByteArray := prog_16_method_6_code
def yX9_take_2 : MethodName := ⟨RX9, "take", "(II)I"⟩
abbrev cX9_readMethod : ByteArray := prog_16_method_10_code
def yX9_readMethod : MethodName := ⟨RX9, "readMethod", "(LFactHouseModel$Load;I)V"⟩
abbrev cX9_areAlike : ByteArray := prog_16_method_9_code
def yX9_areAlike : MethodName := ⟨RX9, "areAlike", "(LFactHouseModel$Load;II)Z"⟩
abbrev cX9_readInstruction : ByteArray := prog_16_method_11_code
def yX9_readInstruction : MethodName := ⟨RX9, "readInstruction", "(LFactHouseModel$Load;I)V"⟩
abbrev cX9_takeTwo : ByteArray := prog_16_method_7_code
def yX9_takeTwo : MethodName := ⟨RX9, "takeTwo", "()I"⟩
abbrev cX9_judge : ByteArray := prog_16_method_22_code
def yX9_judge : MethodName := ⟨RX9, "judge", "(LFactHouseModel$Load;I)V"⟩
abbrev cX9_isHandler : ByteArray := prog_16_method_17_code
def yX9_isHandler : MethodName := ⟨RX9, "isHandler", "(LFactHouseModel$Load;II)Z"⟩
abbrev cX9_isJumpedTo : ByteArray := prog_16_method_16_code
def yX9_isJumpedTo : MethodName := ⟨RX9, "isJumpedTo", "(LFactHouseModel$Load;II)Z"⟩
abbrev cX9_wrongIf : ByteArray := prog_16_method_18_code
def yX9_wrongIf : MethodName := ⟨RX9, "wrongIf", "(Z)V"⟩
abbrev cX9_lay : ByteArray := prog_16_method_21_code
def yX9_lay : MethodName := ⟨RX9, "lay", "(I)V"⟩
abbrev cX9_judge_2 : ByteArray := prog_16_method_24_code
def yX9_judge_2 : MethodName := ⟨RX9, "judge", "(LFactHouseModel$Load;II)V"⟩
abbrev cX9_pull : ByteArray := prog_16_method_19_code
def yX9_pull : MethodName := ⟨RX9, "pull", "(I)V"⟩
abbrev cX9_pullAny : ByteArray := prog_16_method_20_code
def yX9_pullAny : MethodName := ⟨RX9, "pullAny", "()I"⟩
abbrev cX9_withName : ByteArray := prog_16_method_12_code
def yX9_withName : MethodName := ⟨RX9, "withName", "(LFactHouseModel$Load;I)I"⟩
abbrev cX9_pullArguments : ByteArray := prog_16_method_23_code
def yX9_pullArguments : MethodName := ⟨RX9, "pullArguments", "(LFactHouseModel$Load;I)V"⟩
abbrev cX9_ends : ByteArray := prog_16_method_15_code
def yX9_ends : MethodName := ⟨RX9, "ends", "(I)Z"⟩
abbrev cX9_isSame : ByteArray := prog_16_method_14_code
def yX9_isSame : MethodName := ⟨RX9, "isSame", "(LFactHouseModel$Load;LFactHouseModel$Load;I)Z"⟩
abbrev cX9_forgetWalks : ByteArray := prog_16_method_97_code
def yX9_forgetWalks : MethodName := ⟨RX9, "forgetWalks", "()V"⟩
abbrev cX9_root : ByteArray := prog_16_method_76_code
def yX9_root : MethodName := ⟨RX9, "root", "(I)I"⟩
abbrev cX9_told : ByteArray := prog_16_method_77_code
def yX9_told : MethodName := ⟨RX9, "told", "(I)I"⟩
abbrev cX9_findMarks : ByteArray := prog_16_method_32_code
def yX9_findMarks : MethodName := ⟨RX9, "findMarks", "()V"⟩
abbrev cX9_addMark : ByteArray := prog_16_method_31_code
def yX9_addMark : MethodName := ⟨RX9, "addMark", "(J)V"⟩
abbrev cX9_method : ByteArray := prog_16_method_79_code
def yX9_method : MethodName := ⟨RX9, "method", "(II)I"⟩
abbrev cX9_hasMethod : ByteArray := prog_16_method_74_code
def yX9_hasMethod : MethodName := ⟨RX9, "hasMethod", "(I)Z"⟩
abbrev cX9_isTouched : ByteArray := prog_16_method_78_code
def yX9_isTouched : MethodName := ⟨RX9, "isTouched", "(I)Z"⟩
abbrev cX9_findFacts : ByteArray := prog_16_method_37_code
def yX9_findFacts : MethodName := ⟨RX9, "findFacts", "()V"⟩
abbrev cX9_forgetFacts : ByteArray := prog_16_method_36_code
def yX9_forgetFacts : MethodName := ⟨RX9, "forgetFacts", "()V"⟩
abbrev cX9_setSlot : ByteArray := prog_16_method_39_code
def yX9_setSlot : MethodName := ⟨RX9, "setSlot", "(IIIIJ)V"⟩
abbrev cX9_joinTo : ByteArray := prog_16_method_40_code
def yX9_joinTo : MethodName := ⟨RX9, "joinTo", "(I)V"⟩
abbrev cX9_asks : ByteArray := prog_16_method_38_code
def yX9_asks : MethodName := ⟨RX9, "asks", "(IJIJ)Z"⟩
abbrev cX9_goOn : ByteArray := prog_16_method_59_code
def yX9_goOn : MethodName := ⟨RX9, "goOn", "(I)V"⟩
abbrev cX9_takeFacts : ByteArray := prog_16_method_41_code
def yX9_takeFacts : MethodName := ⟨RX9, "takeFacts", "(I)V"⟩
abbrev cX9_lay_2 : ByteArray := prog_16_method_45_code
def yX9_lay_2 : MethodName := ⟨RX9, "lay", "(IIIJ)V"⟩
abbrev cX9_flowOn : ByteArray := prog_16_method_43_code
def yX9_flowOn : MethodName := ⟨RX9, "flowOn", "(I)V"⟩
abbrev cX9_flow : ByteArray := prog_16_method_42_code
def yX9_flow : MethodName := ⟨RX9, "flow", "(II)V"⟩
abbrev cX9_pull_2 : ByteArray := prog_16_method_44_code
def yX9_pull_2 : MethodName := ⟨RX9, "pull", "()V"⟩
abbrev cX9_reckon : ByteArray := prog_16_method_52_code
def yX9_reckon : MethodName := ⟨RX9, "reckon", "(I)Z"⟩
abbrev cX9_layRounded : ByteArray := prog_16_method_46_code
def yX9_layRounded : MethodName := ⟨RX9, "layRounded", "(JJI)V"⟩
abbrev cX9_downTo : ByteArray := prog_16_method_34_code
def yX9_downTo : MethodName := ⟨RX9, "downTo", "(I)I"⟩
abbrev cX9_markFor : ByteArray := prog_16_method_33_code
def yX9_markFor : MethodName := ⟨RX9, "markFor", "(I)I"⟩
abbrev cX9_upTo : ByteArray := prog_16_method_35_code
def yX9_upTo : MethodName := ⟨RX9, "upTo", "(I)I"⟩
abbrev cX9_toss : ByteArray := prog_16_method_49_code
def yX9_toss : MethodName := ⟨RX9, "toss", "(II)V"⟩
abbrev cX9_toss_2 : ByteArray := prog_16_method_48_code
def yX9_toss_2 : MethodName := ⟨RX9, "toss", "(IJII)V"⟩
abbrev cX9_handlerOf : ByteArray := prog_16_method_47_code
def yX9_handlerOf : MethodName := ⟨RX9, "handlerOf", "(II)I"⟩
abbrev cX9_isOf : ByteArray := prog_16_method_27_code
def yX9_isOf : MethodName := ⟨RX9, "isOf", "(II)Z"⟩
abbrev cX9_isArray : ByteArray := prog_16_method_26_code
def yX9_isArray : MethodName := ⟨RX9, "isArray", "(I)Z"⟩
abbrev cX9_isBelow : ByteArray := prog_16_method_25_code
def yX9_isBelow : MethodName := ⟨RX9, "isBelow", "(II)Z"⟩
abbrev cX9_may : ByteArray := prog_16_method_50_code
def yX9_may : MethodName := ⟨RX9, "may", "(IIIII)Z"⟩
abbrev cX9_cut : ByteArray := prog_16_method_51_code
def yX9_cut : MethodName := ⟨RX9, "cut", "(III)Z"⟩
abbrev cX9_of : ByteArray := prog_16_method_28_code
def yX9_of : MethodName := ⟨RX9, "of", "(JI)J"⟩
abbrev cX9_makeSite : ByteArray := prog_16_method_54_code
def yX9_makeSite : MethodName := ⟨RX9, "makeSite", "(I)V"⟩
abbrev cX9_joinHeld : ByteArray := prog_16_method_53_code
def yX9_joinHeld : MethodName := ⟨RX9, "joinHeld", "(IIZIIIJ)V"⟩
abbrev cX9_array : ByteArray := prog_16_method_60_code
def yX9_array : MethodName := ⟨RX9, "array", "(I)V"⟩
abbrev cX9_inArray : ByteArray := prog_16_method_61_code
def yX9_inArray : MethodName := ⟨RX9, "inArray", "(I)V"⟩
abbrev cX9_arrays : ByteArray := prog_16_method_29_code
def yX9_arrays : MethodName := ⟨RX9, "arrays", "(JI)J"⟩
abbrev cX9_addValue : ByteArray := prog_16_method_55_code
def yX9_addValue : MethodName := ⟨RX9, "addValue", "(IIIJ)V"⟩
abbrev cX9_field : ByteArray := prog_16_method_62_code
def yX9_field : MethodName := ⟨RX9, "field", "(I)V"⟩
abbrev cX9_call : ByteArray := prog_16_method_57_code
def yX9_call : MethodName := ⟨RX9, "call", "(I)V"⟩
abbrev cX9_sentTo : ByteArray := prog_16_method_30_code
def yX9_sentTo : MethodName := ⟨RX9, "sentTo", "(II)I"⟩
abbrev cX9_enter : ByteArray := prog_16_method_56_code
def yX9_enter : MethodName := ⟨RX9, "enter", "(IIIJII)V"⟩
abbrev cX9_giveBack : ByteArray := prog_16_method_58_code
def yX9_giveBack : MethodName := ⟨RX9, "giveBack", "(I)V"⟩
abbrev cX9_findLive : ByteArray := prog_16_method_65_code
def yX9_findLive : MethodName := ⟨RX9, "findLive", "()V"⟩
abbrev cX9_readBy : ByteArray := prog_16_method_63_code
def yX9_readBy : MethodName := ⟨RX9, "readBy", "(I)I"⟩
abbrev cX9_liveOf : ByteArray := prog_16_method_64_code
def yX9_liveOf : MethodName := ⟨RX9, "liveOf", "(IJJ)I"⟩
abbrev cX9_findOrigins : ByteArray := prog_16_method_67_code
def yX9_findOrigins : MethodName := ⟨RX9, "findOrigins", "()V"⟩
abbrev cX9_closed : ByteArray := prog_16_method_66_code
def yX9_closed : MethodName := ⟨RX9, "closed", "(J)J"⟩
abbrev cX9_classOf : ByteArray := prog_16_method_81_code
def yX9_classOf : MethodName := ⟨RX9, "classOf", "(I)I"⟩
abbrev cX9_hasSite : ByteArray := prog_16_method_80_code
def yX9_hasSite : MethodName := ⟨RX9, "hasSite", "(I)Z"⟩
abbrev cX9_depth : ByteArray := prog_16_method_82_code
def yX9_depth : MethodName := ⟨RX9, "depth", "(II)I"⟩
abbrev cX9_placeOf : ByteArray := prog_16_method_75_code
def yX9_placeOf : MethodName := ⟨RX9, "placeOf", "(II)I"⟩
abbrev cX9_reach : ByteArray := prog_16_method_83_code
def yX9_reach : MethodName := ⟨RX9, "reach", "(II)Z"⟩
abbrev cX9_value : ByteArray := prog_16_method_84_code
def yX9_value : MethodName := ⟨RX9, "value", "(IIII)J"⟩
abbrev cX9_locks : ByteArray := prog_16_method_85_code
def yX9_locks : MethodName := ⟨RX9, "locks", "(III)I"⟩
abbrev cX9_throwsAt : ByteArray := prog_16_method_86_code
def yX9_throwsAt : MethodName := ⟨RX9, "throwsAt", "(II)J"⟩
abbrev cX9_calls : ByteArray := prog_16_method_87_code
def yX9_calls : MethodName := ⟨RX9, "calls", "(II)J"⟩
abbrev cX9_outcome : ByteArray := prog_16_method_88_code
def yX9_outcome : MethodName := ⟨RX9, "outcome", "(II)J"⟩
abbrev cX9_held : ByteArray := prog_16_method_89_code
def yX9_held : MethodName := ⟨RX9, "held", "(III)J"⟩
abbrev cX9_statics : ByteArray := prog_16_method_90_code
def yX9_statics : MethodName := ⟨RX9, "statics", "(II)J"⟩
abbrev cX9_sink : ByteArray := prog_16_method_91_code
def yX9_sink : MethodName := ⟨RX9, "sink", "(II)J"⟩
abbrev cX9_live : ByteArray := prog_16_method_92_code
def yX9_live : MethodName := ⟨RX9, "live", "(II)I"⟩
abbrev cX9_idle : ByteArray := prog_16_method_93_code
def yX9_idle : MethodName := ⟨RX9, "idle", "(I)I"⟩
abbrev cX9_threads : ByteArray := prog_16_method_94_code
def yX9_threads : MethodName := ⟨RX9, "threads", "(I)I"⟩
abbrev cX9_findRace : ByteArray := prog_16_method_71_code
def yX9_findRace : MethodName := ⟨RX9, "findRace", "(I)I"⟩
abbrev cX9_uses : ByteArray := prog_16_method_69_code
def yX9_uses : MethodName := ⟨RX9, "uses", "(I)I"⟩
abbrev cX9_isRace : ByteArray := prog_16_method_70_code
def yX9_isRace : MethodName := ⟨RX9, "isRace", "(II)Z"⟩
abbrev cX9_sets : ByteArray := prog_16_method_68_code
def yX9_sets : MethodName := ⟨RX9, "sets", "(I)Z"⟩
abbrev cX9_ring : ByteArray := prog_16_method_73_code
def yX9_ring : MethodName := ⟨RX9, "ring", "()I"⟩
abbrev cX9_before : ByteArray := prog_16_method_72_code
def yX9_before : MethodName := ⟨RX9, "before", "(I)I"⟩
abbrev cX9_race : ByteArray := prog_16_method_95_code
def yX9_race : MethodName := ⟨RX9, "race", "(II)I"⟩
abbrev cX9_runs : ByteArray := prog_16_method_96_code
def yX9_runs : MethodName := ⟨RX9, "runs", "(I)J"⟩
abbrev cX9_input : ByteArray := prog_16_method_98_code
def yX9_input : MethodName := ⟨RX9, "input", "(I)I"⟩
abbrev cX9_walk : ByteArray := prog_16_method_121_code
def yX9_walk : MethodName := ⟨RX9, "walk", "(III)I"⟩
abbrev cX9_open : ByteArray := prog_16_method_106_code
def yX9_open : MethodName := ⟨RX9, "open", "(II)I"⟩
abbrev cX9_frame : ByteArray := prog_16_method_101_code
def yX9_frame : MethodName := ⟨RX9, "frame", "(I)I"⟩
abbrev cX9_nextInput : ByteArray := prog_16_method_99_code
def yX9_nextInput : MethodName := ⟨RX9, "nextInput", "()I"⟩
abbrev cX9_isWaiting : ByteArray := prog_16_method_112_code
def yX9_isWaiting : MethodName := ⟨RX9, "isWaiting", "(I)Z"⟩
abbrev cX9_act : ByteArray := prog_16_method_113_code
def yX9_act : MethodName := ⟨RX9, "act", "(I)Z"⟩
abbrev cX9_isAsTold : ByteArray := prog_16_method_107_code
def yX9_isAsTold : MethodName := ⟨RX9, "isAsTold", "(I)Z"⟩
abbrev cX9_siteOf : ByteArray := prog_16_method_100_code
def yX9_siteOf : MethodName := ⟨RX9, "siteOf", "(I)I"⟩
abbrev cX9_doIt : ByteArray := prog_16_method_114_code
def yX9_doIt : MethodName := ⟨RX9, "doIt", "(I)V"⟩
abbrev cX9_lie : ByteArray := prog_16_method_110_code
def yX9_lie : MethodName := ⟨RX9, "lie", "(II)V"⟩
abbrev cX9_push : ByteArray := prog_16_method_104_code
def yX9_push : MethodName := ⟨RX9, "push", "(II)V"⟩
abbrev cX9_step : ByteArray := prog_16_method_105_code
def yX9_step : MethodName := ⟨RX9, "step", "(I)V"⟩
abbrev cX9_top : ByteArray := prog_16_method_102_code
def yX9_top : MethodName := ⟨RX9, "top", "(II)I"⟩
abbrev cX9_drop : ByteArray := prog_16_method_103_code
def yX9_drop : MethodName := ⟨RX9, "drop", "(II)V"⟩
abbrev cX9_hurl : ByteArray := prog_16_method_108_code
def yX9_hurl : MethodName := ⟨RX9, "hurl", "(II)V"⟩
abbrev cX9_jump : ByteArray := prog_16_method_115_code
def yX9_jump : MethodName := ⟨RX9, "jump", "(IIZ)V"⟩
abbrev cX9_isFullBy : ByteArray := prog_16_method_109_code
def yX9_isFullBy : MethodName := ⟨RX9, "isFullBy", "(Z)Z"⟩
abbrev cX9_make : ByteArray := prog_16_method_111_code
def yX9_make : MethodName := ⟨RX9, "make", "(II)I"⟩
abbrev cX9_element : ByteArray := prog_16_method_116_code
def yX9_element : MethodName := ⟨RX9, "element", "(II)V"⟩
abbrev cX9_enterCall : ByteArray := prog_16_method_117_code
def yX9_enterCall : MethodName := ⟨RX9, "enterCall", "(II)V"⟩
abbrev cX9_begin : ByteArray := prog_16_method_118_code
def yX9_begin : MethodName := ⟨RX9, "begin", "(II)V"⟩
abbrev cX9_endedThreads : ByteArray := prog_16_method_119_code
def yX9_endedThreads : MethodName := ⟨RX9, "endedThreads", "()I"⟩
abbrev cX9_isStuck : ByteArray := prog_16_method_120_code
def yX9_isStuck : MethodName := ⟨RX9, "isStuck", "()Z"⟩
abbrev cX9_walked : ByteArray := prog_16_method_122_code
def yX9_walked : MethodName := ⟨RX9, "walked", "(I)I"⟩
abbrev cX9_output : ByteArray := prog_16_method_123_code
def yX9_output : MethodName := ⟨RX9, "output", "(II)I"⟩
abbrev cX9_met : ByteArray := prog_16_method_124_code
def yX9_met : MethodName := ⟨RX9, "met", "(II)J"⟩
theorem q198 : (Jvm.Cond.initialized "FactHouseModel") ∈ lw_all := lw_g (lw_at lw_m1 9 rfl) rfl
theorem q1985 : (Jvm.Cond.instantiable "FactHouseModel" (106 : Nat)) ∈ lw_all := lw_g (lw_at lw_m8 116 rfl) rfl
theorem q1987 : (Jvm.Cond.instanceMethod ({ cls := "FactHouseModel", name := "<init>", desc := "()V" } : Jvm.MethodName)) ∈ lw_all := lw_g (lw_at lw_m8 118 rfl) rfl
theorem q1988 : (Jvm.Cond.code ({ cls := "FactHouseModel", name := "<init>", desc := "()V" } : Jvm.MethodName) prog_16_method_1_code (1 : Nat) (Option.none : Option Jvm.ClassFile.FieldType)) ∈ lw_all := lw_g (lw_at lw_m8 119 rfl) rfl
theorem q1989 : (Jvm.Cond.methodLink "FactHouseModel" (1 : Nat) ({ cls := "java/lang/Object", name := "<init>", desc := "()V" } : Jvm.MethodName)) ∈ lw_all := lw_g (lw_at lw_m8 120 rfl) rfl
theorem q1990 : (Jvm.Cond.classLink "FactHouseModel" (13 : Nat) "FactHouseModel$Load") ∈ lw_all := lw_g (lw_at lw_m8 121 rfl) rfl
theorem q1992 : (Jvm.Cond.methodLinkNest "FactHouseModel" (15 : Nat) ({ cls := "FactHouseModel$Load", name := "<init>", desc := "()V" } : Jvm.MethodName) "FactHouseModel") ∈ lw_tbl := lw_at lw_m8 123 rfl
theorem q1996 : (Jvm.Cond.fieldLink "FactHouseModel" (257 : Nat) "FactHouseModel$Load" "classes" "I") ∈ lw_all := lw_g (lw_at lw_m8 127 rfl) rfl
theorem q1997 : (Jvm.Cond.fieldLink "FactHouseModel" (260 : Nat) "FactHouseModel$Load" "statics" "I") ∈ lw_all := lw_g (lw_at lw_m8 128 rfl) rfl
theorem q1999 : (Jvm.Cond.fieldLink "FactHouseModel" (263 : Nat) "FactHouseModel$Load" "staticKinds" "[I") ∈ lw_all := lw_g (lw_at lw_m8 130 rfl) rfl
theorem q2001 : (Jvm.Cond.fieldLink "FactHouseModel" (266 : Nat) "FactHouseModel$Load" "parents" "[I") ∈ lw_all := lw_g (lw_at lw_m8 132 rfl) rfl
theorem q2003 : (Jvm.Cond.fieldLink "FactHouseModel" (269 : Nat) "FactHouseModel$Load" "fieldCounts" "[I") ∈ lw_all := lw_g (lw_at lw_m8 134 rfl) rfl
theorem q2005 : (Jvm.Cond.fieldLink "FactHouseModel" (272 : Nat) "FactHouseModel$Load" "fieldKinds" "[I") ∈ lw_all := lw_g (lw_at lw_m8 136 rfl) rfl
theorem q2006 : (Jvm.Cond.fieldLink "FactHouseModel" (333 : Nat) "FactHouseModel$Load" "methods" "I") ∈ lw_all := lw_g (lw_at lw_m8 137 rfl) rfl
theorem q2008 : (Jvm.Cond.fieldLink "FactHouseModel" (287 : Nat) "FactHouseModel$Load" "owner" "[I") ∈ lw_all := lw_g (lw_at lw_m8 139 rfl) rfl
theorem q2010 : (Jvm.Cond.fieldLink "FactHouseModel" (290 : Nat) "FactHouseModel$Load" "names" "[I") ∈ lw_all := lw_g (lw_at lw_m8 141 rfl) rfl
theorem q2012 : (Jvm.Cond.fieldLink "FactHouseModel" (275 : Nat) "FactHouseModel$Load" "arguments" "[I") ∈ lw_all := lw_g (lw_at lw_m8 143 rfl) rfl
theorem q2014 : (Jvm.Cond.fieldLink "FactHouseModel" (278 : Nat) "FactHouseModel$Load" "gives" "[I") ∈ lw_all := lw_g (lw_at lw_m8 145 rfl) rfl
theorem q2016 : (Jvm.Cond.fieldLink "FactHouseModel" (297 : Nat) "FactHouseModel$Load" "locals" "[I") ∈ lw_all := lw_g (lw_at lw_m8 147 rfl) rfl
theorem q2018 : (Jvm.Cond.fieldLink "FactHouseModel" (281 : Nat) "FactHouseModel$Load" "localKinds" "[I") ∈ lw_all := lw_g (lw_at lw_m8 149 rfl) rfl
theorem q2020 : (Jvm.Cond.fieldLink "FactHouseModel" (300 : Nat) "FactHouseModel$Load" "deep" "[I") ∈ lw_all := lw_g (lw_at lw_m8 151 rfl) rfl
theorem q2022 : (Jvm.Cond.fieldLink "FactHouseModel" (303 : Nat) "FactHouseModel$Load" "handlers" "[I") ∈ lw_all := lw_g (lw_at lw_m8 153 rfl) rfl
theorem q2024 : (Jvm.Cond.fieldLink "FactHouseModel" (319 : Nat) "FactHouseModel$Load" "handling" "[I") ∈ lw_all := lw_g (lw_at lw_m8 155 rfl) rfl
theorem q2026 : (Jvm.Cond.fieldLink "FactHouseModel" (306 : Nat) "FactHouseModel$Load" "count" "[I") ∈ lw_all := lw_g (lw_at lw_m8 157 rfl) rfl
theorem q2028 : (Jvm.Cond.fieldLink "FactHouseModel" (312 : Nat) "FactHouseModel$Load" "first" "[I") ∈ lw_all := lw_g (lw_at lw_m8 159 rfl) rfl
theorem q2030 : (Jvm.Cond.fieldLink "FactHouseModel" (284 : Nat) "FactHouseModel$Load" "begins" "[I") ∈ lw_all := lw_g (lw_at lw_m8 161 rfl) rfl
theorem q2032 : (Jvm.Cond.fieldLink "FactHouseModel" (322 : Nat) "FactHouseModel$Load" "ends" "[I") ∈ lw_all := lw_g (lw_at lw_m8 163 rfl) rfl
theorem q2034 : (Jvm.Cond.fieldLink "FactHouseModel" (370 : Nat) "FactHouseModel$Load" "bytes" "[B") ∈ lw_all := lw_g (lw_at lw_m8 165 rfl) rfl
theorem q2035 : (Jvm.Cond.fieldLink "FactHouseModel" (309 : Nat) "FactHouseModel$Load" "places" "I") ∈ lw_all := lw_g (lw_at lw_m8 166 rfl) rfl
theorem q2037 : (Jvm.Cond.fieldLink "FactHouseModel" (339 : Nat) "FactHouseModel$Load" "op" "[I") ∈ lw_all := lw_g (lw_at lw_m8 168 rfl) rfl
theorem q2039 : (Jvm.Cond.fieldLink "FactHouseModel" (342 : Nat) "FactHouseModel$Load" "x" "[I") ∈ lw_all := lw_g (lw_at lw_m8 170 rfl) rfl
theorem q2041 : (Jvm.Cond.fieldLink "FactHouseModel" (345 : Nat) "FactHouseModel$Load" "y" "[I") ∈ lw_all := lw_g (lw_at lw_m8 172 rfl) rfl
theorem q2043 : (Jvm.Cond.fieldLink "FactHouseModel" (348 : Nat) "FactHouseModel$Load" "z" "[I") ∈ lw_all := lw_g (lw_at lw_m8 174 rfl) rfl
theorem q2045 : (Jvm.Cond.fieldLink "FactHouseModel" (351 : Nat) "FactHouseModel$Load" "at" "[I") ∈ lw_all := lw_g (lw_at lw_m8 176 rfl) rfl
theorem q2047 : (Jvm.Cond.fieldLink "FactHouseModel" (354 : Nat) "FactHouseModel$Load" "methodOf" "[I") ∈ lw_all := lw_g (lw_at lw_m8 178 rfl) rfl
theorem q2049 : (Jvm.Cond.fieldLink "FactHouseModel" (327 : Nat) "FactHouseModel$Load" "siteAt" "[I") ∈ lw_all := lw_g (lw_at lw_m8 180 rfl) rfl
theorem q2051 : (Jvm.Cond.fieldLink "FactHouseModel" (336 : Nat) "FactHouseModel$Load" "siteClass" "[I") ∈ lw_all := lw_g (lw_at lw_m8 182 rfl) rfl
theorem q2052 : (Jvm.Cond.fieldLink "FactHouseModel" (325 : Nat) "FactHouseModel$Load" "sites" "I") ∈ lw_all := lw_g (lw_at lw_m8 183 rfl) rfl
theorem q2054 : (Jvm.Cond.fieldLink "FactHouseModel" (424 : Nat) "FactHouseModel$Load" "depth" "[I") ∈ lw_all := lw_g (lw_at lw_m8 185 rfl) rfl
theorem q2056 : (Jvm.Cond.fieldLink "FactHouseModel" (427 : Nat) "FactHouseModel$Load" "kinds" "[I") ∈ lw_all := lw_g (lw_at lw_m8 187 rfl) rfl
theorem q2124 : (Jvm.Cond.constant "FactHouseModel" (209 : Nat) (40000 : Int32)) ∈ lw_all := lw_g (lw_at lw_m9 15 rfl) rfl
theorem q2125 : (Jvm.Cond.fieldLink "FactHouseModel" (225 : Nat) "FactHouseModel" "thrown" "I") ∈ lw_all := lw_g (lw_at lw_m9 16 rfl) rfl
theorem q2126 : (Jvm.Cond.fieldLink "FactHouseModel" (9 : Nat) "FactHouseModel" "tape" "[B") ∈ lw_all := lw_g (lw_at lw_m9 17 rfl) rfl
theorem q2127 : (Jvm.Cond.fieldLink "FactHouseModel" (235 : Nat) "FactHouseModel" "tapeSize" "I") ∈ lw_all := lw_g (lw_at lw_m9 18 rfl) rfl
theorem q2128 : (Jvm.Cond.fieldLink "FactHouseModel" (373 : Nat) "FactHouseModel" "file" "LFactHouseModel$Load;") ∈ lw_all := lw_g (lw_at lw_m9 19 rfl) rfl
theorem q2129 : (Jvm.Cond.fieldLink "FactHouseModel" (16 : Nat) "FactHouseModel" "next" "LFactHouseModel$Load;") ∈ lw_all := lw_g (lw_at lw_m9 20 rfl) rfl
theorem q2130 : (Jvm.Cond.fieldLink "FactHouseModel" (20 : Nat) "FactHouseModel" "spare" "LFactHouseModel$Load;") ∈ lw_all := lw_g (lw_at lw_m9 21 rfl) rfl
theorem q2131 : (Jvm.Cond.fieldLink "FactHouseModel" (23 : Nat) "FactHouseModel" "changed" "[Z") ∈ lw_all := lw_g (lw_at lw_m9 22 rfl) rfl
theorem q2132 : (Jvm.Cond.fieldLink "FactHouseModel" (27 : Nat) "FactHouseModel" "isRoot" "[Z") ∈ lw_all := lw_g (lw_at lw_m9 23 rfl) rfl
theorem q2133 : (Jvm.Cond.fieldLink "FactHouseModel" (380 : Nat) "FactHouseModel" "roots" "I") ∈ lw_all := lw_g (lw_at lw_m9 24 rfl) rfl
theorem q2134 : (Jvm.Cond.fieldLink "FactHouseModel" (238 : Nat) "FactHouseModel" "p" "I") ∈ lw_all := lw_g (lw_at lw_m9 25 rfl) rfl
theorem q2135 : (Jvm.Cond.fieldLink "FactHouseModel" (241 : Nat) "FactHouseModel" "size" "I") ∈ lw_all := lw_g (lw_at lw_m9 26 rfl) rfl
theorem q2136 : (Jvm.Cond.fieldLink "FactHouseModel" (383 : Nat) "FactHouseModel" "isKnown" "Z") ∈ lw_all := lw_g (lw_at lw_m9 27 rfl) rfl
theorem q2137 : (Jvm.Cond.fieldLink "FactHouseModel" (484 : Nat) "FactHouseModel" "changedSites" "J") ∈ lw_all := lw_g (lw_at lw_m9 28 rfl) rfl
theorem q2138 : (Jvm.Cond.fieldLink "FactHouseModel" (488 : Nat) "FactHouseModel" "changedStatics" "I") ∈ lw_all := lw_g (lw_at lw_m9 29 rfl) rfl
theorem q2139 : (Jvm.Cond.fieldLink "FactHouseModel" (491 : Nat) "FactHouseModel" "changedMethods" "J") ∈ lw_all := lw_g (lw_at lw_m9 30 rfl) rfl
theorem q2140 : (Jvm.Cond.fieldLink "FactHouseModel" (30 : Nat) "FactHouseModel" "stirred" "[Z") ∈ lw_all := lw_g (lw_at lw_m9 31 rfl) rfl
theorem q2141 : (Jvm.Cond.fieldLink "FactHouseModel" (469 : Nat) "FactHouseModel" "marks" "I") ∈ lw_all := lw_g (lw_at lw_m9 32 rfl) rfl
theorem q2142 : (Jvm.Cond.fieldLink "FactHouseModel" (33 : Nat) "FactHouseModel" "mark" "[I") ∈ lw_all := lw_g (lw_at lw_m9 33 rfl) rfl
theorem q2143 : (Jvm.Cond.fieldLink "FactHouseModel" (37 : Nat) "FactHouseModel" "reached" "[Z") ∈ lw_all := lw_g (lw_at lw_m9 34 rfl) rfl
theorem q2144 : (Jvm.Cond.fieldLink "FactHouseModel" (40 : Nat) "FactHouseModel" "low" "[I") ∈ lw_all := lw_g (lw_at lw_m9 35 rfl) rfl
theorem q2145 : (Jvm.Cond.fieldLink "FactHouseModel" (43 : Nat) "FactHouseModel" "high" "[I") ∈ lw_all := lw_g (lw_at lw_m9 36 rfl) rfl
theorem q2146 : (Jvm.Cond.fieldLink "FactHouseModel" (46 : Nat) "FactHouseModel" "label" "[I") ∈ lw_all := lw_g (lw_at lw_m9 37 rfl) rfl
theorem q2147 : (Jvm.Cond.fieldLink "FactHouseModel" (49 : Nat) "FactHouseModel" "sites" "[J") ∈ lw_all := lw_g (lw_at lw_m9 38 rfl) rfl
theorem q2148 : (Jvm.Cond.fieldLink "FactHouseModel" (53 : Nat) "FactHouseModel" "sure" "[I") ∈ lw_all := lw_g (lw_at lw_m9 39 rfl) rfl
theorem q2149 : (Jvm.Cond.fieldLink "FactHouseModel" (56 : Nat) "FactHouseModel" "perhaps" "[I") ∈ lw_all := lw_g (lw_at lw_m9 40 rfl) rfl
theorem q2150 : (Jvm.Cond.fieldLink "FactHouseModel" (59 : Nat) "FactHouseModel" "thrownAt" "[J") ∈ lw_all := lw_g (lw_at lw_m9 41 rfl) rfl
theorem q2151 : (Jvm.Cond.fieldLink "FactHouseModel" (62 : Nat) "FactHouseModel" "callsAt" "[J") ∈ lw_all := lw_g (lw_at lw_m9 42 rfl) rfl
theorem q2152 : (Jvm.Cond.fieldLink "FactHouseModel" (65 : Nat) "FactHouseModel" "goes" "[J") ∈ lw_all := lw_g (lw_at lw_m9 43 rfl) rfl
theorem q2153 : (Jvm.Cond.fieldLink "FactHouseModel" (68 : Nat) "FactHouseModel" "caught" "[J") ∈ lw_all := lw_g (lw_at lw_m9 44 rfl) rfl
theorem q2154 : (Jvm.Cond.fieldLink "FactHouseModel" (71 : Nat) "FactHouseModel" "used" "[J") ∈ lw_all := lw_g (lw_at lw_m9 45 rfl) rfl
theorem q2155 : (Jvm.Cond.fieldLink "FactHouseModel" (74 : Nat) "FactHouseModel" "isMade" "[Z") ∈ lw_all := lw_g (lw_at lw_m9 46 rfl) rfl
theorem q2156 : (Jvm.Cond.fieldLink "FactHouseModel" (77 : Nat) "FactHouseModel" "heldLow" "[I") ∈ lw_all := lw_g (lw_at lw_m9 47 rfl) rfl
theorem q2157 : (Jvm.Cond.fieldLink "FactHouseModel" (80 : Nat) "FactHouseModel" "heldHigh" "[I") ∈ lw_all := lw_g (lw_at lw_m9 48 rfl) rfl
theorem q2158 : (Jvm.Cond.fieldLink "FactHouseModel" (83 : Nat) "FactHouseModel" "heldLabel" "[I") ∈ lw_all := lw_g (lw_at lw_m9 49 rfl) rfl
theorem q2159 : (Jvm.Cond.fieldLink "FactHouseModel" (86 : Nat) "FactHouseModel" "heldSites" "[J") ∈ lw_all := lw_g (lw_at lw_m9 50 rfl) rfl
theorem q2160 : (Jvm.Cond.fieldLink "FactHouseModel" (89 : Nat) "FactHouseModel" "lengthLow" "[I") ∈ lw_all := lw_g (lw_at lw_m9 51 rfl) rfl
theorem q2161 : (Jvm.Cond.fieldLink "FactHouseModel" (92 : Nat) "FactHouseModel" "lengthHigh" "[I") ∈ lw_all := lw_g (lw_at lw_m9 52 rfl) rfl
theorem q2162 : (Jvm.Cond.fieldLink "FactHouseModel" (95 : Nat) "FactHouseModel" "hasLength" "[Z") ∈ lw_all := lw_g (lw_at lw_m9 53 rfl) rfl
theorem q2163 : (Jvm.Cond.fieldLink "FactHouseModel" (98 : Nat) "FactHouseModel" "staticLow" "[I") ∈ lw_all := lw_g (lw_at lw_m9 54 rfl) rfl
theorem q2164 : (Jvm.Cond.fieldLink "FactHouseModel" (101 : Nat) "FactHouseModel" "staticHigh" "[I") ∈ lw_all := lw_g (lw_at lw_m9 55 rfl) rfl
theorem q2165 : (Jvm.Cond.fieldLink "FactHouseModel" (104 : Nat) "FactHouseModel" "staticLabel" "[I") ∈ lw_all := lw_g (lw_at lw_m9 56 rfl) rfl
theorem q2166 : (Jvm.Cond.fieldLink "FactHouseModel" (107 : Nat) "FactHouseModel" "staticSites" "[J") ∈ lw_all := lw_g (lw_at lw_m9 57 rfl) rfl
theorem q2167 : (Jvm.Cond.fieldLink "FactHouseModel" (110 : Nat) "FactHouseModel" "sinks" "[Z") ∈ lw_all := lw_g (lw_at lw_m9 58 rfl) rfl
theorem q2168 : (Jvm.Cond.fieldLink "FactHouseModel" (113 : Nat) "FactHouseModel" "sinkLow" "[I") ∈ lw_all := lw_g (lw_at lw_m9 59 rfl) rfl
theorem q2169 : (Jvm.Cond.fieldLink "FactHouseModel" (116 : Nat) "FactHouseModel" "sinkHigh" "[I") ∈ lw_all := lw_g (lw_at lw_m9 60 rfl) rfl
theorem q2170 : (Jvm.Cond.fieldLink "FactHouseModel" (119 : Nat) "FactHouseModel" "sinkLabel" "[I") ∈ lw_all := lw_g (lw_at lw_m9 61 rfl) rfl
theorem q2171 : (Jvm.Cond.fieldLink "FactHouseModel" (122 : Nat) "FactHouseModel" "returns" "[Z") ∈ lw_all := lw_g (lw_at lw_m9 62 rfl) rfl
theorem q2172 : (Jvm.Cond.fieldLink "FactHouseModel" (125 : Nat) "FactHouseModel" "givenLow" "[I") ∈ lw_all := lw_g (lw_at lw_m9 63 rfl) rfl
theorem q2173 : (Jvm.Cond.fieldLink "FactHouseModel" (128 : Nat) "FactHouseModel" "givenHigh" "[I") ∈ lw_all := lw_g (lw_at lw_m9 64 rfl) rfl
theorem q2174 : (Jvm.Cond.fieldLink "FactHouseModel" (131 : Nat) "FactHouseModel" "givenLabel" "[I") ∈ lw_all := lw_g (lw_at lw_m9 65 rfl) rfl
theorem q2175 : (Jvm.Cond.fieldLink "FactHouseModel" (134 : Nat) "FactHouseModel" "givenSites" "[J") ∈ lw_all := lw_g (lw_at lw_m9 66 rfl) rfl
theorem q2176 : (Jvm.Cond.fieldLink "FactHouseModel" (137 : Nat) "FactHouseModel" "returnSure" "[I") ∈ lw_all := lw_g (lw_at lw_m9 67 rfl) rfl
theorem q2177 : (Jvm.Cond.fieldLink "FactHouseModel" (140 : Nat) "FactHouseModel" "returnPerhaps" "[I") ∈ lw_all := lw_g (lw_at lw_m9 68 rfl) rfl
theorem q2178 : (Jvm.Cond.fieldLink "FactHouseModel" (143 : Nat) "FactHouseModel" "escapes" "[J") ∈ lw_all := lw_g (lw_at lw_m9 69 rfl) rfl
theorem q2179 : (Jvm.Cond.fieldLink "FactHouseModel" (146 : Nat) "FactHouseModel" "escapeSure" "[I") ∈ lw_all := lw_g (lw_at lw_m9 70 rfl) rfl
theorem q2180 : (Jvm.Cond.fieldLink "FactHouseModel" (149 : Nat) "FactHouseModel" "escapePerhaps" "[I") ∈ lw_all := lw_g (lw_at lw_m9 71 rfl) rfl
theorem q2181 : (Jvm.Cond.fieldLink "FactHouseModel" (152 : Nat) "FactHouseModel" "unlocks" "[I") ∈ lw_all := lw_g (lw_at lw_m9 72 rfl) rfl
theorem q2182 : (Jvm.Cond.fieldLink "FactHouseModel" (155 : Nat) "FactHouseModel" "cl" "[I") ∈ lw_all := lw_g (lw_at lw_m9 73 rfl) rfl
theorem q2183 : (Jvm.Cond.fieldLink "FactHouseModel" (158 : Nat) "FactHouseModel" "ch" "[I") ∈ lw_all := lw_g (lw_at lw_m9 74 rfl) rfl
theorem q2184 : (Jvm.Cond.fieldLink "FactHouseModel" (161 : Nat) "FactHouseModel" "cb" "[I") ∈ lw_all := lw_g (lw_at lw_m9 75 rfl) rfl
theorem q2185 : (Jvm.Cond.fieldLink "FactHouseModel" (164 : Nat) "FactHouseModel" "cs" "[J") ∈ lw_all := lw_g (lw_at lw_m9 76 rfl) rfl
theorem q2186 : (Jvm.Cond.fieldLink "FactHouseModel" (532 : Nat) "FactHouseModel" "cd" "I") ∈ lw_all := lw_g (lw_at lw_m9 77 rfl) rfl
theorem q2187 : (Jvm.Cond.fieldLink "FactHouseModel" (506 : Nat) "FactHouseModel" "cSure" "I") ∈ lw_all := lw_g (lw_at lw_m9 78 rfl) rfl
theorem q2188 : (Jvm.Cond.fieldLink "FactHouseModel" (509 : Nat) "FactHouseModel" "cPerhaps" "I") ∈ lw_all := lw_g (lw_at lw_m9 79 rfl) rfl
theorem q2189 : (Jvm.Cond.fieldLink "FactHouseModel" (539 : Nat) "FactHouseModel" "nl" "I") ∈ lw_all := lw_g (lw_at lw_m9 80 rfl) rfl
theorem q2190 : (Jvm.Cond.fieldLink "FactHouseModel" (542 : Nat) "FactHouseModel" "nh" "I") ∈ lw_all := lw_g (lw_at lw_m9 81 rfl) rfl
theorem q2191 : (Jvm.Cond.fieldLink "FactHouseModel" (545 : Nat) "FactHouseModel" "nb" "I") ∈ lw_all := lw_g (lw_at lw_m9 82 rfl) rfl
theorem q2192 : (Jvm.Cond.fieldLink "FactHouseModel" (548 : Nat) "FactHouseModel" "ns" "J") ∈ lw_all := lw_g (lw_at lw_m9 83 rfl) rfl
theorem q2193 : (Jvm.Cond.fieldLink "FactHouseModel" (399 : Nat) "FactHouseModel" "codeDepth" "I") ∈ lw_all := lw_g (lw_at lw_m9 84 rfl) rfl
theorem q2194 : (Jvm.Cond.fieldLink "FactHouseModel" (402 : Nat) "FactHouseModel" "codeKinds" "I") ∈ lw_all := lw_g (lw_at lw_m9 85 rfl) rfl
theorem q2195 : (Jvm.Cond.fieldLink "FactHouseModel" (412 : Nat) "FactHouseModel" "codeMost" "I") ∈ lw_all := lw_g (lw_at lw_m9 86 rfl) rfl
theorem q2196 : (Jvm.Cond.fieldLink "FactHouseModel" (396 : Nat) "FactHouseModel" "codeAt" "I") ∈ lw_all := lw_g (lw_at lw_m9 87 rfl) rfl
theorem q2197 : (Jvm.Cond.fieldLink "FactHouseModel" (594 : Nat) "FactHouseModel" "hasValue" "Z") ∈ lw_all := lw_g (lw_at lw_m9 88 rfl) rfl
theorem q2198 : (Jvm.Cond.fieldLink "FactHouseModel" (167 : Nat) "FactHouseModel" "liveAt" "[I") ∈ lw_all := lw_g (lw_at lw_m9 89 rfl) rfl
theorem q2199 : (Jvm.Cond.fieldLink "FactHouseModel" (656 : Nat) "FactHouseModel" "origins" "I") ∈ lw_all := lw_g (lw_at lw_m9 90 rfl) rfl
theorem q2200 : (Jvm.Cond.fieldLink "FactHouseModel" (170 : Nat) "FactHouseModel" "originAt" "[I") ∈ lw_all := lw_g (lw_at lw_m9 91 rfl) rfl
theorem q2201 : (Jvm.Cond.fieldLink "FactHouseModel" (173 : Nat) "FactHouseModel" "runsOf" "[J") ∈ lw_all := lw_g (lw_at lw_m9 92 rfl) rfl
theorem q2202 : (Jvm.Cond.fieldLink "FactHouseModel" (176 : Nat) "FactHouseModel" "apart" "[Z") ∈ lw_all := lw_g (lw_at lw_m9 93 rfl) rfl
theorem q2203 : (Jvm.Cond.fieldLink "FactHouseModel" (668 : Nat) "FactHouseModel" "raceA" "I") ∈ lw_all := lw_g (lw_at lw_m9 94 rfl) rfl
theorem q2204 : (Jvm.Cond.fieldLink "FactHouseModel" (671 : Nat) "FactHouseModel" "raceB" "I") ∈ lw_all := lw_g (lw_at lw_m9 95 rfl) rfl
theorem q2205 : (Jvm.Cond.fieldLink "FactHouseModel" (387 : Nat) "FactHouseModel" "inputs" "I") ∈ lw_all := lw_g (lw_at lw_m9 96 rfl) rfl
theorem q2206 : (Jvm.Cond.fieldLink "FactHouseModel" (179 : Nat) "FactHouseModel" "input" "[I") ∈ lw_all := lw_g (lw_at lw_m9 97 rfl) rfl
theorem q2207 : (Jvm.Cond.fieldLink "FactHouseModel" (390 : Nat) "FactHouseModel" "usedInputs" "I") ∈ lw_all := lw_g (lw_at lw_m9 98 rfl) rfl
theorem q2208 : (Jvm.Cond.fieldLink "FactHouseModel" (712 : Nat) "FactHouseModel" "begun" "I") ∈ lw_all := lw_g (lw_at lw_m9 99 rfl) rfl
theorem q2209 : (Jvm.Cond.fieldLink "FactHouseModel" (182 : Nat) "FactHouseModel" "hasEnded" "[Z") ∈ lw_all := lw_g (lw_at lw_m9 100 rfl) rfl
theorem q2210 : (Jvm.Cond.fieldLink "FactHouseModel" (185 : Nat) "FactHouseModel" "frames" "[I") ∈ lw_all := lw_g (lw_at lw_m9 101 rfl) rfl
theorem q2211 : (Jvm.Cond.fieldLink "FactHouseModel" (188 : Nat) "FactHouseModel" "calledMethod" "[I") ∈ lw_all := lw_g (lw_at lw_m9 102 rfl) rfl
theorem q2212 : (Jvm.Cond.fieldLink "FactHouseModel" (191 : Nat) "FactHouseModel" "calledAt" "[I") ∈ lw_all := lw_g (lw_at lw_m9 103 rfl) rfl
theorem q2213 : (Jvm.Cond.fieldLink "FactHouseModel" (194 : Nat) "FactHouseModel" "calledDepth" "[I") ∈ lw_all := lw_g (lw_at lw_m9 104 rfl) rfl
theorem q2214 : (Jvm.Cond.fieldLink "FactHouseModel" (197 : Nat) "FactHouseModel" "values" "[I") ∈ lw_all := lw_g (lw_at lw_m9 105 rfl) rfl
theorem q2215 : (Jvm.Cond.fieldLink "FactHouseModel" (200 : Nat) "FactHouseModel" "ownerOf" "[I") ∈ lw_all := lw_g (lw_at lw_m9 106 rfl) rfl
theorem q2216 : (Jvm.Cond.fieldLink "FactHouseModel" (715 : Nat) "FactHouseModel" "objects" "I") ∈ lw_all := lw_g (lw_at lw_m9 107 rfl) rfl
theorem q2217 : (Jvm.Cond.fieldLink "FactHouseModel" (203 : Nat) "FactHouseModel" "objectSite" "[I") ∈ lw_all := lw_g (lw_at lw_m9 108 rfl) rfl
theorem q2218 : (Jvm.Cond.fieldLink "FactHouseModel" (206 : Nat) "FactHouseModel" "objectSize" "[I") ∈ lw_all := lw_g (lw_at lw_m9 109 rfl) rfl
theorem q2219 : (Jvm.Cond.fieldLink "FactHouseModel" (210 : Nat) "FactHouseModel" "cells" "[I") ∈ lw_all := lw_g (lw_at lw_m9 110 rfl) rfl
theorem q2220 : (Jvm.Cond.fieldLink "FactHouseModel" (718 : Nat) "FactHouseModel" "steps" "I") ∈ lw_all := lw_g (lw_at lw_m9 111 rfl) rfl
theorem q2221 : (Jvm.Cond.fieldLink "FactHouseModel" (721 : Nat) "FactHouseModel" "outputs" "I") ∈ lw_all := lw_g (lw_at lw_m9 112 rfl) rfl
theorem q2222 : (Jvm.Cond.fieldLink "FactHouseModel" (213 : Nat) "FactHouseModel" "outputSink" "[I") ∈ lw_all := lw_g (lw_at lw_m9 113 rfl) rfl
theorem q2223 : (Jvm.Cond.fieldLink "FactHouseModel" (216 : Nat) "FactHouseModel" "outputValue" "[I") ∈ lw_all := lw_g (lw_at lw_m9 114 rfl) rfl
theorem q2224 : (Jvm.Cond.fieldLink "FactHouseModel" (724 : Nat) "FactHouseModel" "gave" "I") ∈ lw_all := lw_g (lw_at lw_m9 115 rfl) rfl
theorem q2225 : (Jvm.Cond.fieldLink "FactHouseModel" (727 : Nat) "FactHouseModel" "endedBy" "I") ∈ lw_all := lw_g (lw_at lw_m9 116 rfl) rfl
theorem q2226 : (Jvm.Cond.fieldLink "FactHouseModel" (754 : Nat) "FactHouseModel" "broken" "I") ∈ lw_all := lw_g (lw_at lw_m9 117 rfl) rfl
theorem q2227 : (Jvm.Cond.fieldLink "FactHouseModel" (736 : Nat) "FactHouseModel" "isBroken" "Z") ∈ lw_all := lw_g (lw_at lw_m9 118 rfl) rfl
theorem q2228 : (Jvm.Cond.fieldLink "FactHouseModel" (742 : Nat) "FactHouseModel" "isFull" "Z") ∈ lw_all := lw_g (lw_at lw_m9 119 rfl) rfl
theorem q2229 : (Jvm.Cond.fieldLink "FactHouseModel" (219 : Nat) "FactHouseModel" "met" "[J") ∈ lw_all := lw_g (lw_at lw_m9 120 rfl) rfl
theorem q2230 : (Jvm.Cond.fieldLink "FactHouseModel" (222 : Nat) "FactHouseModel" "staticNow" "[I") ∈ lw_all := lw_g (lw_at lw_m9 121 rfl) rfl
theorem q2231 : (Jvm.Cond.lays "FactHouseModel" "FactHouseModel" "thrown" "I") ∈ lw_all := lw_g (lw_at lw_m9 122 rfl) rfl
theorem q2232 : (Jvm.Cond.soleField "FactHouseModel" "thrown") ∈ lw_all := lw_g (lw_at lw_m9 123 rfl) rfl
theorem q2233 : (Jvm.Cond.laysFinal "FactHouseModel" "FactHouseModel" "tape" "[B") ∈ lw_all := lw_g (lw_at lw_m9 124 rfl) rfl
theorem q2234 : (Jvm.Cond.soleField "FactHouseModel" "tape") ∈ lw_all := lw_g (lw_at lw_m9 125 rfl) rfl
theorem q2235 : (Jvm.Cond.lays "FactHouseModel" "FactHouseModel" "tapeSize" "I") ∈ lw_all := lw_g (lw_at lw_m9 126 rfl) rfl
theorem q2236 : (Jvm.Cond.soleField "FactHouseModel" "tapeSize") ∈ lw_all := lw_g (lw_at lw_m9 127 rfl) rfl
theorem q2237 : (Jvm.Cond.lays "FactHouseModel" "FactHouseModel" "file" "LFactHouseModel$Load;") ∈ lw_all := lw_g (lw_at lw_m9 128 rfl) rfl
theorem q2238 : (Jvm.Cond.soleField "FactHouseModel" "file") ∈ lw_all := lw_g (lw_at lw_m9 129 rfl) rfl
theorem q2239 : (Jvm.Cond.lays "FactHouseModel" "FactHouseModel" "next" "LFactHouseModel$Load;") ∈ lw_all := lw_g (lw_at lw_m9 130 rfl) rfl
theorem q2240 : (Jvm.Cond.soleField "FactHouseModel" "next") ∈ lw_all := lw_g (lw_at lw_m9 131 rfl) rfl
theorem q2241 : (Jvm.Cond.lays "FactHouseModel" "FactHouseModel" "spare" "LFactHouseModel$Load;") ∈ lw_all := lw_g (lw_at lw_m9 132 rfl) rfl
theorem q2242 : (Jvm.Cond.soleField "FactHouseModel" "spare") ∈ lw_all := lw_g (lw_at lw_m9 133 rfl) rfl
theorem q2243 : (Jvm.Cond.laysFinal "FactHouseModel" "FactHouseModel" "changed" "[Z") ∈ lw_all := lw_g (lw_at lw_m9 134 rfl) rfl
theorem q2244 : (Jvm.Cond.soleField "FactHouseModel" "changed") ∈ lw_all := lw_g (lw_at lw_m9 135 rfl) rfl
theorem q2245 : (Jvm.Cond.laysFinal "FactHouseModel" "FactHouseModel" "isRoot" "[Z") ∈ lw_all := lw_g (lw_at lw_m9 136 rfl) rfl
theorem q2246 : (Jvm.Cond.soleField "FactHouseModel" "isRoot") ∈ lw_all := lw_g (lw_at lw_m9 137 rfl) rfl
theorem q2247 : (Jvm.Cond.lays "FactHouseModel" "FactHouseModel" "roots" "I") ∈ lw_all := lw_g (lw_at lw_m9 138 rfl) rfl
theorem q2248 : (Jvm.Cond.soleField "FactHouseModel" "roots") ∈ lw_all := lw_g (lw_at lw_m9 139 rfl) rfl
theorem q2249 : (Jvm.Cond.lays "FactHouseModel" "FactHouseModel" "p" "I") ∈ lw_all := lw_g (lw_at lw_m9 140 rfl) rfl
theorem q2250 : (Jvm.Cond.soleField "FactHouseModel" "p") ∈ lw_all := lw_g (lw_at lw_m9 141 rfl) rfl
theorem q2251 : (Jvm.Cond.lays "FactHouseModel" "FactHouseModel" "size" "I") ∈ lw_all := lw_g (lw_at lw_m9 142 rfl) rfl
theorem q2252 : (Jvm.Cond.soleField "FactHouseModel" "size") ∈ lw_all := lw_g (lw_at lw_m9 143 rfl) rfl
theorem q2253 : (Jvm.Cond.lays "FactHouseModel" "FactHouseModel" "isKnown" "Z") ∈ lw_all := lw_g (lw_at lw_m9 144 rfl) rfl
theorem q2254 : (Jvm.Cond.soleField "FactHouseModel" "isKnown") ∈ lw_all := lw_g (lw_at lw_m9 145 rfl) rfl
theorem q2255 : (Jvm.Cond.lays "FactHouseModel" "FactHouseModel" "changedSites" "J") ∈ lw_all := lw_g (lw_at lw_m9 146 rfl) rfl
theorem q2256 : (Jvm.Cond.soleField "FactHouseModel" "changedSites") ∈ lw_all := lw_g (lw_at lw_m9 147 rfl) rfl
theorem q2257 : (Jvm.Cond.lays "FactHouseModel" "FactHouseModel" "changedStatics" "I") ∈ lw_all := lw_g (lw_at lw_m9 148 rfl) rfl
theorem q2258 : (Jvm.Cond.soleField "FactHouseModel" "changedStatics") ∈ lw_all := lw_g (lw_at lw_m9 149 rfl) rfl
theorem q2259 : (Jvm.Cond.lays "FactHouseModel" "FactHouseModel" "changedMethods" "J") ∈ lw_all := lw_g (lw_at lw_m9 150 rfl) rfl
theorem q2260 : (Jvm.Cond.soleField "FactHouseModel" "changedMethods") ∈ lw_all := lw_g (lw_at lw_m9 151 rfl) rfl
theorem q2261 : (Jvm.Cond.laysFinal "FactHouseModel" "FactHouseModel" "stirred" "[Z") ∈ lw_all := lw_g (lw_at lw_m9 152 rfl) rfl
theorem q2262 : (Jvm.Cond.soleField "FactHouseModel" "stirred") ∈ lw_all := lw_g (lw_at lw_m9 153 rfl) rfl
theorem q2263 : (Jvm.Cond.lays "FactHouseModel" "FactHouseModel" "marks" "I") ∈ lw_all := lw_g (lw_at lw_m9 154 rfl) rfl
theorem q2264 : (Jvm.Cond.soleField "FactHouseModel" "marks") ∈ lw_all := lw_g (lw_at lw_m9 155 rfl) rfl
theorem q2265 : (Jvm.Cond.laysFinal "FactHouseModel" "FactHouseModel" "mark" "[I") ∈ lw_all := lw_g (lw_at lw_m9 156 rfl) rfl
theorem q2266 : (Jvm.Cond.soleField "FactHouseModel" "mark") ∈ lw_all := lw_g (lw_at lw_m9 157 rfl) rfl
theorem q2267 : (Jvm.Cond.laysFinal "FactHouseModel" "FactHouseModel" "reached" "[Z") ∈ lw_all := lw_g (lw_at lw_m9 158 rfl) rfl
theorem q2268 : (Jvm.Cond.soleField "FactHouseModel" "reached") ∈ lw_all := lw_g (lw_at lw_m9 159 rfl) rfl
theorem q2269 : (Jvm.Cond.laysFinal "FactHouseModel" "FactHouseModel" "low" "[I") ∈ lw_all := lw_g (lw_at lw_m9 160 rfl) rfl
theorem q2270 : (Jvm.Cond.soleField "FactHouseModel" "low") ∈ lw_all := lw_g (lw_at lw_m9 161 rfl) rfl
theorem q2271 : (Jvm.Cond.laysFinal "FactHouseModel" "FactHouseModel" "high" "[I") ∈ lw_all := lw_g (lw_at lw_m9 162 rfl) rfl
theorem q2272 : (Jvm.Cond.soleField "FactHouseModel" "high") ∈ lw_all := lw_g (lw_at lw_m9 163 rfl) rfl
theorem q2273 : (Jvm.Cond.laysFinal "FactHouseModel" "FactHouseModel" "label" "[I") ∈ lw_all := lw_g (lw_at lw_m9 164 rfl) rfl
theorem q2274 : (Jvm.Cond.soleField "FactHouseModel" "label") ∈ lw_all := lw_g (lw_at lw_m9 165 rfl) rfl
theorem q2275 : (Jvm.Cond.laysFinal "FactHouseModel" "FactHouseModel" "sites" "[J") ∈ lw_all := lw_g (lw_at lw_m9 166 rfl) rfl
theorem q2276 : (Jvm.Cond.soleField "FactHouseModel" "sites") ∈ lw_all := lw_g (lw_at lw_m9 167 rfl) rfl
theorem q2277 : (Jvm.Cond.laysFinal "FactHouseModel" "FactHouseModel" "sure" "[I") ∈ lw_all := lw_g (lw_at lw_m9 168 rfl) rfl
theorem q2278 : (Jvm.Cond.soleField "FactHouseModel" "sure") ∈ lw_all := lw_g (lw_at lw_m9 169 rfl) rfl
theorem q2279 : (Jvm.Cond.laysFinal "FactHouseModel" "FactHouseModel" "perhaps" "[I") ∈ lw_all := lw_g (lw_at lw_m9 170 rfl) rfl
theorem q2280 : (Jvm.Cond.soleField "FactHouseModel" "perhaps") ∈ lw_all := lw_g (lw_at lw_m9 171 rfl) rfl
theorem q2281 : (Jvm.Cond.laysFinal "FactHouseModel" "FactHouseModel" "thrownAt" "[J") ∈ lw_all := lw_g (lw_at lw_m9 172 rfl) rfl
theorem q2282 : (Jvm.Cond.soleField "FactHouseModel" "thrownAt") ∈ lw_all := lw_g (lw_at lw_m9 173 rfl) rfl
theorem q2283 : (Jvm.Cond.laysFinal "FactHouseModel" "FactHouseModel" "callsAt" "[J") ∈ lw_all := lw_g (lw_at lw_m9 174 rfl) rfl
theorem q2284 : (Jvm.Cond.soleField "FactHouseModel" "callsAt") ∈ lw_all := lw_g (lw_at lw_m9 175 rfl) rfl
theorem q2285 : (Jvm.Cond.laysFinal "FactHouseModel" "FactHouseModel" "goes" "[J") ∈ lw_all := lw_g (lw_at lw_m9 176 rfl) rfl
theorem q2286 : (Jvm.Cond.soleField "FactHouseModel" "goes") ∈ lw_all := lw_g (lw_at lw_m9 177 rfl) rfl
theorem q2287 : (Jvm.Cond.laysFinal "FactHouseModel" "FactHouseModel" "caught" "[J") ∈ lw_all := lw_g (lw_at lw_m9 178 rfl) rfl
theorem q2288 : (Jvm.Cond.soleField "FactHouseModel" "caught") ∈ lw_all := lw_g (lw_at lw_m9 179 rfl) rfl
theorem q2289 : (Jvm.Cond.laysFinal "FactHouseModel" "FactHouseModel" "used" "[J") ∈ lw_all := lw_g (lw_at lw_m9 180 rfl) rfl
theorem q2290 : (Jvm.Cond.soleField "FactHouseModel" "used") ∈ lw_all := lw_g (lw_at lw_m9 181 rfl) rfl
theorem q2291 : (Jvm.Cond.laysFinal "FactHouseModel" "FactHouseModel" "isMade" "[Z") ∈ lw_all := lw_g (lw_at lw_m9 182 rfl) rfl
theorem q2292 : (Jvm.Cond.soleField "FactHouseModel" "isMade") ∈ lw_all := lw_g (lw_at lw_m9 183 rfl) rfl
theorem q2293 : (Jvm.Cond.laysFinal "FactHouseModel" "FactHouseModel" "heldLow" "[I") ∈ lw_all := lw_g (lw_at lw_m9 184 rfl) rfl
theorem q2294 : (Jvm.Cond.soleField "FactHouseModel" "heldLow") ∈ lw_all := lw_g (lw_at lw_m9 185 rfl) rfl
theorem q2295 : (Jvm.Cond.laysFinal "FactHouseModel" "FactHouseModel" "heldHigh" "[I") ∈ lw_all := lw_g (lw_at lw_m9 186 rfl) rfl
theorem q2296 : (Jvm.Cond.soleField "FactHouseModel" "heldHigh") ∈ lw_all := lw_g (lw_at lw_m9 187 rfl) rfl
theorem q2297 : (Jvm.Cond.laysFinal "FactHouseModel" "FactHouseModel" "heldLabel" "[I") ∈ lw_all := lw_g (lw_at lw_m9 188 rfl) rfl
theorem q2298 : (Jvm.Cond.soleField "FactHouseModel" "heldLabel") ∈ lw_all := lw_g (lw_at lw_m9 189 rfl) rfl
theorem q2299 : (Jvm.Cond.laysFinal "FactHouseModel" "FactHouseModel" "heldSites" "[J") ∈ lw_all := lw_g (lw_at lw_m9 190 rfl) rfl
theorem q2300 : (Jvm.Cond.soleField "FactHouseModel" "heldSites") ∈ lw_all := lw_g (lw_at lw_m9 191 rfl) rfl
theorem q2301 : (Jvm.Cond.laysFinal "FactHouseModel" "FactHouseModel" "lengthLow" "[I") ∈ lw_all := lw_g (lw_at lw_m9 192 rfl) rfl
theorem q2302 : (Jvm.Cond.soleField "FactHouseModel" "lengthLow") ∈ lw_all := lw_g (lw_at lw_m9 193 rfl) rfl
theorem q2303 : (Jvm.Cond.laysFinal "FactHouseModel" "FactHouseModel" "lengthHigh" "[I") ∈ lw_all := lw_g (lw_at lw_m9 194 rfl) rfl
theorem q2304 : (Jvm.Cond.soleField "FactHouseModel" "lengthHigh") ∈ lw_all := lw_g (lw_at lw_m9 195 rfl) rfl
theorem q2305 : (Jvm.Cond.laysFinal "FactHouseModel" "FactHouseModel" "hasLength" "[Z") ∈ lw_all := lw_g (lw_at lw_m9 196 rfl) rfl
theorem q2306 : (Jvm.Cond.soleField "FactHouseModel" "hasLength") ∈ lw_all := lw_g (lw_at lw_m9 197 rfl) rfl
theorem q2307 : (Jvm.Cond.laysFinal "FactHouseModel" "FactHouseModel" "staticLow" "[I") ∈ lw_all := lw_g (lw_at lw_m9 198 rfl) rfl
theorem q2308 : (Jvm.Cond.soleField "FactHouseModel" "staticLow") ∈ lw_all := lw_g (lw_at lw_m9 199 rfl) rfl
theorem q2309 : (Jvm.Cond.laysFinal "FactHouseModel" "FactHouseModel" "staticHigh" "[I") ∈ lw_all := lw_g (lw_at lw_m9 200 rfl) rfl
theorem q2310 : (Jvm.Cond.soleField "FactHouseModel" "staticHigh") ∈ lw_all := lw_g (lw_at lw_m9 201 rfl) rfl
theorem q2311 : (Jvm.Cond.laysFinal "FactHouseModel" "FactHouseModel" "staticLabel" "[I") ∈ lw_all := lw_g (lw_at lw_m9 202 rfl) rfl
theorem q2312 : (Jvm.Cond.soleField "FactHouseModel" "staticLabel") ∈ lw_all := lw_g (lw_at lw_m9 203 rfl) rfl
theorem q2313 : (Jvm.Cond.laysFinal "FactHouseModel" "FactHouseModel" "staticSites" "[J") ∈ lw_all := lw_g (lw_at lw_m9 204 rfl) rfl
theorem q2314 : (Jvm.Cond.soleField "FactHouseModel" "staticSites") ∈ lw_all := lw_g (lw_at lw_m9 205 rfl) rfl
theorem q2315 : (Jvm.Cond.laysFinal "FactHouseModel" "FactHouseModel" "sinks" "[Z") ∈ lw_all := lw_g (lw_at lw_m9 206 rfl) rfl
theorem q2316 : (Jvm.Cond.soleField "FactHouseModel" "sinks") ∈ lw_all := lw_g (lw_at lw_m9 207 rfl) rfl
theorem q2317 : (Jvm.Cond.laysFinal "FactHouseModel" "FactHouseModel" "sinkLow" "[I") ∈ lw_all := lw_g (lw_at lw_m9 208 rfl) rfl
theorem q2318 : (Jvm.Cond.soleField "FactHouseModel" "sinkLow") ∈ lw_all := lw_g (lw_at lw_m9 209 rfl) rfl
theorem q2319 : (Jvm.Cond.laysFinal "FactHouseModel" "FactHouseModel" "sinkHigh" "[I") ∈ lw_all := lw_g (lw_at lw_m9 210 rfl) rfl
theorem q2320 : (Jvm.Cond.soleField "FactHouseModel" "sinkHigh") ∈ lw_all := lw_g (lw_at lw_m9 211 rfl) rfl
theorem q2321 : (Jvm.Cond.laysFinal "FactHouseModel" "FactHouseModel" "sinkLabel" "[I") ∈ lw_all := lw_g (lw_at lw_m9 212 rfl) rfl
theorem q2322 : (Jvm.Cond.soleField "FactHouseModel" "sinkLabel") ∈ lw_all := lw_g (lw_at lw_m9 213 rfl) rfl
theorem q2323 : (Jvm.Cond.laysFinal "FactHouseModel" "FactHouseModel" "returns" "[Z") ∈ lw_all := lw_g (lw_at lw_m9 214 rfl) rfl
theorem q2324 : (Jvm.Cond.soleField "FactHouseModel" "returns") ∈ lw_all := lw_g (lw_at lw_m9 215 rfl) rfl
theorem q2325 : (Jvm.Cond.laysFinal "FactHouseModel" "FactHouseModel" "givenLow" "[I") ∈ lw_all := lw_g (lw_at lw_m9 216 rfl) rfl
theorem q2326 : (Jvm.Cond.soleField "FactHouseModel" "givenLow") ∈ lw_all := lw_g (lw_at lw_m9 217 rfl) rfl
theorem q2327 : (Jvm.Cond.laysFinal "FactHouseModel" "FactHouseModel" "givenHigh" "[I") ∈ lw_all := lw_g (lw_at lw_m9 218 rfl) rfl
theorem q2328 : (Jvm.Cond.soleField "FactHouseModel" "givenHigh") ∈ lw_all := lw_g (lw_at lw_m9 219 rfl) rfl
theorem q2329 : (Jvm.Cond.laysFinal "FactHouseModel" "FactHouseModel" "givenLabel" "[I") ∈ lw_all := lw_g (lw_at lw_m9 220 rfl) rfl
theorem q2330 : (Jvm.Cond.soleField "FactHouseModel" "givenLabel") ∈ lw_all := lw_g (lw_at lw_m9 221 rfl) rfl
theorem q2331 : (Jvm.Cond.laysFinal "FactHouseModel" "FactHouseModel" "givenSites" "[J") ∈ lw_all := lw_g (lw_at lw_m9 222 rfl) rfl
theorem q2332 : (Jvm.Cond.soleField "FactHouseModel" "givenSites") ∈ lw_all := lw_g (lw_at lw_m9 223 rfl) rfl
theorem q2333 : (Jvm.Cond.laysFinal "FactHouseModel" "FactHouseModel" "returnSure" "[I") ∈ lw_all := lw_g (lw_at lw_m9 224 rfl) rfl
theorem q2334 : (Jvm.Cond.soleField "FactHouseModel" "returnSure") ∈ lw_all := lw_g (lw_at lw_m9 225 rfl) rfl
theorem q2335 : (Jvm.Cond.laysFinal "FactHouseModel" "FactHouseModel" "returnPerhaps" "[I") ∈ lw_all := lw_g (lw_at lw_m9 226 rfl) rfl
theorem q2336 : (Jvm.Cond.soleField "FactHouseModel" "returnPerhaps") ∈ lw_all := lw_g (lw_at lw_m9 227 rfl) rfl
theorem q2337 : (Jvm.Cond.laysFinal "FactHouseModel" "FactHouseModel" "escapes" "[J") ∈ lw_all := lw_g (lw_at lw_m9 228 rfl) rfl
theorem q2338 : (Jvm.Cond.soleField "FactHouseModel" "escapes") ∈ lw_all := lw_g (lw_at lw_m9 229 rfl) rfl
theorem q2339 : (Jvm.Cond.laysFinal "FactHouseModel" "FactHouseModel" "escapeSure" "[I") ∈ lw_all := lw_g (lw_at lw_m9 230 rfl) rfl
theorem q2340 : (Jvm.Cond.soleField "FactHouseModel" "escapeSure") ∈ lw_all := lw_g (lw_at lw_m9 231 rfl) rfl
theorem q2341 : (Jvm.Cond.laysFinal "FactHouseModel" "FactHouseModel" "escapePerhaps" "[I") ∈ lw_all := lw_g (lw_at lw_m9 232 rfl) rfl
theorem q2342 : (Jvm.Cond.soleField "FactHouseModel" "escapePerhaps") ∈ lw_all := lw_g (lw_at lw_m9 233 rfl) rfl
theorem q2343 : (Jvm.Cond.laysFinal "FactHouseModel" "FactHouseModel" "unlocks" "[I") ∈ lw_all := lw_g (lw_at lw_m9 234 rfl) rfl
theorem q2344 : (Jvm.Cond.soleField "FactHouseModel" "unlocks") ∈ lw_all := lw_g (lw_at lw_m9 235 rfl) rfl
theorem q2345 : (Jvm.Cond.laysFinal "FactHouseModel" "FactHouseModel" "cl" "[I") ∈ lw_all := lw_g (lw_at lw_m9 236 rfl) rfl
theorem q2346 : (Jvm.Cond.soleField "FactHouseModel" "cl") ∈ lw_all := lw_g (lw_at lw_m9 237 rfl) rfl
theorem q2347 : (Jvm.Cond.laysFinal "FactHouseModel" "FactHouseModel" "ch" "[I") ∈ lw_all := lw_g (lw_at lw_m9 238 rfl) rfl
theorem q2348 : (Jvm.Cond.soleField "FactHouseModel" "ch") ∈ lw_all := lw_g (lw_at lw_m9 239 rfl) rfl
theorem q2349 : (Jvm.Cond.laysFinal "FactHouseModel" "FactHouseModel" "cb" "[I") ∈ lw_all := lw_g (lw_at lw_m10 0 rfl) rfl
theorem q2350 : (Jvm.Cond.soleField "FactHouseModel" "cb") ∈ lw_all := lw_g (lw_at lw_m10 1 rfl) rfl
theorem q2351 : (Jvm.Cond.laysFinal "FactHouseModel" "FactHouseModel" "cs" "[J") ∈ lw_all := lw_g (lw_at lw_m10 2 rfl) rfl
theorem q2352 : (Jvm.Cond.soleField "FactHouseModel" "cs") ∈ lw_all := lw_g (lw_at lw_m10 3 rfl) rfl
theorem q2353 : (Jvm.Cond.lays "FactHouseModel" "FactHouseModel" "cd" "I") ∈ lw_all := lw_g (lw_at lw_m10 4 rfl) rfl
theorem q2354 : (Jvm.Cond.soleField "FactHouseModel" "cd") ∈ lw_all := lw_g (lw_at lw_m10 5 rfl) rfl
theorem q2355 : (Jvm.Cond.lays "FactHouseModel" "FactHouseModel" "cSure" "I") ∈ lw_all := lw_g (lw_at lw_m10 6 rfl) rfl
theorem q2356 : (Jvm.Cond.soleField "FactHouseModel" "cSure") ∈ lw_all := lw_g (lw_at lw_m10 7 rfl) rfl
theorem q2357 : (Jvm.Cond.lays "FactHouseModel" "FactHouseModel" "cPerhaps" "I") ∈ lw_all := lw_g (lw_at lw_m10 8 rfl) rfl
theorem q2358 : (Jvm.Cond.soleField "FactHouseModel" "cPerhaps") ∈ lw_all := lw_g (lw_at lw_m10 9 rfl) rfl
theorem q2359 : (Jvm.Cond.lays "FactHouseModel" "FactHouseModel" "nl" "I") ∈ lw_all := lw_g (lw_at lw_m10 10 rfl) rfl
theorem q2360 : (Jvm.Cond.soleField "FactHouseModel" "nl") ∈ lw_all := lw_g (lw_at lw_m10 11 rfl) rfl
theorem q2361 : (Jvm.Cond.lays "FactHouseModel" "FactHouseModel" "nh" "I") ∈ lw_all := lw_g (lw_at lw_m10 12 rfl) rfl
theorem q2362 : (Jvm.Cond.soleField "FactHouseModel" "nh") ∈ lw_all := lw_g (lw_at lw_m10 13 rfl) rfl
theorem q2363 : (Jvm.Cond.lays "FactHouseModel" "FactHouseModel" "nb" "I") ∈ lw_all := lw_g (lw_at lw_m10 14 rfl) rfl
theorem q2364 : (Jvm.Cond.soleField "FactHouseModel" "nb") ∈ lw_all := lw_g (lw_at lw_m10 15 rfl) rfl
theorem q2365 : (Jvm.Cond.lays "FactHouseModel" "FactHouseModel" "ns" "J") ∈ lw_all := lw_g (lw_at lw_m10 16 rfl) rfl
theorem q2366 : (Jvm.Cond.soleField "FactHouseModel" "ns") ∈ lw_all := lw_g (lw_at lw_m10 17 rfl) rfl
theorem q2367 : (Jvm.Cond.lays "FactHouseModel" "FactHouseModel" "codeDepth" "I") ∈ lw_all := lw_g (lw_at lw_m10 18 rfl) rfl
theorem q2368 : (Jvm.Cond.soleField "FactHouseModel" "codeDepth") ∈ lw_all := lw_g (lw_at lw_m10 19 rfl) rfl
theorem q2369 : (Jvm.Cond.lays "FactHouseModel" "FactHouseModel" "codeKinds" "I") ∈ lw_all := lw_g (lw_at lw_m10 20 rfl) rfl
theorem q2370 : (Jvm.Cond.soleField "FactHouseModel" "codeKinds") ∈ lw_all := lw_g (lw_at lw_m10 21 rfl) rfl
theorem q2371 : (Jvm.Cond.lays "FactHouseModel" "FactHouseModel" "codeMost" "I") ∈ lw_all := lw_g (lw_at lw_m10 22 rfl) rfl
theorem q2372 : (Jvm.Cond.soleField "FactHouseModel" "codeMost") ∈ lw_all := lw_g (lw_at lw_m10 23 rfl) rfl
theorem q2373 : (Jvm.Cond.lays "FactHouseModel" "FactHouseModel" "codeAt" "I") ∈ lw_all := lw_g (lw_at lw_m10 24 rfl) rfl
theorem q2374 : (Jvm.Cond.soleField "FactHouseModel" "codeAt") ∈ lw_all := lw_g (lw_at lw_m10 25 rfl) rfl
theorem q2375 : (Jvm.Cond.lays "FactHouseModel" "FactHouseModel" "hasValue" "Z") ∈ lw_all := lw_g (lw_at lw_m10 26 rfl) rfl
theorem q2376 : (Jvm.Cond.soleField "FactHouseModel" "hasValue") ∈ lw_all := lw_g (lw_at lw_m10 27 rfl) rfl
theorem q2377 : (Jvm.Cond.laysFinal "FactHouseModel" "FactHouseModel" "liveAt" "[I") ∈ lw_all := lw_g (lw_at lw_m10 28 rfl) rfl
theorem q2378 : (Jvm.Cond.soleField "FactHouseModel" "liveAt") ∈ lw_all := lw_g (lw_at lw_m10 29 rfl) rfl
theorem q2379 : (Jvm.Cond.lays "FactHouseModel" "FactHouseModel" "origins" "I") ∈ lw_all := lw_g (lw_at lw_m10 30 rfl) rfl
theorem q2380 : (Jvm.Cond.soleField "FactHouseModel" "origins") ∈ lw_all := lw_g (lw_at lw_m10 31 rfl) rfl
theorem q2381 : (Jvm.Cond.laysFinal "FactHouseModel" "FactHouseModel" "originAt" "[I") ∈ lw_all := lw_g (lw_at lw_m10 32 rfl) rfl
theorem q2382 : (Jvm.Cond.soleField "FactHouseModel" "originAt") ∈ lw_all := lw_g (lw_at lw_m10 33 rfl) rfl
theorem q2383 : (Jvm.Cond.laysFinal "FactHouseModel" "FactHouseModel" "runsOf" "[J") ∈ lw_all := lw_g (lw_at lw_m10 34 rfl) rfl
theorem q2384 : (Jvm.Cond.soleField "FactHouseModel" "runsOf") ∈ lw_all := lw_g (lw_at lw_m10 35 rfl) rfl
theorem q2385 : (Jvm.Cond.laysFinal "FactHouseModel" "FactHouseModel" "apart" "[Z") ∈ lw_all := lw_g (lw_at lw_m10 36 rfl) rfl
theorem q2386 : (Jvm.Cond.soleField "FactHouseModel" "apart") ∈ lw_all := lw_g (lw_at lw_m10 37 rfl) rfl
theorem q2387 : (Jvm.Cond.lays "FactHouseModel" "FactHouseModel" "raceA" "I") ∈ lw_all := lw_g (lw_at lw_m10 38 rfl) rfl
theorem q2388 : (Jvm.Cond.soleField "FactHouseModel" "raceA") ∈ lw_all := lw_g (lw_at lw_m10 39 rfl) rfl
theorem q2389 : (Jvm.Cond.lays "FactHouseModel" "FactHouseModel" "raceB" "I") ∈ lw_all := lw_g (lw_at lw_m10 40 rfl) rfl
theorem q2390 : (Jvm.Cond.soleField "FactHouseModel" "raceB") ∈ lw_all := lw_g (lw_at lw_m10 41 rfl) rfl
theorem q2391 : (Jvm.Cond.lays "FactHouseModel" "FactHouseModel" "inputs" "I") ∈ lw_all := lw_g (lw_at lw_m10 42 rfl) rfl
theorem q2392 : (Jvm.Cond.soleField "FactHouseModel" "inputs") ∈ lw_all := lw_g (lw_at lw_m10 43 rfl) rfl
theorem q2393 : (Jvm.Cond.laysFinal "FactHouseModel" "FactHouseModel" "input" "[I") ∈ lw_all := lw_g (lw_at lw_m10 44 rfl) rfl
theorem q2394 : (Jvm.Cond.soleField "FactHouseModel" "input") ∈ lw_all := lw_g (lw_at lw_m10 45 rfl) rfl
theorem q2395 : (Jvm.Cond.lays "FactHouseModel" "FactHouseModel" "usedInputs" "I") ∈ lw_all := lw_g (lw_at lw_m10 46 rfl) rfl
theorem q2396 : (Jvm.Cond.soleField "FactHouseModel" "usedInputs") ∈ lw_all := lw_g (lw_at lw_m10 47 rfl) rfl
theorem q2397 : (Jvm.Cond.lays "FactHouseModel" "FactHouseModel" "begun" "I") ∈ lw_all := lw_g (lw_at lw_m10 48 rfl) rfl
theorem q2398 : (Jvm.Cond.soleField "FactHouseModel" "begun") ∈ lw_all := lw_g (lw_at lw_m10 49 rfl) rfl
theorem q2399 : (Jvm.Cond.laysFinal "FactHouseModel" "FactHouseModel" "hasEnded" "[Z") ∈ lw_all := lw_g (lw_at lw_m10 50 rfl) rfl
theorem q2400 : (Jvm.Cond.soleField "FactHouseModel" "hasEnded") ∈ lw_all := lw_g (lw_at lw_m10 51 rfl) rfl
theorem q2401 : (Jvm.Cond.laysFinal "FactHouseModel" "FactHouseModel" "frames" "[I") ∈ lw_all := lw_g (lw_at lw_m10 52 rfl) rfl
theorem q2402 : (Jvm.Cond.soleField "FactHouseModel" "frames") ∈ lw_all := lw_g (lw_at lw_m10 53 rfl) rfl
theorem q2403 : (Jvm.Cond.laysFinal "FactHouseModel" "FactHouseModel" "calledMethod" "[I") ∈ lw_all := lw_g (lw_at lw_m10 54 rfl) rfl
theorem q2404 : (Jvm.Cond.soleField "FactHouseModel" "calledMethod") ∈ lw_all := lw_g (lw_at lw_m10 55 rfl) rfl
theorem q2405 : (Jvm.Cond.laysFinal "FactHouseModel" "FactHouseModel" "calledAt" "[I") ∈ lw_all := lw_g (lw_at lw_m10 56 rfl) rfl
theorem q2406 : (Jvm.Cond.soleField "FactHouseModel" "calledAt") ∈ lw_all := lw_g (lw_at lw_m10 57 rfl) rfl
theorem q2407 : (Jvm.Cond.laysFinal "FactHouseModel" "FactHouseModel" "calledDepth" "[I") ∈ lw_all := lw_g (lw_at lw_m10 58 rfl) rfl
theorem q2408 : (Jvm.Cond.soleField "FactHouseModel" "calledDepth") ∈ lw_all := lw_g (lw_at lw_m10 59 rfl) rfl
theorem q2409 : (Jvm.Cond.laysFinal "FactHouseModel" "FactHouseModel" "values" "[I") ∈ lw_all := lw_g (lw_at lw_m10 60 rfl) rfl
theorem q2410 : (Jvm.Cond.soleField "FactHouseModel" "values") ∈ lw_all := lw_g (lw_at lw_m10 61 rfl) rfl
theorem q2411 : (Jvm.Cond.laysFinal "FactHouseModel" "FactHouseModel" "ownerOf" "[I") ∈ lw_all := lw_g (lw_at lw_m10 62 rfl) rfl
theorem q2412 : (Jvm.Cond.soleField "FactHouseModel" "ownerOf") ∈ lw_all := lw_g (lw_at lw_m10 63 rfl) rfl
theorem q2413 : (Jvm.Cond.lays "FactHouseModel" "FactHouseModel" "objects" "I") ∈ lw_all := lw_g (lw_at lw_m10 64 rfl) rfl
theorem q2414 : (Jvm.Cond.soleField "FactHouseModel" "objects") ∈ lw_all := lw_g (lw_at lw_m10 65 rfl) rfl
theorem q2415 : (Jvm.Cond.laysFinal "FactHouseModel" "FactHouseModel" "objectSite" "[I") ∈ lw_all := lw_g (lw_at lw_m10 66 rfl) rfl
theorem q2416 : (Jvm.Cond.soleField "FactHouseModel" "objectSite") ∈ lw_all := lw_g (lw_at lw_m10 67 rfl) rfl
theorem q2417 : (Jvm.Cond.laysFinal "FactHouseModel" "FactHouseModel" "objectSize" "[I") ∈ lw_all := lw_g (lw_at lw_m10 68 rfl) rfl
theorem q2418 : (Jvm.Cond.soleField "FactHouseModel" "objectSize") ∈ lw_all := lw_g (lw_at lw_m10 69 rfl) rfl
theorem q2419 : (Jvm.Cond.laysFinal "FactHouseModel" "FactHouseModel" "cells" "[I") ∈ lw_all := lw_g (lw_at lw_m10 70 rfl) rfl
theorem q2420 : (Jvm.Cond.soleField "FactHouseModel" "cells") ∈ lw_all := lw_g (lw_at lw_m10 71 rfl) rfl
theorem q2421 : (Jvm.Cond.lays "FactHouseModel" "FactHouseModel" "steps" "I") ∈ lw_all := lw_g (lw_at lw_m10 72 rfl) rfl
theorem q2422 : (Jvm.Cond.soleField "FactHouseModel" "steps") ∈ lw_all := lw_g (lw_at lw_m10 73 rfl) rfl
theorem q2423 : (Jvm.Cond.lays "FactHouseModel" "FactHouseModel" "outputs" "I") ∈ lw_all := lw_g (lw_at lw_m10 74 rfl) rfl
theorem q2424 : (Jvm.Cond.soleField "FactHouseModel" "outputs") ∈ lw_all := lw_g (lw_at lw_m10 75 rfl) rfl
theorem q2425 : (Jvm.Cond.laysFinal "FactHouseModel" "FactHouseModel" "outputSink" "[I") ∈ lw_all := lw_g (lw_at lw_m10 76 rfl) rfl
theorem q2426 : (Jvm.Cond.soleField "FactHouseModel" "outputSink") ∈ lw_all := lw_g (lw_at lw_m10 77 rfl) rfl
theorem q2427 : (Jvm.Cond.laysFinal "FactHouseModel" "FactHouseModel" "outputValue" "[I") ∈ lw_all := lw_g (lw_at lw_m10 78 rfl) rfl
theorem q2428 : (Jvm.Cond.soleField "FactHouseModel" "outputValue") ∈ lw_all := lw_g (lw_at lw_m10 79 rfl) rfl
theorem q2429 : (Jvm.Cond.lays "FactHouseModel" "FactHouseModel" "gave" "I") ∈ lw_all := lw_g (lw_at lw_m10 80 rfl) rfl
theorem q2430 : (Jvm.Cond.soleField "FactHouseModel" "gave") ∈ lw_all := lw_g (lw_at lw_m10 81 rfl) rfl
theorem q2431 : (Jvm.Cond.lays "FactHouseModel" "FactHouseModel" "endedBy" "I") ∈ lw_all := lw_g (lw_at lw_m10 82 rfl) rfl
theorem q2432 : (Jvm.Cond.soleField "FactHouseModel" "endedBy") ∈ lw_all := lw_g (lw_at lw_m10 83 rfl) rfl
theorem q2433 : (Jvm.Cond.lays "FactHouseModel" "FactHouseModel" "broken" "I") ∈ lw_all := lw_g (lw_at lw_m10 84 rfl) rfl
theorem q2434 : (Jvm.Cond.soleField "FactHouseModel" "broken") ∈ lw_all := lw_g (lw_at lw_m10 85 rfl) rfl
theorem q2435 : (Jvm.Cond.lays "FactHouseModel" "FactHouseModel" "isBroken" "Z") ∈ lw_all := lw_g (lw_at lw_m10 86 rfl) rfl
theorem q2436 : (Jvm.Cond.soleField "FactHouseModel" "isBroken") ∈ lw_all := lw_g (lw_at lw_m10 87 rfl) rfl
theorem q2437 : (Jvm.Cond.lays "FactHouseModel" "FactHouseModel" "isFull" "Z") ∈ lw_all := lw_g (lw_at lw_m10 88 rfl) rfl
theorem q2438 : (Jvm.Cond.soleField "FactHouseModel" "isFull") ∈ lw_all := lw_g (lw_at lw_m10 89 rfl) rfl
theorem q2439 : (Jvm.Cond.laysFinal "FactHouseModel" "FactHouseModel" "met" "[J") ∈ lw_all := lw_g (lw_at lw_m10 90 rfl) rfl
theorem q2440 : (Jvm.Cond.soleField "FactHouseModel" "met") ∈ lw_all := lw_g (lw_at lw_m10 91 rfl) rfl
theorem q2441 : (Jvm.Cond.laysFinal "FactHouseModel" "FactHouseModel" "staticNow" "[I") ∈ lw_all := lw_g (lw_at lw_m10 92 rfl) rfl
theorem q2442 : (Jvm.Cond.soleField "FactHouseModel" "staticNow") ∈ lw_all := lw_g (lw_at lw_m10 93 rfl) rfl
theorem q2443 : (Jvm.Cond.superclass "FactHouseModel" "java/lang/Object") ∈ lw_all := lw_g (lw_at lw_m10 94 rfl) rfl
theorem q2445 : (Jvm.Cond.instanceMethod ({ cls := "FactHouseModel", name := "thrown", desc := "()I" } : Jvm.MethodName)) ∈ lw_all := lw_g (lw_at lw_m10 96 rfl) rfl
theorem q2446 : (Jvm.Cond.selects "FactHouseModel" ({ cls := "FactHouseModel", name := "thrown", desc := "()I" } : Jvm.MethodName) ({ cls := "FactHouseModel", name := "thrown", desc := "()I" } : Jvm.MethodName)) ∈ lw_all := lw_g (lw_at lw_m10 97 rfl) rfl
theorem q2447 : (Jvm.Cond.code ({ cls := "FactHouseModel", name := "thrown", desc := "()I" } : Jvm.MethodName) prog_16_method_2_code (1 : Nat) (Option.some Jvm.ClassFile.FieldType.int)) ∈ lw_all := lw_g (lw_at lw_m10 98 rfl) rfl
theorem q2449 : (Jvm.Cond.instanceMethod ({ cls := "FactHouseModel", name := "type", desc := "(JI)I" } : Jvm.MethodName)) ∈ lw_all := lw_g (lw_at lw_m10 100 rfl) rfl
theorem q2450 : (Jvm.Cond.selects "FactHouseModel" ({ cls := "FactHouseModel", name := "type", desc := "(JI)I" } : Jvm.MethodName) ({ cls := "FactHouseModel", name := "type", desc := "(JI)I" } : Jvm.MethodName)) ∈ lw_all := lw_g (lw_at lw_m10 101 rfl) rfl
theorem q2451 : (Jvm.Cond.code ({ cls := "FactHouseModel", name := "type", desc := "(JI)I" } : Jvm.MethodName) prog_16_method_4_code (5 : Nat) (Option.some Jvm.ClassFile.FieldType.int)) ∈ lw_all := lw_g (lw_at lw_m10 102 rfl) rfl
theorem q2452 : (Jvm.Cond.constantLong "FactHouseModel" (229 : Nat) (8 : Int64)) ∈ lw_all := lw_g (lw_at lw_m10 103 rfl) rfl
theorem q2453 : (Jvm.Cond.methodLink "FactHouseModel" (231 : Nat) ({ cls := "FactHouseModel", name := "in", desc := "(JJJ)Z" } : Jvm.MethodName)) ∈ lw_all := lw_g (lw_at lw_m10 104 rfl) rfl
theorem q2454 : (Jvm.Cond.static ({ cls := "FactHouseModel", name := "in", desc := "(JJJ)Z" } : Jvm.MethodName)) ∈ lw_all := lw_g (lw_at lw_m10 105 rfl) rfl
theorem q2455 : (Jvm.Cond.code ({ cls := "FactHouseModel", name := "in", desc := "(JJJ)Z" } : Jvm.MethodName) prog_16_method_3_code (6 : Nat) (Option.some Jvm.ClassFile.FieldType.boolean)) ∈ lw_all := lw_g (lw_at lw_m10 106 rfl) rfl
theorem q2457 : (Jvm.Cond.instanceMethod ({ cls := "FactHouseModel", name := "file", desc := "()I" } : Jvm.MethodName)) ∈ lw_all := lw_g (lw_at lw_m10 108 rfl) rfl
theorem q2458 : (Jvm.Cond.selects "FactHouseModel" ({ cls := "FactHouseModel", name := "file", desc := "()I" } : Jvm.MethodName) ({ cls := "FactHouseModel", name := "file", desc := "()I" } : Jvm.MethodName)) ∈ lw_all := lw_g (lw_at lw_m10 109 rfl) rfl
theorem q2459 : (Jvm.Cond.codeWith ({ cls := "FactHouseModel", name := "file", desc := "()I" } : Jvm.MethodName) prog_16_method_13_code (3 : Nat) (Option.some Jvm.ClassFile.FieldType.int) [((28 : Nat), (140 : Nat), (143 : Nat), (244 : Nat))]) ∈ lw_all := lw_g (lw_at lw_m10 110 rfl) rfl
theorem q2460 : (Jvm.Cond.classLink "FactHouseModel" (244 : Nat) "FactHouseModel$Fault") ∈ lw_all := lw_g (lw_at lw_m10 111 rfl) rfl
theorem q2461 : (Jvm.Cond.methodLink "FactHouseModel" (249 : Nat) ({ cls := "FactHouseModel", name := "take", desc := "()I" } : Jvm.MethodName)) ∈ lw_all := lw_g (lw_at lw_m10 112 rfl) rfl
theorem q2462 : (Jvm.Cond.privateMethod ({ cls := "FactHouseModel", name := "take", desc := "()I" } : Jvm.MethodName)) ∈ lw_tbl := lw_at lw_m10 113 rfl
theorem q2463 : (Jvm.Cond.instanceMethod ({ cls := "FactHouseModel", name := "take", desc := "()I" } : Jvm.MethodName)) ∈ lw_all := lw_g (lw_at lw_m10 114 rfl) rfl
theorem q2464 : (Jvm.Cond.code ({ cls := "FactHouseModel", name := "take", desc := "()I" } : Jvm.MethodName) prog_16_method_5_code (1 : Nat) (Option.some Jvm.ClassFile.FieldType.int)) ∈ lw_all := lw_g (lw_at lw_m10 115 rfl) rfl
theorem q2473 : (Jvm.Cond.methodLink "FactHouseModel" (246 : Nat) ({ cls := "FactHouseModel$Fault", name := "<init>", desc := "(I)V" } : Jvm.MethodName)) ∈ lw_all := lw_g (lw_at lw_m10 124 rfl) rfl
theorem q2478 : (Jvm.Cond.fieldLink "FactHouseModel" (367 : Nat) "FactHouseModel$Fault" "place" "I") ∈ lw_all := lw_g (lw_at lw_m10 129 rfl) rfl
theorem q2483 : (Jvm.Cond.methodLink "FactHouseModel" (357 : Nat) ({ cls := "FactHouseModel", name := "readClasses", desc := "(LFactHouseModel$Load;)V" } : Jvm.MethodName)) ∈ lw_all := lw_g (lw_at lw_m10 134 rfl) rfl
theorem q2484 : (Jvm.Cond.privateMethod ({ cls := "FactHouseModel", name := "readClasses", desc := "(LFactHouseModel$Load;)V" } : Jvm.MethodName)) ∈ lw_tbl := lw_at lw_m10 135 rfl
theorem q2485 : (Jvm.Cond.instanceMethod ({ cls := "FactHouseModel", name := "readClasses", desc := "(LFactHouseModel$Load;)V" } : Jvm.MethodName)) ∈ lw_all := lw_g (lw_at lw_m10 136 rfl) rfl
theorem q2486 : (Jvm.Cond.code ({ cls := "FactHouseModel", name := "readClasses", desc := "(LFactHouseModel$Load;)V" } : Jvm.MethodName) prog_16_method_8_code (6 : Nat) (Option.none : Option Jvm.ClassFile.FieldType)) ∈ lw_all := lw_g (lw_at lw_m10 137 rfl) rfl
theorem q2487 : (Jvm.Cond.methodLink "FactHouseModel" (254 : Nat) ({ cls := "FactHouseModel", name := "take", desc := "(II)I" } : Jvm.MethodName)) ∈ lw_all := lw_g (lw_at lw_m10 138 rfl) rfl
theorem q2488 : (Jvm.Cond.privateMethod ({ cls := "FactHouseModel", name := "take", desc := "(II)I" } : Jvm.MethodName)) ∈ lw_tbl := lw_at lw_m10 139 rfl
theorem q2489 : (Jvm.Cond.instanceMethod ({ cls := "FactHouseModel", name := "take", desc := "(II)I" } : Jvm.MethodName)) ∈ lw_all := lw_g (lw_at lw_m10 140 rfl) rfl
theorem q2490 : (Jvm.Cond.code ({ cls := "FactHouseModel", name := "take", desc := "(II)I" } : Jvm.MethodName) prog_16_method_6_code (4 : Nat) (Option.some Jvm.ClassFile.FieldType.int)) ∈ lw_all := lw_g (lw_at lw_m10 141 rfl) rfl
theorem q2491 : (Jvm.Cond.methodLink "FactHouseModel" (361 : Nat) ({ cls := "FactHouseModel", name := "readMethod", desc := "(LFactHouseModel$Load;I)V" } : Jvm.MethodName)) ∈ lw_all := lw_g (lw_at lw_m10 142 rfl) rfl
theorem q2492 : (Jvm.Cond.privateMethod ({ cls := "FactHouseModel", name := "readMethod", desc := "(LFactHouseModel$Load;I)V" } : Jvm.MethodName)) ∈ lw_tbl := lw_at lw_m10 143 rfl
theorem q2493 : (Jvm.Cond.instanceMethod ({ cls := "FactHouseModel", name := "readMethod", desc := "(LFactHouseModel$Load;I)V" } : Jvm.MethodName)) ∈ lw_all := lw_g (lw_at lw_m10 144 rfl) rfl
theorem q2494 : (Jvm.Cond.code ({ cls := "FactHouseModel", name := "readMethod", desc := "(LFactHouseModel$Load;I)V" } : Jvm.MethodName) prog_16_method_10_code (7 : Nat) (Option.none : Option Jvm.ClassFile.FieldType)) ∈ lw_all := lw_g (lw_at lw_m10 145 rfl) rfl
theorem q2495 : (Jvm.Cond.methodLink "FactHouseModel" (293 : Nat) ({ cls := "FactHouseModel", name := "areAlike", desc := "(LFactHouseModel$Load;II)Z" } : Jvm.MethodName)) ∈ lw_all := lw_g (lw_at lw_m10 146 rfl) rfl
theorem q2496 : (Jvm.Cond.static ({ cls := "FactHouseModel", name := "areAlike", desc := "(LFactHouseModel$Load;II)Z" } : Jvm.MethodName)) ∈ lw_all := lw_g (lw_at lw_m10 147 rfl) rfl
theorem q2497 : (Jvm.Cond.code ({ cls := "FactHouseModel", name := "areAlike", desc := "(LFactHouseModel$Load;II)Z" } : Jvm.MethodName) prog_16_method_9_code (5 : Nat) (Option.some Jvm.ClassFile.FieldType.boolean)) ∈ lw_all := lw_g (lw_at lw_m10 148 rfl) rfl
theorem q2498 : (Jvm.Cond.methodLink "FactHouseModel" (315 : Nat) ({ cls := "FactHouseModel", name := "readInstruction", desc := "(LFactHouseModel$Load;I)V" } : Jvm.MethodName)) ∈ lw_all := lw_g (lw_at lw_m10 149 rfl) rfl
theorem q2499 : (Jvm.Cond.privateMethod ({ cls := "FactHouseModel", name := "readInstruction", desc := "(LFactHouseModel$Load;I)V" } : Jvm.MethodName)) ∈ lw_tbl := lw_at lw_m10 150 rfl
theorem q2500 : (Jvm.Cond.instanceMethod ({ cls := "FactHouseModel", name := "readInstruction", desc := "(LFactHouseModel$Load;I)V" } : Jvm.MethodName)) ∈ lw_all := lw_g (lw_at lw_m10 151 rfl) rfl
theorem q2501 : (Jvm.Cond.code ({ cls := "FactHouseModel", name := "readInstruction", desc := "(LFactHouseModel$Load;I)V" } : Jvm.MethodName) prog_16_method_11_code (13 : Nat) (Option.none : Option Jvm.ClassFile.FieldType)) ∈ lw_all := lw_g (lw_at lw_m10 152 rfl) rfl
theorem q2502 : (Jvm.Cond.methodLink "FactHouseModel" (330 : Nat) ({ cls := "FactHouseModel", name := "takeTwo", desc := "()I" } : Jvm.MethodName)) ∈ lw_all := lw_g (lw_at lw_m10 153 rfl) rfl
theorem q2503 : (Jvm.Cond.privateMethod ({ cls := "FactHouseModel", name := "takeTwo", desc := "()I" } : Jvm.MethodName)) ∈ lw_tbl := lw_at lw_m10 154 rfl
theorem q2504 : (Jvm.Cond.instanceMethod ({ cls := "FactHouseModel", name := "takeTwo", desc := "()I" } : Jvm.MethodName)) ∈ lw_all := lw_g (lw_at lw_m10 155 rfl) rfl
theorem q2505 : (Jvm.Cond.code ({ cls := "FactHouseModel", name := "takeTwo", desc := "()I" } : Jvm.MethodName) prog_16_method_7_code (2 : Nat) (Option.some Jvm.ClassFile.FieldType.int)) ∈ lw_all := lw_g (lw_at lw_m10 156 rfl) rfl
theorem q2506 : (Jvm.Cond.constant "FactHouseModel" (253 : Nat) (65536 : Int32)) ∈ lw_all := lw_g (lw_at lw_m10 157 rfl) rfl
theorem q2507 : (Jvm.Cond.methodLink "FactHouseModel" (364 : Nat) ({ cls := "FactHouseModel", name := "judge", desc := "(LFactHouseModel$Load;I)V" } : Jvm.MethodName)) ∈ lw_all := lw_g (lw_at lw_m10 158 rfl) rfl
theorem q2508 : (Jvm.Cond.privateMethod ({ cls := "FactHouseModel", name := "judge", desc := "(LFactHouseModel$Load;I)V" } : Jvm.MethodName)) ∈ lw_tbl := lw_at lw_m10 159 rfl
theorem q2509 : (Jvm.Cond.instanceMethod ({ cls := "FactHouseModel", name := "judge", desc := "(LFactHouseModel$Load;I)V" } : Jvm.MethodName)) ∈ lw_all := lw_g (lw_at lw_m10 160 rfl) rfl
theorem q2510 : (Jvm.Cond.code ({ cls := "FactHouseModel", name := "judge", desc := "(LFactHouseModel$Load;I)V" } : Jvm.MethodName) prog_16_method_22_code (8 : Nat) (Option.none : Option Jvm.ClassFile.FieldType)) ∈ lw_all := lw_g (lw_at lw_m10 161 rfl) rfl
theorem q2511 : (Jvm.Cond.methodLink "FactHouseModel" (415 : Nat) ({ cls := "FactHouseModel", name := "isHandler", desc := "(LFactHouseModel$Load;II)Z" } : Jvm.MethodName)) ∈ lw_all := lw_g (lw_at lw_m10 162 rfl) rfl
theorem q2512 : (Jvm.Cond.static ({ cls := "FactHouseModel", name := "isHandler", desc := "(LFactHouseModel$Load;II)Z" } : Jvm.MethodName)) ∈ lw_all := lw_g (lw_at lw_m10 163 rfl) rfl
theorem q2513 : (Jvm.Cond.code ({ cls := "FactHouseModel", name := "isHandler", desc := "(LFactHouseModel$Load;II)Z" } : Jvm.MethodName) prog_16_method_17_code (5 : Nat) (Option.some Jvm.ClassFile.FieldType.boolean)) ∈ lw_all := lw_g (lw_at lw_m10 164 rfl) rfl
theorem q2514 : (Jvm.Cond.methodLink "FactHouseModel" (418 : Nat) ({ cls := "FactHouseModel", name := "isJumpedTo", desc := "(LFactHouseModel$Load;II)Z" } : Jvm.MethodName)) ∈ lw_all := lw_g (lw_at lw_m10 165 rfl) rfl
theorem q2515 : (Jvm.Cond.static ({ cls := "FactHouseModel", name := "isJumpedTo", desc := "(LFactHouseModel$Load;II)Z" } : Jvm.MethodName)) ∈ lw_all := lw_g (lw_at lw_m10 166 rfl) rfl
theorem q2516 : (Jvm.Cond.code ({ cls := "FactHouseModel", name := "isJumpedTo", desc := "(LFactHouseModel$Load;II)Z" } : Jvm.MethodName) prog_16_method_16_code (5 : Nat) (Option.some Jvm.ClassFile.FieldType.boolean)) ∈ lw_all := lw_g (lw_at lw_m10 167 rfl) rfl
theorem q2517 : (Jvm.Cond.methodLink "FactHouseModel" (405 : Nat) ({ cls := "FactHouseModel", name := "wrongIf", desc := "(Z)V" } : Jvm.MethodName)) ∈ lw_all := lw_g (lw_at lw_m10 168 rfl) rfl
theorem q2518 : (Jvm.Cond.privateMethod ({ cls := "FactHouseModel", name := "wrongIf", desc := "(Z)V" } : Jvm.MethodName)) ∈ lw_tbl := lw_at lw_m10 169 rfl
theorem q2519 : (Jvm.Cond.instanceMethod ({ cls := "FactHouseModel", name := "wrongIf", desc := "(Z)V" } : Jvm.MethodName)) ∈ lw_all := lw_g (lw_at lw_m10 170 rfl) rfl
theorem q2520 : (Jvm.Cond.code ({ cls := "FactHouseModel", name := "wrongIf", desc := "(Z)V" } : Jvm.MethodName) prog_16_method_18_code (2 : Nat) (Option.none : Option Jvm.ClassFile.FieldType)) ∈ lw_all := lw_g (lw_at lw_m10 171 rfl) rfl
theorem q2521 : (Jvm.Cond.methodLink "FactHouseModel" (421 : Nat) ({ cls := "FactHouseModel", name := "lay", desc := "(I)V" } : Jvm.MethodName)) ∈ lw_all := lw_g (lw_at lw_m10 172 rfl) rfl
theorem q2522 : (Jvm.Cond.privateMethod ({ cls := "FactHouseModel", name := "lay", desc := "(I)V" } : Jvm.MethodName)) ∈ lw_tbl := lw_at lw_m10 173 rfl
theorem q2523 : (Jvm.Cond.instanceMethod ({ cls := "FactHouseModel", name := "lay", desc := "(I)V" } : Jvm.MethodName)) ∈ lw_all := lw_g (lw_at lw_m10 174 rfl) rfl
theorem q2524 : (Jvm.Cond.code ({ cls := "FactHouseModel", name := "lay", desc := "(I)V" } : Jvm.MethodName) prog_16_method_21_code (2 : Nat) (Option.none : Option Jvm.ClassFile.FieldType)) ∈ lw_all := lw_g (lw_at lw_m10 175 rfl) rfl
theorem q2525 : (Jvm.Cond.methodLink "FactHouseModel" (430 : Nat) ({ cls := "FactHouseModel", name := "judge", desc := "(LFactHouseModel$Load;II)V" } : Jvm.MethodName)) ∈ lw_all := lw_g (lw_at lw_m10 176 rfl) rfl
theorem q2526 : (Jvm.Cond.privateMethod ({ cls := "FactHouseModel", name := "judge", desc := "(LFactHouseModel$Load;II)V" } : Jvm.MethodName)) ∈ lw_tbl := lw_at lw_m10 177 rfl
theorem q2527 : (Jvm.Cond.instanceMethod ({ cls := "FactHouseModel", name := "judge", desc := "(LFactHouseModel$Load;II)V" } : Jvm.MethodName)) ∈ lw_all := lw_g (lw_at lw_m10 178 rfl) rfl
theorem q2528 : (Jvm.Cond.code ({ cls := "FactHouseModel", name := "judge", desc := "(LFactHouseModel$Load;II)V" } : Jvm.MethodName) prog_16_method_24_code (12 : Nat) (Option.none : Option Jvm.ClassFile.FieldType)) ∈ lw_all := lw_g (lw_at lw_m10 179 rfl) rfl
theorem q2529 : (Jvm.Cond.methodLink "FactHouseModel" (409 : Nat) ({ cls := "FactHouseModel", name := "pull", desc := "(I)V" } : Jvm.MethodName)) ∈ lw_all := lw_g (lw_at lw_m10 180 rfl) rfl
theorem q2530 : (Jvm.Cond.privateMethod ({ cls := "FactHouseModel", name := "pull", desc := "(I)V" } : Jvm.MethodName)) ∈ lw_tbl := lw_at lw_m10 181 rfl
theorem q2531 : (Jvm.Cond.instanceMethod ({ cls := "FactHouseModel", name := "pull", desc := "(I)V" } : Jvm.MethodName)) ∈ lw_all := lw_g (lw_at lw_m10 182 rfl) rfl
theorem q2532 : (Jvm.Cond.code ({ cls := "FactHouseModel", name := "pull", desc := "(I)V" } : Jvm.MethodName) prog_16_method_19_code (2 : Nat) (Option.none : Option Jvm.ClassFile.FieldType)) ∈ lw_all := lw_g (lw_at lw_m10 183 rfl) rfl
theorem q2533 : (Jvm.Cond.methodLink "FactHouseModel" (436 : Nat) ({ cls := "FactHouseModel", name := "pullAny", desc := "()I" } : Jvm.MethodName)) ∈ lw_all := lw_g (lw_at lw_m10 184 rfl) rfl
theorem q2534 : (Jvm.Cond.privateMethod ({ cls := "FactHouseModel", name := "pullAny", desc := "()I" } : Jvm.MethodName)) ∈ lw_tbl := lw_at lw_m10 185 rfl
theorem q2535 : (Jvm.Cond.instanceMethod ({ cls := "FactHouseModel", name := "pullAny", desc := "()I" } : Jvm.MethodName)) ∈ lw_all := lw_g (lw_at lw_m10 186 rfl) rfl
theorem q2536 : (Jvm.Cond.code ({ cls := "FactHouseModel", name := "pullAny", desc := "()I" } : Jvm.MethodName) prog_16_method_20_code (2 : Nat) (Option.some Jvm.ClassFile.FieldType.int)) ∈ lw_all := lw_g (lw_at lw_m10 187 rfl) rfl
theorem q2537 : (Jvm.Cond.methodLink "FactHouseModel" (439 : Nat) ({ cls := "FactHouseModel", name := "withName", desc := "(LFactHouseModel$Load;I)I" } : Jvm.MethodName)) ∈ lw_all := lw_g (lw_at lw_m10 188 rfl) rfl
theorem q2538 : (Jvm.Cond.static ({ cls := "FactHouseModel", name := "withName", desc := "(LFactHouseModel$Load;I)I" } : Jvm.MethodName)) ∈ lw_all := lw_g (lw_at lw_m10 189 rfl) rfl
theorem q2539 : (Jvm.Cond.code ({ cls := "FactHouseModel", name := "withName", desc := "(LFactHouseModel$Load;I)I" } : Jvm.MethodName) prog_16_method_12_code (4 : Nat) (Option.some Jvm.ClassFile.FieldType.int)) ∈ lw_all := lw_g (lw_at lw_m10 190 rfl) rfl
theorem q2540 : (Jvm.Cond.methodLink "FactHouseModel" (443 : Nat) ({ cls := "FactHouseModel", name := "pullArguments", desc := "(LFactHouseModel$Load;I)V" } : Jvm.MethodName)) ∈ lw_all := lw_g (lw_at lw_m10 191 rfl) rfl
theorem q2541 : (Jvm.Cond.privateMethod ({ cls := "FactHouseModel", name := "pullArguments", desc := "(LFactHouseModel$Load;I)V" } : Jvm.MethodName)) ∈ lw_tbl := lw_at lw_m10 192 rfl
theorem q2542 : (Jvm.Cond.instanceMethod ({ cls := "FactHouseModel", name := "pullArguments", desc := "(LFactHouseModel$Load;I)V" } : Jvm.MethodName)) ∈ lw_all := lw_g (lw_at lw_m10 193 rfl) rfl
theorem q2543 : (Jvm.Cond.code ({ cls := "FactHouseModel", name := "pullArguments", desc := "(LFactHouseModel$Load;I)V" } : Jvm.MethodName) prog_16_method_23_code (4 : Nat) (Option.none : Option Jvm.ClassFile.FieldType)) ∈ lw_all := lw_g (lw_at lw_m10 194 rfl) rfl
theorem q2544 : (Jvm.Cond.methodLink "FactHouseModel" (433 : Nat) ({ cls := "FactHouseModel", name := "ends", desc := "(I)Z" } : Jvm.MethodName)) ∈ lw_all := lw_g (lw_at lw_m10 195 rfl) rfl
theorem q2545 : (Jvm.Cond.static ({ cls := "FactHouseModel", name := "ends", desc := "(I)Z" } : Jvm.MethodName)) ∈ lw_all := lw_g (lw_at lw_m10 196 rfl) rfl
theorem q2546 : (Jvm.Cond.code ({ cls := "FactHouseModel", name := "ends", desc := "(I)Z" } : Jvm.MethodName) prog_16_method_15_code (1 : Nat) (Option.some Jvm.ClassFile.FieldType.boolean)) ∈ lw_all := lw_g (lw_at lw_m10 197 rfl) rfl
theorem q2547 : (Jvm.Cond.methodLink "FactHouseModel" (376 : Nat) ({ cls := "FactHouseModel", name := "isSame", desc := "(LFactHouseModel$Load;LFactHouseModel$Load;I)Z" } : Jvm.MethodName)) ∈ lw_all := lw_g (lw_at lw_m10 198 rfl) rfl
theorem q2548 : (Jvm.Cond.static ({ cls := "FactHouseModel", name := "isSame", desc := "(LFactHouseModel$Load;LFactHouseModel$Load;I)Z" } : Jvm.MethodName)) ∈ lw_all := lw_g (lw_at lw_m10 199 rfl) rfl
theorem q2549 : (Jvm.Cond.code ({ cls := "FactHouseModel", name := "isSame", desc := "(LFactHouseModel$Load;LFactHouseModel$Load;I)Z" } : Jvm.MethodName) prog_16_method_14_code (6 : Nat) (Option.some Jvm.ClassFile.FieldType.boolean)) ∈ lw_all := lw_g (lw_at lw_m10 200 rfl) rfl
theorem q2550 : (Jvm.Cond.methodLink "FactHouseModel" (393 : Nat) ({ cls := "FactHouseModel", name := "forgetWalks", desc := "()V" } : Jvm.MethodName)) ∈ lw_all := lw_g (lw_at lw_m10 201 rfl) rfl
theorem q2551 : (Jvm.Cond.privateMethod ({ cls := "FactHouseModel", name := "forgetWalks", desc := "()V" } : Jvm.MethodName)) ∈ lw_tbl := lw_at lw_m10 202 rfl
theorem q2552 : (Jvm.Cond.instanceMethod ({ cls := "FactHouseModel", name := "forgetWalks", desc := "()V" } : Jvm.MethodName)) ∈ lw_all := lw_g (lw_at lw_m10 203 rfl) rfl
theorem q2553 : (Jvm.Cond.code ({ cls := "FactHouseModel", name := "forgetWalks", desc := "()V" } : Jvm.MethodName) prog_16_method_97_code (1 : Nat) (Option.none : Option Jvm.ClassFile.FieldType)) ∈ lw_all := lw_g (lw_at lw_m10 204 rfl) rfl
theorem q2555 : (Jvm.Cond.instanceMethod ({ cls := "FactHouseModel", name := "root", desc := "(I)I" } : Jvm.MethodName)) ∈ lw_all := lw_g (lw_at lw_m10 206 rfl) rfl
theorem q2556 : (Jvm.Cond.selects "FactHouseModel" ({ cls := "FactHouseModel", name := "root", desc := "(I)I" } : Jvm.MethodName) ({ cls := "FactHouseModel", name := "root", desc := "(I)I" } : Jvm.MethodName)) ∈ lw_all := lw_g (lw_at lw_m10 207 rfl) rfl
theorem q2557 : (Jvm.Cond.code ({ cls := "FactHouseModel", name := "root", desc := "(I)I" } : Jvm.MethodName) prog_16_method_76_code (3 : Nat) (Option.some Jvm.ClassFile.FieldType.int)) ∈ lw_all := lw_g (lw_at lw_m10 208 rfl) rfl
theorem q2559 : (Jvm.Cond.instanceMethod ({ cls := "FactHouseModel", name := "told", desc := "(I)I" } : Jvm.MethodName)) ∈ lw_all := lw_g (lw_at lw_m10 210 rfl) rfl
theorem q2560 : (Jvm.Cond.selects "FactHouseModel" ({ cls := "FactHouseModel", name := "told", desc := "(I)I" } : Jvm.MethodName) ({ cls := "FactHouseModel", name := "told", desc := "(I)I" } : Jvm.MethodName)) ∈ lw_all := lw_g (lw_at lw_m10 211 rfl) rfl
theorem q2561 : (Jvm.Cond.code ({ cls := "FactHouseModel", name := "told", desc := "(I)I" } : Jvm.MethodName) prog_16_method_77_code (2 : Nat) (Option.some Jvm.ClassFile.FieldType.int)) ∈ lw_all := lw_g (lw_at lw_m10 212 rfl) rfl
theorem q2562 : (Jvm.Cond.constantLong "FactHouseModel" (680 : Nat) (7 : Int64)) ∈ lw_all := lw_g (lw_at lw_m10 213 rfl) rfl
theorem q2563 : (Jvm.Cond.methodLink "FactHouseModel" (494 : Nat) ({ cls := "FactHouseModel", name := "findMarks", desc := "()V" } : Jvm.MethodName)) ∈ lw_all := lw_g (lw_at lw_m10 214 rfl) rfl
theorem q2564 : (Jvm.Cond.privateMethod ({ cls := "FactHouseModel", name := "findMarks", desc := "()V" } : Jvm.MethodName)) ∈ lw_tbl := lw_at lw_m10 215 rfl
theorem q2565 : (Jvm.Cond.instanceMethod ({ cls := "FactHouseModel", name := "findMarks", desc := "()V" } : Jvm.MethodName)) ∈ lw_all := lw_g (lw_at lw_m10 216 rfl) rfl
theorem q2566 : (Jvm.Cond.code ({ cls := "FactHouseModel", name := "findMarks", desc := "()V" } : Jvm.MethodName) prog_16_method_32_code (3 : Nat) (Option.none : Option Jvm.ClassFile.FieldType)) ∈ lw_all := lw_g (lw_at lw_m10 217 rfl) rfl
theorem q2567 : (Jvm.Cond.constantLong "FactHouseModel" (456 : Nat) (-2147483648 : Int64)) ∈ lw_all := lw_g (lw_at lw_m10 218 rfl) rfl
theorem q2568 : (Jvm.Cond.methodLink "FactHouseModel" (472 : Nat) ({ cls := "FactHouseModel", name := "addMark", desc := "(J)V" } : Jvm.MethodName)) ∈ lw_all := lw_g (lw_at lw_m10 219 rfl) rfl
theorem q2569 : (Jvm.Cond.privateMethod ({ cls := "FactHouseModel", name := "addMark", desc := "(J)V" } : Jvm.MethodName)) ∈ lw_tbl := lw_at lw_m10 220 rfl
theorem q2570 : (Jvm.Cond.instanceMethod ({ cls := "FactHouseModel", name := "addMark", desc := "(J)V" } : Jvm.MethodName)) ∈ lw_all := lw_g (lw_at lw_m10 221 rfl) rfl
theorem q2571 : (Jvm.Cond.code ({ cls := "FactHouseModel", name := "addMark", desc := "(J)V" } : Jvm.MethodName) prog_16_method_31_code (6 : Nat) (Option.none : Option Jvm.ClassFile.FieldType)) ∈ lw_all := lw_g (lw_at lw_m10 222 rfl) rfl
theorem q2572 : (Jvm.Cond.constantLong "FactHouseModel" (458 : Nat) (2147483647 : Int64)) ∈ lw_all := lw_g (lw_at lw_m10 223 rfl) rfl
theorem q2573 : (Jvm.Cond.methodLink "FactHouseModel" (460 : Nat) ({ cls := "java/lang/Math", name := "min", desc := "(JJ)J" } : Jvm.MethodName)) ∈ lw_all := lw_g (lw_at lw_m10 224 rfl) rfl
theorem q2574 : (Jvm.Cond.methodLink "FactHouseModel" (466 : Nat) ({ cls := "java/lang/Math", name := "max", desc := "(JJ)J" } : Jvm.MethodName)) ∈ lw_all := lw_g (lw_at lw_m10 225 rfl) rfl
theorem q2575 : (Jvm.Cond.constantLong "FactHouseModel" (476 : Nat) (-1 : Int64)) ∈ lw_all := lw_g (lw_at lw_m10 226 rfl) rfl
theorem q2576 : (Jvm.Cond.constantLong "FactHouseModel" (478 : Nat) (100 : Int64)) ∈ lw_all := lw_g (lw_at lw_m10 227 rfl) rfl
theorem q2578 : (Jvm.Cond.instanceMethod ({ cls := "FactHouseModel", name := "method", desc := "(II)I" } : Jvm.MethodName)) ∈ lw_all := lw_g (lw_at lw_m10 229 rfl) rfl
theorem q2579 : (Jvm.Cond.selects "FactHouseModel" ({ cls := "FactHouseModel", name := "method", desc := "(II)I" } : Jvm.MethodName) ({ cls := "FactHouseModel", name := "method", desc := "(II)I" } : Jvm.MethodName)) ∈ lw_all := lw_g (lw_at lw_m10 230 rfl) rfl
theorem q2580 : (Jvm.Cond.code ({ cls := "FactHouseModel", name := "method", desc := "(II)I" } : Jvm.MethodName) prog_16_method_79_code (3 : Nat) (Option.some Jvm.ClassFile.FieldType.int)) ∈ lw_all := lw_g (lw_at lw_m10 231 rfl) rfl
theorem q2581 : (Jvm.Cond.methodLink "FactHouseModel" (677 : Nat) ({ cls := "FactHouseModel", name := "hasMethod", desc := "(I)Z" } : Jvm.MethodName)) ∈ lw_all := lw_g (lw_at lw_m10 232 rfl) rfl
theorem q2582 : (Jvm.Cond.privateMethod ({ cls := "FactHouseModel", name := "hasMethod", desc := "(I)Z" } : Jvm.MethodName)) ∈ lw_tbl := lw_at lw_m10 233 rfl
theorem q2583 : (Jvm.Cond.instanceMethod ({ cls := "FactHouseModel", name := "hasMethod", desc := "(I)Z" } : Jvm.MethodName)) ∈ lw_all := lw_g (lw_at lw_m10 234 rfl) rfl
theorem q2584 : (Jvm.Cond.code ({ cls := "FactHouseModel", name := "hasMethod", desc := "(I)Z" } : Jvm.MethodName) prog_16_method_74_code (2 : Nat) (Option.some Jvm.ClassFile.FieldType.boolean)) ∈ lw_all := lw_g (lw_at lw_m10 235 rfl) rfl
theorem q2585 : (Jvm.Cond.constantLong "FactHouseModel" (685 : Nat) (9 : Int64)) ∈ lw_all := lw_g (lw_at lw_m10 236 rfl) rfl
theorem q2586 : (Jvm.Cond.methodLink "FactHouseModel" (687 : Nat) ({ cls := "FactHouseModel", name := "isTouched", desc := "(I)Z" } : Jvm.MethodName)) ∈ lw_all := lw_g (lw_at lw_m10 237 rfl) rfl
theorem q2587 : (Jvm.Cond.privateMethod ({ cls := "FactHouseModel", name := "isTouched", desc := "(I)Z" } : Jvm.MethodName)) ∈ lw_tbl := lw_at lw_m10 238 rfl
theorem q2588 : (Jvm.Cond.instanceMethod ({ cls := "FactHouseModel", name := "isTouched", desc := "(I)Z" } : Jvm.MethodName)) ∈ lw_all := lw_g (lw_at lw_m10 239 rfl) rfl
theorem q2589 : (Jvm.Cond.code ({ cls := "FactHouseModel", name := "isTouched", desc := "(I)Z" } : Jvm.MethodName) prog_16_method_78_code (7 : Nat) (Option.some Jvm.ClassFile.FieldType.boolean)) ∈ lw_all := lw_g (lw_at lw_m11 0 rfl) rfl
theorem q2590 : (Jvm.Cond.methodLink "FactHouseModel" (682 : Nat) ({ cls := "FactHouseModel", name := "findFacts", desc := "()V" } : Jvm.MethodName)) ∈ lw_all := lw_g (lw_at lw_m11 1 rfl) rfl
theorem q2591 : (Jvm.Cond.privateMethod ({ cls := "FactHouseModel", name := "findFacts", desc := "()V" } : Jvm.MethodName)) ∈ lw_tbl := lw_at lw_m11 2 rfl
theorem q2592 : (Jvm.Cond.instanceMethod ({ cls := "FactHouseModel", name := "findFacts", desc := "()V" } : Jvm.MethodName)) ∈ lw_all := lw_g (lw_at lw_m11 3 rfl) rfl
theorem q2593 : (Jvm.Cond.code ({ cls := "FactHouseModel", name := "findFacts", desc := "()V" } : Jvm.MethodName) prog_16_method_37_code (8 : Nat) (Option.none : Option Jvm.ClassFile.FieldType)) ∈ lw_all := lw_g (lw_at lw_m11 4 rfl) rfl
theorem q2594 : (Jvm.Cond.methodLink "FactHouseModel" (497 : Nat) ({ cls := "FactHouseModel", name := "forgetFacts", desc := "()V" } : Jvm.MethodName)) ∈ lw_all := lw_g (lw_at lw_m11 5 rfl) rfl
theorem q2595 : (Jvm.Cond.privateMethod ({ cls := "FactHouseModel", name := "forgetFacts", desc := "()V" } : Jvm.MethodName)) ∈ lw_tbl := lw_at lw_m11 6 rfl
theorem q2596 : (Jvm.Cond.instanceMethod ({ cls := "FactHouseModel", name := "forgetFacts", desc := "()V" } : Jvm.MethodName)) ∈ lw_all := lw_g (lw_at lw_m11 7 rfl) rfl
theorem q2597 : (Jvm.Cond.code ({ cls := "FactHouseModel", name := "forgetFacts", desc := "()V" } : Jvm.MethodName) prog_16_method_36_code (2 : Nat) (Option.none : Option Jvm.ClassFile.FieldType)) ∈ lw_all := lw_g (lw_at lw_m11 8 rfl) rfl
theorem q2598 : (Jvm.Cond.constant "FactHouseModel" (500 : Nat) (-2147483648 : Int32)) ∈ lw_all := lw_g (lw_at lw_m11 9 rfl) rfl
theorem q2599 : (Jvm.Cond.constant "FactHouseModel" (501 : Nat) (2147483647 : Int32)) ∈ lw_all := lw_g (lw_at lw_m11 10 rfl) rfl
theorem q2600 : (Jvm.Cond.methodLink "FactHouseModel" (502 : Nat) ({ cls := "FactHouseModel", name := "setSlot", desc := "(IIIIJ)V" } : Jvm.MethodName)) ∈ lw_all := lw_g (lw_at lw_m11 11 rfl) rfl
theorem q2601 : (Jvm.Cond.privateMethod ({ cls := "FactHouseModel", name := "setSlot", desc := "(IIIIJ)V" } : Jvm.MethodName)) ∈ lw_tbl := lw_at lw_m11 12 rfl
theorem q2602 : (Jvm.Cond.instanceMethod ({ cls := "FactHouseModel", name := "setSlot", desc := "(IIIIJ)V" } : Jvm.MethodName)) ∈ lw_all := lw_g (lw_at lw_m11 13 rfl) rfl
theorem q2603 : (Jvm.Cond.code ({ cls := "FactHouseModel", name := "setSlot", desc := "(IIIIJ)V" } : Jvm.MethodName) prog_16_method_39_code (7 : Nat) (Option.none : Option Jvm.ClassFile.FieldType)) ∈ lw_all := lw_g (lw_at lw_m11 14 rfl) rfl
theorem q2604 : (Jvm.Cond.methodLink "FactHouseModel" (512 : Nat) ({ cls := "FactHouseModel", name := "joinTo", desc := "(I)V" } : Jvm.MethodName)) ∈ lw_all := lw_g (lw_at lw_m11 15 rfl) rfl
theorem q2605 : (Jvm.Cond.privateMethod ({ cls := "FactHouseModel", name := "joinTo", desc := "(I)V" } : Jvm.MethodName)) ∈ lw_tbl := lw_at lw_m11 16 rfl
theorem q2606 : (Jvm.Cond.instanceMethod ({ cls := "FactHouseModel", name := "joinTo", desc := "(I)V" } : Jvm.MethodName)) ∈ lw_all := lw_g (lw_at lw_m11 17 rfl) rfl
theorem q2607 : (Jvm.Cond.code ({ cls := "FactHouseModel", name := "joinTo", desc := "(I)V" } : Jvm.MethodName) prog_16_method_40_code (12 : Nat) (Option.none : Option Jvm.ClassFile.FieldType)) ∈ lw_all := lw_g (lw_at lw_m11 18 rfl) rfl
theorem q2608 : (Jvm.Cond.methodLink "FactHouseModel" (528 : Nat) ({ cls := "java/lang/Math", name := "min", desc := "(II)I" } : Jvm.MethodName)) ∈ lw_all := lw_g (lw_at lw_m11 19 rfl) rfl
theorem q2609 : (Jvm.Cond.methodLink "FactHouseModel" (530 : Nat) ({ cls := "java/lang/Math", name := "max", desc := "(II)I" } : Jvm.MethodName)) ∈ lw_all := lw_g (lw_at lw_m11 20 rfl) rfl
theorem q2610 : (Jvm.Cond.methodLink "FactHouseModel" (515 : Nat) ({ cls := "FactHouseModel", name := "asks", desc := "(IJIJ)Z" } : Jvm.MethodName)) ∈ lw_all := lw_g (lw_at lw_m11 21 rfl) rfl
theorem q2611 : (Jvm.Cond.privateMethod ({ cls := "FactHouseModel", name := "asks", desc := "(IJIJ)Z" } : Jvm.MethodName)) ∈ lw_tbl := lw_at lw_m11 22 rfl
theorem q2612 : (Jvm.Cond.instanceMethod ({ cls := "FactHouseModel", name := "asks", desc := "(IJIJ)Z" } : Jvm.MethodName)) ∈ lw_all := lw_g (lw_at lw_m11 23 rfl) rfl
theorem q2613 : (Jvm.Cond.code ({ cls := "FactHouseModel", name := "asks", desc := "(IJIJ)Z" } : Jvm.MethodName) prog_16_method_38_code (9 : Nat) (Option.some Jvm.ClassFile.FieldType.boolean)) ∈ lw_all := lw_g (lw_at lw_m11 24 rfl) rfl
theorem q2614 : (Jvm.Cond.methodLink "FactHouseModel" (519 : Nat) ({ cls := "FactHouseModel", name := "goOn", desc := "(I)V" } : Jvm.MethodName)) ∈ lw_all := lw_g (lw_at lw_m11 25 rfl) rfl
theorem q2615 : (Jvm.Cond.privateMethod ({ cls := "FactHouseModel", name := "goOn", desc := "(I)V" } : Jvm.MethodName)) ∈ lw_tbl := lw_at lw_m11 26 rfl
theorem q2616 : (Jvm.Cond.instanceMethod ({ cls := "FactHouseModel", name := "goOn", desc := "(I)V" } : Jvm.MethodName)) ∈ lw_all := lw_g (lw_at lw_m11 27 rfl) rfl
theorem q2617 : (Jvm.Cond.code ({ cls := "FactHouseModel", name := "goOn", desc := "(I)V" } : Jvm.MethodName) prog_16_method_59_code (30 : Nat) (Option.none : Option Jvm.ClassFile.FieldType)) ∈ lw_all := lw_g (lw_at lw_m11 28 rfl) rfl
theorem q2618 : (Jvm.Cond.methodLink "FactHouseModel" (563 : Nat) ({ cls := "FactHouseModel", name := "takeFacts", desc := "(I)V" } : Jvm.MethodName)) ∈ lw_all := lw_g (lw_at lw_m11 29 rfl) rfl
theorem q2619 : (Jvm.Cond.privateMethod ({ cls := "FactHouseModel", name := "takeFacts", desc := "(I)V" } : Jvm.MethodName)) ∈ lw_tbl := lw_at lw_m11 30 rfl
theorem q2620 : (Jvm.Cond.instanceMethod ({ cls := "FactHouseModel", name := "takeFacts", desc := "(I)V" } : Jvm.MethodName)) ∈ lw_all := lw_g (lw_at lw_m11 31 rfl) rfl
theorem q2621 : (Jvm.Cond.code ({ cls := "FactHouseModel", name := "takeFacts", desc := "(I)V" } : Jvm.MethodName) prog_16_method_41_code (4 : Nat) (Option.none : Option Jvm.ClassFile.FieldType)) ∈ lw_all := lw_g (lw_at lw_m11 32 rfl) rfl
theorem q2622 : (Jvm.Cond.methodLink "FactHouseModel" (557 : Nat) ({ cls := "FactHouseModel", name := "lay", desc := "(IIIJ)V" } : Jvm.MethodName)) ∈ lw_all := lw_g (lw_at lw_m11 33 rfl) rfl
theorem q2623 : (Jvm.Cond.privateMethod ({ cls := "FactHouseModel", name := "lay", desc := "(IIIJ)V" } : Jvm.MethodName)) ∈ lw_tbl := lw_at lw_m11 34 rfl
theorem q2624 : (Jvm.Cond.instanceMethod ({ cls := "FactHouseModel", name := "lay", desc := "(IIIJ)V" } : Jvm.MethodName)) ∈ lw_all := lw_g (lw_at lw_m11 35 rfl) rfl
theorem q2625 : (Jvm.Cond.code ({ cls := "FactHouseModel", name := "lay", desc := "(IIIJ)V" } : Jvm.MethodName) prog_16_method_45_code (6 : Nat) (Option.none : Option Jvm.ClassFile.FieldType)) ∈ lw_all := lw_g (lw_at lw_m11 36 rfl) rfl
theorem q2626 : (Jvm.Cond.methodLink "FactHouseModel" (606 : Nat) ({ cls := "FactHouseModel", name := "flowOn", desc := "(I)V" } : Jvm.MethodName)) ∈ lw_all := lw_g (lw_at lw_m11 37 rfl) rfl
theorem q2627 : (Jvm.Cond.privateMethod ({ cls := "FactHouseModel", name := "flowOn", desc := "(I)V" } : Jvm.MethodName)) ∈ lw_tbl := lw_at lw_m11 38 rfl
theorem q2628 : (Jvm.Cond.instanceMethod ({ cls := "FactHouseModel", name := "flowOn", desc := "(I)V" } : Jvm.MethodName)) ∈ lw_all := lw_g (lw_at lw_m11 39 rfl) rfl
theorem q2629 : (Jvm.Cond.code ({ cls := "FactHouseModel", name := "flowOn", desc := "(I)V" } : Jvm.MethodName) prog_16_method_43_code (2 : Nat) (Option.none : Option Jvm.ClassFile.FieldType)) ∈ lw_all := lw_g (lw_at lw_m11 40 rfl) rfl
theorem q2630 : (Jvm.Cond.methodLink "FactHouseModel" (535 : Nat) ({ cls := "FactHouseModel", name := "flow", desc := "(II)V" } : Jvm.MethodName)) ∈ lw_all := lw_g (lw_at lw_m11 41 rfl) rfl
theorem q2631 : (Jvm.Cond.privateMethod ({ cls := "FactHouseModel", name := "flow", desc := "(II)V" } : Jvm.MethodName)) ∈ lw_tbl := lw_at lw_m11 42 rfl
theorem q2632 : (Jvm.Cond.instanceMethod ({ cls := "FactHouseModel", name := "flow", desc := "(II)V" } : Jvm.MethodName)) ∈ lw_all := lw_g (lw_at lw_m11 43 rfl) rfl
theorem q2633 : (Jvm.Cond.code ({ cls := "FactHouseModel", name := "flow", desc := "(II)V" } : Jvm.MethodName) prog_16_method_42_code (3 : Nat) (Option.none : Option Jvm.ClassFile.FieldType)) ∈ lw_all := lw_g (lw_at lw_m11 44 rfl) rfl
theorem q2634 : (Jvm.Cond.methodLink "FactHouseModel" (574 : Nat) ({ cls := "FactHouseModel", name := "pull", desc := "()V" } : Jvm.MethodName)) ∈ lw_all := lw_g (lw_at lw_m11 45 rfl) rfl
theorem q2635 : (Jvm.Cond.privateMethod ({ cls := "FactHouseModel", name := "pull", desc := "()V" } : Jvm.MethodName)) ∈ lw_tbl := lw_at lw_m11 46 rfl
theorem q2636 : (Jvm.Cond.instanceMethod ({ cls := "FactHouseModel", name := "pull", desc := "()V" } : Jvm.MethodName)) ∈ lw_all := lw_g (lw_at lw_m11 47 rfl) rfl
theorem q2637 : (Jvm.Cond.code ({ cls := "FactHouseModel", name := "pull", desc := "()V" } : Jvm.MethodName) prog_16_method_44_code (1 : Nat) (Option.none : Option Jvm.ClassFile.FieldType)) ∈ lw_all := lw_g (lw_at lw_m11 48 rfl) rfl
theorem q2638 : (Jvm.Cond.methodLink "FactHouseModel" (612 : Nat) ({ cls := "FactHouseModel", name := "reckon", desc := "(I)Z" } : Jvm.MethodName)) ∈ lw_all := lw_g (lw_at lw_m11 49 rfl) rfl
theorem q2639 : (Jvm.Cond.privateMethod ({ cls := "FactHouseModel", name := "reckon", desc := "(I)Z" } : Jvm.MethodName)) ∈ lw_tbl := lw_at lw_m11 50 rfl
theorem q2640 : (Jvm.Cond.instanceMethod ({ cls := "FactHouseModel", name := "reckon", desc := "(I)Z" } : Jvm.MethodName)) ∈ lw_all := lw_g (lw_at lw_m11 51 rfl) rfl
theorem q2641 : (Jvm.Cond.code ({ cls := "FactHouseModel", name := "reckon", desc := "(I)Z" } : Jvm.MethodName) prog_16_method_52_code (18 : Nat) (Option.some Jvm.ClassFile.FieldType.boolean)) ∈ lw_all := lw_g (lw_at lw_m11 52 rfl) rfl
theorem q2642 : (Jvm.Cond.methodLink "FactHouseModel" (576 : Nat) ({ cls := "FactHouseModel", name := "layRounded", desc := "(JJI)V" } : Jvm.MethodName)) ∈ lw_all := lw_g (lw_at lw_m11 53 rfl) rfl
theorem q2643 : (Jvm.Cond.privateMethod ({ cls := "FactHouseModel", name := "layRounded", desc := "(JJI)V" } : Jvm.MethodName)) ∈ lw_tbl := lw_at lw_m11 54 rfl
theorem q2644 : (Jvm.Cond.instanceMethod ({ cls := "FactHouseModel", name := "layRounded", desc := "(JJI)V" } : Jvm.MethodName)) ∈ lw_all := lw_g (lw_at lw_m11 55 rfl) rfl
theorem q2645 : (Jvm.Cond.code ({ cls := "FactHouseModel", name := "layRounded", desc := "(JJI)V" } : Jvm.MethodName) prog_16_method_46_code (7 : Nat) (Option.none : Option Jvm.ClassFile.FieldType)) ∈ lw_all := lw_g (lw_at lw_m11 56 rfl) rfl
theorem q2646 : (Jvm.Cond.methodLink "FactHouseModel" (551 : Nat) ({ cls := "FactHouseModel", name := "downTo", desc := "(I)I" } : Jvm.MethodName)) ∈ lw_all := lw_g (lw_at lw_m11 57 rfl) rfl
theorem q2647 : (Jvm.Cond.privateMethod ({ cls := "FactHouseModel", name := "downTo", desc := "(I)I" } : Jvm.MethodName)) ∈ lw_tbl := lw_at lw_m11 58 rfl
theorem q2648 : (Jvm.Cond.instanceMethod ({ cls := "FactHouseModel", name := "downTo", desc := "(I)I" } : Jvm.MethodName)) ∈ lw_all := lw_g (lw_at lw_m11 59 rfl) rfl
theorem q2649 : (Jvm.Cond.code ({ cls := "FactHouseModel", name := "downTo", desc := "(I)I" } : Jvm.MethodName) prog_16_method_34_code (2 : Nat) (Option.some Jvm.ClassFile.FieldType.int)) ∈ lw_all := lw_g (lw_at lw_m11 60 rfl) rfl
theorem q2650 : (Jvm.Cond.methodLink "FactHouseModel" (480 : Nat) ({ cls := "FactHouseModel", name := "markFor", desc := "(I)I" } : Jvm.MethodName)) ∈ lw_all := lw_g (lw_at lw_m11 61 rfl) rfl
theorem q2651 : (Jvm.Cond.privateMethod ({ cls := "FactHouseModel", name := "markFor", desc := "(I)I" } : Jvm.MethodName)) ∈ lw_tbl := lw_at lw_m11 62 rfl
theorem q2652 : (Jvm.Cond.instanceMethod ({ cls := "FactHouseModel", name := "markFor", desc := "(I)I" } : Jvm.MethodName)) ∈ lw_all := lw_g (lw_at lw_m11 63 rfl) rfl
theorem q2653 : (Jvm.Cond.code ({ cls := "FactHouseModel", name := "markFor", desc := "(I)I" } : Jvm.MethodName) prog_16_method_33_code (5 : Nat) (Option.some Jvm.ClassFile.FieldType.int)) ∈ lw_all := lw_g (lw_at lw_m11 64 rfl) rfl
theorem q2654 : (Jvm.Cond.methodLink "FactHouseModel" (554 : Nat) ({ cls := "FactHouseModel", name := "upTo", desc := "(I)I" } : Jvm.MethodName)) ∈ lw_all := lw_g (lw_at lw_m11 65 rfl) rfl
theorem q2655 : (Jvm.Cond.privateMethod ({ cls := "FactHouseModel", name := "upTo", desc := "(I)I" } : Jvm.MethodName)) ∈ lw_tbl := lw_at lw_m11 66 rfl
theorem q2656 : (Jvm.Cond.instanceMethod ({ cls := "FactHouseModel", name := "upTo", desc := "(I)I" } : Jvm.MethodName)) ∈ lw_all := lw_g (lw_at lw_m11 67 rfl) rfl
theorem q2657 : (Jvm.Cond.code ({ cls := "FactHouseModel", name := "upTo", desc := "(I)I" } : Jvm.MethodName) prog_16_method_35_code (3 : Nat) (Option.some Jvm.ClassFile.FieldType.int)) ∈ lw_all := lw_g (lw_at lw_m11 68 rfl) rfl
theorem q2658 : (Jvm.Cond.methodLink "FactHouseModel" (580 : Nat) ({ cls := "java/lang/Math", name := "abs", desc := "(J)J" } : Jvm.MethodName)) ∈ lw_all := lw_g (lw_at lw_m11 69 rfl) rfl
theorem q2659 : (Jvm.Cond.constantLong "FactHouseModel" (586 : Nat) (9223372036854775807 : Int64)) ∈ lw_all := lw_g (lw_at lw_m11 70 rfl) rfl
theorem q2660 : (Jvm.Cond.constantLong "FactHouseModel" (588 : Nat) (-9223372036854775808 : Int64)) ∈ lw_all := lw_g (lw_at lw_m11 71 rfl) rfl
theorem q2661 : (Jvm.Cond.methodLink "FactHouseModel" (597 : Nat) ({ cls := "FactHouseModel", name := "toss", desc := "(II)V" } : Jvm.MethodName)) ∈ lw_all := lw_g (lw_at lw_m11 72 rfl) rfl
theorem q2662 : (Jvm.Cond.privateMethod ({ cls := "FactHouseModel", name := "toss", desc := "(II)V" } : Jvm.MethodName)) ∈ lw_tbl := lw_at lw_m11 73 rfl
theorem q2663 : (Jvm.Cond.instanceMethod ({ cls := "FactHouseModel", name := "toss", desc := "(II)V" } : Jvm.MethodName)) ∈ lw_all := lw_g (lw_at lw_m11 74 rfl) rfl
theorem q2664 : (Jvm.Cond.code ({ cls := "FactHouseModel", name := "toss", desc := "(II)V" } : Jvm.MethodName) prog_16_method_49_code (3 : Nat) (Option.none : Option Jvm.ClassFile.FieldType)) ∈ lw_all := lw_g (lw_at lw_m11 75 rfl) rfl
theorem q2665 : (Jvm.Cond.methodLink "FactHouseModel" (566 : Nat) ({ cls := "FactHouseModel", name := "toss", desc := "(IJII)V" } : Jvm.MethodName)) ∈ lw_all := lw_g (lw_at lw_m11 76 rfl) rfl
theorem q2666 : (Jvm.Cond.privateMethod ({ cls := "FactHouseModel", name := "toss", desc := "(IJII)V" } : Jvm.MethodName)) ∈ lw_tbl := lw_at lw_m11 77 rfl
theorem q2667 : (Jvm.Cond.instanceMethod ({ cls := "FactHouseModel", name := "toss", desc := "(IJII)V" } : Jvm.MethodName)) ∈ lw_all := lw_g (lw_at lw_m11 78 rfl) rfl
theorem q2668 : (Jvm.Cond.code ({ cls := "FactHouseModel", name := "toss", desc := "(IJII)V" } : Jvm.MethodName) prog_16_method_48_code (13 : Nat) (Option.none : Option Jvm.ClassFile.FieldType)) ∈ lw_all := lw_g (lw_at lw_m11 79 rfl) rfl
theorem q2669 : (Jvm.Cond.methodLink "FactHouseModel" (560 : Nat) ({ cls := "FactHouseModel", name := "handlerOf", desc := "(II)I" } : Jvm.MethodName)) ∈ lw_all := lw_g (lw_at lw_m11 80 rfl) rfl
theorem q2670 : (Jvm.Cond.privateMethod ({ cls := "FactHouseModel", name := "handlerOf", desc := "(II)I" } : Jvm.MethodName)) ∈ lw_tbl := lw_at lw_m11 81 rfl
theorem q2671 : (Jvm.Cond.instanceMethod ({ cls := "FactHouseModel", name := "handlerOf", desc := "(II)I" } : Jvm.MethodName)) ∈ lw_all := lw_g (lw_at lw_m11 82 rfl) rfl
theorem q2672 : (Jvm.Cond.code ({ cls := "FactHouseModel", name := "handlerOf", desc := "(II)I" } : Jvm.MethodName) prog_16_method_47_code (7 : Nat) (Option.some Jvm.ClassFile.FieldType.int)) ∈ lw_all := lw_g (lw_at lw_m11 83 rfl) rfl
theorem q2673 : (Jvm.Cond.methodLink "FactHouseModel" (453 : Nat) ({ cls := "FactHouseModel", name := "isOf", desc := "(II)Z" } : Jvm.MethodName)) ∈ lw_all := lw_g (lw_at lw_m11 84 rfl) rfl
theorem q2674 : (Jvm.Cond.privateMethod ({ cls := "FactHouseModel", name := "isOf", desc := "(II)Z" } : Jvm.MethodName)) ∈ lw_tbl := lw_at lw_m11 85 rfl
theorem q2675 : (Jvm.Cond.instanceMethod ({ cls := "FactHouseModel", name := "isOf", desc := "(II)Z" } : Jvm.MethodName)) ∈ lw_all := lw_g (lw_at lw_m11 86 rfl) rfl
theorem q2676 : (Jvm.Cond.code ({ cls := "FactHouseModel", name := "isOf", desc := "(II)Z" } : Jvm.MethodName) prog_16_method_27_code (3 : Nat) (Option.some Jvm.ClassFile.FieldType.boolean)) ∈ lw_all := lw_g (lw_at lw_m11 87 rfl) rfl
theorem q2677 : (Jvm.Cond.methodLink "FactHouseModel" (446 : Nat) ({ cls := "FactHouseModel", name := "isArray", desc := "(I)Z" } : Jvm.MethodName)) ∈ lw_all := lw_g (lw_at lw_m11 88 rfl) rfl
theorem q2678 : (Jvm.Cond.privateMethod ({ cls := "FactHouseModel", name := "isArray", desc := "(I)Z" } : Jvm.MethodName)) ∈ lw_tbl := lw_at lw_m11 89 rfl
theorem q2679 : (Jvm.Cond.instanceMethod ({ cls := "FactHouseModel", name := "isArray", desc := "(I)Z" } : Jvm.MethodName)) ∈ lw_all := lw_g (lw_at lw_m11 90 rfl) rfl
theorem q2680 : (Jvm.Cond.code ({ cls := "FactHouseModel", name := "isArray", desc := "(I)Z" } : Jvm.MethodName) prog_16_method_26_code (2 : Nat) (Option.some Jvm.ClassFile.FieldType.boolean)) ∈ lw_all := lw_g (lw_at lw_m11 91 rfl) rfl
theorem q2681 : (Jvm.Cond.methodLink "FactHouseModel" (449 : Nat) ({ cls := "FactHouseModel", name := "isBelow", desc := "(II)Z" } : Jvm.MethodName)) ∈ lw_all := lw_g (lw_at lw_m11 92 rfl) rfl
theorem q2682 : (Jvm.Cond.privateMethod ({ cls := "FactHouseModel", name := "isBelow", desc := "(II)Z" } : Jvm.MethodName)) ∈ lw_tbl := lw_at lw_m11 93 rfl
theorem q2683 : (Jvm.Cond.instanceMethod ({ cls := "FactHouseModel", name := "isBelow", desc := "(II)Z" } : Jvm.MethodName)) ∈ lw_all := lw_g (lw_at lw_m11 94 rfl) rfl
theorem q2684 : (Jvm.Cond.code ({ cls := "FactHouseModel", name := "isBelow", desc := "(II)Z" } : Jvm.MethodName) prog_16_method_25_code (4 : Nat) (Option.some Jvm.ClassFile.FieldType.boolean)) ∈ lw_all := lw_g (lw_at lw_m11 95 rfl) rfl
theorem q2685 : (Jvm.Cond.methodLink "FactHouseModel" (570 : Nat) ({ cls := "FactHouseModel", name := "may", desc := "(IIIII)Z" } : Jvm.MethodName)) ∈ lw_all := lw_g (lw_at lw_m11 96 rfl) rfl
theorem q2686 : (Jvm.Cond.static ({ cls := "FactHouseModel", name := "may", desc := "(IIIII)Z" } : Jvm.MethodName)) ∈ lw_all := lw_g (lw_at lw_m11 97 rfl) rfl
theorem q2687 : (Jvm.Cond.code ({ cls := "FactHouseModel", name := "may", desc := "(IIIII)Z" } : Jvm.MethodName) prog_16_method_50_code (5 : Nat) (Option.some Jvm.ClassFile.FieldType.boolean)) ∈ lw_all := lw_g (lw_at lw_m11 98 rfl) rfl
theorem q2688 : (Jvm.Cond.methodLink "FactHouseModel" (615 : Nat) ({ cls := "FactHouseModel", name := "cut", desc := "(III)Z" } : Jvm.MethodName)) ∈ lw_all := lw_g (lw_at lw_m11 99 rfl) rfl
theorem q2689 : (Jvm.Cond.privateMethod ({ cls := "FactHouseModel", name := "cut", desc := "(III)Z" } : Jvm.MethodName)) ∈ lw_tbl := lw_at lw_m11 100 rfl
theorem q2690 : (Jvm.Cond.instanceMethod ({ cls := "FactHouseModel", name := "cut", desc := "(III)Z" } : Jvm.MethodName)) ∈ lw_all := lw_g (lw_at lw_m11 101 rfl) rfl
theorem q2691 : (Jvm.Cond.code ({ cls := "FactHouseModel", name := "cut", desc := "(III)Z" } : Jvm.MethodName) prog_16_method_51_code (6 : Nat) (Option.some Jvm.ClassFile.FieldType.boolean)) ∈ lw_all := lw_g (lw_at lw_m11 102 rfl) rfl
theorem q2692 : (Jvm.Cond.methodLink "FactHouseModel" (619 : Nat) ({ cls := "FactHouseModel", name := "of", desc := "(JI)J" } : Jvm.MethodName)) ∈ lw_all := lw_g (lw_at lw_m11 103 rfl) rfl
theorem q2693 : (Jvm.Cond.privateMethod ({ cls := "FactHouseModel", name := "of", desc := "(JI)J" } : Jvm.MethodName)) ∈ lw_tbl := lw_at lw_m11 104 rfl
theorem q2694 : (Jvm.Cond.instanceMethod ({ cls := "FactHouseModel", name := "of", desc := "(JI)J" } : Jvm.MethodName)) ∈ lw_all := lw_g (lw_at lw_m11 105 rfl) rfl
theorem q2695 : (Jvm.Cond.code ({ cls := "FactHouseModel", name := "of", desc := "(JI)J" } : Jvm.MethodName) prog_16_method_28_code (7 : Nat) (Option.some Jvm.ClassFile.FieldType.long)) ∈ lw_all := lw_g (lw_at lw_m11 106 rfl) rfl
theorem q2696 : (Jvm.Cond.methodLink "FactHouseModel" (623 : Nat) ({ cls := "FactHouseModel", name := "makeSite", desc := "(I)V" } : Jvm.MethodName)) ∈ lw_all := lw_g (lw_at lw_m11 107 rfl) rfl
theorem q2697 : (Jvm.Cond.privateMethod ({ cls := "FactHouseModel", name := "makeSite", desc := "(I)V" } : Jvm.MethodName)) ∈ lw_tbl := lw_at lw_m11 108 rfl
theorem q2698 : (Jvm.Cond.instanceMethod ({ cls := "FactHouseModel", name := "makeSite", desc := "(I)V" } : Jvm.MethodName)) ∈ lw_all := lw_g (lw_at lw_m11 109 rfl) rfl
theorem q2699 : (Jvm.Cond.code ({ cls := "FactHouseModel", name := "makeSite", desc := "(I)V" } : Jvm.MethodName) prog_16_method_54_code (7 : Nat) (Option.none : Option Jvm.ClassFile.FieldType)) ∈ lw_all := lw_g (lw_at lw_m11 110 rfl) rfl
theorem q2700 : (Jvm.Cond.methodLink "FactHouseModel" (590 : Nat) ({ cls := "FactHouseModel", name := "joinHeld", desc := "(IIZIIIJ)V" } : Jvm.MethodName)) ∈ lw_all := lw_g (lw_at lw_m11 111 rfl) rfl
theorem q2701 : (Jvm.Cond.privateMethod ({ cls := "FactHouseModel", name := "joinHeld", desc := "(IIZIIIJ)V" } : Jvm.MethodName)) ∈ lw_tbl := lw_at lw_m11 112 rfl
theorem q2702 : (Jvm.Cond.instanceMethod ({ cls := "FactHouseModel", name := "joinHeld", desc := "(IIZIIIJ)V" } : Jvm.MethodName)) ∈ lw_all := lw_g (lw_at lw_m11 113 rfl) rfl
theorem q2703 : (Jvm.Cond.code ({ cls := "FactHouseModel", name := "joinHeld", desc := "(IIZIIIJ)V" } : Jvm.MethodName) prog_16_method_53_code (13 : Nat) (Option.none : Option Jvm.ClassFile.FieldType)) ∈ lw_all := lw_g (lw_at lw_m11 114 rfl) rfl
theorem q2704 : (Jvm.Cond.methodLink "FactHouseModel" (626 : Nat) ({ cls := "FactHouseModel", name := "array", desc := "(I)V" } : Jvm.MethodName)) ∈ lw_all := lw_g (lw_at lw_m11 115 rfl) rfl
theorem q2705 : (Jvm.Cond.privateMethod ({ cls := "FactHouseModel", name := "array", desc := "(I)V" } : Jvm.MethodName)) ∈ lw_tbl := lw_at lw_m11 116 rfl
theorem q2706 : (Jvm.Cond.instanceMethod ({ cls := "FactHouseModel", name := "array", desc := "(I)V" } : Jvm.MethodName)) ∈ lw_all := lw_g (lw_at lw_m11 117 rfl) rfl
theorem q2707 : (Jvm.Cond.code ({ cls := "FactHouseModel", name := "array", desc := "(I)V" } : Jvm.MethodName) prog_16_method_60_code (9 : Nat) (Option.none : Option Jvm.ClassFile.FieldType)) ∈ lw_all := lw_g (lw_at lw_m11 118 rfl) rfl
theorem q2708 : (Jvm.Cond.methodLink "FactHouseModel" (629 : Nat) ({ cls := "FactHouseModel", name := "inArray", desc := "(I)V" } : Jvm.MethodName)) ∈ lw_all := lw_g (lw_at lw_m11 119 rfl) rfl
theorem q2709 : (Jvm.Cond.privateMethod ({ cls := "FactHouseModel", name := "inArray", desc := "(I)V" } : Jvm.MethodName)) ∈ lw_tbl := lw_at lw_m11 120 rfl
theorem q2710 : (Jvm.Cond.instanceMethod ({ cls := "FactHouseModel", name := "inArray", desc := "(I)V" } : Jvm.MethodName)) ∈ lw_all := lw_g (lw_at lw_m11 121 rfl) rfl
theorem q2711 : (Jvm.Cond.code ({ cls := "FactHouseModel", name := "inArray", desc := "(I)V" } : Jvm.MethodName) prog_16_method_61_code (20 : Nat) (Option.none : Option Jvm.ClassFile.FieldType)) ∈ lw_all := lw_g (lw_at lw_m11 122 rfl) rfl
theorem q2712 : (Jvm.Cond.methodLink "FactHouseModel" (643 : Nat) ({ cls := "FactHouseModel", name := "arrays", desc := "(JI)J" } : Jvm.MethodName)) ∈ lw_all := lw_g (lw_at lw_m11 123 rfl) rfl
theorem q2713 : (Jvm.Cond.privateMethod ({ cls := "FactHouseModel", name := "arrays", desc := "(JI)J" } : Jvm.MethodName)) ∈ lw_tbl := lw_at lw_m11 124 rfl
theorem q2714 : (Jvm.Cond.instanceMethod ({ cls := "FactHouseModel", name := "arrays", desc := "(JI)J" } : Jvm.MethodName)) ∈ lw_all := lw_g (lw_at lw_m11 125 rfl) rfl
theorem q2715 : (Jvm.Cond.code ({ cls := "FactHouseModel", name := "arrays", desc := "(JI)J" } : Jvm.MethodName) prog_16_method_29_code (7 : Nat) (Option.some Jvm.ClassFile.FieldType.long)) ∈ lw_all := lw_g (lw_at lw_m11 126 rfl) rfl
theorem q2716 : (Jvm.Cond.methodLink "FactHouseModel" (609 : Nat) ({ cls := "FactHouseModel", name := "addValue", desc := "(IIIJ)V" } : Jvm.MethodName)) ∈ lw_all := lw_g (lw_at lw_m11 127 rfl) rfl
theorem q2717 : (Jvm.Cond.privateMethod ({ cls := "FactHouseModel", name := "addValue", desc := "(IIIJ)V" } : Jvm.MethodName)) ∈ lw_tbl := lw_at lw_m11 128 rfl
theorem q2718 : (Jvm.Cond.instanceMethod ({ cls := "FactHouseModel", name := "addValue", desc := "(IIIJ)V" } : Jvm.MethodName)) ∈ lw_all := lw_g (lw_at lw_m11 129 rfl) rfl
theorem q2719 : (Jvm.Cond.code ({ cls := "FactHouseModel", name := "addValue", desc := "(IIIJ)V" } : Jvm.MethodName) prog_16_method_55_code (6 : Nat) (Option.none : Option Jvm.ClassFile.FieldType)) ∈ lw_all := lw_g (lw_at lw_m11 130 rfl) rfl
theorem q2720 : (Jvm.Cond.constantLong "FactHouseModel" (641 : Nat) (-2 : Int64)) ∈ lw_all := lw_g (lw_at lw_m11 131 rfl) rfl
theorem q2721 : (Jvm.Cond.methodLink "FactHouseModel" (632 : Nat) ({ cls := "FactHouseModel", name := "field", desc := "(I)V" } : Jvm.MethodName)) ∈ lw_all := lw_g (lw_at lw_m11 132 rfl) rfl
theorem q2722 : (Jvm.Cond.privateMethod ({ cls := "FactHouseModel", name := "field", desc := "(I)V" } : Jvm.MethodName)) ∈ lw_tbl := lw_at lw_m11 133 rfl
theorem q2723 : (Jvm.Cond.instanceMethod ({ cls := "FactHouseModel", name := "field", desc := "(I)V" } : Jvm.MethodName)) ∈ lw_all := lw_g (lw_at lw_m11 134 rfl) rfl
theorem q2724 : (Jvm.Cond.code ({ cls := "FactHouseModel", name := "field", desc := "(I)V" } : Jvm.MethodName) prog_16_method_62_code (15 : Nat) (Option.none : Option Jvm.ClassFile.FieldType)) ∈ lw_all := lw_g (lw_at lw_m11 135 rfl) rfl
theorem q2725 : (Jvm.Cond.methodLink "FactHouseModel" (635 : Nat) ({ cls := "FactHouseModel", name := "call", desc := "(I)V" } : Jvm.MethodName)) ∈ lw_all := lw_g (lw_at lw_m11 136 rfl) rfl
theorem q2726 : (Jvm.Cond.privateMethod ({ cls := "FactHouseModel", name := "call", desc := "(I)V" } : Jvm.MethodName)) ∈ lw_tbl := lw_at lw_m11 137 rfl
theorem q2727 : (Jvm.Cond.instanceMethod ({ cls := "FactHouseModel", name := "call", desc := "(I)V" } : Jvm.MethodName)) ∈ lw_all := lw_g (lw_at lw_m11 138 rfl) rfl
theorem q2728 : (Jvm.Cond.code ({ cls := "FactHouseModel", name := "call", desc := "(I)V" } : Jvm.MethodName) prog_16_method_57_code (17 : Nat) (Option.none : Option Jvm.ClassFile.FieldType)) ∈ lw_all := lw_g (lw_at lw_m11 139 rfl) rfl
theorem q2729 : (Jvm.Cond.methodLink "FactHouseModel" (599 : Nat) ({ cls := "FactHouseModel", name := "sentTo", desc := "(II)I" } : Jvm.MethodName)) ∈ lw_all := lw_g (lw_at lw_m11 140 rfl) rfl
theorem q2730 : (Jvm.Cond.privateMethod ({ cls := "FactHouseModel", name := "sentTo", desc := "(II)I" } : Jvm.MethodName)) ∈ lw_tbl := lw_at lw_m11 141 rfl
theorem q2731 : (Jvm.Cond.instanceMethod ({ cls := "FactHouseModel", name := "sentTo", desc := "(II)I" } : Jvm.MethodName)) ∈ lw_all := lw_g (lw_at lw_m11 142 rfl) rfl
theorem q2732 : (Jvm.Cond.code ({ cls := "FactHouseModel", name := "sentTo", desc := "(II)I" } : Jvm.MethodName) prog_16_method_30_code (5 : Nat) (Option.some Jvm.ClassFile.FieldType.int)) ∈ lw_all := lw_g (lw_at lw_m11 143 rfl) rfl
theorem q2733 : (Jvm.Cond.methodLink "FactHouseModel" (602 : Nat) ({ cls := "FactHouseModel", name := "enter", desc := "(IIIJII)V" } : Jvm.MethodName)) ∈ lw_all := lw_g (lw_at lw_m11 144 rfl) rfl
theorem q2734 : (Jvm.Cond.privateMethod ({ cls := "FactHouseModel", name := "enter", desc := "(IIIJII)V" } : Jvm.MethodName)) ∈ lw_tbl := lw_at lw_m11 145 rfl
theorem q2735 : (Jvm.Cond.instanceMethod ({ cls := "FactHouseModel", name := "enter", desc := "(IIIJII)V" } : Jvm.MethodName)) ∈ lw_all := lw_g (lw_at lw_m11 146 rfl) rfl
theorem q2736 : (Jvm.Cond.code ({ cls := "FactHouseModel", name := "enter", desc := "(IIIJII)V" } : Jvm.MethodName) prog_16_method_56_code (12 : Nat) (Option.none : Option Jvm.ClassFile.FieldType)) ∈ lw_all := lw_g (lw_at lw_m11 147 rfl) rfl
theorem q2737 : (Jvm.Cond.methodLink "FactHouseModel" (638 : Nat) ({ cls := "FactHouseModel", name := "giveBack", desc := "(I)V" } : Jvm.MethodName)) ∈ lw_all := lw_g (lw_at lw_m11 148 rfl) rfl
theorem q2738 : (Jvm.Cond.privateMethod ({ cls := "FactHouseModel", name := "giveBack", desc := "(I)V" } : Jvm.MethodName)) ∈ lw_tbl := lw_at lw_m11 149 rfl
theorem q2739 : (Jvm.Cond.instanceMethod ({ cls := "FactHouseModel", name := "giveBack", desc := "(I)V" } : Jvm.MethodName)) ∈ lw_all := lw_g (lw_at lw_m11 150 rfl) rfl
theorem q2740 : (Jvm.Cond.code ({ cls := "FactHouseModel", name := "giveBack", desc := "(I)V" } : Jvm.MethodName) prog_16_method_58_code (9 : Nat) (Option.none : Option Jvm.ClassFile.FieldType)) ∈ lw_all := lw_g (lw_at lw_m11 151 rfl) rfl
theorem q2741 : (Jvm.Cond.methodLink "FactHouseModel" (522 : Nat) ({ cls := "FactHouseModel", name := "findLive", desc := "()V" } : Jvm.MethodName)) ∈ lw_all := lw_g (lw_at lw_m11 152 rfl) rfl
theorem q2742 : (Jvm.Cond.privateMethod ({ cls := "FactHouseModel", name := "findLive", desc := "()V" } : Jvm.MethodName)) ∈ lw_tbl := lw_at lw_m11 153 rfl
theorem q2743 : (Jvm.Cond.instanceMethod ({ cls := "FactHouseModel", name := "findLive", desc := "()V" } : Jvm.MethodName)) ∈ lw_all := lw_g (lw_at lw_m11 154 rfl) rfl
theorem q2744 : (Jvm.Cond.code ({ cls := "FactHouseModel", name := "findLive", desc := "()V" } : Jvm.MethodName) prog_16_method_65_code (6 : Nat) (Option.none : Option Jvm.ClassFile.FieldType)) ∈ lw_all := lw_g (lw_at lw_m11 155 rfl) rfl
theorem q2745 : (Jvm.Cond.methodLink "FactHouseModel" (646 : Nat) ({ cls := "FactHouseModel", name := "readBy", desc := "(I)I" } : Jvm.MethodName)) ∈ lw_all := lw_g (lw_at lw_m11 156 rfl) rfl
theorem q2746 : (Jvm.Cond.privateMethod ({ cls := "FactHouseModel", name := "readBy", desc := "(I)I" } : Jvm.MethodName)) ∈ lw_tbl := lw_at lw_m11 157 rfl
theorem q2747 : (Jvm.Cond.instanceMethod ({ cls := "FactHouseModel", name := "readBy", desc := "(I)I" } : Jvm.MethodName)) ∈ lw_all := lw_g (lw_at lw_m11 158 rfl) rfl
theorem q2748 : (Jvm.Cond.code ({ cls := "FactHouseModel", name := "readBy", desc := "(I)I" } : Jvm.MethodName) prog_16_method_63_code (3 : Nat) (Option.some Jvm.ClassFile.FieldType.int)) ∈ lw_all := lw_g (lw_at lw_m11 159 rfl) rfl
theorem q2749 : (Jvm.Cond.methodLink "FactHouseModel" (649 : Nat) ({ cls := "FactHouseModel", name := "liveOf", desc := "(IJJ)I" } : Jvm.MethodName)) ∈ lw_all := lw_g (lw_at lw_m11 160 rfl) rfl
theorem q2750 : (Jvm.Cond.privateMethod ({ cls := "FactHouseModel", name := "liveOf", desc := "(IJJ)I" } : Jvm.MethodName)) ∈ lw_tbl := lw_at lw_m11 161 rfl
theorem q2751 : (Jvm.Cond.instanceMethod ({ cls := "FactHouseModel", name := "liveOf", desc := "(IJJ)I" } : Jvm.MethodName)) ∈ lw_all := lw_g (lw_at lw_m11 162 rfl) rfl
theorem q2752 : (Jvm.Cond.code ({ cls := "FactHouseModel", name := "liveOf", desc := "(IJJ)I" } : Jvm.MethodName) prog_16_method_64_code (9 : Nat) (Option.some Jvm.ClassFile.FieldType.int)) ∈ lw_all := lw_g (lw_at lw_m11 163 rfl) rfl
theorem q2753 : (Jvm.Cond.methodLink "FactHouseModel" (525 : Nat) ({ cls := "FactHouseModel", name := "findOrigins", desc := "()V" } : Jvm.MethodName)) ∈ lw_all := lw_g (lw_at lw_m11 164 rfl) rfl
theorem q2754 : (Jvm.Cond.privateMethod ({ cls := "FactHouseModel", name := "findOrigins", desc := "()V" } : Jvm.MethodName)) ∈ lw_tbl := lw_at lw_m11 165 rfl
theorem q2755 : (Jvm.Cond.instanceMethod ({ cls := "FactHouseModel", name := "findOrigins", desc := "()V" } : Jvm.MethodName)) ∈ lw_all := lw_g (lw_at lw_m11 166 rfl) rfl
theorem q2756 : (Jvm.Cond.code ({ cls := "FactHouseModel", name := "findOrigins", desc := "()V" } : Jvm.MethodName) prog_16_method_67_code (12 : Nat) (Option.none : Option Jvm.ClassFile.FieldType)) ∈ lw_all := lw_g (lw_at lw_m11 167 rfl) rfl
theorem q2757 : (Jvm.Cond.methodLink "FactHouseModel" (653 : Nat) ({ cls := "FactHouseModel", name := "closed", desc := "(J)J" } : Jvm.MethodName)) ∈ lw_all := lw_g (lw_at lw_m11 168 rfl) rfl
theorem q2758 : (Jvm.Cond.privateMethod ({ cls := "FactHouseModel", name := "closed", desc := "(J)J" } : Jvm.MethodName)) ∈ lw_tbl := lw_at lw_m11 169 rfl
theorem q2759 : (Jvm.Cond.instanceMethod ({ cls := "FactHouseModel", name := "closed", desc := "(J)J" } : Jvm.MethodName)) ∈ lw_all := lw_g (lw_at lw_m11 170 rfl) rfl
theorem q2760 : (Jvm.Cond.code ({ cls := "FactHouseModel", name := "closed", desc := "(J)J" } : Jvm.MethodName) prog_16_method_66_code (8 : Nat) (Option.some Jvm.ClassFile.FieldType.long)) ∈ lw_all := lw_g (lw_at lw_m11 171 rfl) rfl
theorem q2762 : (Jvm.Cond.instanceMethod ({ cls := "FactHouseModel", name := "classOf", desc := "(I)I" } : Jvm.MethodName)) ∈ lw_all := lw_g (lw_at lw_m11 173 rfl) rfl
theorem q2763 : (Jvm.Cond.selects "FactHouseModel" ({ cls := "FactHouseModel", name := "classOf", desc := "(I)I" } : Jvm.MethodName) ({ cls := "FactHouseModel", name := "classOf", desc := "(I)I" } : Jvm.MethodName)) ∈ lw_all := lw_g (lw_at lw_m11 174 rfl) rfl
theorem q2764 : (Jvm.Cond.code ({ cls := "FactHouseModel", name := "classOf", desc := "(I)I" } : Jvm.MethodName) prog_16_method_81_code (2 : Nat) (Option.some Jvm.ClassFile.FieldType.int)) ∈ lw_all := lw_g (lw_at lw_m11 175 rfl) rfl
theorem q2765 : (Jvm.Cond.methodLink "FactHouseModel" (690 : Nat) ({ cls := "FactHouseModel", name := "hasSite", desc := "(I)Z" } : Jvm.MethodName)) ∈ lw_all := lw_g (lw_at lw_m11 176 rfl) rfl
theorem q2766 : (Jvm.Cond.privateMethod ({ cls := "FactHouseModel", name := "hasSite", desc := "(I)Z" } : Jvm.MethodName)) ∈ lw_tbl := lw_at lw_m11 177 rfl
theorem q2767 : (Jvm.Cond.instanceMethod ({ cls := "FactHouseModel", name := "hasSite", desc := "(I)Z" } : Jvm.MethodName)) ∈ lw_all := lw_g (lw_at lw_m11 178 rfl) rfl
theorem q2768 : (Jvm.Cond.code ({ cls := "FactHouseModel", name := "hasSite", desc := "(I)Z" } : Jvm.MethodName) prog_16_method_80_code (2 : Nat) (Option.some Jvm.ClassFile.FieldType.boolean)) ∈ lw_all := lw_g (lw_at lw_m11 179 rfl) rfl
theorem q2770 : (Jvm.Cond.instanceMethod ({ cls := "FactHouseModel", name := "depth", desc := "(II)I" } : Jvm.MethodName)) ∈ lw_all := lw_g (lw_at lw_m11 181 rfl) rfl
theorem q2771 : (Jvm.Cond.selects "FactHouseModel" ({ cls := "FactHouseModel", name := "depth", desc := "(II)I" } : Jvm.MethodName) ({ cls := "FactHouseModel", name := "depth", desc := "(II)I" } : Jvm.MethodName)) ∈ lw_all := lw_g (lw_at lw_m11 182 rfl) rfl
theorem q2772 : (Jvm.Cond.code ({ cls := "FactHouseModel", name := "depth", desc := "(II)I" } : Jvm.MethodName) prog_16_method_82_code (4 : Nat) (Option.some Jvm.ClassFile.FieldType.int)) ∈ lw_all := lw_g (lw_at lw_m11 183 rfl) rfl
theorem q2773 : (Jvm.Cond.methodLink "FactHouseModel" (693 : Nat) ({ cls := "FactHouseModel", name := "placeOf", desc := "(II)I" } : Jvm.MethodName)) ∈ lw_all := lw_g (lw_at lw_m11 184 rfl) rfl
theorem q2774 : (Jvm.Cond.privateMethod ({ cls := "FactHouseModel", name := "placeOf", desc := "(II)I" } : Jvm.MethodName)) ∈ lw_tbl := lw_at lw_m11 185 rfl
theorem q2775 : (Jvm.Cond.instanceMethod ({ cls := "FactHouseModel", name := "placeOf", desc := "(II)I" } : Jvm.MethodName)) ∈ lw_all := lw_g (lw_at lw_m11 186 rfl) rfl
theorem q2776 : (Jvm.Cond.code ({ cls := "FactHouseModel", name := "placeOf", desc := "(II)I" } : Jvm.MethodName) prog_16_method_75_code (3 : Nat) (Option.some Jvm.ClassFile.FieldType.int)) ∈ lw_all := lw_g (lw_at lw_m11 187 rfl) rfl
theorem q2778 : (Jvm.Cond.instanceMethod ({ cls := "FactHouseModel", name := "reach", desc := "(II)Z" } : Jvm.MethodName)) ∈ lw_all := lw_g (lw_at lw_m11 189 rfl) rfl
theorem q2779 : (Jvm.Cond.selects "FactHouseModel" ({ cls := "FactHouseModel", name := "reach", desc := "(II)Z" } : Jvm.MethodName) ({ cls := "FactHouseModel", name := "reach", desc := "(II)Z" } : Jvm.MethodName)) ∈ lw_all := lw_g (lw_at lw_m11 190 rfl) rfl
theorem q2780 : (Jvm.Cond.code ({ cls := "FactHouseModel", name := "reach", desc := "(II)Z" } : Jvm.MethodName) prog_16_method_83_code (4 : Nat) (Option.some Jvm.ClassFile.FieldType.boolean)) ∈ lw_all := lw_g (lw_at lw_m11 191 rfl) rfl
theorem q2782 : (Jvm.Cond.instanceMethod ({ cls := "FactHouseModel", name := "value", desc := "(IIII)J" } : Jvm.MethodName)) ∈ lw_all := lw_g (lw_at lw_m11 193 rfl) rfl
theorem q2783 : (Jvm.Cond.selects "FactHouseModel" ({ cls := "FactHouseModel", name := "value", desc := "(IIII)J" } : Jvm.MethodName) ({ cls := "FactHouseModel", name := "value", desc := "(IIII)J" } : Jvm.MethodName)) ∈ lw_all := lw_g (lw_at lw_m11 194 rfl) rfl
theorem q2784 : (Jvm.Cond.code ({ cls := "FactHouseModel", name := "value", desc := "(IIII)J" } : Jvm.MethodName) prog_16_method_84_code (8 : Nat) (Option.some Jvm.ClassFile.FieldType.long)) ∈ lw_all := lw_g (lw_at lw_m11 195 rfl) rfl
theorem q2785 : (Jvm.Cond.constantLong "FactHouseModel" (696 : Nat) (3 : Int64)) ∈ lw_all := lw_g (lw_at lw_m11 196 rfl) rfl
theorem q2787 : (Jvm.Cond.instanceMethod ({ cls := "FactHouseModel", name := "locks", desc := "(III)I" } : Jvm.MethodName)) ∈ lw_all := lw_g (lw_at lw_m11 198 rfl) rfl
theorem q2788 : (Jvm.Cond.selects "FactHouseModel" ({ cls := "FactHouseModel", name := "locks", desc := "(III)I" } : Jvm.MethodName) ({ cls := "FactHouseModel", name := "locks", desc := "(III)I" } : Jvm.MethodName)) ∈ lw_all := lw_g (lw_at lw_m11 199 rfl) rfl
theorem q2789 : (Jvm.Cond.code ({ cls := "FactHouseModel", name := "locks", desc := "(III)I" } : Jvm.MethodName) prog_16_method_85_code (5 : Nat) (Option.some Jvm.ClassFile.FieldType.int)) ∈ lw_all := lw_g (lw_at lw_m11 200 rfl) rfl
theorem q2791 : (Jvm.Cond.instanceMethod ({ cls := "FactHouseModel", name := "throwsAt", desc := "(II)J" } : Jvm.MethodName)) ∈ lw_all := lw_g (lw_at lw_m11 202 rfl) rfl
theorem q2792 : (Jvm.Cond.selects "FactHouseModel" ({ cls := "FactHouseModel", name := "throwsAt", desc := "(II)J" } : Jvm.MethodName) ({ cls := "FactHouseModel", name := "throwsAt", desc := "(II)J" } : Jvm.MethodName)) ∈ lw_all := lw_g (lw_at lw_m11 203 rfl) rfl
theorem q2793 : (Jvm.Cond.code ({ cls := "FactHouseModel", name := "throwsAt", desc := "(II)J" } : Jvm.MethodName) prog_16_method_86_code (4 : Nat) (Option.some Jvm.ClassFile.FieldType.long)) ∈ lw_all := lw_g (lw_at lw_m11 204 rfl) rfl
theorem q2795 : (Jvm.Cond.instanceMethod ({ cls := "FactHouseModel", name := "calls", desc := "(II)J" } : Jvm.MethodName)) ∈ lw_all := lw_g (lw_at lw_m11 206 rfl) rfl
theorem q2796 : (Jvm.Cond.selects "FactHouseModel" ({ cls := "FactHouseModel", name := "calls", desc := "(II)J" } : Jvm.MethodName) ({ cls := "FactHouseModel", name := "calls", desc := "(II)J" } : Jvm.MethodName)) ∈ lw_all := lw_g (lw_at lw_m11 207 rfl) rfl
theorem q2797 : (Jvm.Cond.code ({ cls := "FactHouseModel", name := "calls", desc := "(II)J" } : Jvm.MethodName) prog_16_method_87_code (4 : Nat) (Option.some Jvm.ClassFile.FieldType.long)) ∈ lw_all := lw_g (lw_at lw_m11 208 rfl) rfl
theorem q2799 : (Jvm.Cond.instanceMethod ({ cls := "FactHouseModel", name := "outcome", desc := "(II)J" } : Jvm.MethodName)) ∈ lw_all := lw_g (lw_at lw_m11 210 rfl) rfl
theorem q2800 : (Jvm.Cond.selects "FactHouseModel" ({ cls := "FactHouseModel", name := "outcome", desc := "(II)J" } : Jvm.MethodName) ({ cls := "FactHouseModel", name := "outcome", desc := "(II)J" } : Jvm.MethodName)) ∈ lw_all := lw_g (lw_at lw_m11 211 rfl) rfl
theorem q2801 : (Jvm.Cond.code ({ cls := "FactHouseModel", name := "outcome", desc := "(II)J" } : Jvm.MethodName) prog_16_method_88_code (3 : Nat) (Option.some Jvm.ClassFile.FieldType.long)) ∈ lw_all := lw_g (lw_at lw_m11 212 rfl) rfl
theorem q2802 : (Jvm.Cond.constantLong "FactHouseModel" (698 : Nat) (6 : Int64)) ∈ lw_all := lw_g (lw_at lw_m11 213 rfl) rfl
theorem q2804 : (Jvm.Cond.instanceMethod ({ cls := "FactHouseModel", name := "held", desc := "(III)J" } : Jvm.MethodName)) ∈ lw_all := lw_g (lw_at lw_m11 215 rfl) rfl
theorem q2805 : (Jvm.Cond.selects "FactHouseModel" ({ cls := "FactHouseModel", name := "held", desc := "(III)J" } : Jvm.MethodName) ({ cls := "FactHouseModel", name := "held", desc := "(III)J" } : Jvm.MethodName)) ∈ lw_all := lw_g (lw_at lw_m11 216 rfl) rfl
theorem q2806 : (Jvm.Cond.code ({ cls := "FactHouseModel", name := "held", desc := "(III)J" } : Jvm.MethodName) prog_16_method_89_code (7 : Nat) (Option.some Jvm.ClassFile.FieldType.long)) ∈ lw_all := lw_g (lw_at lw_m11 217 rfl) rfl
theorem q2807 : (Jvm.Cond.constantLong "FactHouseModel" (700 : Nat) (5 : Int64)) ∈ lw_all := lw_g (lw_at lw_m11 218 rfl) rfl
theorem q2809 : (Jvm.Cond.instanceMethod ({ cls := "FactHouseModel", name := "statics", desc := "(II)J" } : Jvm.MethodName)) ∈ lw_all := lw_g (lw_at lw_m11 220 rfl) rfl
theorem q2810 : (Jvm.Cond.selects "FactHouseModel" ({ cls := "FactHouseModel", name := "statics", desc := "(II)J" } : Jvm.MethodName) ({ cls := "FactHouseModel", name := "statics", desc := "(II)J" } : Jvm.MethodName)) ∈ lw_all := lw_g (lw_at lw_m11 221 rfl) rfl
theorem q2811 : (Jvm.Cond.code ({ cls := "FactHouseModel", name := "statics", desc := "(II)J" } : Jvm.MethodName) prog_16_method_90_code (3 : Nat) (Option.some Jvm.ClassFile.FieldType.long)) ∈ lw_all := lw_g (lw_at lw_m11 222 rfl) rfl
theorem q2813 : (Jvm.Cond.instanceMethod ({ cls := "FactHouseModel", name := "sink", desc := "(II)J" } : Jvm.MethodName)) ∈ lw_all := lw_g (lw_at lw_m11 224 rfl) rfl
theorem q2814 : (Jvm.Cond.selects "FactHouseModel" ({ cls := "FactHouseModel", name := "sink", desc := "(II)J" } : Jvm.MethodName) ({ cls := "FactHouseModel", name := "sink", desc := "(II)J" } : Jvm.MethodName)) ∈ lw_all := lw_g (lw_at lw_m11 225 rfl) rfl
theorem q2815 : (Jvm.Cond.code ({ cls := "FactHouseModel", name := "sink", desc := "(II)J" } : Jvm.MethodName) prog_16_method_91_code (3 : Nat) (Option.some Jvm.ClassFile.FieldType.long)) ∈ lw_all := lw_g (lw_at lw_m11 226 rfl) rfl
theorem q2817 : (Jvm.Cond.instanceMethod ({ cls := "FactHouseModel", name := "live", desc := "(II)I" } : Jvm.MethodName)) ∈ lw_all := lw_g (lw_at lw_m11 228 rfl) rfl
theorem q2818 : (Jvm.Cond.selects "FactHouseModel" ({ cls := "FactHouseModel", name := "live", desc := "(II)I" } : Jvm.MethodName) ({ cls := "FactHouseModel", name := "live", desc := "(II)I" } : Jvm.MethodName)) ∈ lw_all := lw_g (lw_at lw_m11 229 rfl) rfl
theorem q2819 : (Jvm.Cond.code ({ cls := "FactHouseModel", name := "live", desc := "(II)I" } : Jvm.MethodName) prog_16_method_92_code (4 : Nat) (Option.some Jvm.ClassFile.FieldType.int)) ∈ lw_all := lw_g (lw_at lw_m11 230 rfl) rfl
theorem q2821 : (Jvm.Cond.instanceMethod ({ cls := "FactHouseModel", name := "idle", desc := "(I)I" } : Jvm.MethodName)) ∈ lw_all := lw_g (lw_at lw_m11 232 rfl) rfl
theorem q2822 : (Jvm.Cond.selects "FactHouseModel" ({ cls := "FactHouseModel", name := "idle", desc := "(I)I" } : Jvm.MethodName) ({ cls := "FactHouseModel", name := "idle", desc := "(I)I" } : Jvm.MethodName)) ∈ lw_all := lw_g (lw_at lw_m11 233 rfl) rfl
theorem q2823 : (Jvm.Cond.code ({ cls := "FactHouseModel", name := "idle", desc := "(I)I" } : Jvm.MethodName) prog_16_method_93_code (5 : Nat) (Option.some Jvm.ClassFile.FieldType.int)) ∈ lw_all := lw_g (lw_at lw_m11 234 rfl) rfl
theorem q2825 : (Jvm.Cond.instanceMethod ({ cls := "FactHouseModel", name := "threads", desc := "(I)I" } : Jvm.MethodName)) ∈ lw_all := lw_g (lw_at lw_m11 236 rfl) rfl
theorem q2826 : (Jvm.Cond.selects "FactHouseModel" ({ cls := "FactHouseModel", name := "threads", desc := "(I)I" } : Jvm.MethodName) ({ cls := "FactHouseModel", name := "threads", desc := "(I)I" } : Jvm.MethodName)) ∈ lw_all := lw_g (lw_at lw_m11 237 rfl) rfl
theorem q2827 : (Jvm.Cond.code ({ cls := "FactHouseModel", name := "threads", desc := "(I)I" } : Jvm.MethodName) prog_16_method_94_code (2 : Nat) (Option.some Jvm.ClassFile.FieldType.int)) ∈ lw_all := lw_g (lw_at lw_m11 238 rfl) rfl
theorem q2828 : (Jvm.Cond.constantLong "FactHouseModel" (702 : Nat) (2 : Int64)) ∈ lw_all := lw_g (lw_at lw_m11 239 rfl) rfl
theorem q2829 : (Jvm.Cond.constantLong "FactHouseModel" (704 : Nat) (15 : Int64)) ∈ lw_all := lw_g (lw_at lw_m12 0 rfl) rfl
theorem q2830 : (Jvm.Cond.methodLink "FactHouseModel" (706 : Nat) ({ cls := "FactHouseModel", name := "findRace", desc := "(I)I" } : Jvm.MethodName)) ∈ lw_all := lw_g (lw_at lw_m12 1 rfl) rfl
theorem q2831 : (Jvm.Cond.privateMethod ({ cls := "FactHouseModel", name := "findRace", desc := "(I)I" } : Jvm.MethodName)) ∈ lw_tbl := lw_at lw_m12 2 rfl
theorem q2832 : (Jvm.Cond.instanceMethod ({ cls := "FactHouseModel", name := "findRace", desc := "(I)I" } : Jvm.MethodName)) ∈ lw_all := lw_g (lw_at lw_m12 3 rfl) rfl
theorem q2833 : (Jvm.Cond.code ({ cls := "FactHouseModel", name := "findRace", desc := "(I)I" } : Jvm.MethodName) prog_16_method_71_code (5 : Nat) (Option.some Jvm.ClassFile.FieldType.int)) ∈ lw_all := lw_g (lw_at lw_m12 4 rfl) rfl
theorem q2834 : (Jvm.Cond.methodLink "FactHouseModel" (659 : Nat) ({ cls := "FactHouseModel", name := "uses", desc := "(I)I" } : Jvm.MethodName)) ∈ lw_all := lw_g (lw_at lw_m12 5 rfl) rfl
theorem q2835 : (Jvm.Cond.static ({ cls := "FactHouseModel", name := "uses", desc := "(I)I" } : Jvm.MethodName)) ∈ lw_all := lw_g (lw_at lw_m12 6 rfl) rfl
theorem q2836 : (Jvm.Cond.code ({ cls := "FactHouseModel", name := "uses", desc := "(I)I" } : Jvm.MethodName) prog_16_method_69_code (1 : Nat) (Option.some Jvm.ClassFile.FieldType.int)) ∈ lw_all := lw_g (lw_at lw_m12 7 rfl) rfl
theorem q2837 : (Jvm.Cond.methodLink "FactHouseModel" (665 : Nat) ({ cls := "FactHouseModel", name := "isRace", desc := "(II)Z" } : Jvm.MethodName)) ∈ lw_all := lw_g (lw_at lw_m12 8 rfl) rfl
theorem q2838 : (Jvm.Cond.privateMethod ({ cls := "FactHouseModel", name := "isRace", desc := "(II)Z" } : Jvm.MethodName)) ∈ lw_tbl := lw_at lw_m12 9 rfl
theorem q2839 : (Jvm.Cond.instanceMethod ({ cls := "FactHouseModel", name := "isRace", desc := "(II)Z" } : Jvm.MethodName)) ∈ lw_all := lw_g (lw_at lw_m12 10 rfl) rfl
theorem q2840 : (Jvm.Cond.code ({ cls := "FactHouseModel", name := "isRace", desc := "(II)Z" } : Jvm.MethodName) prog_16_method_70_code (5 : Nat) (Option.some Jvm.ClassFile.FieldType.boolean)) ∈ lw_all := lw_g (lw_at lw_m12 11 rfl) rfl
theorem q2841 : (Jvm.Cond.methodLink "FactHouseModel" (662 : Nat) ({ cls := "FactHouseModel", name := "sets", desc := "(I)Z" } : Jvm.MethodName)) ∈ lw_all := lw_g (lw_at lw_m12 12 rfl) rfl
theorem q2842 : (Jvm.Cond.static ({ cls := "FactHouseModel", name := "sets", desc := "(I)Z" } : Jvm.MethodName)) ∈ lw_all := lw_g (lw_at lw_m12 13 rfl) rfl
theorem q2843 : (Jvm.Cond.code ({ cls := "FactHouseModel", name := "sets", desc := "(I)Z" } : Jvm.MethodName) prog_16_method_68_code (1 : Nat) (Option.some Jvm.ClassFile.FieldType.boolean)) ∈ lw_all := lw_g (lw_at lw_m12 14 rfl) rfl
theorem q2844 : (Jvm.Cond.methodLink "FactHouseModel" (709 : Nat) ({ cls := "FactHouseModel", name := "ring", desc := "()I" } : Jvm.MethodName)) ∈ lw_all := lw_g (lw_at lw_m12 15 rfl) rfl
theorem q2845 : (Jvm.Cond.privateMethod ({ cls := "FactHouseModel", name := "ring", desc := "()I" } : Jvm.MethodName)) ∈ lw_tbl := lw_at lw_m12 16 rfl
theorem q2846 : (Jvm.Cond.instanceMethod ({ cls := "FactHouseModel", name := "ring", desc := "()I" } : Jvm.MethodName)) ∈ lw_all := lw_g (lw_at lw_m12 17 rfl) rfl
theorem q2847 : (Jvm.Cond.code ({ cls := "FactHouseModel", name := "ring", desc := "()I" } : Jvm.MethodName) prog_16_method_73_code (6 : Nat) (Option.some Jvm.ClassFile.FieldType.int)) ∈ lw_all := lw_g (lw_at lw_m12 18 rfl) rfl
theorem q2848 : (Jvm.Cond.methodLink "FactHouseModel" (674 : Nat) ({ cls := "FactHouseModel", name := "before", desc := "(I)I" } : Jvm.MethodName)) ∈ lw_all := lw_g (lw_at lw_m12 19 rfl) rfl
theorem q2849 : (Jvm.Cond.privateMethod ({ cls := "FactHouseModel", name := "before", desc := "(I)I" } : Jvm.MethodName)) ∈ lw_tbl := lw_at lw_m12 20 rfl
theorem q2850 : (Jvm.Cond.instanceMethod ({ cls := "FactHouseModel", name := "before", desc := "(I)I" } : Jvm.MethodName)) ∈ lw_all := lw_g (lw_at lw_m12 21 rfl) rfl
theorem q2851 : (Jvm.Cond.code ({ cls := "FactHouseModel", name := "before", desc := "(I)I" } : Jvm.MethodName) prog_16_method_72_code (4 : Nat) (Option.some Jvm.ClassFile.FieldType.int)) ∈ lw_all := lw_g (lw_at lw_m12 22 rfl) rfl
theorem q2853 : (Jvm.Cond.instanceMethod ({ cls := "FactHouseModel", name := "race", desc := "(II)I" } : Jvm.MethodName)) ∈ lw_all := lw_g (lw_at lw_m12 24 rfl) rfl
theorem q2854 : (Jvm.Cond.selects "FactHouseModel" ({ cls := "FactHouseModel", name := "race", desc := "(II)I" } : Jvm.MethodName) ({ cls := "FactHouseModel", name := "race", desc := "(II)I" } : Jvm.MethodName)) ∈ lw_all := lw_g (lw_at lw_m12 25 rfl) rfl
theorem q2855 : (Jvm.Cond.code ({ cls := "FactHouseModel", name := "race", desc := "(II)I" } : Jvm.MethodName) prog_16_method_95_code (5 : Nat) (Option.some Jvm.ClassFile.FieldType.int)) ∈ lw_all := lw_g (lw_at lw_m12 26 rfl) rfl
theorem q2857 : (Jvm.Cond.instanceMethod ({ cls := "FactHouseModel", name := "runs", desc := "(I)J" } : Jvm.MethodName)) ∈ lw_all := lw_g (lw_at lw_m12 28 rfl) rfl
theorem q2858 : (Jvm.Cond.selects "FactHouseModel" ({ cls := "FactHouseModel", name := "runs", desc := "(I)J" } : Jvm.MethodName) ({ cls := "FactHouseModel", name := "runs", desc := "(I)J" } : Jvm.MethodName)) ∈ lw_all := lw_g (lw_at lw_m12 29 rfl) rfl
theorem q2859 : (Jvm.Cond.code ({ cls := "FactHouseModel", name := "runs", desc := "(I)J" } : Jvm.MethodName) prog_16_method_96_code (2 : Nat) (Option.some Jvm.ClassFile.FieldType.long)) ∈ lw_all := lw_g (lw_at lw_m12 30 rfl) rfl
theorem q2861 : (Jvm.Cond.instanceMethod ({ cls := "FactHouseModel", name := "input", desc := "(I)I" } : Jvm.MethodName)) ∈ lw_all := lw_g (lw_at lw_m12 32 rfl) rfl
theorem q2862 : (Jvm.Cond.selects "FactHouseModel" ({ cls := "FactHouseModel", name := "input", desc := "(I)I" } : Jvm.MethodName) ({ cls := "FactHouseModel", name := "input", desc := "(I)I" } : Jvm.MethodName)) ∈ lw_all := lw_g (lw_at lw_m12 33 rfl) rfl
theorem q2863 : (Jvm.Cond.code ({ cls := "FactHouseModel", name := "input", desc := "(I)I" } : Jvm.MethodName) prog_16_method_98_code (2 : Nat) (Option.some Jvm.ClassFile.FieldType.int)) ∈ lw_all := lw_g (lw_at lw_m12 34 rfl) rfl
theorem q2865 : (Jvm.Cond.instanceMethod ({ cls := "FactHouseModel", name := "walk", desc := "(III)I" } : Jvm.MethodName)) ∈ lw_all := lw_g (lw_at lw_m12 36 rfl) rfl
theorem q2866 : (Jvm.Cond.selects "FactHouseModel" ({ cls := "FactHouseModel", name := "walk", desc := "(III)I" } : Jvm.MethodName) ({ cls := "FactHouseModel", name := "walk", desc := "(III)I" } : Jvm.MethodName)) ∈ lw_all := lw_g (lw_at lw_m12 37 rfl) rfl
theorem q2867 : (Jvm.Cond.code ({ cls := "FactHouseModel", name := "walk", desc := "(III)I" } : Jvm.MethodName) prog_16_method_121_code (8 : Nat) (Option.some Jvm.ClassFile.FieldType.int)) ∈ lw_all := lw_g (lw_at lw_m12 38 rfl) rfl
theorem q2868 : (Jvm.Cond.constantLong "FactHouseModel" (801 : Nat) (50 : Int64)) ∈ lw_all := lw_g (lw_at lw_m12 39 rfl) rfl
theorem q2869 : (Jvm.Cond.constantLong "FactHouseModel" (803 : Nat) (5000 : Int64)) ∈ lw_all := lw_g (lw_at lw_m12 40 rfl) rfl
theorem q2870 : (Jvm.Cond.methodLink "FactHouseModel" (795 : Nat) ({ cls := "FactHouseModel", name := "open", desc := "(II)I" } : Jvm.MethodName)) ∈ lw_all := lw_g (lw_at lw_m12 41 rfl) rfl
theorem q2871 : (Jvm.Cond.privateMethod ({ cls := "FactHouseModel", name := "open", desc := "(II)I" } : Jvm.MethodName)) ∈ lw_tbl := lw_at lw_m12 42 rfl
theorem q2872 : (Jvm.Cond.instanceMethod ({ cls := "FactHouseModel", name := "open", desc := "(II)I" } : Jvm.MethodName)) ∈ lw_all := lw_g (lw_at lw_m12 43 rfl) rfl
theorem q2873 : (Jvm.Cond.code ({ cls := "FactHouseModel", name := "open", desc := "(II)I" } : Jvm.MethodName) prog_16_method_106_code (5 : Nat) (Option.some Jvm.ClassFile.FieldType.int)) ∈ lw_all := lw_g (lw_at lw_m12 44 rfl) rfl
theorem q2874 : (Jvm.Cond.methodLink "FactHouseModel" (730 : Nat) ({ cls := "FactHouseModel", name := "frame", desc := "(I)I" } : Jvm.MethodName)) ∈ lw_all := lw_g (lw_at lw_m12 45 rfl) rfl
theorem q2875 : (Jvm.Cond.privateMethod ({ cls := "FactHouseModel", name := "frame", desc := "(I)I" } : Jvm.MethodName)) ∈ lw_tbl := lw_at lw_m12 46 rfl
theorem q2876 : (Jvm.Cond.instanceMethod ({ cls := "FactHouseModel", name := "frame", desc := "(I)I" } : Jvm.MethodName)) ∈ lw_all := lw_g (lw_at lw_m12 47 rfl) rfl
theorem q2877 : (Jvm.Cond.code ({ cls := "FactHouseModel", name := "frame", desc := "(I)I" } : Jvm.MethodName) prog_16_method_101_code (2 : Nat) (Option.some Jvm.ClassFile.FieldType.int)) ∈ lw_all := lw_g (lw_at lw_m12 48 rfl) rfl
theorem q2878 : (Jvm.Cond.methodLink "FactHouseModel" (769 : Nat) ({ cls := "FactHouseModel", name := "nextInput", desc := "()I" } : Jvm.MethodName)) ∈ lw_all := lw_g (lw_at lw_m12 49 rfl) rfl
theorem q2879 : (Jvm.Cond.privateMethod ({ cls := "FactHouseModel", name := "nextInput", desc := "()I" } : Jvm.MethodName)) ∈ lw_tbl := lw_at lw_m12 50 rfl
theorem q2880 : (Jvm.Cond.instanceMethod ({ cls := "FactHouseModel", name := "nextInput", desc := "()I" } : Jvm.MethodName)) ∈ lw_all := lw_g (lw_at lw_m12 51 rfl) rfl
theorem q2881 : (Jvm.Cond.code ({ cls := "FactHouseModel", name := "nextInput", desc := "()I" } : Jvm.MethodName) prog_16_method_99_code (1 : Nat) (Option.some Jvm.ClassFile.FieldType.int)) ∈ lw_all := lw_g (lw_at lw_m12 52 rfl) rfl
theorem q2882 : (Jvm.Cond.methodLink "FactHouseModel" (798 : Nat) ({ cls := "FactHouseModel", name := "isWaiting", desc := "(I)Z" } : Jvm.MethodName)) ∈ lw_all := lw_g (lw_at lw_m12 53 rfl) rfl
theorem q2883 : (Jvm.Cond.privateMethod ({ cls := "FactHouseModel", name := "isWaiting", desc := "(I)Z" } : Jvm.MethodName)) ∈ lw_tbl := lw_at lw_m12 54 rfl
theorem q2884 : (Jvm.Cond.instanceMethod ({ cls := "FactHouseModel", name := "isWaiting", desc := "(I)Z" } : Jvm.MethodName)) ∈ lw_all := lw_g (lw_at lw_m12 55 rfl) rfl
theorem q2885 : (Jvm.Cond.code ({ cls := "FactHouseModel", name := "isWaiting", desc := "(I)Z" } : Jvm.MethodName) prog_16_method_112_code (3 : Nat) (Option.some Jvm.ClassFile.FieldType.boolean)) ∈ lw_all := lw_g (lw_at lw_m12 56 rfl) rfl
theorem q2886 : (Jvm.Cond.methodLink "FactHouseModel" (805 : Nat) ({ cls := "FactHouseModel", name := "act", desc := "(I)Z" } : Jvm.MethodName)) ∈ lw_all := lw_g (lw_at lw_m12 57 rfl) rfl
theorem q2887 : (Jvm.Cond.privateMethod ({ cls := "FactHouseModel", name := "act", desc := "(I)Z" } : Jvm.MethodName)) ∈ lw_tbl := lw_at lw_m12 58 rfl
theorem q2888 : (Jvm.Cond.instanceMethod ({ cls := "FactHouseModel", name := "act", desc := "(I)Z" } : Jvm.MethodName)) ∈ lw_all := lw_g (lw_at lw_m12 59 rfl) rfl
theorem q2889 : (Jvm.Cond.code ({ cls := "FactHouseModel", name := "act", desc := "(I)Z" } : Jvm.MethodName) prog_16_method_113_code (2 : Nat) (Option.some Jvm.ClassFile.FieldType.boolean)) ∈ lw_all := lw_g (lw_at lw_m12 60 rfl) rfl
theorem q2890 : (Jvm.Cond.methodLink "FactHouseModel" (748 : Nat) ({ cls := "FactHouseModel", name := "isAsTold", desc := "(I)Z" } : Jvm.MethodName)) ∈ lw_all := lw_g (lw_at lw_m12 61 rfl) rfl
theorem q2891 : (Jvm.Cond.privateMethod ({ cls := "FactHouseModel", name := "isAsTold", desc := "(I)Z" } : Jvm.MethodName)) ∈ lw_tbl := lw_at lw_m12 62 rfl
theorem q2892 : (Jvm.Cond.instanceMethod ({ cls := "FactHouseModel", name := "isAsTold", desc := "(I)Z" } : Jvm.MethodName)) ∈ lw_all := lw_g (lw_at lw_m12 63 rfl) rfl
theorem q2893 : (Jvm.Cond.code ({ cls := "FactHouseModel", name := "isAsTold", desc := "(I)Z" } : Jvm.MethodName) prog_16_method_107_code (10 : Nat) (Option.some Jvm.ClassFile.FieldType.boolean)) ∈ lw_all := lw_g (lw_at lw_m12 64 rfl) rfl
theorem q2894 : (Jvm.Cond.methodLink "FactHouseModel" (733 : Nat) ({ cls := "FactHouseModel", name := "siteOf", desc := "(I)I" } : Jvm.MethodName)) ∈ lw_all := lw_g (lw_at lw_m12 65 rfl) rfl
theorem q2895 : (Jvm.Cond.privateMethod ({ cls := "FactHouseModel", name := "siteOf", desc := "(I)I" } : Jvm.MethodName)) ∈ lw_tbl := lw_at lw_m12 66 rfl
theorem q2896 : (Jvm.Cond.instanceMethod ({ cls := "FactHouseModel", name := "siteOf", desc := "(I)I" } : Jvm.MethodName)) ∈ lw_all := lw_g (lw_at lw_m12 67 rfl) rfl
theorem q2897 : (Jvm.Cond.code ({ cls := "FactHouseModel", name := "siteOf", desc := "(I)I" } : Jvm.MethodName) prog_16_method_100_code (2 : Nat) (Option.some Jvm.ClassFile.FieldType.int)) ∈ lw_all := lw_g (lw_at lw_m12 68 rfl) rfl
theorem q2898 : (Jvm.Cond.methodLink "FactHouseModel" (751 : Nat) ({ cls := "FactHouseModel", name := "doIt", desc := "(I)V" } : Jvm.MethodName)) ∈ lw_all := lw_g (lw_at lw_m12 69 rfl) rfl
theorem q2899 : (Jvm.Cond.privateMethod ({ cls := "FactHouseModel", name := "doIt", desc := "(I)V" } : Jvm.MethodName)) ∈ lw_tbl := lw_at lw_m12 70 rfl
theorem q2900 : (Jvm.Cond.instanceMethod ({ cls := "FactHouseModel", name := "doIt", desc := "(I)V" } : Jvm.MethodName)) ∈ lw_all := lw_g (lw_at lw_m12 71 rfl) rfl
theorem q2901 : (Jvm.Cond.code ({ cls := "FactHouseModel", name := "doIt", desc := "(I)V" } : Jvm.MethodName) prog_16_method_114_code (15 : Nat) (Option.none : Option Jvm.ClassFile.FieldType)) ∈ lw_all := lw_g (lw_at lw_m12 72 rfl) rfl
theorem q2902 : (Jvm.Cond.methodLink "FactHouseModel" (757 : Nat) ({ cls := "FactHouseModel", name := "lie", desc := "(II)V" } : Jvm.MethodName)) ∈ lw_all := lw_g (lw_at lw_m12 73 rfl) rfl
theorem q2903 : (Jvm.Cond.privateMethod ({ cls := "FactHouseModel", name := "lie", desc := "(II)V" } : Jvm.MethodName)) ∈ lw_tbl := lw_at lw_m12 74 rfl
theorem q2904 : (Jvm.Cond.instanceMethod ({ cls := "FactHouseModel", name := "lie", desc := "(II)V" } : Jvm.MethodName)) ∈ lw_all := lw_g (lw_at lw_m12 75 rfl) rfl
theorem q2905 : (Jvm.Cond.code ({ cls := "FactHouseModel", name := "lie", desc := "(II)V" } : Jvm.MethodName) prog_16_method_110_code (3 : Nat) (Option.none : Option Jvm.ClassFile.FieldType)) ∈ lw_all := lw_g (lw_at lw_m12 76 rfl) rfl
theorem q2906 : (Jvm.Cond.methodLink "FactHouseModel" (739 : Nat) ({ cls := "FactHouseModel", name := "push", desc := "(II)V" } : Jvm.MethodName)) ∈ lw_all := lw_g (lw_at lw_m12 77 rfl) rfl
theorem q2907 : (Jvm.Cond.privateMethod ({ cls := "FactHouseModel", name := "push", desc := "(II)V" } : Jvm.MethodName)) ∈ lw_tbl := lw_at lw_m12 78 rfl
theorem q2908 : (Jvm.Cond.instanceMethod ({ cls := "FactHouseModel", name := "push", desc := "(II)V" } : Jvm.MethodName)) ∈ lw_all := lw_g (lw_at lw_m12 79 rfl) rfl
theorem q2909 : (Jvm.Cond.code ({ cls := "FactHouseModel", name := "push", desc := "(II)V" } : Jvm.MethodName) prog_16_method_104_code (4 : Nat) (Option.none : Option Jvm.ClassFile.FieldType)) ∈ lw_all := lw_g (lw_at lw_m12 80 rfl) rfl
theorem q2910 : (Jvm.Cond.methodLink "FactHouseModel" (745 : Nat) ({ cls := "FactHouseModel", name := "step", desc := "(I)V" } : Jvm.MethodName)) ∈ lw_all := lw_g (lw_at lw_m12 81 rfl) rfl
theorem q2911 : (Jvm.Cond.privateMethod ({ cls := "FactHouseModel", name := "step", desc := "(I)V" } : Jvm.MethodName)) ∈ lw_tbl := lw_at lw_m12 82 rfl
theorem q2912 : (Jvm.Cond.instanceMethod ({ cls := "FactHouseModel", name := "step", desc := "(I)V" } : Jvm.MethodName)) ∈ lw_all := lw_g (lw_at lw_m12 83 rfl) rfl
theorem q2913 : (Jvm.Cond.code ({ cls := "FactHouseModel", name := "step", desc := "(I)V" } : Jvm.MethodName) prog_16_method_105_code (2 : Nat) (Option.none : Option Jvm.ClassFile.FieldType)) ∈ lw_all := lw_g (lw_at lw_m12 84 rfl) rfl
theorem q2914 : (Jvm.Cond.methodLink "FactHouseModel" (760 : Nat) ({ cls := "FactHouseModel", name := "top", desc := "(II)I" } : Jvm.MethodName)) ∈ lw_all := lw_g (lw_at lw_m12 85 rfl) rfl
theorem q2915 : (Jvm.Cond.privateMethod ({ cls := "FactHouseModel", name := "top", desc := "(II)I" } : Jvm.MethodName)) ∈ lw_tbl := lw_at lw_m12 86 rfl
theorem q2916 : (Jvm.Cond.instanceMethod ({ cls := "FactHouseModel", name := "top", desc := "(II)I" } : Jvm.MethodName)) ∈ lw_all := lw_g (lw_at lw_m12 87 rfl) rfl
theorem q2917 : (Jvm.Cond.code ({ cls := "FactHouseModel", name := "top", desc := "(II)I" } : Jvm.MethodName) prog_16_method_102_code (4 : Nat) (Option.some Jvm.ClassFile.FieldType.int)) ∈ lw_all := lw_g (lw_at lw_m12 88 rfl) rfl
theorem q2918 : (Jvm.Cond.methodLink "FactHouseModel" (763 : Nat) ({ cls := "FactHouseModel", name := "drop", desc := "(II)V" } : Jvm.MethodName)) ∈ lw_all := lw_g (lw_at lw_m12 89 rfl) rfl
theorem q2919 : (Jvm.Cond.privateMethod ({ cls := "FactHouseModel", name := "drop", desc := "(II)V" } : Jvm.MethodName)) ∈ lw_tbl := lw_at lw_m12 90 rfl
theorem q2920 : (Jvm.Cond.instanceMethod ({ cls := "FactHouseModel", name := "drop", desc := "(II)V" } : Jvm.MethodName)) ∈ lw_all := lw_g (lw_at lw_m12 91 rfl) rfl
theorem q2921 : (Jvm.Cond.code ({ cls := "FactHouseModel", name := "drop", desc := "(II)V" } : Jvm.MethodName) prog_16_method_103_code (3 : Nat) (Option.none : Option Jvm.ClassFile.FieldType)) ∈ lw_all := lw_g (lw_at lw_m12 92 rfl) rfl
theorem q2922 : (Jvm.Cond.methodLink "FactHouseModel" (766 : Nat) ({ cls := "FactHouseModel", name := "hurl", desc := "(II)V" } : Jvm.MethodName)) ∈ lw_all := lw_g (lw_at lw_m12 93 rfl) rfl
theorem q2923 : (Jvm.Cond.privateMethod ({ cls := "FactHouseModel", name := "hurl", desc := "(II)V" } : Jvm.MethodName)) ∈ lw_tbl := lw_at lw_m12 94 rfl
theorem q2924 : (Jvm.Cond.instanceMethod ({ cls := "FactHouseModel", name := "hurl", desc := "(II)V" } : Jvm.MethodName)) ∈ lw_all := lw_g (lw_at lw_m12 95 rfl) rfl
theorem q2925 : (Jvm.Cond.code ({ cls := "FactHouseModel", name := "hurl", desc := "(II)V" } : Jvm.MethodName) prog_16_method_108_code (8 : Nat) (Option.none : Option Jvm.ClassFile.FieldType)) ∈ lw_all := lw_g (lw_at lw_m12 96 rfl) rfl
theorem q2926 : (Jvm.Cond.methodLink "FactHouseModel" (772 : Nat) ({ cls := "java/lang/Math", name := "floorMod", desc := "(JJ)J" } : Jvm.MethodName)) ∈ lw_all := lw_g (lw_at lw_m12 97 rfl) rfl
theorem q2927 : (Jvm.Cond.methodLink "FactHouseModel" (775 : Nat) ({ cls := "FactHouseModel", name := "jump", desc := "(IIZ)V" } : Jvm.MethodName)) ∈ lw_all := lw_g (lw_at lw_m12 98 rfl) rfl
theorem q2928 : (Jvm.Cond.privateMethod ({ cls := "FactHouseModel", name := "jump", desc := "(IIZ)V" } : Jvm.MethodName)) ∈ lw_tbl := lw_at lw_m12 99 rfl
theorem q2929 : (Jvm.Cond.instanceMethod ({ cls := "FactHouseModel", name := "jump", desc := "(IIZ)V" } : Jvm.MethodName)) ∈ lw_all := lw_g (lw_at lw_m12 100 rfl) rfl
theorem q2930 : (Jvm.Cond.code ({ cls := "FactHouseModel", name := "jump", desc := "(IIZ)V" } : Jvm.MethodName) prog_16_method_115_code (4 : Nat) (Option.none : Option Jvm.ClassFile.FieldType)) ∈ lw_all := lw_g (lw_at lw_m12 101 rfl) rfl
theorem q2931 : (Jvm.Cond.methodLink "FactHouseModel" (779 : Nat) ({ cls := "FactHouseModel", name := "isFullBy", desc := "(Z)Z" } : Jvm.MethodName)) ∈ lw_all := lw_g (lw_at lw_m12 102 rfl) rfl
theorem q2932 : (Jvm.Cond.privateMethod ({ cls := "FactHouseModel", name := "isFullBy", desc := "(Z)Z" } : Jvm.MethodName)) ∈ lw_tbl := lw_at lw_m12 103 rfl
theorem q2933 : (Jvm.Cond.instanceMethod ({ cls := "FactHouseModel", name := "isFullBy", desc := "(Z)Z" } : Jvm.MethodName)) ∈ lw_all := lw_g (lw_at lw_m12 104 rfl) rfl
theorem q2934 : (Jvm.Cond.code ({ cls := "FactHouseModel", name := "isFullBy", desc := "(Z)Z" } : Jvm.MethodName) prog_16_method_109_code (2 : Nat) (Option.some Jvm.ClassFile.FieldType.boolean)) ∈ lw_all := lw_g (lw_at lw_m12 105 rfl) rfl
theorem q2935 : (Jvm.Cond.methodLink "FactHouseModel" (783 : Nat) ({ cls := "FactHouseModel", name := "make", desc := "(II)I" } : Jvm.MethodName)) ∈ lw_all := lw_g (lw_at lw_m12 106 rfl) rfl
theorem q2936 : (Jvm.Cond.privateMethod ({ cls := "FactHouseModel", name := "make", desc := "(II)I" } : Jvm.MethodName)) ∈ lw_tbl := lw_at lw_m12 107 rfl
theorem q2937 : (Jvm.Cond.instanceMethod ({ cls := "FactHouseModel", name := "make", desc := "(II)I" } : Jvm.MethodName)) ∈ lw_all := lw_g (lw_at lw_m12 108 rfl) rfl
theorem q2938 : (Jvm.Cond.code ({ cls := "FactHouseModel", name := "make", desc := "(II)I" } : Jvm.MethodName) prog_16_method_111_code (4 : Nat) (Option.some Jvm.ClassFile.FieldType.int)) ∈ lw_all := lw_g (lw_at lw_m12 109 rfl) rfl
theorem q2939 : (Jvm.Cond.methodLink "FactHouseModel" (786 : Nat) ({ cls := "FactHouseModel", name := "element", desc := "(II)V" } : Jvm.MethodName)) ∈ lw_all := lw_g (lw_at lw_m12 110 rfl) rfl
theorem q2940 : (Jvm.Cond.privateMethod ({ cls := "FactHouseModel", name := "element", desc := "(II)V" } : Jvm.MethodName)) ∈ lw_tbl := lw_at lw_m12 111 rfl
theorem q2941 : (Jvm.Cond.instanceMethod ({ cls := "FactHouseModel", name := "element", desc := "(II)V" } : Jvm.MethodName)) ∈ lw_all := lw_g (lw_at lw_m12 112 rfl) rfl
theorem q2942 : (Jvm.Cond.code ({ cls := "FactHouseModel", name := "element", desc := "(II)V" } : Jvm.MethodName) prog_16_method_116_code (10 : Nat) (Option.none : Option Jvm.ClassFile.FieldType)) ∈ lw_all := lw_g (lw_at lw_m12 113 rfl) rfl
theorem q2943 : (Jvm.Cond.methodLink "FactHouseModel" (789 : Nat) ({ cls := "FactHouseModel", name := "enterCall", desc := "(II)V" } : Jvm.MethodName)) ∈ lw_all := lw_g (lw_at lw_m12 114 rfl) rfl
theorem q2944 : (Jvm.Cond.privateMethod ({ cls := "FactHouseModel", name := "enterCall", desc := "(II)V" } : Jvm.MethodName)) ∈ lw_tbl := lw_at lw_m12 115 rfl
theorem q2945 : (Jvm.Cond.instanceMethod ({ cls := "FactHouseModel", name := "enterCall", desc := "(II)V" } : Jvm.MethodName)) ∈ lw_all := lw_g (lw_at lw_m12 116 rfl) rfl
theorem q2946 : (Jvm.Cond.code ({ cls := "FactHouseModel", name := "enterCall", desc := "(II)V" } : Jvm.MethodName) prog_16_method_117_code (10 : Nat) (Option.none : Option Jvm.ClassFile.FieldType)) ∈ lw_all := lw_g (lw_at lw_m12 117 rfl) rfl
theorem q2947 : (Jvm.Cond.methodLink "FactHouseModel" (792 : Nat) ({ cls := "FactHouseModel", name := "begin", desc := "(II)V" } : Jvm.MethodName)) ∈ lw_all := lw_g (lw_at lw_m12 118 rfl) rfl
theorem q2948 : (Jvm.Cond.privateMethod ({ cls := "FactHouseModel", name := "begin", desc := "(II)V" } : Jvm.MethodName)) ∈ lw_tbl := lw_at lw_m12 119 rfl
theorem q2949 : (Jvm.Cond.instanceMethod ({ cls := "FactHouseModel", name := "begin", desc := "(II)V" } : Jvm.MethodName)) ∈ lw_all := lw_g (lw_at lw_m12 120 rfl) rfl
theorem q2950 : (Jvm.Cond.code ({ cls := "FactHouseModel", name := "begin", desc := "(II)V" } : Jvm.MethodName) prog_16_method_118_code (7 : Nat) (Option.none : Option Jvm.ClassFile.FieldType)) ∈ lw_all := lw_g (lw_at lw_m12 121 rfl) rfl
theorem q2951 : (Jvm.Cond.methodLink "FactHouseModel" (808 : Nat) ({ cls := "FactHouseModel", name := "endedThreads", desc := "()I" } : Jvm.MethodName)) ∈ lw_all := lw_g (lw_at lw_m12 122 rfl) rfl
theorem q2952 : (Jvm.Cond.privateMethod ({ cls := "FactHouseModel", name := "endedThreads", desc := "()I" } : Jvm.MethodName)) ∈ lw_tbl := lw_at lw_m12 123 rfl
theorem q2953 : (Jvm.Cond.instanceMethod ({ cls := "FactHouseModel", name := "endedThreads", desc := "()I" } : Jvm.MethodName)) ∈ lw_all := lw_g (lw_at lw_m12 124 rfl) rfl
theorem q2954 : (Jvm.Cond.code ({ cls := "FactHouseModel", name := "endedThreads", desc := "()I" } : Jvm.MethodName) prog_16_method_119_code (3 : Nat) (Option.some Jvm.ClassFile.FieldType.int)) ∈ lw_all := lw_g (lw_at lw_m12 125 rfl) rfl
theorem q2955 : (Jvm.Cond.methodLink "FactHouseModel" (811 : Nat) ({ cls := "FactHouseModel", name := "isStuck", desc := "()Z" } : Jvm.MethodName)) ∈ lw_all := lw_g (lw_at lw_m12 126 rfl) rfl
theorem q2956 : (Jvm.Cond.privateMethod ({ cls := "FactHouseModel", name := "isStuck", desc := "()Z" } : Jvm.MethodName)) ∈ lw_tbl := lw_at lw_m12 127 rfl
theorem q2957 : (Jvm.Cond.instanceMethod ({ cls := "FactHouseModel", name := "isStuck", desc := "()Z" } : Jvm.MethodName)) ∈ lw_all := lw_g (lw_at lw_m12 128 rfl) rfl
theorem q2958 : (Jvm.Cond.code ({ cls := "FactHouseModel", name := "isStuck", desc := "()Z" } : Jvm.MethodName) prog_16_method_120_code (3 : Nat) (Option.some Jvm.ClassFile.FieldType.boolean)) ∈ lw_all := lw_g (lw_at lw_m12 129 rfl) rfl
theorem q2960 : (Jvm.Cond.instanceMethod ({ cls := "FactHouseModel", name := "walked", desc := "(I)I" } : Jvm.MethodName)) ∈ lw_all := lw_g (lw_at lw_m12 131 rfl) rfl
theorem q2961 : (Jvm.Cond.selects "FactHouseModel" ({ cls := "FactHouseModel", name := "walked", desc := "(I)I" } : Jvm.MethodName) ({ cls := "FactHouseModel", name := "walked", desc := "(I)I" } : Jvm.MethodName)) ∈ lw_all := lw_g (lw_at lw_m12 132 rfl) rfl
theorem q2962 : (Jvm.Cond.code ({ cls := "FactHouseModel", name := "walked", desc := "(I)I" } : Jvm.MethodName) prog_16_method_122_code (2 : Nat) (Option.some Jvm.ClassFile.FieldType.int)) ∈ lw_all := lw_g (lw_at lw_m12 133 rfl) rfl
theorem q2964 : (Jvm.Cond.instanceMethod ({ cls := "FactHouseModel", name := "output", desc := "(II)I" } : Jvm.MethodName)) ∈ lw_all := lw_g (lw_at lw_m12 135 rfl) rfl
theorem q2965 : (Jvm.Cond.selects "FactHouseModel" ({ cls := "FactHouseModel", name := "output", desc := "(II)I" } : Jvm.MethodName) ({ cls := "FactHouseModel", name := "output", desc := "(II)I" } : Jvm.MethodName)) ∈ lw_all := lw_g (lw_at lw_m12 136 rfl) rfl
theorem q2966 : (Jvm.Cond.code ({ cls := "FactHouseModel", name := "output", desc := "(II)I" } : Jvm.MethodName) prog_16_method_123_code (3 : Nat) (Option.some Jvm.ClassFile.FieldType.int)) ∈ lw_all := lw_g (lw_at lw_m12 137 rfl) rfl
theorem q2968 : (Jvm.Cond.instanceMethod ({ cls := "FactHouseModel", name := "met", desc := "(II)J" } : Jvm.MethodName)) ∈ lw_all := lw_g (lw_at lw_m12 139 rfl) rfl
theorem q2969 : (Jvm.Cond.selects "FactHouseModel" ({ cls := "FactHouseModel", name := "met", desc := "(II)J" } : Jvm.MethodName) ({ cls := "FactHouseModel", name := "met", desc := "(II)J" } : Jvm.MethodName)) ∈ lw_all := lw_g (lw_at lw_m12 140 rfl) rfl
theorem q2970 : (Jvm.Cond.code ({ cls := "FactHouseModel", name := "met", desc := "(II)J" } : Jvm.MethodName) prog_16_method_124_code (4 : Nat) (Option.some Jvm.ClassFile.FieldType.long)) ∈ lw_all := lw_g (lw_at lw_m12 141 rfl) rfl
theorem in_X9 : ∀ w ∈ wsX90, w ∈ lw_all := lw_in wsX90 [2231, 2233, 2235, 2237, 2239, 2241, 2243, 2245, 2247, 2249, 2251, 2253, 2255, 2257, 2259, 2261, 2263, 2265, 2267, 2269, 2271, 2273, 2275, 2277, 2279, 2281, 2283, 2285, 2287, 2289, 2291, 2293, 2295, 2297, 2299, 2301, 2303, 2305, 2307, 2309, 2311, 2313, 2315, 2317, 2319, 2321, 2323, 2325, 2327, 2329, 2331, 2333, 2335, 2337, 2339, 2341, 2343, 2345, 2347, 2349, 2351, 2353, 2355, 2357, 2359, 2361, 2363, 2365, 2367, 2369, 2371, 2373, 2375, 2377, 2379, 2381, 2383, 2385, 2387, 2389, 2391, 2393, 2395, 2397, 2399, 2401, 2403, 2405, 2407, 2409, 2411, 2413, 2415, 2417, 2419, 2421, 2423, 2425, 2427, 2429, 2431, 2433, 2435, 2437, 2439, 2441] (by decide +kernel) (by decide +kernel)
/-! FactHouseModel$Load -/
def RX10 : String := "FactHouseModel$Load"
def TX10 : u_T := fun k => match k with
  | 0 => ("FactHouseModel$Load", "classes", "I", false)
  | 1 => ("FactHouseModel$Load", "statics", "I", false)
  | 2 => ("FactHouseModel$Load", "staticKinds", "[I", true)
  | 3 => ("FactHouseModel$Load", "parents", "[I", true)
  | 4 => ("FactHouseModel$Load", "fieldCounts", "[I", true)
  | 5 => ("FactHouseModel$Load", "fieldKinds", "[I", true)
  | 6 => ("FactHouseModel$Load", "methods", "I", false)
  | 7 => ("FactHouseModel$Load", "owner", "[I", true)
  | 8 => ("FactHouseModel$Load", "names", "[I", true)
  | 9 => ("FactHouseModel$Load", "arguments", "[I", true)
  | 10 => ("FactHouseModel$Load", "gives", "[I", true)
  | 11 => ("FactHouseModel$Load", "locals", "[I", true)
  | 12 => ("FactHouseModel$Load", "localKinds", "[I", true)
  | 13 => ("FactHouseModel$Load", "deep", "[I", true)
  | 14 => ("FactHouseModel$Load", "handlers", "[I", true)
  | 15 => ("FactHouseModel$Load", "handling", "[I", true)
  | 16 => ("FactHouseModel$Load", "count", "[I", true)
  | 17 => ("FactHouseModel$Load", "first", "[I", true)
  | 18 => ("FactHouseModel$Load", "begins", "[I", true)
  | 19 => ("FactHouseModel$Load", "ends", "[I", true)
  | 20 => ("FactHouseModel$Load", "bytes", "[B", true)
  | 21 => ("FactHouseModel$Load", "places", "I", false)
  | 22 => ("FactHouseModel$Load", "op", "[I", true)
  | 23 => ("FactHouseModel$Load", "x", "[I", true)
  | 24 => ("FactHouseModel$Load", "y", "[I", true)
  | 25 => ("FactHouseModel$Load", "z", "[I", true)
  | 26 => ("FactHouseModel$Load", "at", "[I", true)
  | 27 => ("FactHouseModel$Load", "methodOf", "[I", true)
  | 28 => ("FactHouseModel$Load", "siteAt", "[I", true)
  | 29 => ("FactHouseModel$Load", "siteClass", "[I", true)
  | 30 => ("FactHouseModel$Load", "sites", "I", false)
  | 31 => ("FactHouseModel$Load", "depth", "[I", true)
  | _ => ("FactHouseModel$Load", "kinds", "[I", true)
def tyX10 : Nat → FieldType := fun k => match k with
  | 0 => .int
  | 1 => .int
  | 2 => .array .int
  | 3 => .array .int
  | 4 => .array .int
  | 5 => .array .int
  | 6 => .int
  | 7 => .array .int
  | 8 => .array .int
  | 9 => .array .int
  | 10 => .array .int
  | 11 => .array .int
  | 12 => .array .int
  | 13 => .array .int
  | 14 => .array .int
  | 15 => .array .int
  | 16 => .array .int
  | 17 => .array .int
  | 18 => .array .int
  | 19 => .array .int
  | 20 => .array .byte
  | 21 => .int
  | 22 => .array .int
  | 23 => .array .int
  | 24 => .array .int
  | 25 => .array .int
  | 26 => .array .int
  | 27 => .array .int
  | 28 => .array .int
  | 29 => .array .int
  | 30 => .int
  | 31 => .array .int
  | _ => .array .int
abbrev wsX100 : List Cond := u_ws RX10 TX10 33
theorem nmX10 : ∀ a, a < 33 → ∀ b, b < 33 → a ≠ b → (TX10 a).2.1 ≠ (TX10 b).2.1 := by decide +kernel
theorem tyX10_ok : ∀ k, k < 33 → parseFieldDescriptor (TX10 k).2.2.1 = some (tyX10 k) := by decide +kernel
abbrev cX10_init : ByteArray := prog_18_method_1_code
def yX10_init : MethodName := ⟨RX10, "<init>", "()V"⟩
theorem q199 : (Jvm.Cond.initialized "FactHouseModel$Load") ∈ lw_all := lw_g (lw_at lw_m1 10 rfl) rfl
theorem q1991 : (Jvm.Cond.instantiable "FactHouseModel$Load" (33 : Nat)) ∈ lw_all := lw_g (lw_at lw_m8 122 rfl) rfl
theorem q1993 : (Jvm.Cond.instanceMethod ({ cls := "FactHouseModel$Load", name := "<init>", desc := "()V" } : Jvm.MethodName)) ∈ lw_all := lw_g (lw_at lw_m8 124 rfl) rfl
theorem q1994 : (Jvm.Cond.code ({ cls := "FactHouseModel$Load", name := "<init>", desc := "()V" } : Jvm.MethodName) prog_18_method_1_code (1 : Nat) (Option.none : Option Jvm.ClassFile.FieldType)) ∈ lw_all := lw_g (lw_at lw_m8 125 rfl) rfl
theorem q1995 : (Jvm.Cond.methodLink "FactHouseModel$Load" (3 : Nat) ({ cls := "java/lang/Object", name := "<init>", desc := "()V" } : Jvm.MethodName)) ∈ lw_all := lw_g (lw_at lw_m8 126 rfl) rfl
theorem q1998 : (Jvm.Cond.fieldLink "FactHouseModel$Load" (9 : Nat) "FactHouseModel$Load" "staticKinds" "[I") ∈ lw_all := lw_g (lw_at lw_m8 129 rfl) rfl
theorem q2000 : (Jvm.Cond.fieldLink "FactHouseModel$Load" (15 : Nat) "FactHouseModel$Load" "parents" "[I") ∈ lw_all := lw_g (lw_at lw_m8 131 rfl) rfl
theorem q2002 : (Jvm.Cond.fieldLink "FactHouseModel$Load" (18 : Nat) "FactHouseModel$Load" "fieldCounts" "[I") ∈ lw_all := lw_g (lw_at lw_m8 133 rfl) rfl
theorem q2004 : (Jvm.Cond.fieldLink "FactHouseModel$Load" (21 : Nat) "FactHouseModel$Load" "fieldKinds" "[I") ∈ lw_all := lw_g (lw_at lw_m8 135 rfl) rfl
theorem q2007 : (Jvm.Cond.fieldLink "FactHouseModel$Load" (24 : Nat) "FactHouseModel$Load" "owner" "[I") ∈ lw_all := lw_g (lw_at lw_m8 138 rfl) rfl
theorem q2009 : (Jvm.Cond.fieldLink "FactHouseModel$Load" (27 : Nat) "FactHouseModel$Load" "names" "[I") ∈ lw_all := lw_g (lw_at lw_m8 140 rfl) rfl
theorem q2011 : (Jvm.Cond.fieldLink "FactHouseModel$Load" (30 : Nat) "FactHouseModel$Load" "arguments" "[I") ∈ lw_all := lw_g (lw_at lw_m8 142 rfl) rfl
theorem q2013 : (Jvm.Cond.fieldLink "FactHouseModel$Load" (33 : Nat) "FactHouseModel$Load" "gives" "[I") ∈ lw_all := lw_g (lw_at lw_m8 144 rfl) rfl
theorem q2015 : (Jvm.Cond.fieldLink "FactHouseModel$Load" (36 : Nat) "FactHouseModel$Load" "locals" "[I") ∈ lw_all := lw_g (lw_at lw_m8 146 rfl) rfl
theorem q2017 : (Jvm.Cond.fieldLink "FactHouseModel$Load" (39 : Nat) "FactHouseModel$Load" "localKinds" "[I") ∈ lw_all := lw_g (lw_at lw_m8 148 rfl) rfl
theorem q2019 : (Jvm.Cond.fieldLink "FactHouseModel$Load" (42 : Nat) "FactHouseModel$Load" "deep" "[I") ∈ lw_all := lw_g (lw_at lw_m8 150 rfl) rfl
theorem q2021 : (Jvm.Cond.fieldLink "FactHouseModel$Load" (45 : Nat) "FactHouseModel$Load" "handlers" "[I") ∈ lw_all := lw_g (lw_at lw_m8 152 rfl) rfl
theorem q2023 : (Jvm.Cond.fieldLink "FactHouseModel$Load" (48 : Nat) "FactHouseModel$Load" "handling" "[I") ∈ lw_all := lw_g (lw_at lw_m8 154 rfl) rfl
theorem q2025 : (Jvm.Cond.fieldLink "FactHouseModel$Load" (51 : Nat) "FactHouseModel$Load" "count" "[I") ∈ lw_all := lw_g (lw_at lw_m8 156 rfl) rfl
theorem q2027 : (Jvm.Cond.fieldLink "FactHouseModel$Load" (54 : Nat) "FactHouseModel$Load" "first" "[I") ∈ lw_all := lw_g (lw_at lw_m8 158 rfl) rfl
theorem q2029 : (Jvm.Cond.fieldLink "FactHouseModel$Load" (57 : Nat) "FactHouseModel$Load" "begins" "[I") ∈ lw_all := lw_g (lw_at lw_m8 160 rfl) rfl
theorem q2031 : (Jvm.Cond.fieldLink "FactHouseModel$Load" (60 : Nat) "FactHouseModel$Load" "ends" "[I") ∈ lw_all := lw_g (lw_at lw_m8 162 rfl) rfl
theorem q2033 : (Jvm.Cond.fieldLink "FactHouseModel$Load" (63 : Nat) "FactHouseModel$Load" "bytes" "[B") ∈ lw_all := lw_g (lw_at lw_m8 164 rfl) rfl
theorem q2036 : (Jvm.Cond.fieldLink "FactHouseModel$Load" (67 : Nat) "FactHouseModel$Load" "op" "[I") ∈ lw_all := lw_g (lw_at lw_m8 167 rfl) rfl
theorem q2038 : (Jvm.Cond.fieldLink "FactHouseModel$Load" (70 : Nat) "FactHouseModel$Load" "x" "[I") ∈ lw_all := lw_g (lw_at lw_m8 169 rfl) rfl
theorem q2040 : (Jvm.Cond.fieldLink "FactHouseModel$Load" (73 : Nat) "FactHouseModel$Load" "y" "[I") ∈ lw_all := lw_g (lw_at lw_m8 171 rfl) rfl
theorem q2042 : (Jvm.Cond.fieldLink "FactHouseModel$Load" (76 : Nat) "FactHouseModel$Load" "z" "[I") ∈ lw_all := lw_g (lw_at lw_m8 173 rfl) rfl
theorem q2044 : (Jvm.Cond.fieldLink "FactHouseModel$Load" (79 : Nat) "FactHouseModel$Load" "at" "[I") ∈ lw_all := lw_g (lw_at lw_m8 175 rfl) rfl
theorem q2046 : (Jvm.Cond.fieldLink "FactHouseModel$Load" (82 : Nat) "FactHouseModel$Load" "methodOf" "[I") ∈ lw_all := lw_g (lw_at lw_m8 177 rfl) rfl
theorem q2048 : (Jvm.Cond.fieldLink "FactHouseModel$Load" (85 : Nat) "FactHouseModel$Load" "siteAt" "[I") ∈ lw_all := lw_g (lw_at lw_m8 179 rfl) rfl
theorem q2050 : (Jvm.Cond.fieldLink "FactHouseModel$Load" (88 : Nat) "FactHouseModel$Load" "siteClass" "[I") ∈ lw_all := lw_g (lw_at lw_m8 181 rfl) rfl
theorem q2053 : (Jvm.Cond.fieldLink "FactHouseModel$Load" (91 : Nat) "FactHouseModel$Load" "depth" "[I") ∈ lw_all := lw_g (lw_at lw_m8 184 rfl) rfl
theorem q2055 : (Jvm.Cond.fieldLink "FactHouseModel$Load" (94 : Nat) "FactHouseModel$Load" "kinds" "[I") ∈ lw_all := lw_g (lw_at lw_m8 186 rfl) rfl
theorem q2057 : (Jvm.Cond.lays "FactHouseModel$Load" "FactHouseModel$Load" "classes" "I") ∈ lw_all := lw_g (lw_at lw_m8 188 rfl) rfl
theorem q2058 : (Jvm.Cond.soleField "FactHouseModel$Load" "classes") ∈ lw_all := lw_g (lw_at lw_m8 189 rfl) rfl
theorem q2059 : (Jvm.Cond.lays "FactHouseModel$Load" "FactHouseModel$Load" "statics" "I") ∈ lw_all := lw_g (lw_at lw_m8 190 rfl) rfl
theorem q2060 : (Jvm.Cond.soleField "FactHouseModel$Load" "statics") ∈ lw_all := lw_g (lw_at lw_m8 191 rfl) rfl
theorem q2061 : (Jvm.Cond.laysFinal "FactHouseModel$Load" "FactHouseModel$Load" "staticKinds" "[I") ∈ lw_all := lw_g (lw_at lw_m8 192 rfl) rfl
theorem q2062 : (Jvm.Cond.soleField "FactHouseModel$Load" "staticKinds") ∈ lw_all := lw_g (lw_at lw_m8 193 rfl) rfl
theorem q2063 : (Jvm.Cond.laysFinal "FactHouseModel$Load" "FactHouseModel$Load" "parents" "[I") ∈ lw_all := lw_g (lw_at lw_m8 194 rfl) rfl
theorem q2064 : (Jvm.Cond.soleField "FactHouseModel$Load" "parents") ∈ lw_all := lw_g (lw_at lw_m8 195 rfl) rfl
theorem q2065 : (Jvm.Cond.laysFinal "FactHouseModel$Load" "FactHouseModel$Load" "fieldCounts" "[I") ∈ lw_all := lw_g (lw_at lw_m8 196 rfl) rfl
theorem q2066 : (Jvm.Cond.soleField "FactHouseModel$Load" "fieldCounts") ∈ lw_all := lw_g (lw_at lw_m8 197 rfl) rfl
theorem q2067 : (Jvm.Cond.laysFinal "FactHouseModel$Load" "FactHouseModel$Load" "fieldKinds" "[I") ∈ lw_all := lw_g (lw_at lw_m8 198 rfl) rfl
theorem q2068 : (Jvm.Cond.soleField "FactHouseModel$Load" "fieldKinds") ∈ lw_all := lw_g (lw_at lw_m8 199 rfl) rfl
theorem q2069 : (Jvm.Cond.lays "FactHouseModel$Load" "FactHouseModel$Load" "methods" "I") ∈ lw_all := lw_g (lw_at lw_m8 200 rfl) rfl
theorem q2070 : (Jvm.Cond.soleField "FactHouseModel$Load" "methods") ∈ lw_all := lw_g (lw_at lw_m8 201 rfl) rfl
theorem q2071 : (Jvm.Cond.laysFinal "FactHouseModel$Load" "FactHouseModel$Load" "owner" "[I") ∈ lw_all := lw_g (lw_at lw_m8 202 rfl) rfl
theorem q2072 : (Jvm.Cond.soleField "FactHouseModel$Load" "owner") ∈ lw_all := lw_g (lw_at lw_m8 203 rfl) rfl
theorem q2073 : (Jvm.Cond.laysFinal "FactHouseModel$Load" "FactHouseModel$Load" "names" "[I") ∈ lw_all := lw_g (lw_at lw_m8 204 rfl) rfl
theorem q2074 : (Jvm.Cond.soleField "FactHouseModel$Load" "names") ∈ lw_all := lw_g (lw_at lw_m8 205 rfl) rfl
theorem q2075 : (Jvm.Cond.laysFinal "FactHouseModel$Load" "FactHouseModel$Load" "arguments" "[I") ∈ lw_all := lw_g (lw_at lw_m8 206 rfl) rfl
theorem q2076 : (Jvm.Cond.soleField "FactHouseModel$Load" "arguments") ∈ lw_all := lw_g (lw_at lw_m8 207 rfl) rfl
theorem q2077 : (Jvm.Cond.laysFinal "FactHouseModel$Load" "FactHouseModel$Load" "gives" "[I") ∈ lw_all := lw_g (lw_at lw_m8 208 rfl) rfl
theorem q2078 : (Jvm.Cond.soleField "FactHouseModel$Load" "gives") ∈ lw_all := lw_g (lw_at lw_m8 209 rfl) rfl
theorem q2079 : (Jvm.Cond.laysFinal "FactHouseModel$Load" "FactHouseModel$Load" "locals" "[I") ∈ lw_all := lw_g (lw_at lw_m8 210 rfl) rfl
theorem q2080 : (Jvm.Cond.soleField "FactHouseModel$Load" "locals") ∈ lw_all := lw_g (lw_at lw_m8 211 rfl) rfl
theorem q2081 : (Jvm.Cond.laysFinal "FactHouseModel$Load" "FactHouseModel$Load" "localKinds" "[I") ∈ lw_all := lw_g (lw_at lw_m8 212 rfl) rfl
theorem q2082 : (Jvm.Cond.soleField "FactHouseModel$Load" "localKinds") ∈ lw_all := lw_g (lw_at lw_m8 213 rfl) rfl
theorem q2083 : (Jvm.Cond.laysFinal "FactHouseModel$Load" "FactHouseModel$Load" "deep" "[I") ∈ lw_all := lw_g (lw_at lw_m8 214 rfl) rfl
theorem q2084 : (Jvm.Cond.soleField "FactHouseModel$Load" "deep") ∈ lw_all := lw_g (lw_at lw_m8 215 rfl) rfl
theorem q2085 : (Jvm.Cond.laysFinal "FactHouseModel$Load" "FactHouseModel$Load" "handlers" "[I") ∈ lw_all := lw_g (lw_at lw_m8 216 rfl) rfl
theorem q2086 : (Jvm.Cond.soleField "FactHouseModel$Load" "handlers") ∈ lw_all := lw_g (lw_at lw_m8 217 rfl) rfl
theorem q2087 : (Jvm.Cond.laysFinal "FactHouseModel$Load" "FactHouseModel$Load" "handling" "[I") ∈ lw_all := lw_g (lw_at lw_m8 218 rfl) rfl
theorem q2088 : (Jvm.Cond.soleField "FactHouseModel$Load" "handling") ∈ lw_all := lw_g (lw_at lw_m8 219 rfl) rfl
theorem q2089 : (Jvm.Cond.laysFinal "FactHouseModel$Load" "FactHouseModel$Load" "count" "[I") ∈ lw_all := lw_g (lw_at lw_m8 220 rfl) rfl
theorem q2090 : (Jvm.Cond.soleField "FactHouseModel$Load" "count") ∈ lw_all := lw_g (lw_at lw_m8 221 rfl) rfl
theorem q2091 : (Jvm.Cond.laysFinal "FactHouseModel$Load" "FactHouseModel$Load" "first" "[I") ∈ lw_all := lw_g (lw_at lw_m8 222 rfl) rfl
theorem q2092 : (Jvm.Cond.soleField "FactHouseModel$Load" "first") ∈ lw_all := lw_g (lw_at lw_m8 223 rfl) rfl
theorem q2093 : (Jvm.Cond.laysFinal "FactHouseModel$Load" "FactHouseModel$Load" "begins" "[I") ∈ lw_all := lw_g (lw_at lw_m8 224 rfl) rfl
theorem q2094 : (Jvm.Cond.soleField "FactHouseModel$Load" "begins") ∈ lw_all := lw_g (lw_at lw_m8 225 rfl) rfl
theorem q2095 : (Jvm.Cond.laysFinal "FactHouseModel$Load" "FactHouseModel$Load" "ends" "[I") ∈ lw_all := lw_g (lw_at lw_m8 226 rfl) rfl
theorem q2096 : (Jvm.Cond.soleField "FactHouseModel$Load" "ends") ∈ lw_all := lw_g (lw_at lw_m8 227 rfl) rfl
theorem q2097 : (Jvm.Cond.laysFinal "FactHouseModel$Load" "FactHouseModel$Load" "bytes" "[B") ∈ lw_all := lw_g (lw_at lw_m8 228 rfl) rfl
theorem q2098 : (Jvm.Cond.soleField "FactHouseModel$Load" "bytes") ∈ lw_all := lw_g (lw_at lw_m8 229 rfl) rfl
theorem q2099 : (Jvm.Cond.lays "FactHouseModel$Load" "FactHouseModel$Load" "places" "I") ∈ lw_all := lw_g (lw_at lw_m8 230 rfl) rfl
theorem q2100 : (Jvm.Cond.soleField "FactHouseModel$Load" "places") ∈ lw_all := lw_g (lw_at lw_m8 231 rfl) rfl
theorem q2101 : (Jvm.Cond.laysFinal "FactHouseModel$Load" "FactHouseModel$Load" "op" "[I") ∈ lw_all := lw_g (lw_at lw_m8 232 rfl) rfl
theorem q2102 : (Jvm.Cond.soleField "FactHouseModel$Load" "op") ∈ lw_all := lw_g (lw_at lw_m8 233 rfl) rfl
theorem q2103 : (Jvm.Cond.laysFinal "FactHouseModel$Load" "FactHouseModel$Load" "x" "[I") ∈ lw_all := lw_g (lw_at lw_m8 234 rfl) rfl
theorem q2104 : (Jvm.Cond.soleField "FactHouseModel$Load" "x") ∈ lw_all := lw_g (lw_at lw_m8 235 rfl) rfl
theorem q2105 : (Jvm.Cond.laysFinal "FactHouseModel$Load" "FactHouseModel$Load" "y" "[I") ∈ lw_all := lw_g (lw_at lw_m8 236 rfl) rfl
theorem q2106 : (Jvm.Cond.soleField "FactHouseModel$Load" "y") ∈ lw_all := lw_g (lw_at lw_m8 237 rfl) rfl
theorem q2107 : (Jvm.Cond.laysFinal "FactHouseModel$Load" "FactHouseModel$Load" "z" "[I") ∈ lw_all := lw_g (lw_at lw_m8 238 rfl) rfl
theorem q2108 : (Jvm.Cond.soleField "FactHouseModel$Load" "z") ∈ lw_all := lw_g (lw_at lw_m8 239 rfl) rfl
theorem q2109 : (Jvm.Cond.laysFinal "FactHouseModel$Load" "FactHouseModel$Load" "at" "[I") ∈ lw_all := lw_g (lw_at lw_m9 0 rfl) rfl
theorem q2110 : (Jvm.Cond.soleField "FactHouseModel$Load" "at") ∈ lw_all := lw_g (lw_at lw_m9 1 rfl) rfl
theorem q2111 : (Jvm.Cond.laysFinal "FactHouseModel$Load" "FactHouseModel$Load" "methodOf" "[I") ∈ lw_all := lw_g (lw_at lw_m9 2 rfl) rfl
theorem q2112 : (Jvm.Cond.soleField "FactHouseModel$Load" "methodOf") ∈ lw_all := lw_g (lw_at lw_m9 3 rfl) rfl
theorem q2113 : (Jvm.Cond.laysFinal "FactHouseModel$Load" "FactHouseModel$Load" "siteAt" "[I") ∈ lw_all := lw_g (lw_at lw_m9 4 rfl) rfl
theorem q2114 : (Jvm.Cond.soleField "FactHouseModel$Load" "siteAt") ∈ lw_all := lw_g (lw_at lw_m9 5 rfl) rfl
theorem q2115 : (Jvm.Cond.laysFinal "FactHouseModel$Load" "FactHouseModel$Load" "siteClass" "[I") ∈ lw_all := lw_g (lw_at lw_m9 6 rfl) rfl
theorem q2116 : (Jvm.Cond.soleField "FactHouseModel$Load" "siteClass") ∈ lw_all := lw_g (lw_at lw_m9 7 rfl) rfl
theorem q2117 : (Jvm.Cond.lays "FactHouseModel$Load" "FactHouseModel$Load" "sites" "I") ∈ lw_all := lw_g (lw_at lw_m9 8 rfl) rfl
theorem q2118 : (Jvm.Cond.soleField "FactHouseModel$Load" "sites") ∈ lw_all := lw_g (lw_at lw_m9 9 rfl) rfl
theorem q2119 : (Jvm.Cond.laysFinal "FactHouseModel$Load" "FactHouseModel$Load" "depth" "[I") ∈ lw_all := lw_g (lw_at lw_m9 10 rfl) rfl
theorem q2120 : (Jvm.Cond.soleField "FactHouseModel$Load" "depth") ∈ lw_all := lw_g (lw_at lw_m9 11 rfl) rfl
theorem q2121 : (Jvm.Cond.laysFinal "FactHouseModel$Load" "FactHouseModel$Load" "kinds" "[I") ∈ lw_all := lw_g (lw_at lw_m9 12 rfl) rfl
theorem q2122 : (Jvm.Cond.soleField "FactHouseModel$Load" "kinds") ∈ lw_all := lw_g (lw_at lw_m9 13 rfl) rfl
theorem q2123 : (Jvm.Cond.superclass "FactHouseModel$Load" "java/lang/Object") ∈ lw_all := lw_g (lw_at lw_m9 14 rfl) rfl
theorem in_X10 : ∀ w ∈ wsX100, w ∈ lw_all := lw_in wsX100 [2057, 2059, 2061, 2063, 2065, 2067, 2069, 2071, 2073, 2075, 2077, 2079, 2081, 2083, 2085, 2087, 2089, 2091, 2093, 2095, 2097, 2099, 2101, 2103, 2105, 2107, 2109, 2111, 2113, 2115, 2117, 2119, 2121] (by decide +kernel) (by decide +kernel)
/-! java/lang/Throwable -/
def RJ0 : String := "java/lang/Throwable"
def TJ0 : u_T := fun k => match k with
  | 0 => ("java/lang/Throwable", "cause", "Ljava/lang/Throwable;", false)
  | 1 => ("java/lang/Throwable", "stackTrace", "[Ljava/lang/StackTraceElement;", false)
  | 2 => ("java/lang/Throwable", "suppressedExceptions", "Ljava/util/List;", false)
  | 3 => ("java/lang/Throwable", "detailMessage", "Ljava/lang/String;", false)
  | _ => ("java/lang/Throwable", "backtrace", "Ljava/lang/Object;", false)
def tyJ0 : Nat → FieldType := fun k => match k with
  | 0 => .object "java/lang/Throwable"
  | 1 => .array (.object "java/lang/StackTraceElement")
  | 2 => .object "java/util/List"
  | 3 => .object "java/lang/String"
  | _ => .object "java/lang/Object"
abbrev wsJ00 : List Cond := u_ws RJ0 TJ0 5
theorem nmJ0 : ∀ a, a < 5 → ∀ b, b < 5 → a ≠ b → (TJ0 a).2.1 ≠ (TJ0 b).2.1 := by decide +kernel
theorem tyJ0_ok : ∀ k, k < 5 → parseFieldDescriptor (TJ0 k).2.2.1 = some (tyJ0 k) := by decide +kernel
abbrev cJ0_init : ByteArray := prog_30_method_1_code
def yJ0_init : MethodName := ⟨RJ0, "<init>", "()V"⟩
abbrev cJ0_init_2 : ByteArray := prog_30_method_5_code
def yJ0_init_2 : MethodName := ⟨RJ0, "<init>", "(Ljava/lang/String;Ljava/lang/Throwable;ZZ)V"⟩
abbrev cJ0_init_3 : ByteArray := prog_30_method_2_code
def yJ0_init_3 : MethodName := ⟨RJ0, "<init>", "(Ljava/lang/String;)V"⟩
theorem q200 : (Jvm.Cond.initialized "java/lang/Throwable") ∈ lw_all := lw_g (lw_at lw_m1 11 rfl) rfl
theorem q821 : (Jvm.Cond.declares ({ cls := "java/lang/Throwable", name := "<init>", desc := "()V" } : Jvm.MethodName)) ∈ lw_tbl := lw_at lw_m3 152 rfl
theorem q822 : (Jvm.Cond.declares ({ cls := "java/lang/Throwable", name := "<init>", desc := "(Ljava/lang/String;)V" } : Jvm.MethodName)) ∈ lw_tbl := lw_at lw_m3 153 rfl
theorem q826 : (Jvm.Cond.lays "java/lang/Throwable" "java/lang/Throwable" "cause" "Ljava/lang/Throwable;") ∈ lw_all := lw_g (lw_at lw_m3 157 rfl) rfl
theorem q828 : (Jvm.Cond.lays "java/lang/Throwable" "java/lang/Throwable" "stackTrace" "[Ljava/lang/StackTraceElement;") ∈ lw_all := lw_g (lw_at lw_m3 159 rfl) rfl
theorem q830 : (Jvm.Cond.lays "java/lang/Throwable" "java/lang/Throwable" "suppressedExceptions" "Ljava/util/List;") ∈ lw_all := lw_g (lw_at lw_m3 161 rfl) rfl
theorem q832 : (Jvm.Cond.lays "java/lang/Throwable" "java/lang/Throwable" "detailMessage" "Ljava/lang/String;") ∈ lw_all := lw_g (lw_at lw_m3 163 rfl) rfl
theorem q834 : (Jvm.Cond.lays "java/lang/Throwable" "java/lang/Throwable" "backtrace" "Ljava/lang/Object;") ∈ lw_all := lw_g (lw_at lw_m3 165 rfl) rfl
theorem q835 : (Jvm.Cond.fieldLink "java/lang/Throwable" (198 : Nat) "java/lang/Throwable" "backtrace" "Ljava/lang/Object;") ∈ lw_all := lw_g (lw_at lw_m3 166 rfl) rfl
theorem q836 : (Jvm.Cond.superclass "java/lang/Throwable" "java/lang/Object") ∈ lw_all := lw_g (lw_at lw_m3 167 rfl) rfl
theorem q837 : (Jvm.Cond.instanceMethod ({ cls := "java/lang/Throwable", name := "<init>", desc := "()V" } : Jvm.MethodName)) ∈ lw_all := lw_g (lw_at lw_m3 168 rfl) rfl
theorem q838 : (Jvm.Cond.code ({ cls := "java/lang/Throwable", name := "<init>", desc := "()V" } : Jvm.MethodName) prog_30_method_1_code (1 : Nat) (Option.none : Option Jvm.ClassFile.FieldType)) ∈ lw_all := lw_g (lw_at lw_m3 169 rfl) rfl
theorem q839 : (Jvm.Cond.methodLink "java/lang/Throwable" (1 : Nat) ({ cls := "java/lang/Object", name := "<init>", desc := "()V" } : Jvm.MethodName)) ∈ lw_all := lw_g (lw_at lw_m3 170 rfl) rfl
theorem q840 : (Jvm.Cond.fieldLink "java/lang/Throwable" (13 : Nat) "java/lang/Throwable" "UNASSIGNED_STACK" "[Ljava/lang/StackTraceElement;") ∈ lw_all := lw_g (lw_at lw_m3 171 rfl) rfl
theorem q841 : (Jvm.Cond.laysStatic "java/lang/Throwable" "UNASSIGNED_STACK" "[Ljava/lang/StackTraceElement;") ∈ lw_tbl := lw_at lw_m3 172 rfl
theorem q842 : (Jvm.Cond.fieldLink "java/lang/Throwable" (20 : Nat) "java/lang/Throwable" "SUPPRESSED_SENTINEL" "Ljava/util/List;") ∈ lw_all := lw_g (lw_at lw_m3 173 rfl) rfl
theorem q843 : (Jvm.Cond.laysStatic "java/lang/Throwable" "SUPPRESSED_SENTINEL" "Ljava/util/List;") ∈ lw_tbl := lw_at lw_m3 174 rfl
theorem q844 : (Jvm.Cond.methodLink "java/lang/Throwable" (27 : Nat) ({ cls := "java/lang/Throwable", name := "fillInStackTrace", desc := "()Ljava/lang/Throwable;" } : Jvm.MethodName)) ∈ lw_all := lw_g (lw_at lw_m3 175 rfl) rfl
theorem q845 : (Jvm.Cond.instanceMethod ({ cls := "java/lang/Throwable", name := "fillInStackTrace", desc := "()Ljava/lang/Throwable;" } : Jvm.MethodName)) ∈ lw_all := lw_g (lw_at lw_m3 176 rfl) rfl
theorem q846 : (Jvm.Cond.sameMethod "java/lang/Throwable" "java/lang/Throwable" "fillInStackTrace" "()Ljava/lang/Throwable;") ∈ lw_all := lw_g (lw_at lw_m3 177 rfl) rfl
theorem q852 : (Jvm.Cond.codeSync ({ cls := "java/lang/Throwable", name := "fillInStackTrace", desc := "()Ljava/lang/Throwable;" } : Jvm.MethodName) prog_30_method_18_code (1 : Nat) (Option.some (Jvm.ClassFile.FieldType.object "java/lang/Throwable"))) ∈ lw_all := lw_g (lw_at lw_m3 183 rfl) rfl
theorem q853 : (Jvm.Cond.methodLink "java/lang/Throwable" (202 : Nat) ({ cls := "java/lang/Throwable", name := "fillInStackTrace", desc := "(I)Ljava/lang/Throwable;" } : Jvm.MethodName)) ∈ lw_all := lw_g (lw_at lw_m3 184 rfl) rfl
theorem q854 : (Jvm.Cond.privateMethod ({ cls := "java/lang/Throwable", name := "fillInStackTrace", desc := "(I)Ljava/lang/Throwable;" } : Jvm.MethodName)) ∈ lw_tbl := lw_at lw_m3 185 rfl
theorem q855 : (Jvm.Cond.instanceMethod ({ cls := "java/lang/Throwable", name := "fillInStackTrace", desc := "(I)Ljava/lang/Throwable;" } : Jvm.MethodName)) ∈ lw_all := lw_g (lw_at lw_m3 186 rfl) rfl
theorem q856 : (Jvm.Cond.instantiable "java/lang/Throwable" (6 : Nat)) ∈ lw_all := lw_g (lw_at lw_m3 187 rfl) rfl
theorem q857 : (Jvm.Cond.native ({ cls := "java/lang/Throwable", name := "fillInStackTrace", desc := "(I)Ljava/lang/Throwable;" } : Jvm.MethodName)) ∈ lw_all := lw_g (lw_at lw_m3 188 rfl) rfl
theorem q868 : (Jvm.Cond.instanceMethod ({ cls := "java/lang/Throwable", name := "<init>", desc := "(Ljava/lang/String;Ljava/lang/Throwable;ZZ)V" } : Jvm.MethodName)) ∈ lw_all := lw_g (lw_at lw_m3 199 rfl) rfl
theorem q869 : (Jvm.Cond.code ({ cls := "java/lang/Throwable", name := "<init>", desc := "(Ljava/lang/String;Ljava/lang/Throwable;ZZ)V" } : Jvm.MethodName) prog_30_method_5_code (5 : Nat) (Option.none : Option Jvm.ClassFile.FieldType)) ∈ lw_all := lw_g (lw_at lw_m3 200 rfl) rfl
theorem q872 : (Jvm.Cond.fieldLink "java/lang/Throwable" (198 : Nat) "java/lang/Throwable" "backtrace" "Ljava/lang/Object;") ∈ lw_all := lw_g (lw_at lw_m3 203 rfl) rfl
theorem q873 : (Jvm.Cond.fieldLink "java/lang/Throwable" (31 : Nat) "java/lang/Throwable" "detailMessage" "Ljava/lang/String;") ∈ lw_all := lw_g (lw_at lw_m3 204 rfl) rfl
theorem q874 : (Jvm.Cond.fieldLink "java/lang/Throwable" (7 : Nat) "java/lang/Throwable" "cause" "Ljava/lang/Throwable;") ∈ lw_all := lw_g (lw_at lw_m3 205 rfl) rfl
theorem q875 : (Jvm.Cond.fieldLink "java/lang/Throwable" (17 : Nat) "java/lang/Throwable" "stackTrace" "[Ljava/lang/StackTraceElement;") ∈ lw_all := lw_g (lw_at lw_m3 206 rfl) rfl
theorem q876 : (Jvm.Cond.fieldLink "java/lang/Throwable" (24 : Nat) "java/lang/Throwable" "suppressedExceptions" "Ljava/util/List;") ∈ lw_all := lw_g (lw_at lw_m3 207 rfl) rfl
theorem q879 : (Jvm.Cond.soleField "java/lang/Throwable" "backtrace") ∈ lw_all := lw_g (lw_at lw_m3 210 rfl) rfl
theorem q880 : (Jvm.Cond.soleField "java/lang/Throwable" "detailMessage") ∈ lw_all := lw_g (lw_at lw_m3 211 rfl) rfl
theorem q881 : (Jvm.Cond.soleField "java/lang/Throwable" "cause") ∈ lw_all := lw_g (lw_at lw_m3 212 rfl) rfl
theorem q882 : (Jvm.Cond.soleField "java/lang/Throwable" "stackTrace") ∈ lw_all := lw_g (lw_at lw_m3 213 rfl) rfl
theorem q884 : (Jvm.Cond.soleField "java/lang/Throwable" "depth") ∈ lw_all := lw_g (lw_at lw_m3 215 rfl) rfl
theorem q885 : (Jvm.Cond.soleField "java/lang/Throwable" "suppressedExceptions") ∈ lw_all := lw_g (lw_at lw_m3 216 rfl) rfl
theorem q1245 : (Jvm.Cond.instanceMethod ({ cls := "java/lang/Throwable", name := "<init>", desc := "(Ljava/lang/String;)V" } : Jvm.MethodName)) ∈ lw_all := lw_g (lw_at lw_m5 96 rfl) rfl
theorem q1246 : (Jvm.Cond.code ({ cls := "java/lang/Throwable", name := "<init>", desc := "(Ljava/lang/String;)V" } : Jvm.MethodName) prog_30_method_2_code (2 : Nat) (Option.none : Option Jvm.ClassFile.FieldType)) ∈ lw_all := lw_g (lw_at lw_m5 97 rfl) rfl
theorem q2972 : (Jvm.Cond.sameMethod "java/lang/Throwable" "java/lang/Throwable" "fillInStackTrace" "(I)Ljava/lang/Throwable;") ∈ lw_all := lw_g (lw_at lw_m12 143 rfl) rfl
theorem in_J0 : ∀ w ∈ wsJ00, w ∈ lw_all := lw_in wsJ00 [826, 828, 830, 832, 834] (by decide +kernel) (by decide +kernel)
/-! java/lang/Exception -/
def RJ1 : String := "java/lang/Exception"
abbrev cJ1_init : ByteArray := prog_20_method_5_code
def yJ1_init : MethodName := ⟨RJ1, "<init>", "(Ljava/lang/String;Ljava/lang/Throwable;ZZ)V"⟩
abbrev cJ1_init_2 : ByteArray := prog_20_method_1_code
def yJ1_init_2 : MethodName := ⟨RJ1, "<init>", "()V"⟩
abbrev cJ1_init_3 : ByteArray := prog_20_method_2_code
def yJ1_init_3 : MethodName := ⟨RJ1, "<init>", "(Ljava/lang/String;)V"⟩
theorem q201 : (Jvm.Cond.initialized "java/lang/Exception") ∈ lw_all := lw_g (lw_at lw_m1 12 rfl) rfl
theorem q819 : (Jvm.Cond.declares ({ cls := "java/lang/Exception", name := "<init>", desc := "()V" } : Jvm.MethodName)) ∈ lw_tbl := lw_at lw_m3 150 rfl
theorem q820 : (Jvm.Cond.declares ({ cls := "java/lang/Exception", name := "<init>", desc := "(Ljava/lang/String;)V" } : Jvm.MethodName)) ∈ lw_tbl := lw_at lw_m3 151 rfl
theorem q865 : (Jvm.Cond.instanceMethod ({ cls := "java/lang/Exception", name := "<init>", desc := "(Ljava/lang/String;Ljava/lang/Throwable;ZZ)V" } : Jvm.MethodName)) ∈ lw_all := lw_g (lw_at lw_m3 196 rfl) rfl
theorem q866 : (Jvm.Cond.code ({ cls := "java/lang/Exception", name := "<init>", desc := "(Ljava/lang/String;Ljava/lang/Throwable;ZZ)V" } : Jvm.MethodName) prog_20_method_5_code (5 : Nat) (Option.none : Option Jvm.ClassFile.FieldType)) ∈ lw_all := lw_g (lw_at lw_m3 197 rfl) rfl
theorem q867 : (Jvm.Cond.methodLink "java/lang/Exception" (16 : Nat) ({ cls := "java/lang/Throwable", name := "<init>", desc := "(Ljava/lang/String;Ljava/lang/Throwable;ZZ)V" } : Jvm.MethodName)) ∈ lw_all := lw_g (lw_at lw_m3 198 rfl) rfl
theorem q1205 : (Jvm.Cond.instanceMethod ({ cls := "java/lang/Exception", name := "<init>", desc := "()V" } : Jvm.MethodName)) ∈ lw_all := lw_g (lw_at lw_m5 56 rfl) rfl
theorem q1206 : (Jvm.Cond.code ({ cls := "java/lang/Exception", name := "<init>", desc := "()V" } : Jvm.MethodName) prog_20_method_1_code (1 : Nat) (Option.none : Option Jvm.ClassFile.FieldType)) ∈ lw_all := lw_g (lw_at lw_m5 57 rfl) rfl
theorem q1207 : (Jvm.Cond.methodLink "java/lang/Exception" (1 : Nat) ({ cls := "java/lang/Throwable", name := "<init>", desc := "()V" } : Jvm.MethodName)) ∈ lw_all := lw_g (lw_at lw_m5 58 rfl) rfl
theorem q1242 : (Jvm.Cond.instanceMethod ({ cls := "java/lang/Exception", name := "<init>", desc := "(Ljava/lang/String;)V" } : Jvm.MethodName)) ∈ lw_all := lw_g (lw_at lw_m5 93 rfl) rfl
theorem q1243 : (Jvm.Cond.code ({ cls := "java/lang/Exception", name := "<init>", desc := "(Ljava/lang/String;)V" } : Jvm.MethodName) prog_20_method_2_code (2 : Nat) (Option.none : Option Jvm.ClassFile.FieldType)) ∈ lw_all := lw_g (lw_at lw_m5 94 rfl) rfl
theorem q1244 : (Jvm.Cond.methodLink "java/lang/Exception" (7 : Nat) ({ cls := "java/lang/Throwable", name := "<init>", desc := "(Ljava/lang/String;)V" } : Jvm.MethodName)) ∈ lw_all := lw_g (lw_at lw_m5 95 rfl) rfl
/-! java/lang/RuntimeException -/
def RJ2 : String := "java/lang/RuntimeException"
abbrev cJ2_init : ByteArray := prog_27_method_5_code
def yJ2_init : MethodName := ⟨RJ2, "<init>", "(Ljava/lang/String;Ljava/lang/Throwable;ZZ)V"⟩
abbrev cJ2_init_2 : ByteArray := prog_27_method_1_code
def yJ2_init_2 : MethodName := ⟨RJ2, "<init>", "()V"⟩
abbrev cJ2_init_3 : ByteArray := prog_27_method_2_code
def yJ2_init_3 : MethodName := ⟨RJ2, "<init>", "(Ljava/lang/String;)V"⟩
theorem q202 : (Jvm.Cond.initialized "java/lang/RuntimeException") ∈ lw_all := lw_g (lw_at lw_m1 13 rfl) rfl
theorem q817 : (Jvm.Cond.declares ({ cls := "java/lang/RuntimeException", name := "<init>", desc := "()V" } : Jvm.MethodName)) ∈ lw_tbl := lw_at lw_m3 148 rfl
theorem q818 : (Jvm.Cond.declares ({ cls := "java/lang/RuntimeException", name := "<init>", desc := "(Ljava/lang/String;)V" } : Jvm.MethodName)) ∈ lw_tbl := lw_at lw_m3 149 rfl
theorem q862 : (Jvm.Cond.instanceMethod ({ cls := "java/lang/RuntimeException", name := "<init>", desc := "(Ljava/lang/String;Ljava/lang/Throwable;ZZ)V" } : Jvm.MethodName)) ∈ lw_all := lw_g (lw_at lw_m3 193 rfl) rfl
theorem q863 : (Jvm.Cond.code ({ cls := "java/lang/RuntimeException", name := "<init>", desc := "(Ljava/lang/String;Ljava/lang/Throwable;ZZ)V" } : Jvm.MethodName) prog_27_method_5_code (5 : Nat) (Option.none : Option Jvm.ClassFile.FieldType)) ∈ lw_all := lw_g (lw_at lw_m3 194 rfl) rfl
theorem q864 : (Jvm.Cond.methodLink "java/lang/RuntimeException" (16 : Nat) ({ cls := "java/lang/Exception", name := "<init>", desc := "(Ljava/lang/String;Ljava/lang/Throwable;ZZ)V" } : Jvm.MethodName)) ∈ lw_all := lw_g (lw_at lw_m3 195 rfl) rfl
theorem q1202 : (Jvm.Cond.instanceMethod ({ cls := "java/lang/RuntimeException", name := "<init>", desc := "()V" } : Jvm.MethodName)) ∈ lw_all := lw_g (lw_at lw_m5 53 rfl) rfl
theorem q1203 : (Jvm.Cond.code ({ cls := "java/lang/RuntimeException", name := "<init>", desc := "()V" } : Jvm.MethodName) prog_27_method_1_code (1 : Nat) (Option.none : Option Jvm.ClassFile.FieldType)) ∈ lw_all := lw_g (lw_at lw_m5 54 rfl) rfl
theorem q1204 : (Jvm.Cond.methodLink "java/lang/RuntimeException" (1 : Nat) ({ cls := "java/lang/Exception", name := "<init>", desc := "()V" } : Jvm.MethodName)) ∈ lw_all := lw_g (lw_at lw_m5 55 rfl) rfl
theorem q1239 : (Jvm.Cond.instanceMethod ({ cls := "java/lang/RuntimeException", name := "<init>", desc := "(Ljava/lang/String;)V" } : Jvm.MethodName)) ∈ lw_all := lw_g (lw_at lw_m5 90 rfl) rfl
theorem q1240 : (Jvm.Cond.code ({ cls := "java/lang/RuntimeException", name := "<init>", desc := "(Ljava/lang/String;)V" } : Jvm.MethodName) prog_27_method_2_code (2 : Nat) (Option.none : Option Jvm.ClassFile.FieldType)) ∈ lw_all := lw_g (lw_at lw_m5 91 rfl) rfl
theorem q1241 : (Jvm.Cond.methodLink "java/lang/RuntimeException" (7 : Nat) ({ cls := "java/lang/Exception", name := "<init>", desc := "(Ljava/lang/String;)V" } : Jvm.MethodName)) ∈ lw_all := lw_g (lw_at lw_m5 92 rfl) rfl
/-! java/lang/IllegalArgumentException -/
def RJ3 : String := "java/lang/IllegalArgumentException"
def TJ3 : u_T := fun k => match k with
  | 0 => ("java/lang/Throwable", "cause", "Ljava/lang/Throwable;", false)
  | 1 => ("java/lang/Throwable", "stackTrace", "[Ljava/lang/StackTraceElement;", false)
  | 2 => ("java/lang/Throwable", "suppressedExceptions", "Ljava/util/List;", false)
  | 3 => ("java/lang/Throwable", "detailMessage", "Ljava/lang/String;", false)
  | 4 => ("java/lang/Throwable", "backtrace", "Ljava/lang/Object;", false)
  | _ => ("java/lang/Throwable", "depth", "I", false)
def tyJ3 : Nat → FieldType := fun k => match k with
  | 0 => .object "java/lang/Throwable"
  | 1 => .array (.object "java/lang/StackTraceElement")
  | 2 => .object "java/util/List"
  | 3 => .object "java/lang/String"
  | 4 => .object "java/lang/Object"
  | _ => .int
abbrev wsJ30 : List Cond := u_ws RJ3 TJ3 6
theorem nmJ3 : ∀ a, a < 6 → ∀ b, b < 6 → a ≠ b → (TJ3 a).2.1 ≠ (TJ3 b).2.1 := by decide +kernel
theorem tyJ3_ok : ∀ k, k < 6 → parseFieldDescriptor (TJ3 k).2.2.1 = some (tyJ3 k) := by decide +kernel
abbrev cJ3_init : ByteArray := prog_21_method_1_code
def yJ3_init : MethodName := ⟨RJ3, "<init>", "()V"⟩
theorem q203 : (Jvm.Cond.initialized "java/lang/IllegalArgumentException") ∈ lw_all := lw_g (lw_at lw_m1 14 rfl) rfl
theorem q849 : (Jvm.Cond.selects "java/lang/IllegalArgumentException" ({ cls := "java/lang/Throwable", name := "fillInStackTrace", desc := "()Ljava/lang/Throwable;" } : Jvm.MethodName) ({ cls := "java/lang/Throwable", name := "fillInStackTrace", desc := "()Ljava/lang/Throwable;" } : Jvm.MethodName)) ∈ lw_all := lw_g (lw_at lw_m3 180 rfl) rfl
theorem q1190 : (Jvm.Cond.instantiable "java/lang/IllegalArgumentException" (6 : Nat)) ∈ lw_all := lw_g (lw_at lw_m5 41 rfl) rfl
theorem q1191 : (Jvm.Cond.castable "java/lang/IllegalArgumentException" "java/lang/IllegalArgumentException") ∈ lw_tbl := lw_at lw_m5 42 rfl
theorem q1192 : (Jvm.Cond.selects "java/lang/IllegalArgumentException" ({ cls := "java/lang/Throwable", name := "fillInStackTrace", desc := "(I)Ljava/lang/Throwable;" } : Jvm.MethodName) ({ cls := "java/lang/Throwable", name := "fillInStackTrace", desc := "(I)Ljava/lang/Throwable;" } : Jvm.MethodName)) ∈ lw_all := lw_g (lw_at lw_m5 43 rfl) rfl
theorem q1193 : (Jvm.Cond.lays "java/lang/IllegalArgumentException" "java/lang/Throwable" "cause" "Ljava/lang/Throwable;") ∈ lw_all := lw_g (lw_at lw_m5 44 rfl) rfl
theorem q1194 : (Jvm.Cond.lays "java/lang/IllegalArgumentException" "java/lang/Throwable" "stackTrace" "[Ljava/lang/StackTraceElement;") ∈ lw_all := lw_g (lw_at lw_m5 45 rfl) rfl
theorem q1195 : (Jvm.Cond.lays "java/lang/IllegalArgumentException" "java/lang/Throwable" "suppressedExceptions" "Ljava/util/List;") ∈ lw_all := lw_g (lw_at lw_m5 46 rfl) rfl
theorem q1196 : (Jvm.Cond.lays "java/lang/IllegalArgumentException" "java/lang/Throwable" "detailMessage" "Ljava/lang/String;") ∈ lw_all := lw_g (lw_at lw_m5 47 rfl) rfl
theorem q1197 : (Jvm.Cond.lays "java/lang/IllegalArgumentException" "java/lang/Throwable" "backtrace" "Ljava/lang/Object;") ∈ lw_all := lw_g (lw_at lw_m5 48 rfl) rfl
theorem q1199 : (Jvm.Cond.instanceMethod ({ cls := "java/lang/IllegalArgumentException", name := "<init>", desc := "()V" } : Jvm.MethodName)) ∈ lw_all := lw_g (lw_at lw_m5 50 rfl) rfl
theorem q1200 : (Jvm.Cond.code ({ cls := "java/lang/IllegalArgumentException", name := "<init>", desc := "()V" } : Jvm.MethodName) prog_21_method_1_code (1 : Nat) (Option.none : Option Jvm.ClassFile.FieldType)) ∈ lw_all := lw_g (lw_at lw_m5 51 rfl) rfl
theorem q1201 : (Jvm.Cond.methodLink "java/lang/IllegalArgumentException" (1 : Nat) ({ cls := "java/lang/RuntimeException", name := "<init>", desc := "()V" } : Jvm.MethodName)) ∈ lw_all := lw_g (lw_at lw_m5 52 rfl) rfl
theorem q1208 : (Jvm.Cond.lays "java/lang/IllegalArgumentException" "java/lang/Throwable" "depth" "I") ∈ lw_all := lw_g (lw_at lw_m5 59 rfl) rfl
theorem q1209 : (Jvm.Cond.superclass "java/lang/IllegalArgumentException" "java/lang/RuntimeException") ∈ lw_all := lw_g (lw_at lw_m5 60 rfl) rfl
theorem in_J3 : ∀ w ∈ wsJ30, w ∈ lw_all := lw_in wsJ30 [1193, 1194, 1195, 1196, 1197, 1208] (by decide +kernel) (by decide +kernel)
/-! java/lang/IllegalStateException -/
def RJ4 : String := "java/lang/IllegalStateException"
def TJ4 : u_T := fun k => match k with
  | 0 => ("java/lang/Throwable", "cause", "Ljava/lang/Throwable;", false)
  | 1 => ("java/lang/Throwable", "stackTrace", "[Ljava/lang/StackTraceElement;", false)
  | 2 => ("java/lang/Throwable", "suppressedExceptions", "Ljava/util/List;", false)
  | 3 => ("java/lang/Throwable", "detailMessage", "Ljava/lang/String;", false)
  | 4 => ("java/lang/Throwable", "backtrace", "Ljava/lang/Object;", false)
  | _ => ("java/lang/Throwable", "depth", "I", false)
def tyJ4 : Nat → FieldType := fun k => match k with
  | 0 => .object "java/lang/Throwable"
  | 1 => .array (.object "java/lang/StackTraceElement")
  | 2 => .object "java/util/List"
  | 3 => .object "java/lang/String"
  | 4 => .object "java/lang/Object"
  | _ => .int
abbrev wsJ40 : List Cond := u_ws RJ4 TJ4 6
theorem nmJ4 : ∀ a, a < 6 → ∀ b, b < 6 → a ≠ b → (TJ4 a).2.1 ≠ (TJ4 b).2.1 := by decide +kernel
theorem tyJ4_ok : ∀ k, k < 6 → parseFieldDescriptor (TJ4 k).2.2.1 = some (tyJ4 k) := by decide +kernel
abbrev cJ4_init : ByteArray := prog_22_method_1_code
def yJ4_init : MethodName := ⟨RJ4, "<init>", "()V"⟩
theorem q204 : (Jvm.Cond.initialized "java/lang/IllegalStateException") ∈ lw_all := lw_g (lw_at lw_m1 15 rfl) rfl
theorem q850 : (Jvm.Cond.selects "java/lang/IllegalStateException" ({ cls := "java/lang/Throwable", name := "fillInStackTrace", desc := "()Ljava/lang/Throwable;" } : Jvm.MethodName) ({ cls := "java/lang/Throwable", name := "fillInStackTrace", desc := "()Ljava/lang/Throwable;" } : Jvm.MethodName)) ∈ lw_all := lw_g (lw_at lw_m3 181 rfl) rfl
theorem q1214 : (Jvm.Cond.instantiable "java/lang/IllegalStateException" (6 : Nat)) ∈ lw_all := lw_g (lw_at lw_m5 65 rfl) rfl
theorem q1215 : (Jvm.Cond.castable "java/lang/IllegalStateException" "java/lang/IllegalStateException") ∈ lw_tbl := lw_at lw_m5 66 rfl
theorem q1216 : (Jvm.Cond.selects "java/lang/IllegalStateException" ({ cls := "java/lang/Throwable", name := "fillInStackTrace", desc := "(I)Ljava/lang/Throwable;" } : Jvm.MethodName) ({ cls := "java/lang/Throwable", name := "fillInStackTrace", desc := "(I)Ljava/lang/Throwable;" } : Jvm.MethodName)) ∈ lw_all := lw_g (lw_at lw_m5 67 rfl) rfl
theorem q1217 : (Jvm.Cond.lays "java/lang/IllegalStateException" "java/lang/Throwable" "cause" "Ljava/lang/Throwable;") ∈ lw_all := lw_g (lw_at lw_m5 68 rfl) rfl
theorem q1218 : (Jvm.Cond.lays "java/lang/IllegalStateException" "java/lang/Throwable" "stackTrace" "[Ljava/lang/StackTraceElement;") ∈ lw_all := lw_g (lw_at lw_m5 69 rfl) rfl
theorem q1219 : (Jvm.Cond.lays "java/lang/IllegalStateException" "java/lang/Throwable" "suppressedExceptions" "Ljava/util/List;") ∈ lw_all := lw_g (lw_at lw_m5 70 rfl) rfl
theorem q1220 : (Jvm.Cond.lays "java/lang/IllegalStateException" "java/lang/Throwable" "detailMessage" "Ljava/lang/String;") ∈ lw_all := lw_g (lw_at lw_m5 71 rfl) rfl
theorem q1221 : (Jvm.Cond.lays "java/lang/IllegalStateException" "java/lang/Throwable" "backtrace" "Ljava/lang/Object;") ∈ lw_all := lw_g (lw_at lw_m5 72 rfl) rfl
theorem q1223 : (Jvm.Cond.instanceMethod ({ cls := "java/lang/IllegalStateException", name := "<init>", desc := "()V" } : Jvm.MethodName)) ∈ lw_all := lw_g (lw_at lw_m5 74 rfl) rfl
theorem q1224 : (Jvm.Cond.code ({ cls := "java/lang/IllegalStateException", name := "<init>", desc := "()V" } : Jvm.MethodName) prog_22_method_1_code (1 : Nat) (Option.none : Option Jvm.ClassFile.FieldType)) ∈ lw_all := lw_g (lw_at lw_m5 75 rfl) rfl
theorem q1225 : (Jvm.Cond.methodLink "java/lang/IllegalStateException" (1 : Nat) ({ cls := "java/lang/RuntimeException", name := "<init>", desc := "()V" } : Jvm.MethodName)) ∈ lw_all := lw_g (lw_at lw_m5 76 rfl) rfl
theorem q1226 : (Jvm.Cond.lays "java/lang/IllegalStateException" "java/lang/Throwable" "depth" "I") ∈ lw_all := lw_g (lw_at lw_m5 77 rfl) rfl
theorem q1227 : (Jvm.Cond.superclass "java/lang/IllegalStateException" "java/lang/RuntimeException") ∈ lw_all := lw_g (lw_at lw_m5 78 rfl) rfl
theorem in_J4 : ∀ w ∈ wsJ40, w ∈ lw_all := lw_in wsJ40 [1217, 1218, 1219, 1220, 1221, 1226] (by decide +kernel) (by decide +kernel)
/-! FactHouse$Reader -/
def RX11 : String := "FactHouse$Reader"
def TX11 : u_T := fun k => match k with
  | 0 => ("FactHouse$Reader", "p", "LFactHouse$Program;", true)
  | 1 => ("FactHouse$Reader", "bytes", "[B", true)
  | 2 => ("FactHouse$Reader", "size", "I", true)
  | 3 => ("FactHouse$Reader", "at", "I", false)
  | 4 => ("FactHouse$Reader", "instructions", "I", false)
  | _ => ("FactHouse$Reader", "is16", "[Z", true)
def tyX11 : Nat → FieldType := fun k => match k with
  | 0 => .object "FactHouse$Program"
  | 1 => .array .byte
  | 2 => .int
  | 3 => .int
  | 4 => .int
  | _ => .array .boolean
abbrev wsX110 : List Cond := u_ws RX11 TX11 6
theorem nmX11 : ∀ a, a < 6 → ∀ b, b < 6 → a ≠ b → (TX11 a).2.1 ≠ (TX11 b).2.1 := by decide +kernel
theorem tyX11_ok : ∀ k, k < 6 → parseFieldDescriptor (TX11 k).2.2.1 = some (tyX11 k) := by decide +kernel
abbrev cX11_init : ByteArray := prog_12_method_1_code
def yX11_init : MethodName := ⟨RX11, "<init>", "([BI[Z)V"⟩
abbrev cX11_read : ByteArray := prog_12_method_6_code
def yX11_read : MethodName := ⟨RX11, "read", "()LFactHouse$Program;"⟩
abbrev cX11_one : ByteArray := prog_12_method_3_code
def yX11_one : MethodName := ⟨RX11, "one", "(II)I"⟩
abbrev cX11_is : ByteArray := prog_12_method_2_code
def yX11_is : MethodName := ⟨RX11, "is", "(ZI)V"⟩
abbrev cX11_kinds : ByteArray := prog_12_method_5_code
def yX11_kinds : MethodName := ⟨RX11, "kinds", "(I)[I"⟩
abbrev cX11_readClass : ByteArray := prog_12_method_8_code
def yX11_readClass : MethodName := ⟨RX11, "readClass", "(I)V"⟩
abbrev cX11_readMethod : ByteArray := prog_12_method_10_code
def yX11_readMethod : MethodName := ⟨RX11, "readMethod", "(LFactHouse$Method;)V"⟩
abbrev cX11_lastClass : ByteArray := prog_12_method_9_code
def yX11_lastClass : MethodName := ⟨RX11, "lastClass", "()I"⟩
abbrev cX11_readInstruction : ByteArray := prog_12_method_13_code
def yX11_readInstruction : MethodName := ⟨RX11, "readInstruction", "(LFactHouse$Method;I)V"⟩
abbrev cX11_mostX : ByteArray := prog_12_method_12_code
def yX11_mostX : MethodName := ⟨RX11, "mostX", "(LFactHouse$Method;I)I"⟩
abbrev cX11_two : ByteArray := prog_12_method_4_code
def yX11_two : MethodName := ⟨RX11, "two", "()I"⟩
abbrev cX11_readHandler : ByteArray := prog_12_method_11_code
def yX11_readHandler : MethodName := ⟨RX11, "readHandler", "(LFactHouse$Method;I)V"⟩
abbrev cX11_layPlaces : ByteArray := prog_12_method_7_code
def yX11_layPlaces : MethodName := ⟨RX11, "layPlaces", "()V"⟩
abbrev cX11_findMarks : ByteArray := prog_12_method_15_code
def yX11_findMarks : MethodName := ⟨RX11, "findMarks", "()V"⟩
abbrev cX11_mark : ByteArray := prog_12_method_14_code
def yX11_mark : MethodName := ⟨RX11, "mark", "(I)V"⟩
theorem q205 : (Jvm.Cond.initialized "FactHouse$Reader") ∈ lw_all := lw_g (lw_at lw_m1 16 rfl) rfl
theorem q683 : (Jvm.Cond.instantiable "FactHouse$Reader" (6 : Nat)) ∈ lw_all := lw_g (lw_at lw_m3 14 rfl) rfl
theorem q685 : (Jvm.Cond.instanceMethod ({ cls := "FactHouse$Reader", name := "<init>", desc := "([BI[Z)V" } : Jvm.MethodName)) ∈ lw_all := lw_g (lw_at lw_m3 16 rfl) rfl
theorem q686 : (Jvm.Cond.code ({ cls := "FactHouse$Reader", name := "<init>", desc := "([BI[Z)V" } : Jvm.MethodName) prog_12_method_1_code (4 : Nat) (Option.none : Option Jvm.ClassFile.FieldType)) ∈ lw_all := lw_g (lw_at lw_m3 17 rfl) rfl
theorem q687 : (Jvm.Cond.methodLink "FactHouse$Reader" (3 : Nat) ({ cls := "java/lang/Object", name := "<init>", desc := "()V" } : Jvm.MethodName)) ∈ lw_all := lw_g (lw_at lw_m3 18 rfl) rfl
theorem q688 : (Jvm.Cond.classLink "FactHouse$Reader" (9 : Nat) "FactHouse$Program") ∈ lw_all := lw_g (lw_at lw_m3 19 rfl) rfl
theorem q690 : (Jvm.Cond.methodLinkNest "FactHouse$Reader" (11 : Nat) ({ cls := "FactHouse$Program", name := "<init>", desc := "()V" } : Jvm.MethodName) "FactHouse") ∈ lw_tbl := lw_at lw_m3 21 rfl
theorem q695 : (Jvm.Cond.fieldLink "FactHouse$Reader" (91 : Nat) "FactHouse$Program" "file" "[B") ∈ lw_all := lw_g (lw_at lw_m3 26 rfl) rfl
theorem q697 : (Jvm.Cond.fieldLink "FactHouse$Reader" (94 : Nat) "FactHouse$Program" "size" "I") ∈ lw_all := lw_g (lw_at lw_m3 28 rfl) rfl
theorem q698 : (Jvm.Cond.fieldLink "FactHouse$Reader" (67 : Nat) "FactHouse$Program" "classes" "I") ∈ lw_all := lw_g (lw_at lw_m3 29 rfl) rfl
theorem q701 : (Jvm.Cond.fieldLink "FactHouse$Reader" (56 : Nat) "FactHouse$Program" "parents" "[I") ∈ lw_all := lw_g (lw_at lw_m3 32 rfl) rfl
theorem q704 : (Jvm.Cond.fieldLink "FactHouse$Reader" (60 : Nat) "FactHouse$Program" "fields" "[[I") ∈ lw_all := lw_g (lw_at lw_m3 35 rfl) rfl
theorem q709 : (Jvm.Cond.fieldLink "FactHouse$Reader" (74 : Nat) "FactHouse$Program" "statics" "[I") ∈ lw_all := lw_g (lw_at lw_m3 40 rfl) rfl
theorem q714 : (Jvm.Cond.fieldLink "FactHouse$Reader" (82 : Nat) "FactHouse$Program" "methods" "[LFactHouse$Method;") ∈ lw_all := lw_g (lw_at lw_m3 45 rfl) rfl
theorem q721 : (Jvm.Cond.fieldLink "FactHouse$Reader" (112 : Nat) "FactHouse$Program" "places" "I") ∈ lw_all := lw_g (lw_at lw_m3 52 rfl) rfl
theorem q726 : (Jvm.Cond.fieldLink "FactHouse$Reader" (198 : Nat) "FactHouse$Program" "sites" "I") ∈ lw_all := lw_g (lw_at lw_m3 57 rfl) rfl
theorem q729 : (Jvm.Cond.fieldLink "FactHouse$Reader" (64 : Nat) "FactHouse$Program" "siteClass" "[I") ∈ lw_all := lw_g (lw_at lw_m3 60 rfl) rfl
theorem q732 : (Jvm.Cond.fieldLink "FactHouse$Reader" (115 : Nat) "FactHouse$Program" "siteOf" "[I") ∈ lw_all := lw_g (lw_at lw_m3 63 rfl) rfl
theorem q736 : (Jvm.Cond.fieldLink "FactHouse$Reader" (118 : Nat) "FactHouse$Program" "methodOf" "[I") ∈ lw_all := lw_g (lw_at lw_m3 67 rfl) rfl
theorem q741 : (Jvm.Cond.fieldLink "FactHouse$Reader" (212 : Nat) "FactHouse$Program" "marks" "[I") ∈ lw_all := lw_g (lw_at lw_m3 72 rfl) rfl
theorem q742 : (Jvm.Cond.fieldLink "FactHouse$Reader" (95 : Nat) "FactHouse$Program" "roots" "[Z") ∈ lw_all := lw_g (lw_at lw_m3 73 rfl) rfl
theorem q778 : (Jvm.Cond.methodLink "FactHouse$Reader" (26 : Nat) ({ cls := "java/lang/System", name := "arraycopy", desc := "(Ljava/lang/Object;ILjava/lang/Object;II)V" } : Jvm.MethodName)) ∈ lw_all := lw_g (lw_at lw_m3 109 rfl) rfl
theorem q781 : (Jvm.Cond.fieldLink "FactHouse$Reader" (12 : Nat) "FactHouse$Reader" "p" "LFactHouse$Program;") ∈ lw_all := lw_g (lw_at lw_m3 112 rfl) rfl
theorem q782 : (Jvm.Cond.fieldLink "FactHouse$Reader" (22 : Nat) "FactHouse$Reader" "bytes" "[B") ∈ lw_all := lw_g (lw_at lw_m3 113 rfl) rfl
theorem q783 : (Jvm.Cond.fieldLink "FactHouse$Reader" (32 : Nat) "FactHouse$Reader" "size" "I") ∈ lw_all := lw_g (lw_at lw_m3 114 rfl) rfl
theorem q784 : (Jvm.Cond.fieldLink "FactHouse$Reader" (41 : Nat) "FactHouse$Reader" "at" "I") ∈ lw_all := lw_g (lw_at lw_m3 115 rfl) rfl
theorem q785 : (Jvm.Cond.fieldLink "FactHouse$Reader" (166 : Nat) "FactHouse$Reader" "instructions" "I") ∈ lw_all := lw_g (lw_at lw_m3 116 rfl) rfl
theorem q786 : (Jvm.Cond.fieldLink "FactHouse$Reader" (18 : Nat) "FactHouse$Reader" "is16" "[Z") ∈ lw_all := lw_g (lw_at lw_m3 117 rfl) rfl
theorem q787 : (Jvm.Cond.laysFinal "FactHouse$Reader" "FactHouse$Reader" "p" "LFactHouse$Program;") ∈ lw_all := lw_g (lw_at lw_m3 118 rfl) rfl
theorem q788 : (Jvm.Cond.soleField "FactHouse$Reader" "p") ∈ lw_all := lw_g (lw_at lw_m3 119 rfl) rfl
theorem q789 : (Jvm.Cond.laysFinal "FactHouse$Reader" "FactHouse$Reader" "bytes" "[B") ∈ lw_all := lw_g (lw_at lw_m3 120 rfl) rfl
theorem q790 : (Jvm.Cond.soleField "FactHouse$Reader" "bytes") ∈ lw_all := lw_g (lw_at lw_m3 121 rfl) rfl
theorem q791 : (Jvm.Cond.laysFinal "FactHouse$Reader" "FactHouse$Reader" "size" "I") ∈ lw_all := lw_g (lw_at lw_m3 122 rfl) rfl
theorem q792 : (Jvm.Cond.soleField "FactHouse$Reader" "size") ∈ lw_all := lw_g (lw_at lw_m3 123 rfl) rfl
theorem q793 : (Jvm.Cond.lays "FactHouse$Reader" "FactHouse$Reader" "at" "I") ∈ lw_all := lw_g (lw_at lw_m3 124 rfl) rfl
theorem q794 : (Jvm.Cond.soleField "FactHouse$Reader" "at") ∈ lw_all := lw_g (lw_at lw_m3 125 rfl) rfl
theorem q795 : (Jvm.Cond.lays "FactHouse$Reader" "FactHouse$Reader" "instructions" "I") ∈ lw_all := lw_g (lw_at lw_m3 126 rfl) rfl
theorem q796 : (Jvm.Cond.soleField "FactHouse$Reader" "instructions") ∈ lw_all := lw_g (lw_at lw_m3 127 rfl) rfl
theorem q797 : (Jvm.Cond.laysFinal "FactHouse$Reader" "FactHouse$Reader" "is16" "[Z") ∈ lw_all := lw_g (lw_at lw_m3 128 rfl) rfl
theorem q798 : (Jvm.Cond.soleField "FactHouse$Reader" "is16") ∈ lw_all := lw_g (lw_at lw_m3 129 rfl) rfl
theorem q799 : (Jvm.Cond.superclass "FactHouse$Reader" "java/lang/Object") ∈ lw_all := lw_g (lw_at lw_m3 130 rfl) rfl
theorem q801 : (Jvm.Cond.instanceMethod ({ cls := "FactHouse$Reader", name := "read", desc := "()LFactHouse$Program;" } : Jvm.MethodName)) ∈ lw_all := lw_g (lw_at lw_m3 132 rfl) rfl
theorem q802 : (Jvm.Cond.selects "FactHouse$Reader" ({ cls := "FactHouse$Reader", name := "read", desc := "()LFactHouse$Program;" } : Jvm.MethodName) ({ cls := "FactHouse$Reader", name := "read", desc := "()LFactHouse$Program;" } : Jvm.MethodName)) ∈ lw_all := lw_g (lw_at lw_m3 133 rfl) rfl
theorem q803 : (Jvm.Cond.code ({ cls := "FactHouse$Reader", name := "read", desc := "()LFactHouse$Program;" } : Jvm.MethodName) prog_12_method_6_code (3 : Nat) (Option.some (Jvm.ClassFile.FieldType.object "FactHouse$Program"))) ∈ lw_all := lw_g (lw_at lw_m3 134 rfl) rfl
theorem q804 : (Jvm.Cond.methodLink "FactHouse$Reader" (52 : Nat) ({ cls := "FactHouse$Reader", name := "one", desc := "(II)I" } : Jvm.MethodName)) ∈ lw_all := lw_g (lw_at lw_m3 135 rfl) rfl
theorem q805 : (Jvm.Cond.privateMethod ({ cls := "FactHouse$Reader", name := "one", desc := "(II)I" } : Jvm.MethodName)) ∈ lw_tbl := lw_at lw_m3 136 rfl
theorem q806 : (Jvm.Cond.instanceMethod ({ cls := "FactHouse$Reader", name := "one", desc := "(II)I" } : Jvm.MethodName)) ∈ lw_all := lw_g (lw_at lw_m3 137 rfl) rfl
theorem q807 : (Jvm.Cond.code ({ cls := "FactHouse$Reader", name := "one", desc := "(II)I" } : Jvm.MethodName) prog_12_method_3_code (3 : Nat) (Option.some Jvm.ClassFile.FieldType.int)) ∈ lw_all := lw_g (lw_at lw_m3 138 rfl) rfl
theorem q808 : (Jvm.Cond.methodLinkNest "FactHouse$Reader" (44 : Nat) ({ cls := "FactHouse", name := "isIn", desc := "(JJJ)Z" } : Jvm.MethodName) "FactHouse") ∈ lw_tbl := lw_at lw_m3 139 rfl
theorem q811 : (Jvm.Cond.methodLink "FactHouse$Reader" (48 : Nat) ({ cls := "FactHouse$Reader", name := "is", desc := "(ZI)V" } : Jvm.MethodName)) ∈ lw_all := lw_g (lw_at lw_m3 142 rfl) rfl
theorem q812 : (Jvm.Cond.static ({ cls := "FactHouse$Reader", name := "is", desc := "(ZI)V" } : Jvm.MethodName)) ∈ lw_all := lw_g (lw_at lw_m3 143 rfl) rfl
theorem q813 : (Jvm.Cond.code ({ cls := "FactHouse$Reader", name := "is", desc := "(ZI)V" } : Jvm.MethodName) prog_12_method_2_code (2 : Nat) (Option.none : Option Jvm.ClassFile.FieldType)) ∈ lw_all := lw_g (lw_at lw_m3 144 rfl) rfl
theorem q814 : (Jvm.Cond.classLink "FactHouse$Reader" (36 : Nat) "FactHouse$Wrong") ∈ lw_all := lw_g (lw_at lw_m3 145 rfl) rfl
theorem q858 : (Jvm.Cond.methodLink "FactHouse$Reader" (38 : Nat) ({ cls := "FactHouse$Wrong", name := "<init>", desc := "(I)V" } : Jvm.MethodName)) ∈ lw_all := lw_g (lw_at lw_m3 189 rfl) rfl
theorem q887 : (Jvm.Cond.methodLink "FactHouse$Reader" (70 : Nat) ({ cls := "FactHouse$Reader", name := "kinds", desc := "(I)[I" } : Jvm.MethodName)) ∈ lw_all := lw_g (lw_at lw_m3 218 rfl) rfl
theorem q888 : (Jvm.Cond.privateMethod ({ cls := "FactHouse$Reader", name := "kinds", desc := "(I)[I" } : Jvm.MethodName)) ∈ lw_tbl := lw_at lw_m3 219 rfl
theorem q889 : (Jvm.Cond.instanceMethod ({ cls := "FactHouse$Reader", name := "kinds", desc := "(I)[I" } : Jvm.MethodName)) ∈ lw_all := lw_g (lw_at lw_m3 220 rfl) rfl
theorem q890 : (Jvm.Cond.code ({ cls := "FactHouse$Reader", name := "kinds", desc := "(I)[I" } : Jvm.MethodName) prog_12_method_5_code (4 : Nat) (Option.some (Jvm.ClassFile.FieldType.array Jvm.ClassFile.FieldType.int))) ∈ lw_all := lw_g (lw_at lw_m3 221 rfl) rfl
theorem q891 : (Jvm.Cond.methodLink "FactHouse$Reader" (77 : Nat) ({ cls := "FactHouse$Reader", name := "readClass", desc := "(I)V" } : Jvm.MethodName)) ∈ lw_all := lw_g (lw_at lw_m3 222 rfl) rfl
theorem q892 : (Jvm.Cond.privateMethod ({ cls := "FactHouse$Reader", name := "readClass", desc := "(I)V" } : Jvm.MethodName)) ∈ lw_tbl := lw_at lw_m3 223 rfl
theorem q893 : (Jvm.Cond.instanceMethod ({ cls := "FactHouse$Reader", name := "readClass", desc := "(I)V" } : Jvm.MethodName)) ∈ lw_all := lw_g (lw_at lw_m3 224 rfl) rfl
theorem q894 : (Jvm.Cond.code ({ cls := "FactHouse$Reader", name := "readClass", desc := "(I)V" } : Jvm.MethodName) prog_12_method_8_code (7 : Nat) (Option.none : Option Jvm.ClassFile.FieldType)) ∈ lw_all := lw_g (lw_at lw_m3 225 rfl) rfl
theorem q895 : (Jvm.Cond.classLink "FactHouse$Reader" (80 : Nat) "FactHouse$Method") ∈ lw_all := lw_g (lw_at lw_m3 226 rfl) rfl
theorem q897 : (Jvm.Cond.methodLink "FactHouse$Reader" (86 : Nat) ({ cls := "FactHouse$Method", name := "<init>", desc := "(I)V" } : Jvm.MethodName)) ∈ lw_all := lw_g (lw_at lw_m3 228 rfl) rfl
theorem q902 : (Jvm.Cond.fieldLink "FactHouse$Reader" (130 : Nat) "FactHouse$Method" "number" "I") ∈ lw_all := lw_g (lw_at lw_m3 233 rfl) rfl
theorem q907 : (Jvm.Cond.fieldLink "FactHouse$Reader" (139 : Nat) "FactHouse$Method" "cls" "I") ∈ lw_all := lw_g (lw_at lw_m3 238 rfl) rfl
theorem q910 : (Jvm.Cond.fieldLink "FactHouse$Reader" (142 : Nat) "FactHouse$Method" "name" "I") ∈ lw_all := lw_g (lw_at lw_m4 1 rfl) rfl
theorem q916 : (Jvm.Cond.fieldLink "FactHouse$Reader" (145 : Nat) "FactHouse$Method" "args" "I") ∈ lw_all := lw_g (lw_at lw_m4 7 rfl) rfl
theorem q920 : (Jvm.Cond.fieldLink "FactHouse$Reader" (148 : Nat) "FactHouse$Method" "gives" "I") ∈ lw_all := lw_g (lw_at lw_m4 11 rfl) rfl
theorem q928 : (Jvm.Cond.fieldLink "FactHouse$Reader" (151 : Nat) "FactHouse$Method" "kinds" "[I") ∈ lw_all := lw_g (lw_at lw_m4 19 rfl) rfl
theorem q931 : (Jvm.Cond.fieldLink "FactHouse$Reader" (157 : Nat) "FactHouse$Method" "deepest" "I") ∈ lw_all := lw_g (lw_at lw_m4 22 rfl) rfl
theorem q935 : (Jvm.Cond.fieldLink "FactHouse$Reader" (169 : Nat) "FactHouse$Method" "ops" "[I") ∈ lw_all := lw_g (lw_at lw_m4 26 rfl) rfl
theorem q940 : (Jvm.Cond.fieldLink "FactHouse$Reader" (172 : Nat) "FactHouse$Method" "xs" "[I") ∈ lw_all := lw_g (lw_at lw_m4 31 rfl) rfl
theorem q944 : (Jvm.Cond.fieldLink "FactHouse$Reader" (175 : Nat) "FactHouse$Method" "ys" "[I") ∈ lw_all := lw_g (lw_at lw_m4 35 rfl) rfl
theorem q949 : (Jvm.Cond.fieldLink "FactHouse$Reader" (178 : Nat) "FactHouse$Method" "zs" "[I") ∈ lw_all := lw_g (lw_at lw_m4 40 rfl) rfl
theorem q953 : (Jvm.Cond.fieldLink "FactHouse$Reader" (181 : Nat) "FactHouse$Method" "bytes" "[I") ∈ lw_all := lw_g (lw_at lw_m4 44 rfl) rfl
theorem q954 : (Jvm.Cond.fieldLink "FactHouse$Reader" (127 : Nat) "FactHouse$Method" "makes" "[I") ∈ lw_all := lw_g (lw_at lw_m4 45 rfl) rfl
theorem q956 : (Jvm.Cond.fieldLink "FactHouse$Reader" (162 : Nat) "FactHouse$Method" "handlers" "[LFactHouse$Handler;") ∈ lw_all := lw_g (lw_at lw_m4 47 rfl) rfl
theorem q962 : (Jvm.Cond.fieldLink "FactHouse$Reader" (124 : Nat) "FactHouse$Method" "first" "I") ∈ lw_all := lw_g (lw_at lw_m4 53 rfl) rfl
theorem q966 : (Jvm.Cond.fieldLink "FactHouse$Reader" (133 : Nat) "FactHouse$Method" "from" "I") ∈ lw_all := lw_g (lw_at lw_m4 57 rfl) rfl
theorem q968 : (Jvm.Cond.fieldLink "FactHouse$Reader" (190 : Nat) "FactHouse$Method" "to" "I") ∈ lw_all := lw_g (lw_at lw_m4 59 rfl) rfl
theorem q1013 : (Jvm.Cond.methodLink "FactHouse$Reader" (87 : Nat) ({ cls := "FactHouse$Reader", name := "readMethod", desc := "(LFactHouse$Method;)V" } : Jvm.MethodName)) ∈ lw_all := lw_g (lw_at lw_m4 104 rfl) rfl
theorem q1014 : (Jvm.Cond.privateMethod ({ cls := "FactHouse$Reader", name := "readMethod", desc := "(LFactHouse$Method;)V" } : Jvm.MethodName)) ∈ lw_tbl := lw_at lw_m4 105 rfl
theorem q1015 : (Jvm.Cond.instanceMethod ({ cls := "FactHouse$Reader", name := "readMethod", desc := "(LFactHouse$Method;)V" } : Jvm.MethodName)) ∈ lw_all := lw_g (lw_at lw_m4 106 rfl) rfl
theorem q1016 : (Jvm.Cond.code ({ cls := "FactHouse$Reader", name := "readMethod", desc := "(LFactHouse$Method;)V" } : Jvm.MethodName) prog_12_method_10_code (11 : Nat) (Option.none : Option Jvm.ClassFile.FieldType)) ∈ lw_all := lw_g (lw_at lw_m4 107 rfl) rfl
theorem q1017 : (Jvm.Cond.methodLink "FactHouse$Reader" (136 : Nat) ({ cls := "FactHouse$Reader", name := "lastClass", desc := "()I" } : Jvm.MethodName)) ∈ lw_all := lw_g (lw_at lw_m4 108 rfl) rfl
theorem q1018 : (Jvm.Cond.privateMethod ({ cls := "FactHouse$Reader", name := "lastClass", desc := "()I" } : Jvm.MethodName)) ∈ lw_tbl := lw_at lw_m4 109 rfl
theorem q1019 : (Jvm.Cond.instanceMethod ({ cls := "FactHouse$Reader", name := "lastClass", desc := "()I" } : Jvm.MethodName)) ∈ lw_all := lw_g (lw_at lw_m4 110 rfl) rfl
theorem q1020 : (Jvm.Cond.code ({ cls := "FactHouse$Reader", name := "lastClass", desc := "()I" } : Jvm.MethodName) prog_12_method_9_code (1 : Nat) (Option.some Jvm.ClassFile.FieldType.int)) ∈ lw_all := lw_g (lw_at lw_m4 111 rfl) rfl
theorem q1021 : (Jvm.Cond.methodLink "FactHouse$Reader" (153 : Nat) ({ cls := "FactHouse$Method", name := "isLike", desc := "(LFactHouse$Method;)Z" } : Jvm.MethodName)) ∈ lw_all := lw_g (lw_at lw_m4 112 rfl) rfl
theorem q1025 : (Jvm.Cond.classLink "FactHouse$Reader" (160 : Nat) "FactHouse$Handler") ∈ lw_all := lw_g (lw_at lw_m4 116 rfl) rfl
theorem q1027 : (Jvm.Cond.methodLink "FactHouse$Reader" (183 : Nat) ({ cls := "FactHouse$Reader", name := "readInstruction", desc := "(LFactHouse$Method;I)V" } : Jvm.MethodName)) ∈ lw_all := lw_g (lw_at lw_m4 118 rfl) rfl
theorem q1028 : (Jvm.Cond.privateMethod ({ cls := "FactHouse$Reader", name := "readInstruction", desc := "(LFactHouse$Method;I)V" } : Jvm.MethodName)) ∈ lw_tbl := lw_at lw_m4 119 rfl
theorem q1029 : (Jvm.Cond.instanceMethod ({ cls := "FactHouse$Reader", name := "readInstruction", desc := "(LFactHouse$Method;I)V" } : Jvm.MethodName)) ∈ lw_all := lw_g (lw_at lw_m4 120 rfl) rfl
theorem q1030 : (Jvm.Cond.code ({ cls := "FactHouse$Reader", name := "readInstruction", desc := "(LFactHouse$Method;I)V" } : Jvm.MethodName) prog_12_method_13_code (11 : Nat) (Option.none : Option Jvm.ClassFile.FieldType)) ∈ lw_all := lw_g (lw_at lw_m4 121 rfl) rfl
theorem q1031 : (Jvm.Cond.methodLink "FactHouse$Reader" (201 : Nat) ({ cls := "FactHouse$Reader", name := "mostX", desc := "(LFactHouse$Method;I)I" } : Jvm.MethodName)) ∈ lw_all := lw_g (lw_at lw_m4 122 rfl) rfl
theorem q1032 : (Jvm.Cond.privateMethod ({ cls := "FactHouse$Reader", name := "mostX", desc := "(LFactHouse$Method;I)I" } : Jvm.MethodName)) ∈ lw_tbl := lw_at lw_m4 123 rfl
theorem q1033 : (Jvm.Cond.instanceMethod ({ cls := "FactHouse$Reader", name := "mostX", desc := "(LFactHouse$Method;I)I" } : Jvm.MethodName)) ∈ lw_all := lw_g (lw_at lw_m4 124 rfl) rfl
theorem q1034 : (Jvm.Cond.code ({ cls := "FactHouse$Reader", name := "mostX", desc := "(LFactHouse$Method;I)I" } : Jvm.MethodName) prog_12_method_12_code (3 : Nat) (Option.some Jvm.ClassFile.FieldType.int)) ∈ lw_all := lw_g (lw_at lw_m4 125 rfl) rfl
theorem q1035 : (Jvm.Cond.methodLink "FactHouse$Reader" (205 : Nat) ({ cls := "FactHouse$Reader", name := "two", desc := "()I" } : Jvm.MethodName)) ∈ lw_all := lw_g (lw_at lw_m4 126 rfl) rfl
theorem q1036 : (Jvm.Cond.privateMethod ({ cls := "FactHouse$Reader", name := "two", desc := "()I" } : Jvm.MethodName)) ∈ lw_tbl := lw_at lw_m4 127 rfl
theorem q1037 : (Jvm.Cond.instanceMethod ({ cls := "FactHouse$Reader", name := "two", desc := "()I" } : Jvm.MethodName)) ∈ lw_all := lw_g (lw_at lw_m4 128 rfl) rfl
theorem q1038 : (Jvm.Cond.code ({ cls := "FactHouse$Reader", name := "two", desc := "()I" } : Jvm.MethodName) prog_12_method_4_code (1 : Nat) (Option.some Jvm.ClassFile.FieldType.int)) ∈ lw_all := lw_g (lw_at lw_m4 129 rfl) rfl
theorem q1039 : (Jvm.Cond.methodLink "FactHouse$Reader" (121 : Nat) ({ cls := "FactHouse$Method", name := "size", desc := "()I" } : Jvm.MethodName)) ∈ lw_all := lw_g (lw_at lw_m4 130 rfl) rfl
theorem q1043 : (Jvm.Cond.methodLink "FactHouse$Reader" (187 : Nat) ({ cls := "FactHouse$Reader", name := "readHandler", desc := "(LFactHouse$Method;I)V" } : Jvm.MethodName)) ∈ lw_all := lw_g (lw_at lw_m4 134 rfl) rfl
theorem q1044 : (Jvm.Cond.privateMethod ({ cls := "FactHouse$Reader", name := "readHandler", desc := "(LFactHouse$Method;I)V" } : Jvm.MethodName)) ∈ lw_tbl := lw_at lw_m4 135 rfl
theorem q1045 : (Jvm.Cond.instanceMethod ({ cls := "FactHouse$Reader", name := "readHandler", desc := "(LFactHouse$Method;I)V" } : Jvm.MethodName)) ∈ lw_all := lw_g (lw_at lw_m4 136 rfl) rfl
theorem q1046 : (Jvm.Cond.code ({ cls := "FactHouse$Reader", name := "readHandler", desc := "(LFactHouse$Method;I)V" } : Jvm.MethodName) prog_12_method_11_code (4 : Nat) (Option.none : Option Jvm.ClassFile.FieldType)) ∈ lw_all := lw_g (lw_at lw_m4 137 rfl) rfl
theorem q1048 : (Jvm.Cond.methodLinkNest "FactHouse$Reader" (193 : Nat) ({ cls := "FactHouse$Handler", name := "<init>", desc := "()V" } : Jvm.MethodName) "FactHouse") ∈ lw_tbl := lw_at lw_m4 139 rfl
theorem q1052 : (Jvm.Cond.fieldLink "FactHouse$Reader" (194 : Nat) "FactHouse$Handler" "from" "I") ∈ lw_all := lw_g (lw_at lw_m4 143 rfl) rfl
theorem q1056 : (Jvm.Cond.fieldLink "FactHouse$Reader" (195 : Nat) "FactHouse$Handler" "to" "I") ∈ lw_all := lw_g (lw_at lw_m4 147 rfl) rfl
theorem q1061 : (Jvm.Cond.fieldLink "FactHouse$Reader" (196 : Nat) "FactHouse$Handler" "at" "I") ∈ lw_all := lw_g (lw_at lw_m4 152 rfl) rfl
theorem q1065 : (Jvm.Cond.fieldLink "FactHouse$Reader" (197 : Nat) "FactHouse$Handler" "cls" "I") ∈ lw_all := lw_g (lw_at lw_m4 156 rfl) rfl
theorem q1078 : (Jvm.Cond.classLink "FactHouse$Reader" (98 : Nat) "FactHouse$CodeJudge") ∈ lw_all := lw_g (lw_at lw_m4 169 rfl) rfl
theorem q1080 : (Jvm.Cond.methodLink "FactHouse$Reader" (100 : Nat) ({ cls := "FactHouse$CodeJudge", name := "<init>", desc := "(LFactHouse$Program;LFactHouse$Method;)V" } : Jvm.MethodName)) ∈ lw_all := lw_g (lw_at lw_m4 171 rfl) rfl
theorem q1100 : (Jvm.Cond.methodLink "FactHouse$Reader" (103 : Nat) ({ cls := "FactHouse$CodeJudge", name := "judge", desc := "()V" } : Jvm.MethodName)) ∈ lw_all := lw_g (lw_at lw_m4 191 rfl) rfl
theorem q1151 : (Jvm.Cond.methodLink "FactHouse$Reader" (106 : Nat) ({ cls := "FactHouse$Reader", name := "layPlaces", desc := "()V" } : Jvm.MethodName)) ∈ lw_all := lw_g (lw_at lw_m5 2 rfl) rfl
theorem q1152 : (Jvm.Cond.privateMethod ({ cls := "FactHouse$Reader", name := "layPlaces", desc := "()V" } : Jvm.MethodName)) ∈ lw_tbl := lw_at lw_m5 3 rfl
theorem q1153 : (Jvm.Cond.instanceMethod ({ cls := "FactHouse$Reader", name := "layPlaces", desc := "()V" } : Jvm.MethodName)) ∈ lw_all := lw_g (lw_at lw_m5 4 rfl) rfl
theorem q1154 : (Jvm.Cond.code ({ cls := "FactHouse$Reader", name := "layPlaces", desc := "()V" } : Jvm.MethodName) prog_12_method_7_code (6 : Nat) (Option.none : Option Jvm.ClassFile.FieldType)) ∈ lw_all := lw_g (lw_at lw_m5 5 rfl) rfl
theorem q1155 : (Jvm.Cond.methodLink "FactHouse$Reader" (109 : Nat) ({ cls := "FactHouse$Reader", name := "findMarks", desc := "()V" } : Jvm.MethodName)) ∈ lw_all := lw_g (lw_at lw_m5 6 rfl) rfl
theorem q1156 : (Jvm.Cond.privateMethod ({ cls := "FactHouse$Reader", name := "findMarks", desc := "()V" } : Jvm.MethodName)) ∈ lw_tbl := lw_at lw_m5 7 rfl
theorem q1157 : (Jvm.Cond.instanceMethod ({ cls := "FactHouse$Reader", name := "findMarks", desc := "()V" } : Jvm.MethodName)) ∈ lw_all := lw_g (lw_at lw_m5 8 rfl) rfl
theorem q1158 : (Jvm.Cond.code ({ cls := "FactHouse$Reader", name := "findMarks", desc := "()V" } : Jvm.MethodName) prog_12_method_15_code (8 : Nat) (Option.none : Option Jvm.ClassFile.FieldType)) ∈ lw_all := lw_g (lw_at lw_m5 9 rfl) rfl
theorem q1159 : (Jvm.Cond.methodLink "FactHouse$Reader" (209 : Nat) ({ cls := "FactHouse$Reader", name := "mark", desc := "(I)V" } : Jvm.MethodName)) ∈ lw_all := lw_g (lw_at lw_m5 10 rfl) rfl
theorem q1160 : (Jvm.Cond.privateMethod ({ cls := "FactHouse$Reader", name := "mark", desc := "(I)V" } : Jvm.MethodName)) ∈ lw_tbl := lw_at lw_m5 11 rfl
theorem q1161 : (Jvm.Cond.instanceMethod ({ cls := "FactHouse$Reader", name := "mark", desc := "(I)V" } : Jvm.MethodName)) ∈ lw_all := lw_g (lw_at lw_m5 12 rfl) rfl
theorem q1162 : (Jvm.Cond.code ({ cls := "FactHouse$Reader", name := "mark", desc := "(I)V" } : Jvm.MethodName) prog_12_method_14_code (2 : Nat) (Option.none : Option Jvm.ClassFile.FieldType)) ∈ lw_all := lw_g (lw_at lw_m5 13 rfl) rfl
theorem q1163 : (Jvm.Cond.constant "FactHouse$Reader" (208 : Nat) (32770 : Int32)) ∈ lw_all := lw_g (lw_at lw_m5 14 rfl) rfl
theorem q1164 : (Jvm.Cond.constant "FactHouse$Reader" (217 : Nat) (-2147483648 : Int32)) ∈ lw_all := lw_g (lw_at lw_m5 15 rfl) rfl
theorem q1165 : (Jvm.Cond.constant "FactHouse$Reader" (218 : Nat) (2147483647 : Int32)) ∈ lw_all := lw_g (lw_at lw_m5 16 rfl) rfl
theorem in_X11 : ∀ w ∈ wsX110, w ∈ lw_all := lw_in wsX110 [787, 789, 791, 793, 795, 797] (by decide +kernel) (by decide +kernel)
/-! FactHouse$Program -/
def RX12 : String := "FactHouse$Program"
def TX12 : u_T := fun k => match k with
  | 0 => ("FactHouse$Program", "file", "[B", false)
  | 1 => ("FactHouse$Program", "size", "I", false)
  | 2 => ("FactHouse$Program", "classes", "I", false)
  | 3 => ("FactHouse$Program", "parents", "[I", false)
  | 4 => ("FactHouse$Program", "fields", "[[I", true)
  | 5 => ("FactHouse$Program", "statics", "[I", false)
  | 6 => ("FactHouse$Program", "methods", "[LFactHouse$Method;", false)
  | 7 => ("FactHouse$Program", "places", "I", false)
  | 8 => ("FactHouse$Program", "sites", "I", false)
  | 9 => ("FactHouse$Program", "siteClass", "[I", true)
  | 10 => ("FactHouse$Program", "siteOf", "[I", false)
  | 11 => ("FactHouse$Program", "methodOf", "[I", false)
  | 12 => ("FactHouse$Program", "marks", "[I", false)
  | 13 => ("FactHouse$Program", "roots", "[Z", false)
  | _ => ("FactHouse$Program", "rootCount", "I", false)
def tyX12 : Nat → FieldType := fun k => match k with
  | 0 => .array .byte
  | 1 => .int
  | 2 => .int
  | 3 => .array .int
  | 4 => .array (.array .int)
  | 5 => .array .int
  | 6 => .array (.object "FactHouse$Method")
  | 7 => .int
  | 8 => .int
  | 9 => .array .int
  | 10 => .array .int
  | 11 => .array .int
  | 12 => .array .int
  | 13 => .array .boolean
  | _ => .int
abbrev wsX120 : List Cond := u_ws RX12 TX12 15
theorem nmX12 : ∀ a, a < 15 → ∀ b, b < 15 → a ≠ b → (TX12 a).2.1 ≠ (TX12 b).2.1 := by decide +kernel
theorem tyX12_ok : ∀ k, k < 15 → parseFieldDescriptor (TX12 k).2.2.1 = some (tyX12 k) := by decide +kernel
abbrev cX12_init : ByteArray := prog_11_method_1_code
def yX12_init : MethodName := ⟨RX12, "<init>", "()V"⟩
abbrev cX12_named : ByteArray := prog_11_method_7_code
def yX12_named : MethodName := ⟨RX12, "named", "(I)LFactHouse$Method;"⟩
abbrev cX12_down : ByteArray := prog_11_method_8_code
def yX12_down : MethodName := ⟨RX12, "down", "(J)I"⟩
abbrev cX12_up : ByteArray := prog_11_method_9_code
def yX12_up : MethodName := ⟨RX12, "up", "(J)I"⟩
abbrev cX12_ofClass : ByteArray := prog_11_method_4_code
def yX12_ofClass : MethodName := ⟨RX12, "ofClass", "(JI)J"⟩
abbrev cX12_siteIsOf : ByteArray := prog_11_method_3_code
def yX12_siteIsOf : MethodName := ⟨RX12, "siteIsOf", "(II)Z"⟩
abbrev cX12_isOf : ByteArray := prog_11_method_2_code
def yX12_isOf : MethodName := ⟨RX12, "isOf", "(II)Z"⟩
abbrev cX12_arrays : ByteArray := prog_11_method_5_code
def yX12_arrays : MethodName := ⟨RX12, "arrays", "(JI)J"⟩
abbrev cX12_find : ByteArray := prog_11_method_6_code
def yX12_find : MethodName := ⟨RX12, "find", "(II)LFactHouse$Method;"⟩
theorem q206 : (Jvm.Cond.initialized "FactHouse$Program") ∈ lw_all := lw_g (lw_at lw_m1 17 rfl) rfl
theorem q689 : (Jvm.Cond.instantiable "FactHouse$Program" (15 : Nat)) ∈ lw_all := lw_g (lw_at lw_m3 20 rfl) rfl
theorem q691 : (Jvm.Cond.instanceMethod ({ cls := "FactHouse$Program", name := "<init>", desc := "()V" } : Jvm.MethodName)) ∈ lw_all := lw_g (lw_at lw_m3 22 rfl) rfl
theorem q692 : (Jvm.Cond.code ({ cls := "FactHouse$Program", name := "<init>", desc := "()V" } : Jvm.MethodName) prog_11_method_1_code (1 : Nat) (Option.none : Option Jvm.ClassFile.FieldType)) ∈ lw_all := lw_g (lw_at lw_m3 23 rfl) rfl
theorem q693 : (Jvm.Cond.methodLink "FactHouse$Program" (3 : Nat) ({ cls := "java/lang/Object", name := "<init>", desc := "()V" } : Jvm.MethodName)) ∈ lw_all := lw_g (lw_at lw_m3 24 rfl) rfl
theorem q694 : (Jvm.Cond.classLink "FactHouse$Program" (15 : Nat) "[I") ∈ lw_all := lw_g (lw_at lw_m3 25 rfl) rfl
theorem q700 : (Jvm.Cond.fieldLink "FactHouse$Program" (9 : Nat) "FactHouse$Program" "parents" "[I") ∈ lw_all := lw_g (lw_at lw_m3 31 rfl) rfl
theorem q702 : (Jvm.Cond.fieldLink "FactHouse$Program" (16 : Nat) "FactHouse$Program" "fields" "[[I") ∈ lw_all := lw_g (lw_at lw_m3 33 rfl) rfl
theorem q713 : (Jvm.Cond.fieldLink "FactHouse$Program" (34 : Nat) "FactHouse$Program" "methods" "[LFactHouse$Method;") ∈ lw_all := lw_g (lw_at lw_m3 44 rfl) rfl
theorem q724 : (Jvm.Cond.fieldLink "FactHouse$Program" (27 : Nat) "FactHouse$Program" "sites" "I") ∈ lw_all := lw_g (lw_at lw_m3 55 rfl) rfl
theorem q727 : (Jvm.Cond.fieldLink "FactHouse$Program" (20 : Nat) "FactHouse$Program" "siteClass" "[I") ∈ lw_all := lw_g (lw_at lw_m3 58 rfl) rfl
theorem q739 : (Jvm.Cond.fieldLink "FactHouse$Program" (46 : Nat) "FactHouse$Program" "marks" "[I") ∈ lw_all := lw_g (lw_at lw_m3 70 rfl) rfl
theorem q747 : (Jvm.Cond.lays "FactHouse$Program" "FactHouse$Program" "file" "[B") ∈ lw_all := lw_g (lw_at lw_m3 78 rfl) rfl
theorem q748 : (Jvm.Cond.soleField "FactHouse$Program" "file") ∈ lw_all := lw_g (lw_at lw_m3 79 rfl) rfl
theorem q749 : (Jvm.Cond.lays "FactHouse$Program" "FactHouse$Program" "size" "I") ∈ lw_all := lw_g (lw_at lw_m3 80 rfl) rfl
theorem q750 : (Jvm.Cond.soleField "FactHouse$Program" "size") ∈ lw_all := lw_g (lw_at lw_m3 81 rfl) rfl
theorem q751 : (Jvm.Cond.lays "FactHouse$Program" "FactHouse$Program" "classes" "I") ∈ lw_all := lw_g (lw_at lw_m3 82 rfl) rfl
theorem q752 : (Jvm.Cond.soleField "FactHouse$Program" "classes") ∈ lw_all := lw_g (lw_at lw_m3 83 rfl) rfl
theorem q753 : (Jvm.Cond.lays "FactHouse$Program" "FactHouse$Program" "parents" "[I") ∈ lw_all := lw_g (lw_at lw_m3 84 rfl) rfl
theorem q754 : (Jvm.Cond.soleField "FactHouse$Program" "parents") ∈ lw_all := lw_g (lw_at lw_m3 85 rfl) rfl
theorem q755 : (Jvm.Cond.laysFinal "FactHouse$Program" "FactHouse$Program" "fields" "[[I") ∈ lw_all := lw_g (lw_at lw_m3 86 rfl) rfl
theorem q756 : (Jvm.Cond.soleField "FactHouse$Program" "fields") ∈ lw_all := lw_g (lw_at lw_m3 87 rfl) rfl
theorem q757 : (Jvm.Cond.lays "FactHouse$Program" "FactHouse$Program" "statics" "[I") ∈ lw_all := lw_g (lw_at lw_m3 88 rfl) rfl
theorem q758 : (Jvm.Cond.soleField "FactHouse$Program" "statics") ∈ lw_all := lw_g (lw_at lw_m3 89 rfl) rfl
theorem q759 : (Jvm.Cond.lays "FactHouse$Program" "FactHouse$Program" "methods" "[LFactHouse$Method;") ∈ lw_all := lw_g (lw_at lw_m3 90 rfl) rfl
theorem q760 : (Jvm.Cond.soleField "FactHouse$Program" "methods") ∈ lw_all := lw_g (lw_at lw_m3 91 rfl) rfl
theorem q761 : (Jvm.Cond.lays "FactHouse$Program" "FactHouse$Program" "places" "I") ∈ lw_all := lw_g (lw_at lw_m3 92 rfl) rfl
theorem q762 : (Jvm.Cond.soleField "FactHouse$Program" "places") ∈ lw_all := lw_g (lw_at lw_m3 93 rfl) rfl
theorem q763 : (Jvm.Cond.lays "FactHouse$Program" "FactHouse$Program" "sites" "I") ∈ lw_all := lw_g (lw_at lw_m3 94 rfl) rfl
theorem q764 : (Jvm.Cond.soleField "FactHouse$Program" "sites") ∈ lw_all := lw_g (lw_at lw_m3 95 rfl) rfl
theorem q765 : (Jvm.Cond.laysFinal "FactHouse$Program" "FactHouse$Program" "siteClass" "[I") ∈ lw_all := lw_g (lw_at lw_m3 96 rfl) rfl
theorem q766 : (Jvm.Cond.soleField "FactHouse$Program" "siteClass") ∈ lw_all := lw_g (lw_at lw_m3 97 rfl) rfl
theorem q767 : (Jvm.Cond.lays "FactHouse$Program" "FactHouse$Program" "siteOf" "[I") ∈ lw_all := lw_g (lw_at lw_m3 98 rfl) rfl
theorem q768 : (Jvm.Cond.soleField "FactHouse$Program" "siteOf") ∈ lw_all := lw_g (lw_at lw_m3 99 rfl) rfl
theorem q769 : (Jvm.Cond.lays "FactHouse$Program" "FactHouse$Program" "methodOf" "[I") ∈ lw_all := lw_g (lw_at lw_m3 100 rfl) rfl
theorem q770 : (Jvm.Cond.soleField "FactHouse$Program" "methodOf") ∈ lw_all := lw_g (lw_at lw_m3 101 rfl) rfl
theorem q771 : (Jvm.Cond.lays "FactHouse$Program" "FactHouse$Program" "marks" "[I") ∈ lw_all := lw_g (lw_at lw_m3 102 rfl) rfl
theorem q772 : (Jvm.Cond.soleField "FactHouse$Program" "marks") ∈ lw_all := lw_g (lw_at lw_m3 103 rfl) rfl
theorem q773 : (Jvm.Cond.lays "FactHouse$Program" "FactHouse$Program" "roots" "[Z") ∈ lw_all := lw_g (lw_at lw_m3 104 rfl) rfl
theorem q774 : (Jvm.Cond.soleField "FactHouse$Program" "roots") ∈ lw_all := lw_g (lw_at lw_m3 105 rfl) rfl
theorem q775 : (Jvm.Cond.lays "FactHouse$Program" "FactHouse$Program" "rootCount" "I") ∈ lw_all := lw_g (lw_at lw_m3 106 rfl) rfl
theorem q776 : (Jvm.Cond.soleField "FactHouse$Program" "rootCount") ∈ lw_all := lw_g (lw_at lw_m3 107 rfl) rfl
theorem q777 : (Jvm.Cond.superclass "FactHouse$Program" "java/lang/Object") ∈ lw_all := lw_g (lw_at lw_m3 108 rfl) rfl
theorem q905 : (Jvm.Cond.fieldLink "FactHouse$Program" (38 : Nat) "FactHouse$Method" "cls" "I") ∈ lw_all := lw_g (lw_at lw_m3 236 rfl) rfl
theorem q909 : (Jvm.Cond.fieldLink "FactHouse$Program" (43 : Nat) "FactHouse$Method" "name" "I") ∈ lw_all := lw_g (lw_at lw_m4 0 rfl) rfl
theorem q1148 : (Jvm.Cond.instanceMethod ({ cls := "FactHouse$Program", name := "named", desc := "(I)LFactHouse$Method;" } : Jvm.MethodName)) ∈ lw_all := lw_g (lw_at lw_m4 239 rfl) rfl
theorem q1149 : (Jvm.Cond.selects "FactHouse$Program" ({ cls := "FactHouse$Program", name := "named", desc := "(I)LFactHouse$Method;" } : Jvm.MethodName) ({ cls := "FactHouse$Program", name := "named", desc := "(I)LFactHouse$Method;" } : Jvm.MethodName)) ∈ lw_all := lw_g (lw_at lw_m5 0 rfl) rfl
theorem q1150 : (Jvm.Cond.code ({ cls := "FactHouse$Program", name := "named", desc := "(I)LFactHouse$Method;" } : Jvm.MethodName) prog_11_method_7_code (3 : Nat) (Option.some (Jvm.ClassFile.FieldType.object "FactHouse$Method"))) ∈ lw_all := lw_g (lw_at lw_m5 1 rfl) rfl
theorem q1421 : (Jvm.Cond.instanceMethod ({ cls := "FactHouse$Program", name := "down", desc := "(J)I" } : Jvm.MethodName)) ∈ lw_all := lw_g (lw_at lw_m6 32 rfl) rfl
theorem q1422 : (Jvm.Cond.selects "FactHouse$Program" ({ cls := "FactHouse$Program", name := "down", desc := "(J)I" } : Jvm.MethodName) ({ cls := "FactHouse$Program", name := "down", desc := "(J)I" } : Jvm.MethodName)) ∈ lw_all := lw_g (lw_at lw_m6 33 rfl) rfl
theorem q1423 : (Jvm.Cond.code ({ cls := "FactHouse$Program", name := "down", desc := "(J)I" } : Jvm.MethodName) prog_11_method_8_code (6 : Nat) (Option.some Jvm.ClassFile.FieldType.int)) ∈ lw_all := lw_g (lw_at lw_m6 34 rfl) rfl
theorem q1425 : (Jvm.Cond.instanceMethod ({ cls := "FactHouse$Program", name := "up", desc := "(J)I" } : Jvm.MethodName)) ∈ lw_all := lw_g (lw_at lw_m6 36 rfl) rfl
theorem q1426 : (Jvm.Cond.selects "FactHouse$Program" ({ cls := "FactHouse$Program", name := "up", desc := "(J)I" } : Jvm.MethodName) ({ cls := "FactHouse$Program", name := "up", desc := "(J)I" } : Jvm.MethodName)) ∈ lw_all := lw_g (lw_at lw_m6 37 rfl) rfl
theorem q1427 : (Jvm.Cond.code ({ cls := "FactHouse$Program", name := "up", desc := "(J)I" } : Jvm.MethodName) prog_11_method_9_code (6 : Nat) (Option.some Jvm.ClassFile.FieldType.int)) ∈ lw_all := lw_g (lw_at lw_m6 38 rfl) rfl
theorem q1438 : (Jvm.Cond.instanceMethod ({ cls := "FactHouse$Program", name := "ofClass", desc := "(JI)J" } : Jvm.MethodName)) ∈ lw_all := lw_g (lw_at lw_m6 49 rfl) rfl
theorem q1439 : (Jvm.Cond.selects "FactHouse$Program" ({ cls := "FactHouse$Program", name := "ofClass", desc := "(JI)J" } : Jvm.MethodName) ({ cls := "FactHouse$Program", name := "ofClass", desc := "(JI)J" } : Jvm.MethodName)) ∈ lw_all := lw_g (lw_at lw_m6 50 rfl) rfl
theorem q1440 : (Jvm.Cond.code ({ cls := "FactHouse$Program", name := "ofClass", desc := "(JI)J" } : Jvm.MethodName) prog_11_method_4_code (7 : Nat) (Option.some Jvm.ClassFile.FieldType.long)) ∈ lw_all := lw_g (lw_at lw_m6 51 rfl) rfl
theorem q1441 : (Jvm.Cond.methodLink "FactHouse$Program" (31 : Nat) ({ cls := "FactHouse$Program", name := "siteIsOf", desc := "(II)Z" } : Jvm.MethodName)) ∈ lw_all := lw_g (lw_at lw_m6 52 rfl) rfl
theorem q1442 : (Jvm.Cond.instanceMethod ({ cls := "FactHouse$Program", name := "siteIsOf", desc := "(II)Z" } : Jvm.MethodName)) ∈ lw_all := lw_g (lw_at lw_m6 53 rfl) rfl
theorem q1443 : (Jvm.Cond.selects "FactHouse$Program" ({ cls := "FactHouse$Program", name := "siteIsOf", desc := "(II)Z" } : Jvm.MethodName) ({ cls := "FactHouse$Program", name := "siteIsOf", desc := "(II)Z" } : Jvm.MethodName)) ∈ lw_all := lw_g (lw_at lw_m6 54 rfl) rfl
theorem q1444 : (Jvm.Cond.code ({ cls := "FactHouse$Program", name := "siteIsOf", desc := "(II)Z" } : Jvm.MethodName) prog_11_method_3_code (4 : Nat) (Option.some Jvm.ClassFile.FieldType.boolean)) ∈ lw_all := lw_g (lw_at lw_m6 55 rfl) rfl
theorem q1445 : (Jvm.Cond.methodLink "FactHouse$Program" (23 : Nat) ({ cls := "FactHouse$Program", name := "isOf", desc := "(II)Z" } : Jvm.MethodName)) ∈ lw_all := lw_g (lw_at lw_m6 56 rfl) rfl
theorem q1446 : (Jvm.Cond.instanceMethod ({ cls := "FactHouse$Program", name := "isOf", desc := "(II)Z" } : Jvm.MethodName)) ∈ lw_all := lw_g (lw_at lw_m6 57 rfl) rfl
theorem q1447 : (Jvm.Cond.selects "FactHouse$Program" ({ cls := "FactHouse$Program", name := "isOf", desc := "(II)Z" } : Jvm.MethodName) ({ cls := "FactHouse$Program", name := "isOf", desc := "(II)Z" } : Jvm.MethodName)) ∈ lw_all := lw_g (lw_at lw_m6 58 rfl) rfl
theorem q1448 : (Jvm.Cond.code ({ cls := "FactHouse$Program", name := "isOf", desc := "(II)Z" } : Jvm.MethodName) prog_11_method_2_code (4 : Nat) (Option.some Jvm.ClassFile.FieldType.boolean)) ∈ lw_all := lw_g (lw_at lw_m6 59 rfl) rfl
theorem q1535 : (Jvm.Cond.instanceMethod ({ cls := "FactHouse$Program", name := "arrays", desc := "(JI)J" } : Jvm.MethodName)) ∈ lw_all := lw_g (lw_at lw_m6 146 rfl) rfl
theorem q1536 : (Jvm.Cond.selects "FactHouse$Program" ({ cls := "FactHouse$Program", name := "arrays", desc := "(JI)J" } : Jvm.MethodName) ({ cls := "FactHouse$Program", name := "arrays", desc := "(JI)J" } : Jvm.MethodName)) ∈ lw_all := lw_g (lw_at lw_m6 147 rfl) rfl
theorem q1537 : (Jvm.Cond.code ({ cls := "FactHouse$Program", name := "arrays", desc := "(JI)J" } : Jvm.MethodName) prog_11_method_5_code (7 : Nat) (Option.some Jvm.ClassFile.FieldType.long)) ∈ lw_all := lw_g (lw_at lw_m6 148 rfl) rfl
theorem q1584 : (Jvm.Cond.instanceMethod ({ cls := "FactHouse$Program", name := "find", desc := "(II)LFactHouse$Method;" } : Jvm.MethodName)) ∈ lw_all := lw_g (lw_at lw_m6 195 rfl) rfl
theorem q1585 : (Jvm.Cond.selects "FactHouse$Program" ({ cls := "FactHouse$Program", name := "find", desc := "(II)LFactHouse$Method;" } : Jvm.MethodName) ({ cls := "FactHouse$Program", name := "find", desc := "(II)LFactHouse$Method;" } : Jvm.MethodName)) ∈ lw_all := lw_g (lw_at lw_m6 196 rfl) rfl
theorem q1586 : (Jvm.Cond.code ({ cls := "FactHouse$Program", name := "find", desc := "(II)LFactHouse$Method;" } : Jvm.MethodName) prog_11_method_6_code (5 : Nat) (Option.some (Jvm.ClassFile.FieldType.object "FactHouse$Method"))) ∈ lw_all := lw_g (lw_at lw_m6 197 rfl) rfl
theorem in_X12 : ∀ w ∈ wsX120, w ∈ lw_all := lw_in wsX120 [747, 749, 751, 753, 755, 757, 759, 761, 763, 765, 767, 769, 771, 773, 775] (by decide +kernel) (by decide +kernel)
/-! FactHouse$Wrong -/
def RX13 : String := "FactHouse$Wrong"
def TX13 : u_T := fun k => match k with
  | 0 => ("java/lang/Throwable", "cause", "Ljava/lang/Throwable;", false)
  | 1 => ("java/lang/Throwable", "stackTrace", "[Ljava/lang/StackTraceElement;", false)
  | 2 => ("java/lang/Throwable", "suppressedExceptions", "Ljava/util/List;", false)
  | 3 => ("java/lang/Throwable", "detailMessage", "Ljava/lang/String;", false)
  | 4 => ("java/lang/Throwable", "backtrace", "Ljava/lang/Object;", false)
  | 5 => ("java/lang/Throwable", "depth", "I", false)
  | _ => ("FactHouse$Wrong", "place", "I", true)
def tyX13 : Nat → FieldType := fun k => match k with
  | 0 => .object "java/lang/Throwable"
  | 1 => .array (.object "java/lang/StackTraceElement")
  | 2 => .object "java/util/List"
  | 3 => .object "java/lang/String"
  | 4 => .object "java/lang/Object"
  | 5 => .int
  | _ => .int
abbrev wsX130 : List Cond := u_ws RX13 TX13 7
theorem nmX13 : ∀ a, a < 7 → ∀ b, b < 7 → a ≠ b → (TX13 a).2.1 ≠ (TX13 b).2.1 := by decide +kernel
theorem tyX13_ok : ∀ k, k < 7 → parseFieldDescriptor (TX13 k).2.2.1 = some (tyX13 k) := by decide +kernel
abbrev cX13_init : ByteArray := prog_14_method_1_code
def yX13_init : MethodName := ⟨RX13, "<init>", "(I)V"⟩
theorem q208 : (Jvm.Cond.initialized "FactHouse$Wrong") ∈ lw_all := lw_g (lw_at lw_m1 19 rfl) rfl
theorem q815 : (Jvm.Cond.instantiable "FactHouse$Wrong" (7 : Nat)) ∈ lw_all := lw_g (lw_at lw_m3 146 rfl) rfl
theorem q816 : (Jvm.Cond.castable "FactHouse$Wrong" "FactHouse$Wrong") ∈ lw_tbl := lw_at lw_m3 147 rfl
theorem q823 : (Jvm.Cond.selects "FactHouse$Wrong" ({ cls := "java/lang/Throwable", name := "fillInStackTrace", desc := "(I)Ljava/lang/Throwable;" } : Jvm.MethodName) ({ cls := "java/lang/Throwable", name := "fillInStackTrace", desc := "(I)Ljava/lang/Throwable;" } : Jvm.MethodName)) ∈ lw_all := lw_g (lw_at lw_m3 154 rfl) rfl
theorem q824 : (Jvm.Cond.selects "FactHouse$Wrong" ({ cls := "java/lang/Throwable", name := "fillInStackTrace", desc := "()Ljava/lang/Throwable;" } : Jvm.MethodName) ({ cls := "java/lang/Throwable", name := "fillInStackTrace", desc := "()Ljava/lang/Throwable;" } : Jvm.MethodName)) ∈ lw_all := lw_g (lw_at lw_m3 155 rfl) rfl
theorem q825 : (Jvm.Cond.lays "FactHouse$Wrong" "java/lang/Throwable" "cause" "Ljava/lang/Throwable;") ∈ lw_all := lw_g (lw_at lw_m3 156 rfl) rfl
theorem q827 : (Jvm.Cond.lays "FactHouse$Wrong" "java/lang/Throwable" "stackTrace" "[Ljava/lang/StackTraceElement;") ∈ lw_all := lw_g (lw_at lw_m3 158 rfl) rfl
theorem q829 : (Jvm.Cond.lays "FactHouse$Wrong" "java/lang/Throwable" "suppressedExceptions" "Ljava/util/List;") ∈ lw_all := lw_g (lw_at lw_m3 160 rfl) rfl
theorem q831 : (Jvm.Cond.lays "FactHouse$Wrong" "java/lang/Throwable" "detailMessage" "Ljava/lang/String;") ∈ lw_all := lw_g (lw_at lw_m3 162 rfl) rfl
theorem q833 : (Jvm.Cond.lays "FactHouse$Wrong" "java/lang/Throwable" "backtrace" "Ljava/lang/Object;") ∈ lw_all := lw_g (lw_at lw_m3 164 rfl) rfl
theorem q859 : (Jvm.Cond.instanceMethod ({ cls := "FactHouse$Wrong", name := "<init>", desc := "(I)V" } : Jvm.MethodName)) ∈ lw_all := lw_g (lw_at lw_m3 190 rfl) rfl
theorem q860 : (Jvm.Cond.code ({ cls := "FactHouse$Wrong", name := "<init>", desc := "(I)V" } : Jvm.MethodName) prog_14_method_1_code (2 : Nat) (Option.none : Option Jvm.ClassFile.FieldType)) ∈ lw_all := lw_g (lw_at lw_m3 191 rfl) rfl
theorem q861 : (Jvm.Cond.methodLink "FactHouse$Wrong" (1 : Nat) ({ cls := "java/lang/RuntimeException", name := "<init>", desc := "(Ljava/lang/String;Ljava/lang/Throwable;ZZ)V" } : Jvm.MethodName)) ∈ lw_all := lw_g (lw_at lw_m3 192 rfl) rfl
theorem q870 : (Jvm.Cond.fieldLink "FactHouse$Wrong" (7 : Nat) "FactHouse$Wrong" "place" "I") ∈ lw_all := lw_g (lw_at lw_m3 201 rfl) rfl
theorem q877 : (Jvm.Cond.laysFinal "FactHouse$Wrong" "FactHouse$Wrong" "place" "I") ∈ lw_all := lw_g (lw_at lw_m3 208 rfl) rfl
theorem q878 : (Jvm.Cond.soleField "FactHouse$Wrong" "place") ∈ lw_all := lw_g (lw_at lw_m3 209 rfl) rfl
theorem q883 : (Jvm.Cond.lays "FactHouse$Wrong" "java/lang/Throwable" "depth" "I") ∈ lw_all := lw_g (lw_at lw_m3 214 rfl) rfl
theorem q886 : (Jvm.Cond.superclass "FactHouse$Wrong" "java/lang/RuntimeException") ∈ lw_all := lw_g (lw_at lw_m3 217 rfl) rfl
theorem in_X13 : ∀ w ∈ wsX130, w ∈ lw_all := lw_in wsX130 [825, 827, 829, 831, 833, 883, 877] (by decide +kernel) (by decide +kernel)
/-! FactHouse$Method -/
def RX14 : String := "FactHouse$Method"
def TX14 : u_T := fun k => match k with
  | 0 => ("FactHouse$Method", "number", "I", true)
  | 1 => ("FactHouse$Method", "cls", "I", false)
  | 2 => ("FactHouse$Method", "name", "I", false)
  | 3 => ("FactHouse$Method", "args", "I", false)
  | 4 => ("FactHouse$Method", "gives", "I", false)
  | 5 => ("FactHouse$Method", "kinds", "[I", false)
  | 6 => ("FactHouse$Method", "deepest", "I", false)
  | 7 => ("FactHouse$Method", "ops", "[I", false)
  | 8 => ("FactHouse$Method", "xs", "[I", false)
  | 9 => ("FactHouse$Method", "ys", "[I", false)
  | 10 => ("FactHouse$Method", "zs", "[I", false)
  | 11 => ("FactHouse$Method", "bytes", "[I", false)
  | 12 => ("FactHouse$Method", "makes", "[I", false)
  | 13 => ("FactHouse$Method", "handlers", "[LFactHouse$Handler;", false)
  | 14 => ("FactHouse$Method", "first", "I", false)
  | 15 => ("FactHouse$Method", "from", "I", false)
  | 16 => ("FactHouse$Method", "to", "I", false)
  | 17 => ("FactHouse$Method", "depths", "[I", false)
  | _ => ("FactHouse$Method", "sorts", "[I", false)
def tyX14 : Nat → FieldType := fun k => match k with
  | 0 => .int
  | 1 => .int
  | 2 => .int
  | 3 => .int
  | 4 => .int
  | 5 => .array .int
  | 6 => .int
  | 7 => .array .int
  | 8 => .array .int
  | 9 => .array .int
  | 10 => .array .int
  | 11 => .array .int
  | 12 => .array .int
  | 13 => .array (.object "FactHouse$Handler")
  | 14 => .int
  | 15 => .int
  | 16 => .int
  | 17 => .array .int
  | _ => .array .int
abbrev wsX140 : List Cond := u_ws RX14 TX14 19
theorem nmX14 : ∀ a, a < 19 → ∀ b, b < 19 → a ≠ b → (TX14 a).2.1 ≠ (TX14 b).2.1 := by decide +kernel
theorem tyX14_ok : ∀ k, k < 19 → parseFieldDescriptor (TX14 k).2.2.1 = some (tyX14 k) := by decide +kernel
abbrev cX14_init : ByteArray := prog_9_method_1_code
def yX14_init : MethodName := ⟨RX14, "<init>", "(I)V"⟩
abbrev cX14_isLike : ByteArray := prog_9_method_3_code
def yX14_isLike : MethodName := ⟨RX14, "isLike", "(LFactHouse$Method;)Z"⟩
abbrev cX14_size : ByteArray := prog_9_method_2_code
def yX14_size : MethodName := ⟨RX14, "size", "()I"⟩
theorem q209 : (Jvm.Cond.initialized "FactHouse$Method") ∈ lw_all := lw_g (lw_at lw_m1 20 rfl) rfl
theorem q896 : (Jvm.Cond.instantiable "FactHouse$Method" (19 : Nat)) ∈ lw_all := lw_g (lw_at lw_m3 227 rfl) rfl
theorem q898 : (Jvm.Cond.instanceMethod ({ cls := "FactHouse$Method", name := "<init>", desc := "(I)V" } : Jvm.MethodName)) ∈ lw_all := lw_g (lw_at lw_m3 229 rfl) rfl
theorem q899 : (Jvm.Cond.code ({ cls := "FactHouse$Method", name := "<init>", desc := "(I)V" } : Jvm.MethodName) prog_9_method_1_code (2 : Nat) (Option.none : Option Jvm.ClassFile.FieldType)) ∈ lw_all := lw_g (lw_at lw_m3 230 rfl) rfl
theorem q900 : (Jvm.Cond.methodLink "FactHouse$Method" (1 : Nat) ({ cls := "java/lang/Object", name := "<init>", desc := "()V" } : Jvm.MethodName)) ∈ lw_all := lw_g (lw_at lw_m3 231 rfl) rfl
theorem q901 : (Jvm.Cond.fieldLink "FactHouse$Method" (7 : Nat) "FactHouse$Method" "number" "I") ∈ lw_all := lw_g (lw_at lw_m3 232 rfl) rfl
theorem q912 : (Jvm.Cond.fieldLink "FactHouse$Method" (17 : Nat) "FactHouse$Method" "args" "I") ∈ lw_all := lw_g (lw_at lw_m4 3 rfl) rfl
theorem q918 : (Jvm.Cond.fieldLink "FactHouse$Method" (20 : Nat) "FactHouse$Method" "gives" "I") ∈ lw_all := lw_g (lw_at lw_m4 9 rfl) rfl
theorem q924 : (Jvm.Cond.fieldLink "FactHouse$Method" (23 : Nat) "FactHouse$Method" "kinds" "[I") ∈ lw_all := lw_g (lw_at lw_m4 15 rfl) rfl
theorem q932 : (Jvm.Cond.fieldLink "FactHouse$Method" (13 : Nat) "FactHouse$Method" "ops" "[I") ∈ lw_all := lw_g (lw_at lw_m4 23 rfl) rfl
theorem q974 : (Jvm.Cond.laysFinal "FactHouse$Method" "FactHouse$Method" "number" "I") ∈ lw_all := lw_g (lw_at lw_m4 65 rfl) rfl
theorem q975 : (Jvm.Cond.soleField "FactHouse$Method" "number") ∈ lw_all := lw_g (lw_at lw_m4 66 rfl) rfl
theorem q976 : (Jvm.Cond.lays "FactHouse$Method" "FactHouse$Method" "cls" "I") ∈ lw_all := lw_g (lw_at lw_m4 67 rfl) rfl
theorem q977 : (Jvm.Cond.soleField "FactHouse$Method" "cls") ∈ lw_all := lw_g (lw_at lw_m4 68 rfl) rfl
theorem q978 : (Jvm.Cond.lays "FactHouse$Method" "FactHouse$Method" "name" "I") ∈ lw_all := lw_g (lw_at lw_m4 69 rfl) rfl
theorem q979 : (Jvm.Cond.soleField "FactHouse$Method" "name") ∈ lw_all := lw_g (lw_at lw_m4 70 rfl) rfl
theorem q980 : (Jvm.Cond.lays "FactHouse$Method" "FactHouse$Method" "args" "I") ∈ lw_all := lw_g (lw_at lw_m4 71 rfl) rfl
theorem q981 : (Jvm.Cond.soleField "FactHouse$Method" "args") ∈ lw_all := lw_g (lw_at lw_m4 72 rfl) rfl
theorem q982 : (Jvm.Cond.lays "FactHouse$Method" "FactHouse$Method" "gives" "I") ∈ lw_all := lw_g (lw_at lw_m4 73 rfl) rfl
theorem q983 : (Jvm.Cond.soleField "FactHouse$Method" "gives") ∈ lw_all := lw_g (lw_at lw_m4 74 rfl) rfl
theorem q984 : (Jvm.Cond.lays "FactHouse$Method" "FactHouse$Method" "kinds" "[I") ∈ lw_all := lw_g (lw_at lw_m4 75 rfl) rfl
theorem q985 : (Jvm.Cond.soleField "FactHouse$Method" "kinds") ∈ lw_all := lw_g (lw_at lw_m4 76 rfl) rfl
theorem q986 : (Jvm.Cond.lays "FactHouse$Method" "FactHouse$Method" "deepest" "I") ∈ lw_all := lw_g (lw_at lw_m4 77 rfl) rfl
theorem q987 : (Jvm.Cond.soleField "FactHouse$Method" "deepest") ∈ lw_all := lw_g (lw_at lw_m4 78 rfl) rfl
theorem q988 : (Jvm.Cond.lays "FactHouse$Method" "FactHouse$Method" "ops" "[I") ∈ lw_all := lw_g (lw_at lw_m4 79 rfl) rfl
theorem q989 : (Jvm.Cond.soleField "FactHouse$Method" "ops") ∈ lw_all := lw_g (lw_at lw_m4 80 rfl) rfl
theorem q990 : (Jvm.Cond.lays "FactHouse$Method" "FactHouse$Method" "xs" "[I") ∈ lw_all := lw_g (lw_at lw_m4 81 rfl) rfl
theorem q991 : (Jvm.Cond.soleField "FactHouse$Method" "xs") ∈ lw_all := lw_g (lw_at lw_m4 82 rfl) rfl
theorem q992 : (Jvm.Cond.lays "FactHouse$Method" "FactHouse$Method" "ys" "[I") ∈ lw_all := lw_g (lw_at lw_m4 83 rfl) rfl
theorem q993 : (Jvm.Cond.soleField "FactHouse$Method" "ys") ∈ lw_all := lw_g (lw_at lw_m4 84 rfl) rfl
theorem q994 : (Jvm.Cond.lays "FactHouse$Method" "FactHouse$Method" "zs" "[I") ∈ lw_all := lw_g (lw_at lw_m4 85 rfl) rfl
theorem q995 : (Jvm.Cond.soleField "FactHouse$Method" "zs") ∈ lw_all := lw_g (lw_at lw_m4 86 rfl) rfl
theorem q996 : (Jvm.Cond.lays "FactHouse$Method" "FactHouse$Method" "bytes" "[I") ∈ lw_all := lw_g (lw_at lw_m4 87 rfl) rfl
theorem q997 : (Jvm.Cond.soleField "FactHouse$Method" "bytes") ∈ lw_all := lw_g (lw_at lw_m4 88 rfl) rfl
theorem q998 : (Jvm.Cond.lays "FactHouse$Method" "FactHouse$Method" "makes" "[I") ∈ lw_all := lw_g (lw_at lw_m4 89 rfl) rfl
theorem q999 : (Jvm.Cond.soleField "FactHouse$Method" "makes") ∈ lw_all := lw_g (lw_at lw_m4 90 rfl) rfl
theorem q1000 : (Jvm.Cond.lays "FactHouse$Method" "FactHouse$Method" "handlers" "[LFactHouse$Handler;") ∈ lw_all := lw_g (lw_at lw_m4 91 rfl) rfl
theorem q1001 : (Jvm.Cond.soleField "FactHouse$Method" "handlers") ∈ lw_all := lw_g (lw_at lw_m4 92 rfl) rfl
theorem q1002 : (Jvm.Cond.lays "FactHouse$Method" "FactHouse$Method" "first" "I") ∈ lw_all := lw_g (lw_at lw_m4 93 rfl) rfl
theorem q1003 : (Jvm.Cond.soleField "FactHouse$Method" "first") ∈ lw_all := lw_g (lw_at lw_m4 94 rfl) rfl
theorem q1004 : (Jvm.Cond.lays "FactHouse$Method" "FactHouse$Method" "from" "I") ∈ lw_all := lw_g (lw_at lw_m4 95 rfl) rfl
theorem q1005 : (Jvm.Cond.soleField "FactHouse$Method" "from") ∈ lw_all := lw_g (lw_at lw_m4 96 rfl) rfl
theorem q1006 : (Jvm.Cond.lays "FactHouse$Method" "FactHouse$Method" "to" "I") ∈ lw_all := lw_g (lw_at lw_m4 97 rfl) rfl
theorem q1007 : (Jvm.Cond.soleField "FactHouse$Method" "to") ∈ lw_all := lw_g (lw_at lw_m4 98 rfl) rfl
theorem q1008 : (Jvm.Cond.lays "FactHouse$Method" "FactHouse$Method" "depths" "[I") ∈ lw_all := lw_g (lw_at lw_m4 99 rfl) rfl
theorem q1009 : (Jvm.Cond.soleField "FactHouse$Method" "depths") ∈ lw_all := lw_g (lw_at lw_m4 100 rfl) rfl
theorem q1010 : (Jvm.Cond.lays "FactHouse$Method" "FactHouse$Method" "sorts" "[I") ∈ lw_all := lw_g (lw_at lw_m4 101 rfl) rfl
theorem q1011 : (Jvm.Cond.soleField "FactHouse$Method" "sorts") ∈ lw_all := lw_g (lw_at lw_m4 102 rfl) rfl
theorem q1012 : (Jvm.Cond.superclass "FactHouse$Method" "java/lang/Object") ∈ lw_all := lw_g (lw_at lw_m4 103 rfl) rfl
theorem q1022 : (Jvm.Cond.instanceMethod ({ cls := "FactHouse$Method", name := "isLike", desc := "(LFactHouse$Method;)Z" } : Jvm.MethodName)) ∈ lw_all := lw_g (lw_at lw_m4 113 rfl) rfl
theorem q1023 : (Jvm.Cond.selects "FactHouse$Method" ({ cls := "FactHouse$Method", name := "isLike", desc := "(LFactHouse$Method;)Z" } : Jvm.MethodName) ({ cls := "FactHouse$Method", name := "isLike", desc := "(LFactHouse$Method;)Z" } : Jvm.MethodName)) ∈ lw_all := lw_g (lw_at lw_m4 114 rfl) rfl
theorem q1024 : (Jvm.Cond.code ({ cls := "FactHouse$Method", name := "isLike", desc := "(LFactHouse$Method;)Z" } : Jvm.MethodName) prog_9_method_3_code (4 : Nat) (Option.some Jvm.ClassFile.FieldType.boolean)) ∈ lw_all := lw_g (lw_at lw_m4 115 rfl) rfl
theorem q1040 : (Jvm.Cond.instanceMethod ({ cls := "FactHouse$Method", name := "size", desc := "()I" } : Jvm.MethodName)) ∈ lw_all := lw_g (lw_at lw_m4 131 rfl) rfl
theorem q1041 : (Jvm.Cond.selects "FactHouse$Method" ({ cls := "FactHouse$Method", name := "size", desc := "()I" } : Jvm.MethodName) ({ cls := "FactHouse$Method", name := "size", desc := "()I" } : Jvm.MethodName)) ∈ lw_all := lw_g (lw_at lw_m4 132 rfl) rfl
theorem q1042 : (Jvm.Cond.code ({ cls := "FactHouse$Method", name := "size", desc := "()I" } : Jvm.MethodName) prog_9_method_2_code (1 : Nat) (Option.some Jvm.ClassFile.FieldType.int)) ∈ lw_all := lw_g (lw_at lw_m4 133 rfl) rfl
theorem in_X14 : ∀ w ∈ wsX140, w ∈ lw_all := lw_in wsX140 [974, 976, 978, 980, 982, 984, 986, 988, 990, 992, 994, 996, 998, 1000, 1002, 1004, 1006, 1008, 1010] (by decide +kernel) (by decide +kernel)
/-! FactHouse$Handler -/
def RX15 : String := "FactHouse$Handler"
def TX15 : u_T := fun k => match k with
  | 0 => ("FactHouse$Handler", "from", "I", false)
  | 1 => ("FactHouse$Handler", "to", "I", false)
  | 2 => ("FactHouse$Handler", "at", "I", false)
  | _ => ("FactHouse$Handler", "cls", "I", false)
def tyX15 : Nat → FieldType := fun k => match k with
  | 0 => .int
  | 1 => .int
  | 2 => .int
  | _ => .int
abbrev wsX150 : List Cond := u_ws RX15 TX15 4
theorem nmX15 : ∀ a, a < 4 → ∀ b, b < 4 → a ≠ b → (TX15 a).2.1 ≠ (TX15 b).2.1 := by decide +kernel
theorem tyX15_ok : ∀ k, k < 4 → parseFieldDescriptor (TX15 k).2.2.1 = some (tyX15 k) := by decide +kernel
abbrev cX15_init : ByteArray := prog_7_method_1_code
def yX15_init : MethodName := ⟨RX15, "<init>", "()V"⟩
theorem q210 : (Jvm.Cond.initialized "FactHouse$Handler") ∈ lw_all := lw_g (lw_at lw_m1 21 rfl) rfl
theorem q1047 : (Jvm.Cond.instantiable "FactHouse$Handler" (4 : Nat)) ∈ lw_all := lw_g (lw_at lw_m4 138 rfl) rfl
theorem q1049 : (Jvm.Cond.instanceMethod ({ cls := "FactHouse$Handler", name := "<init>", desc := "()V" } : Jvm.MethodName)) ∈ lw_all := lw_g (lw_at lw_m4 140 rfl) rfl
theorem q1050 : (Jvm.Cond.code ({ cls := "FactHouse$Handler", name := "<init>", desc := "()V" } : Jvm.MethodName) prog_7_method_1_code (1 : Nat) (Option.none : Option Jvm.ClassFile.FieldType)) ∈ lw_all := lw_g (lw_at lw_m4 141 rfl) rfl
theorem q1051 : (Jvm.Cond.methodLink "FactHouse$Handler" (1 : Nat) ({ cls := "java/lang/Object", name := "<init>", desc := "()V" } : Jvm.MethodName)) ∈ lw_all := lw_g (lw_at lw_m4 142 rfl) rfl
theorem q1069 : (Jvm.Cond.lays "FactHouse$Handler" "FactHouse$Handler" "from" "I") ∈ lw_all := lw_g (lw_at lw_m4 160 rfl) rfl
theorem q1070 : (Jvm.Cond.soleField "FactHouse$Handler" "from") ∈ lw_all := lw_g (lw_at lw_m4 161 rfl) rfl
theorem q1071 : (Jvm.Cond.lays "FactHouse$Handler" "FactHouse$Handler" "to" "I") ∈ lw_all := lw_g (lw_at lw_m4 162 rfl) rfl
theorem q1072 : (Jvm.Cond.soleField "FactHouse$Handler" "to") ∈ lw_all := lw_g (lw_at lw_m4 163 rfl) rfl
theorem q1073 : (Jvm.Cond.lays "FactHouse$Handler" "FactHouse$Handler" "at" "I") ∈ lw_all := lw_g (lw_at lw_m4 164 rfl) rfl
theorem q1074 : (Jvm.Cond.soleField "FactHouse$Handler" "at") ∈ lw_all := lw_g (lw_at lw_m4 165 rfl) rfl
theorem q1075 : (Jvm.Cond.lays "FactHouse$Handler" "FactHouse$Handler" "cls" "I") ∈ lw_all := lw_g (lw_at lw_m4 166 rfl) rfl
theorem q1076 : (Jvm.Cond.soleField "FactHouse$Handler" "cls") ∈ lw_all := lw_g (lw_at lw_m4 167 rfl) rfl
theorem q1077 : (Jvm.Cond.superclass "FactHouse$Handler" "java/lang/Object") ∈ lw_all := lw_g (lw_at lw_m4 168 rfl) rfl
theorem in_X15 : ∀ w ∈ wsX150, w ∈ lw_all := lw_in wsX150 [1069, 1071, 1073, 1075] (by decide +kernel) (by decide +kernel)
/-! FactHouse$CodeJudge -/
def RX16 : String := "FactHouse$CodeJudge"
def TX16 : u_T := fun k => match k with
  | 0 => ("FactHouse$CodeJudge", "p", "LFactHouse$Program;", true)
  | 1 => ("FactHouse$CodeJudge", "m", "LFactHouse$Method;", true)
  | 2 => ("FactHouse$CodeJudge", "depth", "I", false)
  | 3 => ("FactHouse$CodeJudge", "sorts", "I", false)
  | _ => ("FactHouse$CodeJudge", "i", "I", false)
def tyX16 : Nat → FieldType := fun k => match k with
  | 0 => .object "FactHouse$Program"
  | 1 => .object "FactHouse$Method"
  | 2 => .int
  | 3 => .int
  | _ => .int
abbrev wsX160 : List Cond := u_ws RX16 TX16 5
theorem nmX16 : ∀ a, a < 5 → ∀ b, b < 5 → a ≠ b → (TX16 a).2.1 ≠ (TX16 b).2.1 := by decide +kernel
theorem tyX16_ok : ∀ k, k < 5 → parseFieldDescriptor (TX16 k).2.2.1 = some (tyX16 k) := by decide +kernel
abbrev cX16_init : ByteArray := prog_3_method_1_code
def yX16_init : MethodName := ⟨RX16, "<init>", "(LFactHouse$Program;LFactHouse$Method;)V"⟩
abbrev cX16_judge : ByteArray := prog_3_method_7_code
def yX16_judge : MethodName := ⟨RX16, "judge", "()V"⟩
abbrev cX16_need : ByteArray := prog_3_method_2_code
def yX16_need : MethodName := ⟨RX16, "need", "(Z)V"⟩
abbrev cX16_act : ByteArray := prog_3_method_8_code
def yX16_act : MethodName := ⟨RX16, "act", "(III)V"⟩
abbrev cX16_simple : ByteArray := prog_3_method_9_code
def yX16_simple : MethodName := ⟨RX16, "simple", "(II)V"⟩
abbrev cX16_put : ByteArray := prog_3_method_3_code
def yX16_put : MethodName := ⟨RX16, "put", "(I)V"⟩
abbrev cX16_take : ByteArray := prog_3_method_5_code
def yX16_take : MethodName := ⟨RX16, "take", "(I)V"⟩
abbrev cX16_take_2 : ByteArray := prog_3_method_4_code
def yX16_take_2 : MethodName := ⟨RX16, "take", "()I"⟩
abbrev cX16_numbers : ByteArray := prog_3_method_10_code
def yX16_numbers : MethodName := ⟨RX16, "numbers", "(II)V"⟩
abbrev cX16_objects : ByteArray := prog_3_method_11_code
def yX16_objects : MethodName := ⟨RX16, "objects", "(III)V"⟩
abbrev cX16_calls : ByteArray := prog_3_method_12_code
def yX16_calls : MethodName := ⟨RX16, "calls", "(III)V"⟩
abbrev cX16_takeAll : ByteArray := prog_3_method_6_code
def yX16_takeAll : MethodName := ⟨RX16, "takeAll", "(LFactHouse$Method;)V"⟩
theorem q211 : (Jvm.Cond.initialized "FactHouse$CodeJudge") ∈ lw_all := lw_g (lw_at lw_m1 22 rfl) rfl
theorem q705 : (Jvm.Cond.fieldLink "FactHouse$CodeJudge" (111 : Nat) "FactHouse$Program" "fields" "[[I") ∈ lw_all := lw_g (lw_at lw_m3 36 rfl) rfl
theorem q710 : (Jvm.Cond.fieldLink "FactHouse$CodeJudge" (117 : Nat) "FactHouse$Program" "statics" "[I") ∈ lw_all := lw_g (lw_at lw_m3 41 rfl) rfl
theorem q718 : (Jvm.Cond.fieldLink "FactHouse$CodeJudge" (120 : Nat) "FactHouse$Program" "methods" "[LFactHouse$Method;") ∈ lw_all := lw_g (lw_at lw_m3 49 rfl) rfl
theorem q908 : (Jvm.Cond.fieldLink "FactHouse$CodeJudge" (124 : Nat) "FactHouse$Method" "cls" "I") ∈ lw_all := lw_g (lw_at lw_m3 239 rfl) rfl
theorem q913 : (Jvm.Cond.fieldLink "FactHouse$CodeJudge" (51 : Nat) "FactHouse$Method" "args" "I") ∈ lw_all := lw_g (lw_at lw_m4 4 rfl) rfl
theorem q919 : (Jvm.Cond.fieldLink "FactHouse$CodeJudge" (59 : Nat) "FactHouse$Method" "gives" "I") ∈ lw_all := lw_g (lw_at lw_m4 10 rfl) rfl
theorem q925 : (Jvm.Cond.fieldLink "FactHouse$CodeJudge" (54 : Nat) "FactHouse$Method" "kinds" "[I") ∈ lw_all := lw_g (lw_at lw_m4 16 rfl) rfl
theorem q930 : (Jvm.Cond.fieldLink "FactHouse$CodeJudge" (37 : Nat) "FactHouse$Method" "deepest" "I") ∈ lw_all := lw_g (lw_at lw_m4 21 rfl) rfl
theorem q934 : (Jvm.Cond.fieldLink "FactHouse$CodeJudge" (68 : Nat) "FactHouse$Method" "ops" "[I") ∈ lw_all := lw_g (lw_at lw_m4 25 rfl) rfl
theorem q939 : (Jvm.Cond.fieldLink "FactHouse$CodeJudge" (88 : Nat) "FactHouse$Method" "xs" "[I") ∈ lw_all := lw_g (lw_at lw_m4 30 rfl) rfl
theorem q943 : (Jvm.Cond.fieldLink "FactHouse$CodeJudge" (91 : Nat) "FactHouse$Method" "ys" "[I") ∈ lw_all := lw_g (lw_at lw_m4 34 rfl) rfl
theorem q948 : (Jvm.Cond.fieldLink "FactHouse$CodeJudge" (71 : Nat) "FactHouse$Method" "zs" "[I") ∈ lw_all := lw_g (lw_at lw_m4 39 rfl) rfl
theorem q952 : (Jvm.Cond.fieldLink "FactHouse$CodeJudge" (21 : Nat) "FactHouse$Method" "bytes" "[I") ∈ lw_all := lw_g (lw_at lw_m4 43 rfl) rfl
theorem q955 : (Jvm.Cond.fieldLink "FactHouse$CodeJudge" (74 : Nat) "FactHouse$Method" "handlers" "[LFactHouse$Handler;") ∈ lw_all := lw_g (lw_at lw_m4 46 rfl) rfl
theorem q970 : (Jvm.Cond.fieldLink "FactHouse$CodeJudge" (83 : Nat) "FactHouse$Method" "depths" "[I") ∈ lw_all := lw_g (lw_at lw_m4 61 rfl) rfl
theorem q973 : (Jvm.Cond.fieldLink "FactHouse$CodeJudge" (86 : Nat) "FactHouse$Method" "sorts" "[I") ∈ lw_all := lw_g (lw_at lw_m4 64 rfl) rfl
theorem q1060 : (Jvm.Cond.fieldLink "FactHouse$CodeJudge" (78 : Nat) "FactHouse$Handler" "at" "I") ∈ lw_all := lw_g (lw_at lw_m4 151 rfl) rfl
theorem q1079 : (Jvm.Cond.instantiable "FactHouse$CodeJudge" (5 : Nat)) ∈ lw_all := lw_g (lw_at lw_m4 170 rfl) rfl
theorem q1081 : (Jvm.Cond.instanceMethod ({ cls := "FactHouse$CodeJudge", name := "<init>", desc := "(LFactHouse$Program;LFactHouse$Method;)V" } : Jvm.MethodName)) ∈ lw_all := lw_g (lw_at lw_m4 172 rfl) rfl
theorem q1082 : (Jvm.Cond.code ({ cls := "FactHouse$CodeJudge", name := "<init>", desc := "(LFactHouse$Program;LFactHouse$Method;)V" } : Jvm.MethodName) prog_3_method_1_code (3 : Nat) (Option.none : Option Jvm.ClassFile.FieldType)) ∈ lw_all := lw_g (lw_at lw_m4 173 rfl) rfl
theorem q1083 : (Jvm.Cond.methodLink "FactHouse$CodeJudge" (3 : Nat) ({ cls := "java/lang/Object", name := "<init>", desc := "()V" } : Jvm.MethodName)) ∈ lw_all := lw_g (lw_at lw_m4 174 rfl) rfl
theorem q1084 : (Jvm.Cond.fieldLink "FactHouse$CodeJudge" (9 : Nat) "FactHouse$CodeJudge" "p" "LFactHouse$Program;") ∈ lw_all := lw_g (lw_at lw_m4 175 rfl) rfl
theorem q1085 : (Jvm.Cond.fieldLink "FactHouse$CodeJudge" (15 : Nat) "FactHouse$CodeJudge" "m" "LFactHouse$Method;") ∈ lw_all := lw_g (lw_at lw_m4 176 rfl) rfl
theorem q1086 : (Jvm.Cond.fieldLink "FactHouse$CodeJudge" (34 : Nat) "FactHouse$CodeJudge" "depth" "I") ∈ lw_all := lw_g (lw_at lw_m4 177 rfl) rfl
theorem q1087 : (Jvm.Cond.fieldLink "FactHouse$CodeJudge" (44 : Nat) "FactHouse$CodeJudge" "sorts" "I") ∈ lw_all := lw_g (lw_at lw_m4 178 rfl) rfl
theorem q1088 : (Jvm.Cond.fieldLink "FactHouse$CodeJudge" (27 : Nat) "FactHouse$CodeJudge" "i" "I") ∈ lw_all := lw_g (lw_at lw_m4 179 rfl) rfl
theorem q1089 : (Jvm.Cond.laysFinal "FactHouse$CodeJudge" "FactHouse$CodeJudge" "p" "LFactHouse$Program;") ∈ lw_all := lw_g (lw_at lw_m4 180 rfl) rfl
theorem q1090 : (Jvm.Cond.soleField "FactHouse$CodeJudge" "p") ∈ lw_all := lw_g (lw_at lw_m4 181 rfl) rfl
theorem q1091 : (Jvm.Cond.laysFinal "FactHouse$CodeJudge" "FactHouse$CodeJudge" "m" "LFactHouse$Method;") ∈ lw_all := lw_g (lw_at lw_m4 182 rfl) rfl
theorem q1092 : (Jvm.Cond.soleField "FactHouse$CodeJudge" "m") ∈ lw_all := lw_g (lw_at lw_m4 183 rfl) rfl
theorem q1093 : (Jvm.Cond.lays "FactHouse$CodeJudge" "FactHouse$CodeJudge" "depth" "I") ∈ lw_all := lw_g (lw_at lw_m4 184 rfl) rfl
theorem q1094 : (Jvm.Cond.soleField "FactHouse$CodeJudge" "depth") ∈ lw_all := lw_g (lw_at lw_m4 185 rfl) rfl
theorem q1095 : (Jvm.Cond.lays "FactHouse$CodeJudge" "FactHouse$CodeJudge" "sorts" "I") ∈ lw_all := lw_g (lw_at lw_m4 186 rfl) rfl
theorem q1096 : (Jvm.Cond.soleField "FactHouse$CodeJudge" "sorts") ∈ lw_all := lw_g (lw_at lw_m4 187 rfl) rfl
theorem q1097 : (Jvm.Cond.lays "FactHouse$CodeJudge" "FactHouse$CodeJudge" "i" "I") ∈ lw_all := lw_g (lw_at lw_m4 188 rfl) rfl
theorem q1098 : (Jvm.Cond.soleField "FactHouse$CodeJudge" "i") ∈ lw_all := lw_g (lw_at lw_m4 189 rfl) rfl
theorem q1099 : (Jvm.Cond.superclass "FactHouse$CodeJudge" "java/lang/Object") ∈ lw_all := lw_g (lw_at lw_m4 190 rfl) rfl
theorem q1101 : (Jvm.Cond.instanceMethod ({ cls := "FactHouse$CodeJudge", name := "judge", desc := "()V" } : Jvm.MethodName)) ∈ lw_all := lw_g (lw_at lw_m4 192 rfl) rfl
theorem q1102 : (Jvm.Cond.selects "FactHouse$CodeJudge" ({ cls := "FactHouse$CodeJudge", name := "judge", desc := "()V" } : Jvm.MethodName) ({ cls := "FactHouse$CodeJudge", name := "judge", desc := "()V" } : Jvm.MethodName)) ∈ lw_all := lw_g (lw_at lw_m4 193 rfl) rfl
theorem q1103 : (Jvm.Cond.code ({ cls := "FactHouse$CodeJudge", name := "judge", desc := "()V" } : Jvm.MethodName) prog_3_method_7_code (8 : Nat) (Option.none : Option Jvm.ClassFile.FieldType)) ∈ lw_all := lw_g (lw_at lw_m4 194 rfl) rfl
theorem q1104 : (Jvm.Cond.methodLink "FactHouse$CodeJudge" (65 : Nat) ({ cls := "FactHouse$Method", name := "size", desc := "()I" } : Jvm.MethodName)) ∈ lw_all := lw_g (lw_at lw_m4 195 rfl) rfl
theorem q1105 : (Jvm.Cond.methodLink "FactHouse$CodeJudge" (40 : Nat) ({ cls := "FactHouse$CodeJudge", name := "need", desc := "(Z)V" } : Jvm.MethodName)) ∈ lw_all := lw_g (lw_at lw_m4 196 rfl) rfl
theorem q1106 : (Jvm.Cond.privateMethod ({ cls := "FactHouse$CodeJudge", name := "need", desc := "(Z)V" } : Jvm.MethodName)) ∈ lw_tbl := lw_at lw_m4 197 rfl
theorem q1107 : (Jvm.Cond.instanceMethod ({ cls := "FactHouse$CodeJudge", name := "need", desc := "(Z)V" } : Jvm.MethodName)) ∈ lw_all := lw_g (lw_at lw_m4 198 rfl) rfl
theorem q1108 : (Jvm.Cond.code ({ cls := "FactHouse$CodeJudge", name := "need", desc := "(Z)V" } : Jvm.MethodName) prog_3_method_2_code (2 : Nat) (Option.none : Option Jvm.ClassFile.FieldType)) ∈ lw_all := lw_g (lw_at lw_m4 199 rfl) rfl
theorem q1109 : (Jvm.Cond.classLink "FactHouse$CodeJudge" (19 : Nat) "FactHouse$Wrong") ∈ lw_all := lw_g (lw_at lw_m4 200 rfl) rfl
theorem q1110 : (Jvm.Cond.methodLink "FactHouse$CodeJudge" (31 : Nat) ({ cls := "FactHouse$Wrong", name := "<init>", desc := "(I)V" } : Jvm.MethodName)) ∈ lw_all := lw_g (lw_at lw_m4 201 rfl) rfl
theorem q1111 : (Jvm.Cond.methodLink "FactHouse$CodeJudge" (94 : Nat) ({ cls := "FactHouse$CodeJudge", name := "act", desc := "(III)V" } : Jvm.MethodName)) ∈ lw_all := lw_g (lw_at lw_m4 202 rfl) rfl
theorem q1112 : (Jvm.Cond.privateMethod ({ cls := "FactHouse$CodeJudge", name := "act", desc := "(III)V" } : Jvm.MethodName)) ∈ lw_tbl := lw_at lw_m4 203 rfl
theorem q1113 : (Jvm.Cond.instanceMethod ({ cls := "FactHouse$CodeJudge", name := "act", desc := "(III)V" } : Jvm.MethodName)) ∈ lw_all := lw_g (lw_at lw_m4 204 rfl) rfl
theorem q1114 : (Jvm.Cond.code ({ cls := "FactHouse$CodeJudge", name := "act", desc := "(III)V" } : Jvm.MethodName) prog_3_method_8_code (4 : Nat) (Option.none : Option Jvm.ClassFile.FieldType)) ∈ lw_all := lw_g (lw_at lw_m4 205 rfl) rfl
theorem q1115 : (Jvm.Cond.methodLink "FactHouse$CodeJudge" (98 : Nat) ({ cls := "FactHouse$CodeJudge", name := "simple", desc := "(II)V" } : Jvm.MethodName)) ∈ lw_all := lw_g (lw_at lw_m4 206 rfl) rfl
theorem q1116 : (Jvm.Cond.privateMethod ({ cls := "FactHouse$CodeJudge", name := "simple", desc := "(II)V" } : Jvm.MethodName)) ∈ lw_tbl := lw_at lw_m4 207 rfl
theorem q1117 : (Jvm.Cond.instanceMethod ({ cls := "FactHouse$CodeJudge", name := "simple", desc := "(II)V" } : Jvm.MethodName)) ∈ lw_all := lw_g (lw_at lw_m4 208 rfl) rfl
theorem q1118 : (Jvm.Cond.code ({ cls := "FactHouse$CodeJudge", name := "simple", desc := "(II)V" } : Jvm.MethodName) prog_3_method_9_code (5 : Nat) (Option.none : Option Jvm.ClassFile.FieldType)) ∈ lw_all := lw_g (lw_at lw_m4 209 rfl) rfl
theorem q1119 : (Jvm.Cond.methodLink "FactHouse$CodeJudge" (62 : Nat) ({ cls := "FactHouse$CodeJudge", name := "put", desc := "(I)V" } : Jvm.MethodName)) ∈ lw_all := lw_g (lw_at lw_m4 210 rfl) rfl
theorem q1120 : (Jvm.Cond.privateMethod ({ cls := "FactHouse$CodeJudge", name := "put", desc := "(I)V" } : Jvm.MethodName)) ∈ lw_tbl := lw_at lw_m4 211 rfl
theorem q1121 : (Jvm.Cond.instanceMethod ({ cls := "FactHouse$CodeJudge", name := "put", desc := "(I)V" } : Jvm.MethodName)) ∈ lw_all := lw_g (lw_at lw_m4 212 rfl) rfl
theorem q1122 : (Jvm.Cond.code ({ cls := "FactHouse$CodeJudge", name := "put", desc := "(I)V" } : Jvm.MethodName) prog_3_method_3_code (2 : Nat) (Option.none : Option Jvm.ClassFile.FieldType)) ∈ lw_all := lw_g (lw_at lw_m4 213 rfl) rfl
theorem q1123 : (Jvm.Cond.methodLink "FactHouse$CodeJudge" (57 : Nat) ({ cls := "FactHouse$CodeJudge", name := "take", desc := "(I)V" } : Jvm.MethodName)) ∈ lw_all := lw_g (lw_at lw_m4 214 rfl) rfl
theorem q1124 : (Jvm.Cond.privateMethod ({ cls := "FactHouse$CodeJudge", name := "take", desc := "(I)V" } : Jvm.MethodName)) ∈ lw_tbl := lw_at lw_m4 215 rfl
theorem q1125 : (Jvm.Cond.instanceMethod ({ cls := "FactHouse$CodeJudge", name := "take", desc := "(I)V" } : Jvm.MethodName)) ∈ lw_all := lw_g (lw_at lw_m4 216 rfl) rfl
theorem q1126 : (Jvm.Cond.code ({ cls := "FactHouse$CodeJudge", name := "take", desc := "(I)V" } : Jvm.MethodName) prog_3_method_5_code (2 : Nat) (Option.none : Option Jvm.ClassFile.FieldType)) ∈ lw_all := lw_g (lw_at lw_m4 217 rfl) rfl
theorem q1127 : (Jvm.Cond.methodLink "FactHouse$CodeJudge" (47 : Nat) ({ cls := "FactHouse$CodeJudge", name := "take", desc := "()I" } : Jvm.MethodName)) ∈ lw_all := lw_g (lw_at lw_m4 218 rfl) rfl
theorem q1128 : (Jvm.Cond.privateMethod ({ cls := "FactHouse$CodeJudge", name := "take", desc := "()I" } : Jvm.MethodName)) ∈ lw_tbl := lw_at lw_m4 219 rfl
theorem q1129 : (Jvm.Cond.instanceMethod ({ cls := "FactHouse$CodeJudge", name := "take", desc := "()I" } : Jvm.MethodName)) ∈ lw_all := lw_g (lw_at lw_m4 220 rfl) rfl
theorem q1130 : (Jvm.Cond.code ({ cls := "FactHouse$CodeJudge", name := "take", desc := "()I" } : Jvm.MethodName) prog_3_method_4_code (1 : Nat) (Option.some Jvm.ClassFile.FieldType.int)) ∈ lw_all := lw_g (lw_at lw_m4 221 rfl) rfl
theorem q1131 : (Jvm.Cond.methodLink "FactHouse$CodeJudge" (102 : Nat) ({ cls := "FactHouse$CodeJudge", name := "numbers", desc := "(II)V" } : Jvm.MethodName)) ∈ lw_all := lw_g (lw_at lw_m4 222 rfl) rfl
theorem q1132 : (Jvm.Cond.privateMethod ({ cls := "FactHouse$CodeJudge", name := "numbers", desc := "(II)V" } : Jvm.MethodName)) ∈ lw_tbl := lw_at lw_m4 223 rfl
theorem q1133 : (Jvm.Cond.instanceMethod ({ cls := "FactHouse$CodeJudge", name := "numbers", desc := "(II)V" } : Jvm.MethodName)) ∈ lw_all := lw_g (lw_at lw_m4 224 rfl) rfl
theorem q1134 : (Jvm.Cond.code ({ cls := "FactHouse$CodeJudge", name := "numbers", desc := "(II)V" } : Jvm.MethodName) prog_3_method_10_code (3 : Nat) (Option.none : Option Jvm.ClassFile.FieldType)) ∈ lw_all := lw_g (lw_at lw_m4 225 rfl) rfl
theorem q1135 : (Jvm.Cond.methodLink "FactHouse$CodeJudge" (105 : Nat) ({ cls := "FactHouse$CodeJudge", name := "objects", desc := "(III)V" } : Jvm.MethodName)) ∈ lw_all := lw_g (lw_at lw_m4 226 rfl) rfl
theorem q1136 : (Jvm.Cond.privateMethod ({ cls := "FactHouse$CodeJudge", name := "objects", desc := "(III)V" } : Jvm.MethodName)) ∈ lw_tbl := lw_at lw_m4 227 rfl
theorem q1137 : (Jvm.Cond.instanceMethod ({ cls := "FactHouse$CodeJudge", name := "objects", desc := "(III)V" } : Jvm.MethodName)) ∈ lw_all := lw_g (lw_at lw_m4 228 rfl) rfl
theorem q1138 : (Jvm.Cond.code ({ cls := "FactHouse$CodeJudge", name := "objects", desc := "(III)V" } : Jvm.MethodName) prog_3_method_11_code (4 : Nat) (Option.none : Option Jvm.ClassFile.FieldType)) ∈ lw_all := lw_g (lw_at lw_m4 229 rfl) rfl
theorem q1139 : (Jvm.Cond.methodLink "FactHouse$CodeJudge" (108 : Nat) ({ cls := "FactHouse$CodeJudge", name := "calls", desc := "(III)V" } : Jvm.MethodName)) ∈ lw_all := lw_g (lw_at lw_m4 230 rfl) rfl
theorem q1140 : (Jvm.Cond.privateMethod ({ cls := "FactHouse$CodeJudge", name := "calls", desc := "(III)V" } : Jvm.MethodName)) ∈ lw_tbl := lw_at lw_m4 231 rfl
theorem q1141 : (Jvm.Cond.instanceMethod ({ cls := "FactHouse$CodeJudge", name := "calls", desc := "(III)V" } : Jvm.MethodName)) ∈ lw_all := lw_g (lw_at lw_m4 232 rfl) rfl
theorem q1142 : (Jvm.Cond.code ({ cls := "FactHouse$CodeJudge", name := "calls", desc := "(III)V" } : Jvm.MethodName) prog_3_method_12_code (4 : Nat) (Option.none : Option Jvm.ClassFile.FieldType)) ∈ lw_all := lw_g (lw_at lw_m4 233 rfl) rfl
theorem q1143 : (Jvm.Cond.methodLink "FactHouse$CodeJudge" (127 : Nat) ({ cls := "FactHouse$CodeJudge", name := "takeAll", desc := "(LFactHouse$Method;)V" } : Jvm.MethodName)) ∈ lw_all := lw_g (lw_at lw_m4 234 rfl) rfl
theorem q1144 : (Jvm.Cond.privateMethod ({ cls := "FactHouse$CodeJudge", name := "takeAll", desc := "(LFactHouse$Method;)V" } : Jvm.MethodName)) ∈ lw_tbl := lw_at lw_m4 235 rfl
theorem q1145 : (Jvm.Cond.instanceMethod ({ cls := "FactHouse$CodeJudge", name := "takeAll", desc := "(LFactHouse$Method;)V" } : Jvm.MethodName)) ∈ lw_all := lw_g (lw_at lw_m4 236 rfl) rfl
theorem q1146 : (Jvm.Cond.code ({ cls := "FactHouse$CodeJudge", name := "takeAll", desc := "(LFactHouse$Method;)V" } : Jvm.MethodName) prog_3_method_6_code (3 : Nat) (Option.none : Option Jvm.ClassFile.FieldType)) ∈ lw_all := lw_g (lw_at lw_m4 237 rfl) rfl
theorem q1147 : (Jvm.Cond.methodLink "FactHouse$CodeJudge" (131 : Nat) ({ cls := "FactHouse$Program", name := "named", desc := "(I)LFactHouse$Method;" } : Jvm.MethodName)) ∈ lw_all := lw_g (lw_at lw_m4 238 rfl) rfl
theorem in_X16 : ∀ w ∈ wsX160, w ∈ lw_all := lw_in wsX160 [1089, 1091, 1093, 1095, 1097] (by decide +kernel) (by decide +kernel)
/-! FactHouseModel$Fault -/
def RX17 : String := "FactHouseModel$Fault"
def TX17 : u_T := fun k => match k with
  | 0 => ("java/lang/Throwable", "cause", "Ljava/lang/Throwable;", false)
  | 1 => ("java/lang/Throwable", "stackTrace", "[Ljava/lang/StackTraceElement;", false)
  | 2 => ("java/lang/Throwable", "suppressedExceptions", "Ljava/util/List;", false)
  | 3 => ("java/lang/Throwable", "detailMessage", "Ljava/lang/String;", false)
  | 4 => ("java/lang/Throwable", "backtrace", "Ljava/lang/Object;", false)
  | 5 => ("java/lang/Throwable", "depth", "I", false)
  | _ => ("FactHouseModel$Fault", "place", "I", true)
def tyX17 : Nat → FieldType := fun k => match k with
  | 0 => .object "java/lang/Throwable"
  | 1 => .array (.object "java/lang/StackTraceElement")
  | 2 => .object "java/util/List"
  | 3 => .object "java/lang/String"
  | 4 => .object "java/lang/Object"
  | 5 => .int
  | _ => .int
abbrev wsX170 : List Cond := u_ws RX17 TX17 7
theorem nmX17 : ∀ a, a < 7 → ∀ b, b < 7 → a ≠ b → (TX17 a).2.1 ≠ (TX17 b).2.1 := by decide +kernel
theorem tyX17_ok : ∀ k, k < 7 → parseFieldDescriptor (TX17 k).2.2.1 = some (tyX17 k) := by decide +kernel
abbrev cX17_init : ByteArray := prog_17_method_1_code
def yX17_init : MethodName := ⟨RX17, "<init>", "(I)V"⟩
theorem q212 : (Jvm.Cond.initialized "FactHouseModel$Fault") ∈ lw_all := lw_g (lw_at lw_m1 23 rfl) rfl
theorem q847 : (Jvm.Cond.selects "FactHouseModel$Fault" ({ cls := "java/lang/Throwable", name := "fillInStackTrace", desc := "()Ljava/lang/Throwable;" } : Jvm.MethodName) ({ cls := "java/lang/Throwable", name := "fillInStackTrace", desc := "()Ljava/lang/Throwable;" } : Jvm.MethodName)) ∈ lw_all := lw_g (lw_at lw_m3 178 rfl) rfl
theorem q2465 : (Jvm.Cond.instantiable "FactHouseModel$Fault" (7 : Nat)) ∈ lw_all := lw_g (lw_at lw_m10 116 rfl) rfl
theorem q2466 : (Jvm.Cond.castable "FactHouseModel$Fault" "FactHouseModel$Fault") ∈ lw_tbl := lw_at lw_m10 117 rfl
theorem q2467 : (Jvm.Cond.selects "FactHouseModel$Fault" ({ cls := "java/lang/Throwable", name := "fillInStackTrace", desc := "(I)Ljava/lang/Throwable;" } : Jvm.MethodName) ({ cls := "java/lang/Throwable", name := "fillInStackTrace", desc := "(I)Ljava/lang/Throwable;" } : Jvm.MethodName)) ∈ lw_all := lw_g (lw_at lw_m10 118 rfl) rfl
theorem q2468 : (Jvm.Cond.lays "FactHouseModel$Fault" "java/lang/Throwable" "cause" "Ljava/lang/Throwable;") ∈ lw_all := lw_g (lw_at lw_m10 119 rfl) rfl
theorem q2469 : (Jvm.Cond.lays "FactHouseModel$Fault" "java/lang/Throwable" "stackTrace" "[Ljava/lang/StackTraceElement;") ∈ lw_all := lw_g (lw_at lw_m10 120 rfl) rfl
theorem q2470 : (Jvm.Cond.lays "FactHouseModel$Fault" "java/lang/Throwable" "suppressedExceptions" "Ljava/util/List;") ∈ lw_all := lw_g (lw_at lw_m10 121 rfl) rfl
theorem q2471 : (Jvm.Cond.lays "FactHouseModel$Fault" "java/lang/Throwable" "detailMessage" "Ljava/lang/String;") ∈ lw_all := lw_g (lw_at lw_m10 122 rfl) rfl
theorem q2472 : (Jvm.Cond.lays "FactHouseModel$Fault" "java/lang/Throwable" "backtrace" "Ljava/lang/Object;") ∈ lw_all := lw_g (lw_at lw_m10 123 rfl) rfl
theorem q2474 : (Jvm.Cond.instanceMethod ({ cls := "FactHouseModel$Fault", name := "<init>", desc := "(I)V" } : Jvm.MethodName)) ∈ lw_all := lw_g (lw_at lw_m10 125 rfl) rfl
theorem q2475 : (Jvm.Cond.code ({ cls := "FactHouseModel$Fault", name := "<init>", desc := "(I)V" } : Jvm.MethodName) prog_17_method_1_code (2 : Nat) (Option.none : Option Jvm.ClassFile.FieldType)) ∈ lw_all := lw_g (lw_at lw_m10 126 rfl) rfl
theorem q2476 : (Jvm.Cond.methodLink "FactHouseModel$Fault" (1 : Nat) ({ cls := "java/lang/RuntimeException", name := "<init>", desc := "(Ljava/lang/String;Ljava/lang/Throwable;ZZ)V" } : Jvm.MethodName)) ∈ lw_all := lw_g (lw_at lw_m10 127 rfl) rfl
theorem q2477 : (Jvm.Cond.fieldLink "FactHouseModel$Fault" (7 : Nat) "FactHouseModel$Fault" "place" "I") ∈ lw_all := lw_g (lw_at lw_m10 128 rfl) rfl
theorem q2479 : (Jvm.Cond.laysFinal "FactHouseModel$Fault" "FactHouseModel$Fault" "place" "I") ∈ lw_all := lw_g (lw_at lw_m10 130 rfl) rfl
theorem q2480 : (Jvm.Cond.soleField "FactHouseModel$Fault" "place") ∈ lw_all := lw_g (lw_at lw_m10 131 rfl) rfl
theorem q2481 : (Jvm.Cond.lays "FactHouseModel$Fault" "java/lang/Throwable" "depth" "I") ∈ lw_all := lw_g (lw_at lw_m10 132 rfl) rfl
theorem q2482 : (Jvm.Cond.superclass "FactHouseModel$Fault" "java/lang/RuntimeException") ∈ lw_all := lw_g (lw_at lw_m10 133 rfl) rfl
theorem in_X17 : ∀ w ∈ wsX170, w ∈ lw_all := lw_in wsX170 [2468, 2469, 2470, 2471, 2472, 2481, 2479] (by decide +kernel) (by decide +kernel)
/-! java/lang/IndexOutOfBoundsException -/
def RJ5 : String := "java/lang/IndexOutOfBoundsException"
def TJ5 : u_T := fun k => match k with
  | 0 => ("java/lang/Throwable", "cause", "Ljava/lang/Throwable;", false)
  | 1 => ("java/lang/Throwable", "stackTrace", "[Ljava/lang/StackTraceElement;", false)
  | 2 => ("java/lang/Throwable", "suppressedExceptions", "Ljava/util/List;", false)
  | 3 => ("java/lang/Throwable", "detailMessage", "Ljava/lang/String;", false)
  | 4 => ("java/lang/Throwable", "backtrace", "Ljava/lang/Object;", false)
  | _ => ("java/lang/Throwable", "depth", "I", false)
def tyJ5 : Nat → FieldType := fun k => match k with
  | 0 => .object "java/lang/Throwable"
  | 1 => .array (.object "java/lang/StackTraceElement")
  | 2 => .object "java/util/List"
  | 3 => .object "java/lang/String"
  | 4 => .object "java/lang/Object"
  | _ => .int
abbrev wsJ50 : List Cond := u_ws RJ5 TJ5 6
theorem nmJ5 : ∀ a, a < 6 → ∀ b, b < 6 → a ≠ b → (TJ5 a).2.1 ≠ (TJ5 b).2.1 := by decide +kernel
theorem tyJ5_ok : ∀ k, k < 6 → parseFieldDescriptor (TJ5 k).2.2.1 = some (tyJ5 k) := by decide +kernel
abbrev cJ5_init : ByteArray := prog_23_method_2_code
def yJ5_init : MethodName := ⟨RJ5, "<init>", "(Ljava/lang/String;)V"⟩
abbrev cJ5_init_2 : ByteArray := prog_23_method_1_code
def yJ5_init_2 : MethodName := ⟨RJ5, "<init>", "()V"⟩
theorem q213 : (Jvm.Cond.initialized "java/lang/IndexOutOfBoundsException") ∈ lw_all := lw_g (lw_at lw_m1 24 rfl) rfl
theorem q851 : (Jvm.Cond.selects "java/lang/IndexOutOfBoundsException" ({ cls := "java/lang/Throwable", name := "fillInStackTrace", desc := "()Ljava/lang/Throwable;" } : Jvm.MethodName) ({ cls := "java/lang/Throwable", name := "fillInStackTrace", desc := "()Ljava/lang/Throwable;" } : Jvm.MethodName)) ∈ lw_all := lw_g (lw_at lw_m3 182 rfl) rfl
theorem q1236 : (Jvm.Cond.instanceMethod ({ cls := "java/lang/IndexOutOfBoundsException", name := "<init>", desc := "(Ljava/lang/String;)V" } : Jvm.MethodName)) ∈ lw_all := lw_g (lw_at lw_m5 87 rfl) rfl
theorem q1237 : (Jvm.Cond.code ({ cls := "java/lang/IndexOutOfBoundsException", name := "<init>", desc := "(Ljava/lang/String;)V" } : Jvm.MethodName) prog_23_method_2_code (2 : Nat) (Option.none : Option Jvm.ClassFile.FieldType)) ∈ lw_all := lw_g (lw_at lw_m5 88 rfl) rfl
theorem q1238 : (Jvm.Cond.methodLink "java/lang/IndexOutOfBoundsException" (7 : Nat) ({ cls := "java/lang/RuntimeException", name := "<init>", desc := "(Ljava/lang/String;)V" } : Jvm.MethodName)) ∈ lw_all := lw_g (lw_at lw_m5 89 rfl) rfl
theorem q1255 : (Jvm.Cond.declares ({ cls := "java/lang/IndexOutOfBoundsException", name := "<init>", desc := "()V" } : Jvm.MethodName)) ∈ lw_tbl := lw_at lw_m5 106 rfl
theorem q1256 : (Jvm.Cond.declares ({ cls := "java/lang/IndexOutOfBoundsException", name := "<init>", desc := "(Ljava/lang/String;)V" } : Jvm.MethodName)) ∈ lw_tbl := lw_at lw_m5 107 rfl
theorem q1275 : (Jvm.Cond.instantiable "java/lang/IndexOutOfBoundsException" (6 : Nat)) ∈ lw_all := lw_g (lw_at lw_m5 126 rfl) rfl
theorem q1276 : (Jvm.Cond.castable "java/lang/IndexOutOfBoundsException" "java/lang/IndexOutOfBoundsException") ∈ lw_tbl := lw_at lw_m5 127 rfl
theorem q1277 : (Jvm.Cond.selects "java/lang/IndexOutOfBoundsException" ({ cls := "java/lang/Throwable", name := "fillInStackTrace", desc := "(I)Ljava/lang/Throwable;" } : Jvm.MethodName) ({ cls := "java/lang/Throwable", name := "fillInStackTrace", desc := "(I)Ljava/lang/Throwable;" } : Jvm.MethodName)) ∈ lw_all := lw_g (lw_at lw_m5 128 rfl) rfl
theorem q1278 : (Jvm.Cond.lays "java/lang/IndexOutOfBoundsException" "java/lang/Throwable" "cause" "Ljava/lang/Throwable;") ∈ lw_all := lw_g (lw_at lw_m5 129 rfl) rfl
theorem q1279 : (Jvm.Cond.lays "java/lang/IndexOutOfBoundsException" "java/lang/Throwable" "stackTrace" "[Ljava/lang/StackTraceElement;") ∈ lw_all := lw_g (lw_at lw_m5 130 rfl) rfl
theorem q1280 : (Jvm.Cond.lays "java/lang/IndexOutOfBoundsException" "java/lang/Throwable" "suppressedExceptions" "Ljava/util/List;") ∈ lw_all := lw_g (lw_at lw_m5 131 rfl) rfl
theorem q1281 : (Jvm.Cond.lays "java/lang/IndexOutOfBoundsException" "java/lang/Throwable" "detailMessage" "Ljava/lang/String;") ∈ lw_all := lw_g (lw_at lw_m5 132 rfl) rfl
theorem q1282 : (Jvm.Cond.lays "java/lang/IndexOutOfBoundsException" "java/lang/Throwable" "backtrace" "Ljava/lang/Object;") ∈ lw_all := lw_g (lw_at lw_m5 133 rfl) rfl
theorem q1284 : (Jvm.Cond.instanceMethod ({ cls := "java/lang/IndexOutOfBoundsException", name := "<init>", desc := "()V" } : Jvm.MethodName)) ∈ lw_all := lw_g (lw_at lw_m5 135 rfl) rfl
theorem q1285 : (Jvm.Cond.code ({ cls := "java/lang/IndexOutOfBoundsException", name := "<init>", desc := "()V" } : Jvm.MethodName) prog_23_method_1_code (1 : Nat) (Option.none : Option Jvm.ClassFile.FieldType)) ∈ lw_all := lw_g (lw_at lw_m5 136 rfl) rfl
theorem q1286 : (Jvm.Cond.methodLink "java/lang/IndexOutOfBoundsException" (1 : Nat) ({ cls := "java/lang/RuntimeException", name := "<init>", desc := "()V" } : Jvm.MethodName)) ∈ lw_all := lw_g (lw_at lw_m5 137 rfl) rfl
theorem q1287 : (Jvm.Cond.lays "java/lang/IndexOutOfBoundsException" "java/lang/Throwable" "depth" "I") ∈ lw_all := lw_g (lw_at lw_m5 138 rfl) rfl
theorem q1288 : (Jvm.Cond.superclass "java/lang/IndexOutOfBoundsException" "java/lang/RuntimeException") ∈ lw_all := lw_g (lw_at lw_m5 139 rfl) rfl
theorem in_J5 : ∀ w ∈ wsJ50, w ∈ lw_all := lw_in wsJ50 [1278, 1279, 1280, 1281, 1282, 1287] (by decide +kernel) (by decide +kernel)
/-! java/lang/ArrayIndexOutOfBoundsException -/
def RJ6 : String := "java/lang/ArrayIndexOutOfBoundsException"
def TJ6 : u_T := fun k => match k with
  | 0 => ("java/lang/Throwable", "backtrace", "Ljava/lang/Object;", false)
  | 1 => ("java/lang/Throwable", "detailMessage", "Ljava/lang/String;", false)
  | 2 => ("java/lang/Throwable", "cause", "Ljava/lang/Throwable;", false)
  | 3 => ("java/lang/Throwable", "stackTrace", "[Ljava/lang/StackTraceElement;", false)
  | 4 => ("java/lang/Throwable", "depth", "I", false)
  | _ => ("java/lang/Throwable", "suppressedExceptions", "Ljava/util/List;", false)
def tyJ6 : Nat → FieldType := fun k => match k with
  | 0 => .object "java/lang/Object"
  | 1 => .object "java/lang/String"
  | 2 => .object "java/lang/Throwable"
  | 3 => .array (.object "java/lang/StackTraceElement")
  | 4 => .int
  | _ => .object "java/util/List"
abbrev wsJ60 : List Cond := u_ws RJ6 TJ6 6
theorem nmJ6 : ∀ a, a < 6 → ∀ b, b < 6 → a ≠ b → (TJ6 a).2.1 ≠ (TJ6 b).2.1 := by decide +kernel
theorem tyJ6_ok : ∀ k, k < 6 → parseFieldDescriptor (TJ6 k).2.2.1 = some (tyJ6 k) := by decide +kernel
abbrev cJ6_init : ByteArray := prog_19_method_2_code
def yJ6_init : MethodName := ⟨RJ6, "<init>", "(Ljava/lang/String;)V"⟩
theorem q214 : (Jvm.Cond.initialized "java/lang/ArrayIndexOutOfBoundsException") ∈ lw_all := lw_g (lw_at lw_m1 25 rfl) rfl
theorem q848 : (Jvm.Cond.selects "java/lang/ArrayIndexOutOfBoundsException" ({ cls := "java/lang/Throwable", name := "fillInStackTrace", desc := "()Ljava/lang/Throwable;" } : Jvm.MethodName) ({ cls := "java/lang/Throwable", name := "fillInStackTrace", desc := "()Ljava/lang/Throwable;" } : Jvm.MethodName)) ∈ lw_all := lw_g (lw_at lw_m3 179 rfl) rfl
theorem q1232 : (Jvm.Cond.instantiable "java/lang/ArrayIndexOutOfBoundsException" (6 : Nat)) ∈ lw_all := lw_g (lw_at lw_m5 83 rfl) rfl
theorem q1233 : (Jvm.Cond.instanceMethod ({ cls := "java/lang/ArrayIndexOutOfBoundsException", name := "<init>", desc := "(Ljava/lang/String;)V" } : Jvm.MethodName)) ∈ lw_all := lw_g (lw_at lw_m5 84 rfl) rfl
theorem q1234 : (Jvm.Cond.code ({ cls := "java/lang/ArrayIndexOutOfBoundsException", name := "<init>", desc := "(Ljava/lang/String;)V" } : Jvm.MethodName) prog_19_method_2_code (2 : Nat) (Option.none : Option Jvm.ClassFile.FieldType)) ∈ lw_all := lw_g (lw_at lw_m5 85 rfl) rfl
theorem q1235 : (Jvm.Cond.methodLink "java/lang/ArrayIndexOutOfBoundsException" (7 : Nat) ({ cls := "java/lang/IndexOutOfBoundsException", name := "<init>", desc := "(Ljava/lang/String;)V" } : Jvm.MethodName)) ∈ lw_all := lw_g (lw_at lw_m5 86 rfl) rfl
theorem q1247 : (Jvm.Cond.lays "java/lang/ArrayIndexOutOfBoundsException" "java/lang/Throwable" "backtrace" "Ljava/lang/Object;") ∈ lw_all := lw_g (lw_at lw_m5 98 rfl) rfl
theorem q1248 : (Jvm.Cond.lays "java/lang/ArrayIndexOutOfBoundsException" "java/lang/Throwable" "detailMessage" "Ljava/lang/String;") ∈ lw_all := lw_g (lw_at lw_m5 99 rfl) rfl
theorem q1249 : (Jvm.Cond.lays "java/lang/ArrayIndexOutOfBoundsException" "java/lang/Throwable" "cause" "Ljava/lang/Throwable;") ∈ lw_all := lw_g (lw_at lw_m5 100 rfl) rfl
theorem q1250 : (Jvm.Cond.lays "java/lang/ArrayIndexOutOfBoundsException" "java/lang/Throwable" "stackTrace" "[Ljava/lang/StackTraceElement;") ∈ lw_all := lw_g (lw_at lw_m5 101 rfl) rfl
theorem q1251 : (Jvm.Cond.lays "java/lang/ArrayIndexOutOfBoundsException" "java/lang/Throwable" "depth" "I") ∈ lw_all := lw_g (lw_at lw_m5 102 rfl) rfl
theorem q1252 : (Jvm.Cond.lays "java/lang/ArrayIndexOutOfBoundsException" "java/lang/Throwable" "suppressedExceptions" "Ljava/util/List;") ∈ lw_all := lw_g (lw_at lw_m5 103 rfl) rfl
theorem q1253 : (Jvm.Cond.superclass "java/lang/ArrayIndexOutOfBoundsException" "java/lang/IndexOutOfBoundsException") ∈ lw_all := lw_g (lw_at lw_m5 104 rfl) rfl
theorem q1254 : (Jvm.Cond.castable "java/lang/ArrayIndexOutOfBoundsException" "java/lang/ArrayIndexOutOfBoundsException") ∈ lw_tbl := lw_at lw_m5 105 rfl
theorem q1257 : (Jvm.Cond.selects "java/lang/ArrayIndexOutOfBoundsException" ({ cls := "java/lang/Throwable", name := "fillInStackTrace", desc := "(I)Ljava/lang/Throwable;" } : Jvm.MethodName) ({ cls := "java/lang/Throwable", name := "fillInStackTrace", desc := "(I)Ljava/lang/Throwable;" } : Jvm.MethodName)) ∈ lw_all := lw_g (lw_at lw_m5 108 rfl) rfl
theorem q2973 : (Jvm.Cond.castable "java/lang/ArrayIndexOutOfBoundsException" "java/lang/IndexOutOfBoundsException") ∈ lw_tbl := lw_at lw_m12 144 rfl
theorem in_J6 : ∀ w ∈ wsJ60, w ∈ lw_all := lw_in wsJ60 [1247, 1248, 1249, 1250, 1251, 1252] (by decide +kernel) (by decide +kernel)
/-! java/lang/String -/
def RJ7 : String := "java/lang/String"
def TJ7 : u_T := fun k => match k with
  | 0 => ("java/lang/String", "value", "[B", true)
  | _ => ("java/lang/String", "coder", "B", true)
def tyJ7 : Nat → FieldType := fun k => match k with
  | 0 => .array .byte
  | _ => .byte
abbrev wsJ70 : List Cond := u_ws RJ7 TJ7 2
theorem nmJ7 : ∀ a, a < 2 → ∀ b, b < 2 → a ≠ b → (TJ7 a).2.1 ≠ (TJ7 b).2.1 := by decide +kernel
theorem tyJ7_ok : ∀ k, k < 2 → parseFieldDescriptor (TJ7 k).2.2.1 = some (tyJ7 k) := by decide +kernel
theorem q215 : (Jvm.Cond.initialized "java/lang/String") ∈ lw_all := lw_g (lw_at lw_m1 26 rfl) rfl
theorem q1258 : (Jvm.Cond.instantiable "java/lang/String" (4 : Nat)) ∈ lw_all := lw_g (lw_at lw_m5 109 rfl) rfl
theorem q1259 : (Jvm.Cond.laysFinal "java/lang/String" "java/lang/String" "value" "[B") ∈ lw_all := lw_g (lw_at lw_m5 110 rfl) rfl
theorem q1260 : (Jvm.Cond.soleField "java/lang/String" "value") ∈ lw_all := lw_g (lw_at lw_m5 111 rfl) rfl
theorem q1261 : (Jvm.Cond.laysFinal "java/lang/String" "java/lang/String" "coder" "B") ∈ lw_all := lw_g (lw_at lw_m5 112 rfl) rfl
theorem q1262 : (Jvm.Cond.soleField "java/lang/String" "coder") ∈ lw_all := lw_g (lw_at lw_m5 113 rfl) rfl
theorem in_J7 : ∀ w ∈ wsJ70, w ∈ lw_all := lw_in wsJ70 [1259, 1261] (by decide +kernel) (by decide +kernel)
/-! java/lang/Math -/
def RJ8 : String := "java/lang/Math"
abbrev cJ8_min : ByteArray := prog_26_method_69_code
def yJ8_min : MethodName := ⟨RJ8, "min", "(II)I"⟩
abbrev cJ8_max : ByteArray := prog_26_method_65_code
def yJ8_max : MethodName := ⟨RJ8, "max", "(II)I"⟩
abbrev cJ8_min_2 : ByteArray := prog_26_method_70_code
def yJ8_min_2 : MethodName := ⟨RJ8, "min", "(JJ)J"⟩
abbrev cJ8_max_2 : ByteArray := prog_26_method_66_code
def yJ8_max_2 : MethodName := ⟨RJ8, "max", "(JJ)J"⟩
abbrev cJ8_abs : ByteArray := prog_26_method_61_code
def yJ8_abs : MethodName := ⟨RJ8, "abs", "(J)J"⟩
abbrev cJ8_floorMod : ByteArray := prog_26_method_52_code
def yJ8_floorMod : MethodName := ⟨RJ8, "floorMod", "(JJ)J"⟩
theorem q216 : (Jvm.Cond.initialized "java/lang/Math") ∈ lw_all := lw_g (lw_at lw_m1 27 rfl) rfl
theorem q1370 : (Jvm.Cond.static ({ cls := "java/lang/Math", name := "min", desc := "(II)I" } : Jvm.MethodName)) ∈ lw_all := lw_g (lw_at lw_m5 221 rfl) rfl
theorem q1371 : (Jvm.Cond.code ({ cls := "java/lang/Math", name := "min", desc := "(II)I" } : Jvm.MethodName) prog_26_method_69_code (2 : Nat) (Option.some Jvm.ClassFile.FieldType.int)) ∈ lw_all := lw_g (lw_at lw_m5 222 rfl) rfl
theorem q1373 : (Jvm.Cond.static ({ cls := "java/lang/Math", name := "max", desc := "(II)I" } : Jvm.MethodName)) ∈ lw_all := lw_g (lw_at lw_m5 224 rfl) rfl
theorem q1374 : (Jvm.Cond.code ({ cls := "java/lang/Math", name := "max", desc := "(II)I" } : Jvm.MethodName) prog_26_method_65_code (2 : Nat) (Option.some Jvm.ClassFile.FieldType.int)) ∈ lw_all := lw_g (lw_at lw_m5 225 rfl) rfl
theorem q1473 : (Jvm.Cond.static ({ cls := "java/lang/Math", name := "min", desc := "(JJ)J" } : Jvm.MethodName)) ∈ lw_all := lw_g (lw_at lw_m6 84 rfl) rfl
theorem q1474 : (Jvm.Cond.code ({ cls := "java/lang/Math", name := "min", desc := "(JJ)J" } : Jvm.MethodName) prog_26_method_70_code (4 : Nat) (Option.some Jvm.ClassFile.FieldType.long)) ∈ lw_all := lw_g (lw_at lw_m6 85 rfl) rfl
theorem q1479 : (Jvm.Cond.static ({ cls := "java/lang/Math", name := "max", desc := "(JJ)J" } : Jvm.MethodName)) ∈ lw_all := lw_g (lw_at lw_m6 90 rfl) rfl
theorem q1480 : (Jvm.Cond.code ({ cls := "java/lang/Math", name := "max", desc := "(JJ)J" } : Jvm.MethodName) prog_26_method_66_code (4 : Nat) (Option.some Jvm.ClassFile.FieldType.long)) ∈ lw_all := lw_g (lw_at lw_m6 91 rfl) rfl
theorem q1494 : (Jvm.Cond.static ({ cls := "java/lang/Math", name := "abs", desc := "(J)J" } : Jvm.MethodName)) ∈ lw_all := lw_g (lw_at lw_m6 105 rfl) rfl
theorem q1495 : (Jvm.Cond.code ({ cls := "java/lang/Math", name := "abs", desc := "(J)J" } : Jvm.MethodName) prog_26_method_61_code (2 : Nat) (Option.some Jvm.ClassFile.FieldType.long)) ∈ lw_all := lw_g (lw_at lw_m6 106 rfl) rfl
theorem q1899 : (Jvm.Cond.static ({ cls := "java/lang/Math", name := "floorMod", desc := "(JJ)J" } : Jvm.MethodName)) ∈ lw_all := lw_g (lw_at lw_m8 30 rfl) rfl
theorem q1900 : (Jvm.Cond.code ({ cls := "java/lang/Math", name := "floorMod", desc := "(JJ)J" } : Jvm.MethodName) prog_26_method_52_code (6 : Nat) (Option.some Jvm.ClassFile.FieldType.long)) ∈ lw_all := lw_g (lw_at lw_m8 31 rfl) rfl
/-! java/lang/Long -/
def RJ9 : String := "java/lang/Long"
abbrev cJ9_numberOfTrailingZeros : ByteArray := prog_25_method_49_code
def yJ9_numberOfTrailingZeros : MethodName := ⟨RJ9, "numberOfTrailingZeros", "(J)I"⟩
theorem q217 : (Jvm.Cond.initialized "java/lang/Long") ∈ lw_all := lw_g (lw_at lw_m1 28 rfl) rfl
theorem q1459 : (Jvm.Cond.static ({ cls := "java/lang/Long", name := "numberOfTrailingZeros", desc := "(J)I" } : Jvm.MethodName)) ∈ lw_all := lw_g (lw_at lw_m6 70 rfl) rfl
theorem q1460 : (Jvm.Cond.code ({ cls := "java/lang/Long", name := "numberOfTrailingZeros", desc := "(J)I" } : Jvm.MethodName) prog_25_method_49_code (3 : Nat) (Option.some Jvm.ClassFile.FieldType.int)) ∈ lw_all := lw_g (lw_at lw_m6 71 rfl) rfl
theorem q1461 : (Jvm.Cond.methodLink "java/lang/Long" (311 : Nat) ({ cls := "java/lang/Integer", name := "numberOfTrailingZeros", desc := "(I)I" } : Jvm.MethodName)) ∈ lw_all := lw_g (lw_at lw_m6 72 rfl) rfl
/-! java/lang/Integer -/
def RJ10 : String := "java/lang/Integer"
abbrev cJ10_numberOfTrailingZeros : ByteArray := prog_24_method_48_code
def yJ10_numberOfTrailingZeros : MethodName := ⟨RJ10, "numberOfTrailingZeros", "(I)I"⟩
theorem q218 : (Jvm.Cond.initialized "java/lang/Integer") ∈ lw_all := lw_g (lw_at lw_m1 29 rfl) rfl
theorem q1462 : (Jvm.Cond.static ({ cls := "java/lang/Integer", name := "numberOfTrailingZeros", desc := "(I)I" } : Jvm.MethodName)) ∈ lw_all := lw_g (lw_at lw_m6 73 rfl) rfl
theorem q1463 : (Jvm.Cond.code ({ cls := "java/lang/Integer", name := "numberOfTrailingZeros", desc := "(I)I" } : Jvm.MethodName) prog_24_method_48_code (2 : Nat) (Option.some Jvm.ClassFile.FieldType.int)) ∈ lw_all := lw_g (lw_at lw_m6 74 rfl) rfl
theorem q1464 : (Jvm.Cond.constant "java/lang/Integer" (264 : Nat) (65536 : Int32)) ∈ lw_all := lw_g (lw_at lw_m6 75 rfl) rfl
/-! java/lang/Object -/
def RJ11 : String := "java/lang/Object"
abbrev cJ11_init : ByteArray := object_method_1_code
def yJ11_init : MethodName := ⟨RJ11, "<init>", "()V"⟩
theorem q225 : (Jvm.Cond.instanceMethod ({ cls := "java/lang/Object", name := "<init>", desc := "()V" } : Jvm.MethodName)) ∈ lw_all := lw_g (lw_at lw_m1 36 rfl) rfl
theorem q226 : (Jvm.Cond.code ({ cls := "java/lang/Object", name := "<init>", desc := "()V" } : Jvm.MethodName) object_method_1_code (1 : Nat) (Option.none : Option Jvm.ClassFile.FieldType)) ∈ lw_all := lw_g (lw_at lw_m1 37 rfl) rfl
/-! the law's own entry -/
abbrev cL_law : ByteArray := code
theorem q234 : (Jvm.Cond.arrayOver (Jvm.ClassFile.FieldType.object "FactHouse$State")) ∈ lw_tbl := lw_at lw_m1 45 rfl
theorem q236 : (Jvm.Cond.arrayOver (Jvm.ClassFile.FieldType.object "FactHouse$Outcome")) ∈ lw_tbl := lw_at lw_m1 47 rfl
theorem q238 : (Jvm.Cond.arrayOver (Jvm.ClassFile.FieldType.array (Jvm.ClassFile.FieldType.object "FactHouse$Cell"))) ∈ lw_tbl := lw_at lw_m1 49 rfl
theorem q239 : (Jvm.Cond.arrayOver (Jvm.ClassFile.FieldType.object "FactHouse$Cell")) ∈ lw_tbl := lw_at lw_m1 50 rfl
theorem q242 : (Jvm.Cond.arrayOver (Jvm.ClassFile.FieldType.object "FactHouse$Fact")) ∈ lw_tbl := lw_at lw_m1 53 rfl
theorem q280 : (Jvm.Cond.arrayClass Jvm.ClassFile.FieldType.byte) ∈ lw_all := lw_g (lw_at lw_m1 91 rfl) rfl
theorem q281 : (Jvm.Cond.arrayClass Jvm.ClassFile.FieldType.long) ∈ lw_all := lw_g (lw_at lw_m1 92 rfl) rfl
theorem q282 : (Jvm.Cond.arrayClass Jvm.ClassFile.FieldType.boolean) ∈ lw_all := lw_g (lw_at lw_m1 93 rfl) rfl
theorem q283 : (Jvm.Cond.arrayClass Jvm.ClassFile.FieldType.int) ∈ lw_all := lw_g (lw_at lw_m1 94 rfl) rfl
theorem q473 : (Jvm.Cond.arrayOver (Jvm.ClassFile.FieldType.array Jvm.ClassFile.FieldType.boolean)) ∈ lw_tbl := lw_at lw_m2 44 rfl
theorem q542 : (Jvm.Cond.arrayOver (Jvm.ClassFile.FieldType.array (Jvm.ClassFile.FieldType.object "FactHouse$Method"))) ∈ lw_tbl := lw_at lw_m2 113 rfl
theorem q543 : (Jvm.Cond.arrayOver (Jvm.ClassFile.FieldType.object "FactHouse$Method")) ∈ lw_tbl := lw_at lw_m2 114 rfl
theorem q545 : (Jvm.Cond.arrayOver (Jvm.ClassFile.FieldType.array Jvm.ClassFile.FieldType.int)) ∈ lw_tbl := lw_at lw_m2 116 rfl
theorem q1026 : (Jvm.Cond.arrayOver (Jvm.ClassFile.FieldType.object "FactHouse$Handler")) ∈ lw_tbl := lw_at lw_m4 117 rfl
theorem q207 : (Jvm.Cond.initialized "java/lang/System") ∈ lw_all := lw_g (lw_at lw_m1 18 rfl) rfl
theorem q779 : (Jvm.Cond.static ({ cls := "java/lang/System", name := "arraycopy", desc := "(Ljava/lang/Object;ILjava/lang/Object;II)V" } : Jvm.MethodName)) ∈ lw_all := lw_g (lw_at lw_m3 110 rfl) rfl
theorem q780 : (Jvm.Cond.native ({ cls := "java/lang/System", name := "arraycopy", desc := "(Ljava/lang/Object;ILjava/lang/Object;II)V" } : Jvm.MethodName)) ∈ lw_all := lw_g (lw_at lw_m3 111 rfl) rfl
