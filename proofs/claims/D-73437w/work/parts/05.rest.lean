/-! UnimodularTablesLaw -/
set_option maxRecDepth 100000
def RX0 : String := "UnimodularTablesLaw"
abbrev cX0_entry : ByteArray := method_3_code
def yX0_entry : MethodName := ⟨RX0, "entry", "(LUnimodularTables;II[J)I"⟩
def dkwX0_entry_0 : List UInt8 := [45, 3, 42, 27, 28, 182, 0, 7, 133, 80, 167, 0, 7, 58, 4, 4, 172, 3, 172]
abbrev dktX0_entry_0 : List UInt8 := dkwX0_entry_0 ++ []
theorem dksX0_entry_0 : cX0_entry.data.toList.drop 0 = dktX0_entry_0 := by decide +kernel
theorem dX0_entry_0 : decode cX0_entry 0 = .ok (.aload_n 3, 1) := dk_45 (dk_at dksX0_entry_0 0 rfl rfl)
theorem dX0_entry_1 : decode cX0_entry 1 = .ok (.iconst 0, 1) := dk_3 (dk_at dksX0_entry_0 1 rfl rfl)
theorem dX0_entry_2 : decode cX0_entry 2 = .ok (.aload_n 0, 1) := dk_42 (dk_at dksX0_entry_0 2 rfl rfl)
theorem dX0_entry_3 : decode cX0_entry 3 = .ok (.iload_n 1, 1) := dk_27 (dk_at dksX0_entry_0 3 rfl rfl)
theorem dX0_entry_4 : decode cX0_entry 4 = .ok (.iload_n 2, 1) := dk_28 (dk_at dksX0_entry_0 4 rfl rfl)
theorem dX0_entry_5 : decode cX0_entry 5 = .ok (.invokevirtual 7, 3) := dk_182 0 7 (dk_at dksX0_entry_0 5 rfl rfl)
theorem dX0_entry_8 : decode cX0_entry 8 = .ok (.i2l, 1) := dk_133 (dk_at dksX0_entry_0 8 rfl rfl)
theorem dX0_entry_9 : decode cX0_entry 9 = .ok (.lastore, 1) := dk_80 (dk_at dksX0_entry_0 9 rfl rfl)
theorem dX0_entry_10 : decode cX0_entry 10 = .ok (.goto 7, 3) := dk_167 0 7 (dk_at dksX0_entry_0 10 rfl rfl)
theorem dX0_entry_13 : decode cX0_entry 13 = .ok (.astore 4, 2) := dk_58 4 (dk_at dksX0_entry_0 13 rfl rfl)
theorem dX0_entry_15 : decode cX0_entry 15 = .ok (.iconst 1, 1) := dk_4 (dk_at dksX0_entry_0 15 rfl rfl)
theorem dX0_entry_16 : decode cX0_entry 16 = .ok (.ireturn, 1) := dk_172 (dk_at dksX0_entry_0 16 rfl rfl)
theorem dX0_entry_17 : decode cX0_entry 17 = .ok (.iconst 0, 1) := dk_3 (dk_at dksX0_entry_0 17 rfl rfl)
theorem dX0_entry_18 : decode cX0_entry 18 = .ok (.ireturn, 1) := dk_172 (dk_at dksX0_entry_0 18 rfl rfl)
theorem q117 : (Jvm.Cond.initialized "UnimodularTablesLaw") ∈ lw_all := lw_g (lw_at lw_m1 0 rfl) rfl
theorem q155 : (Jvm.Cond.classLink "UnimodularTablesLaw" (8 : Nat) "UnimodularTables") ∈ lw_all := lw_g (lw_at lw_m1 38 rfl) rfl
theorem q157 : (Jvm.Cond.methodLink "UnimodularTablesLaw" (15 : Nat) ({ cls := "UnimodularTables", name := "<init>", desc := "()V" } : Jvm.MethodName)) ∈ lw_all := lw_g (lw_at lw_m1 40 rfl) rfl
theorem q545 : (Jvm.Cond.methodLink "UnimodularTablesLaw" (19 : Nat) ({ cls := "UnimodularTables", name := "feed", desc := "(IIIII)I" } : Jvm.MethodName)) ∈ lw_all := lw_g (lw_at lw_m2 188 rfl) rfl
theorem q552 : (Jvm.Cond.methodLink "UnimodularTablesLaw" (24 : Nat) ({ cls := "UnimodularTables", name := "end", desc := "(I)Z" } : Jvm.MethodName)) ∈ lw_all := lw_g (lw_at lw_m2 195 rfl) rfl
theorem q559 : (Jvm.Cond.methodLink "UnimodularTablesLaw" (29 : Nat) ({ cls := "UnimodularTables", name := "fault", desc := "(I)I" } : Jvm.MethodName)) ∈ lw_all := lw_g (lw_at lw_m2 202 rfl) rfl
theorem q662 : (Jvm.Cond.methodLink "UnimodularTablesLaw" (34 : Nat) ({ cls := "UnimodularTables", name := "text", desc := "(I)I" } : Jvm.MethodName)) ∈ lw_all := lw_g (lw_at lw_m3 65 rfl) rfl
theorem q679 : (Jvm.Cond.methodLink "UnimodularTablesLaw" (48 : Nat) ({ cls := "UnimodularTables", name := "change", desc := "(III)I" } : Jvm.MethodName)) ∈ lw_all := lw_g (lw_at lw_m3 82 rfl) rfl
theorem q710 : (Jvm.Cond.methodLink "UnimodularTablesLaw" (53 : Nat) ({ cls := "UnimodularTables", name := "deal", desc := "(III)I" } : Jvm.MethodName)) ∈ lw_all := lw_g (lw_at lw_m3 113 rfl) rfl
theorem q732 : (Jvm.Cond.methodLink "UnimodularTablesLaw" (57 : Nat) ({ cls := "UnimodularTables", name := "keep", desc := "()I" } : Jvm.MethodName)) ∈ lw_all := lw_g (lw_at lw_m3 135 rfl) rfl
theorem q770 : (Jvm.Cond.methodLink "UnimodularTablesLaw" (61 : Nat) ({ cls := "UnimodularTables", name := "kept", desc := "(III)I" } : Jvm.MethodName)) ∈ lw_all := lw_g (lw_at lw_m3 173 rfl) rfl
theorem q794 : (Jvm.Cond.methodLink "UnimodularTablesLaw" (65 : Nat) ({ cls := "UnimodularTables", name := "join", desc := "(III)I" } : Jvm.MethodName)) ∈ lw_all := lw_g (lw_at lw_m3 197 rfl) rfl
theorem q808 : (Jvm.Cond.methodLink "UnimodularTablesLaw" (69 : Nat) ({ cls := "UnimodularTables", name := "undo", desc := "()I" } : Jvm.MethodName)) ∈ lw_all := lw_g (lw_at lw_m3 211 rfl) rfl
theorem q816 : (Jvm.Cond.methodLink "UnimodularTablesLaw" (73 : Nat) ({ cls := "UnimodularTables", name := "det", desc := "(II)I" } : Jvm.MethodName)) ∈ lw_all := lw_g (lw_at lw_m3 219 rfl) rfl
theorem q843 : (Jvm.Cond.methodLink "UnimodularTablesLaw" (77 : Nat) ({ cls := "UnimodularTables", name := "squares", desc := "(II)I" } : Jvm.MethodName)) ∈ lw_all := lw_g (lw_at lw_m4 6 rfl) rfl
theorem q863 : (Jvm.Cond.methodLink "UnimodularTablesLaw" (81 : Nat) ({ cls := "UnimodularTables", name := "total", desc := "()I" } : Jvm.MethodName)) ∈ lw_all := lw_g (lw_at lw_m4 26 rfl) rfl
theorem q871 : (Jvm.Cond.methodLink "UnimodularTablesLaw" (85 : Nat) ({ cls := "UnimodularTables", name := "witness", desc := "(I)I" } : Jvm.MethodName)) ∈ lw_all := lw_g (lw_at lw_m4 34 rfl) rfl
theorem q880 : (Jvm.Cond.methodLink "UnimodularTablesLaw" (89 : Nat) ({ cls := "UnimodularTables", name := "halves", desc := "(I)I" } : Jvm.MethodName)) ∈ lw_all := lw_g (lw_at lw_m4 43 rfl) rfl
theorem q892 : (Jvm.Cond.methodLink "UnimodularTablesLaw" (93 : Nat) ({ cls := "UnimodularTables", name := "unhalved", desc := "()I" } : Jvm.MethodName)) ∈ lw_all := lw_g (lw_at lw_m4 55 rfl) rfl
theorem q896 : (Jvm.Cond.methodLink "UnimodularTablesLaw" (97 : Nat) ({ cls := "UnimodularTables", name := "network", desc := "(I)I" } : Jvm.MethodName)) ∈ lw_all := lw_g (lw_at lw_m4 59 rfl) rfl
theorem q998 : (Jvm.Cond.methodLink "UnimodularTablesLaw" (101 : Nat) ({ cls := "UnimodularTables", name := "arc", desc := "(III)I" } : Jvm.MethodName)) ∈ lw_all := lw_g (lw_at lw_m4 161 rfl) rfl
theorem q1002 : (Jvm.Cond.methodLink "UnimodularTablesLaw" (105 : Nat) ({ cls := "UnimodularTables", name := "way", desc := "(III)I" } : Jvm.MethodName)) ∈ lw_all := lw_g (lw_at lw_m4 165 rfl) rfl
theorem q1557 : (Jvm.Cond.methodLink "UnimodularTablesLaw" (109 : Nat) ({ cls := "UnimodularTables", name := "signed", desc := "(II)I" } : Jvm.MethodName)) ∈ lw_all := lw_g (lw_at lw_m7 0 rfl) rfl
theorem q1631 : (Jvm.Cond.methodLink "UnimodularTablesLaw" (113 : Nat) ({ cls := "UnimodularTables", name := "regular", desc := "()I" } : Jvm.MethodName)) ∈ lw_all := lw_g (lw_at lw_m7 74 rfl) rfl
theorem q1636 : (Jvm.Cond.methodLink "UnimodularTablesLaw" (117 : Nat) ({ cls := "UnimodularTables", name := "scaled", desc := "(I)I" } : Jvm.MethodName)) ∈ lw_all := lw_g (lw_at lw_m7 79 rfl) rfl
theorem q1654 : (Jvm.Cond.methodLink "UnimodularTablesLaw" (121 : Nat) ({ cls := "UnimodularTables", name := "special", desc := "()I" } : Jvm.MethodName)) ∈ lw_all := lw_g (lw_at lw_m7 97 rfl) rfl
theorem q1668 : (Jvm.Cond.methodLink "UnimodularTablesLaw" (125 : Nat) ({ cls := "UnimodularTables", name := "block", desc := "(II)I" } : Jvm.MethodName)) ∈ lw_all := lw_g (lw_at lw_m7 111 rfl) rfl
theorem q1680 : (Jvm.Cond.methodLink "UnimodularTablesLaw" (129 : Nat) ({ cls := "UnimodularTables", name := "rank", desc := "(I)I" } : Jvm.MethodName)) ∈ lw_all := lw_g (lw_at lw_m7 123 rfl) rfl
theorem q1688 : (Jvm.Cond.methodLink "UnimodularTablesLaw" (133 : Nat) ({ cls := "UnimodularTables", name := "bases", desc := "()I" } : Jvm.MethodName)) ∈ lw_all := lw_g (lw_at lw_m7 131 rfl) rfl
theorem q1694 : (Jvm.Cond.methodLink "UnimodularTablesLaw" (137 : Nat) ({ cls := "UnimodularTables", name := "mends", desc := "()I" } : Jvm.MethodName)) ∈ lw_all := lw_g (lw_at lw_m7 137 rfl) rfl
theorem q1702 : (Jvm.Cond.methodLink "UnimodularTablesLaw" (141 : Nat) ({ cls := "UnimodularTables", name := "fragile", desc := "()I" } : Jvm.MethodName)) ∈ lw_all := lw_g (lw_at lw_m7 145 rfl) rfl
theorem q1706 : (Jvm.Cond.methodLink "UnimodularTablesLaw" (145 : Nat) ({ cls := "UnimodularTables", name := "fills", desc := "(II)I" } : Jvm.MethodName)) ∈ lw_all := lw_g (lw_at lw_m7 149 rfl) rfl
theorem q1710 : (Jvm.Cond.methodLink "UnimodularTablesLaw" (149 : Nat) ({ cls := "UnimodularTables", name := "pack", desc := "(I)I" } : Jvm.MethodName)) ∈ lw_all := lw_g (lw_at lw_m7 153 rfl) rfl
theorem q1726 : (Jvm.Cond.methodLink "UnimodularTablesLaw" (153 : Nat) ({ cls := "UnimodularTables", name := "adjoint", desc := "(II)I" } : Jvm.MethodName)) ∈ lw_all := lw_g (lw_at lw_m7 169 rfl) rfl
theorem q1730 : (Jvm.Cond.methodLink "UnimodularTablesLaw" (157 : Nat) ({ cls := "UnimodularTables", name := "cycle", desc := "()I" } : Jvm.MethodName)) ∈ lw_all := lw_g (lw_at lw_m7 173 rfl) rfl
theorem q1739 : (Jvm.Cond.methodLink "UnimodularTablesLaw" (161 : Nat) ({ cls := "UnimodularTables", name := "step", desc := "(III)I" } : Jvm.MethodName)) ∈ lw_all := lw_g (lw_at lw_m7 182 rfl) rfl
theorem q1743 : (Jvm.Cond.methodLink "UnimodularTablesLaw" (165 : Nat) ({ cls := "UnimodularTables", name := "run", desc := "(II)I" } : Jvm.MethodName)) ∈ lw_all := lw_g (lw_at lw_m7 186 rfl) rfl
theorem q1755 : (Jvm.Cond.methodLink "UnimodularTablesLaw" (169 : Nat) ({ cls := "UnimodularTables", name := "perform", desc := "(I)I" } : Jvm.MethodName)) ∈ lw_all := lw_g (lw_at lw_m7 198 rfl) rfl
theorem q1759 : (Jvm.Cond.methodLink "UnimodularTablesLaw" (175 : Nat) ({ cls := "UnimodularTables", name := "draws", desc := "(IJ)I" } : Jvm.MethodName)) ∈ lw_all := lw_g (lw_at lw_m7 202 rfl) rfl
theorem q1773 : (Jvm.Cond.methodLink "UnimodularTablesLaw" (180 : Nat) ({ cls := "UnimodularTables", name := "status", desc := "(I)I" } : Jvm.MethodName)) ∈ lw_all := lw_g (lw_at lw_m7 216 rfl) rfl
theorem q1777 : (Jvm.Cond.methodLink "UnimodularTablesLaw" (184 : Nat) ({ cls := "UnimodularTables", name := "image", desc := "()I" } : Jvm.MethodName)) ∈ lw_all := lw_g (lw_at lw_m7 220 rfl) rfl
theorem q1789 : (Jvm.Cond.methodLink "UnimodularTablesLaw" (188 : Nat) ({ cls := "UnimodularTables", name := "back", desc := "()I" } : Jvm.MethodName)) ∈ lw_all := lw_g (lw_at lw_m7 232 rfl) rfl
theorem q1793 : (Jvm.Cond.methodLink "UnimodularTablesLaw" (192 : Nat) ({ cls := "UnimodularTables", name := "count", desc := "(I)I" } : Jvm.MethodName)) ∈ lw_all := lw_g (lw_at lw_m7 236 rfl) rfl
theorem q1801 : (Jvm.Cond.methodLink "UnimodularTablesLaw" (38 : Nat) ({ cls := "UnimodularTablesLaw", name := "entry", desc := "(LUnimodularTables;II[J)I" } : Jvm.MethodName)) ∈ lw_all := lw_g (lw_at lw_m8 4 rfl) rfl
theorem q1802 : (Jvm.Cond.static ({ cls := "UnimodularTablesLaw", name := "entry", desc := "(LUnimodularTables;II[J)I" } : Jvm.MethodName)) ∈ lw_all := lw_g (lw_at lw_m8 5 rfl) rfl
theorem q1803 : (Jvm.Cond.codeWith ({ cls := "UnimodularTablesLaw", name := "entry", desc := "(LUnimodularTables;II[J)I" } : Jvm.MethodName) method_3_code (5 : Nat) (Option.some Jvm.ClassFile.FieldType.int) [((0 : Nat), (10 : Nat), (13 : Nat), (13 : Nat))]) ∈ lw_all := lw_g (lw_at lw_m8 6 rfl) rfl
theorem q1804 : (Jvm.Cond.classLink "UnimodularTablesLaw" (13 : Nat) "java/util/NoSuchElementException") ∈ lw_all := lw_g (lw_at lw_m8 7 rfl) rfl
theorem q1805 : (Jvm.Cond.methodLink "UnimodularTablesLaw" (7 : Nat) ({ cls := "UnimodularTables", name := "entry", desc := "(II)I" } : Jvm.MethodName)) ∈ lw_all := lw_g (lw_at lw_m8 8 rfl) rfl
theorem q1811 : (Jvm.Cond.classLink "UnimodularTablesLaw" (16 : Nat) "UnimodularTablesModel") ∈ lw_all := lw_g (lw_at lw_m8 14 rfl) rfl
theorem q1813 : (Jvm.Cond.methodLink "UnimodularTablesLaw" (18 : Nat) ({ cls := "UnimodularTablesModel", name := "<init>", desc := "()V" } : Jvm.MethodName)) ∈ lw_all := lw_g (lw_at lw_m8 16 rfl) rfl
theorem q1923 : (Jvm.Cond.methodLink "UnimodularTablesLaw" (44 : Nat) ({ cls := "UnimodularTablesModel", name := "thrown", desc := "()I" } : Jvm.MethodName)) ∈ lw_all := lw_g (lw_at lw_m8 126 rfl) rfl
theorem q1927 : (Jvm.Cond.methodLink "UnimodularTablesLaw" (23 : Nat) ({ cls := "UnimodularTablesModel", name := "feed", desc := "(IIIII)I" } : Jvm.MethodName)) ∈ lw_all := lw_g (lw_at lw_m8 130 rfl) rfl
theorem q1938 : (Jvm.Cond.methodLink "UnimodularTablesLaw" (28 : Nat) ({ cls := "UnimodularTablesModel", name := "end", desc := "(I)Z" } : Jvm.MethodName)) ∈ lw_all := lw_g (lw_at lw_m8 141 rfl) rfl
theorem q1942 : (Jvm.Cond.methodLink "UnimodularTablesLaw" (33 : Nat) ({ cls := "UnimodularTablesModel", name := "fault", desc := "(I)I" } : Jvm.MethodName)) ∈ lw_all := lw_g (lw_at lw_m8 145 rfl) rfl
theorem q1989 : (Jvm.Cond.methodLink "UnimodularTablesLaw" (37 : Nat) ({ cls := "UnimodularTablesModel", name := "text", desc := "(I)I" } : Jvm.MethodName)) ∈ lw_all := lw_g (lw_at lw_m8 192 rfl) rfl
theorem q1994 : (Jvm.Cond.methodLink "UnimodularTablesLaw" (43 : Nat) ({ cls := "UnimodularTablesModel", name := "entry", desc := "(II)I" } : Jvm.MethodName)) ∈ lw_all := lw_g (lw_at lw_m8 197 rfl) rfl
theorem q2002 : (Jvm.Cond.methodLink "UnimodularTablesLaw" (52 : Nat) ({ cls := "UnimodularTablesModel", name := "change", desc := "(III)I" } : Jvm.MethodName)) ∈ lw_all := lw_g (lw_at lw_m8 205 rfl) rfl
theorem q2015 : (Jvm.Cond.methodLink "UnimodularTablesLaw" (56 : Nat) ({ cls := "UnimodularTablesModel", name := "deal", desc := "(III)I" } : Jvm.MethodName)) ∈ lw_all := lw_g (lw_at lw_m8 218 rfl) rfl
theorem q2037 : (Jvm.Cond.methodLink "UnimodularTablesLaw" (60 : Nat) ({ cls := "UnimodularTablesModel", name := "keep", desc := "()I" } : Jvm.MethodName)) ∈ lw_all := lw_g (lw_at lw_m9 0 rfl) rfl
theorem q2041 : (Jvm.Cond.methodLink "UnimodularTablesLaw" (64 : Nat) ({ cls := "UnimodularTablesModel", name := "kept", desc := "(III)I" } : Jvm.MethodName)) ∈ lw_all := lw_g (lw_at lw_m9 4 rfl) rfl
theorem q2053 : (Jvm.Cond.methodLink "UnimodularTablesLaw" (68 : Nat) ({ cls := "UnimodularTablesModel", name := "join", desc := "(III)I" } : Jvm.MethodName)) ∈ lw_all := lw_g (lw_at lw_m9 16 rfl) rfl
theorem q2057 : (Jvm.Cond.methodLink "UnimodularTablesLaw" (72 : Nat) ({ cls := "UnimodularTablesModel", name := "undo", desc := "()I" } : Jvm.MethodName)) ∈ lw_all := lw_g (lw_at lw_m9 20 rfl) rfl
theorem q2061 : (Jvm.Cond.methodLink "UnimodularTablesLaw" (76 : Nat) ({ cls := "UnimodularTablesModel", name := "det", desc := "(II)I" } : Jvm.MethodName)) ∈ lw_all := lw_g (lw_at lw_m9 24 rfl) rfl
theorem q2079 : (Jvm.Cond.methodLink "UnimodularTablesLaw" (80 : Nat) ({ cls := "UnimodularTablesModel", name := "squares", desc := "(II)I" } : Jvm.MethodName)) ∈ lw_all := lw_g (lw_at lw_m9 42 rfl) rfl
theorem q2089 : (Jvm.Cond.methodLink "UnimodularTablesLaw" (84 : Nat) ({ cls := "UnimodularTablesModel", name := "total", desc := "()I" } : Jvm.MethodName)) ∈ lw_all := lw_g (lw_at lw_m9 52 rfl) rfl
theorem q2097 : (Jvm.Cond.methodLink "UnimodularTablesLaw" (88 : Nat) ({ cls := "UnimodularTablesModel", name := "witness", desc := "(I)I" } : Jvm.MethodName)) ∈ lw_all := lw_g (lw_at lw_m9 60 rfl) rfl
theorem q2102 : (Jvm.Cond.methodLink "UnimodularTablesLaw" (92 : Nat) ({ cls := "UnimodularTablesModel", name := "halves", desc := "(I)I" } : Jvm.MethodName)) ∈ lw_all := lw_g (lw_at lw_m9 65 rfl) rfl
theorem q2114 : (Jvm.Cond.methodLink "UnimodularTablesLaw" (96 : Nat) ({ cls := "UnimodularTablesModel", name := "unhalved", desc := "()I" } : Jvm.MethodName)) ∈ lw_all := lw_g (lw_at lw_m9 77 rfl) rfl
theorem q2118 : (Jvm.Cond.methodLink "UnimodularTablesLaw" (100 : Nat) ({ cls := "UnimodularTablesModel", name := "network", desc := "(I)I" } : Jvm.MethodName)) ∈ lw_all := lw_g (lw_at lw_m9 81 rfl) rfl
theorem q2158 : (Jvm.Cond.methodLink "UnimodularTablesLaw" (104 : Nat) ({ cls := "UnimodularTablesModel", name := "arc", desc := "(III)I" } : Jvm.MethodName)) ∈ lw_all := lw_g (lw_at lw_m9 121 rfl) rfl
theorem q2162 : (Jvm.Cond.methodLink "UnimodularTablesLaw" (108 : Nat) ({ cls := "UnimodularTablesModel", name := "way", desc := "(III)I" } : Jvm.MethodName)) ∈ lw_all := lw_g (lw_at lw_m9 125 rfl) rfl
theorem q2166 : (Jvm.Cond.methodLink "UnimodularTablesLaw" (112 : Nat) ({ cls := "UnimodularTablesModel", name := "signed", desc := "(II)I" } : Jvm.MethodName)) ∈ lw_all := lw_g (lw_at lw_m9 129 rfl) rfl
theorem q2190 : (Jvm.Cond.methodLink "UnimodularTablesLaw" (116 : Nat) ({ cls := "UnimodularTablesModel", name := "regular", desc := "()I" } : Jvm.MethodName)) ∈ lw_all := lw_g (lw_at lw_m9 153 rfl) rfl
theorem q2194 : (Jvm.Cond.methodLink "UnimodularTablesLaw" (120 : Nat) ({ cls := "UnimodularTablesModel", name := "scaled", desc := "(I)I" } : Jvm.MethodName)) ∈ lw_all := lw_g (lw_at lw_m9 157 rfl) rfl
theorem q2202 : (Jvm.Cond.methodLink "UnimodularTablesLaw" (124 : Nat) ({ cls := "UnimodularTablesModel", name := "special", desc := "()I" } : Jvm.MethodName)) ∈ lw_all := lw_g (lw_at lw_m9 165 rfl) rfl
theorem q2220 : (Jvm.Cond.methodLink "UnimodularTablesLaw" (128 : Nat) ({ cls := "UnimodularTablesModel", name := "block", desc := "(II)I" } : Jvm.MethodName)) ∈ lw_all := lw_g (lw_at lw_m9 183 rfl) rfl
theorem q2233 : (Jvm.Cond.methodLink "UnimodularTablesLaw" (132 : Nat) ({ cls := "UnimodularTablesModel", name := "rank", desc := "(I)I" } : Jvm.MethodName)) ∈ lw_all := lw_g (lw_at lw_m9 196 rfl) rfl
theorem q2237 : (Jvm.Cond.methodLink "UnimodularTablesLaw" (136 : Nat) ({ cls := "UnimodularTablesModel", name := "bases", desc := "()I" } : Jvm.MethodName)) ∈ lw_all := lw_g (lw_at lw_m9 200 rfl) rfl
theorem q2241 : (Jvm.Cond.methodLink "UnimodularTablesLaw" (140 : Nat) ({ cls := "UnimodularTablesModel", name := "mends", desc := "()I" } : Jvm.MethodName)) ∈ lw_all := lw_g (lw_at lw_m9 204 rfl) rfl
theorem q2249 : (Jvm.Cond.methodLink "UnimodularTablesLaw" (144 : Nat) ({ cls := "UnimodularTablesModel", name := "fragile", desc := "()I" } : Jvm.MethodName)) ∈ lw_all := lw_g (lw_at lw_m9 212 rfl) rfl
theorem q2253 : (Jvm.Cond.methodLink "UnimodularTablesLaw" (148 : Nat) ({ cls := "UnimodularTablesModel", name := "fills", desc := "(II)I" } : Jvm.MethodName)) ∈ lw_all := lw_g (lw_at lw_m9 216 rfl) rfl
theorem q2257 : (Jvm.Cond.methodLink "UnimodularTablesLaw" (152 : Nat) ({ cls := "UnimodularTablesModel", name := "pack", desc := "(I)I" } : Jvm.MethodName)) ∈ lw_all := lw_g (lw_at lw_m9 220 rfl) rfl
theorem q2273 : (Jvm.Cond.methodLink "UnimodularTablesLaw" (156 : Nat) ({ cls := "UnimodularTablesModel", name := "adjoint", desc := "(II)I" } : Jvm.MethodName)) ∈ lw_all := lw_g (lw_at lw_m9 236 rfl) rfl
theorem q2277 : (Jvm.Cond.methodLink "UnimodularTablesLaw" (160 : Nat) ({ cls := "UnimodularTablesModel", name := "cycle", desc := "()I" } : Jvm.MethodName)) ∈ lw_all := lw_g (lw_at lw_m10 0 rfl) rfl
theorem q2281 : (Jvm.Cond.methodLink "UnimodularTablesLaw" (164 : Nat) ({ cls := "UnimodularTablesModel", name := "step", desc := "(III)I" } : Jvm.MethodName)) ∈ lw_all := lw_g (lw_at lw_m10 4 rfl) rfl
theorem q2289 : (Jvm.Cond.methodLink "UnimodularTablesLaw" (168 : Nat) ({ cls := "UnimodularTablesModel", name := "run", desc := "(II)I" } : Jvm.MethodName)) ∈ lw_all := lw_g (lw_at lw_m10 12 rfl) rfl
theorem q2301 : (Jvm.Cond.methodLink "UnimodularTablesLaw" (172 : Nat) ({ cls := "UnimodularTablesModel", name := "perform", desc := "(I)I" } : Jvm.MethodName)) ∈ lw_all := lw_g (lw_at lw_m10 24 rfl) rfl
theorem q2305 : (Jvm.Cond.methodLink "UnimodularTablesLaw" (179 : Nat) ({ cls := "UnimodularTablesModel", name := "draws", desc := "(IJ)I" } : Jvm.MethodName)) ∈ lw_all := lw_g (lw_at lw_m10 28 rfl) rfl
theorem q2316 : (Jvm.Cond.methodLink "UnimodularTablesLaw" (183 : Nat) ({ cls := "UnimodularTablesModel", name := "status", desc := "(I)I" } : Jvm.MethodName)) ∈ lw_all := lw_g (lw_at lw_m10 39 rfl) rfl
theorem q2320 : (Jvm.Cond.methodLink "UnimodularTablesLaw" (187 : Nat) ({ cls := "UnimodularTablesModel", name := "image", desc := "()I" } : Jvm.MethodName)) ∈ lw_all := lw_g (lw_at lw_m10 43 rfl) rfl
theorem q2324 : (Jvm.Cond.methodLink "UnimodularTablesLaw" (191 : Nat) ({ cls := "UnimodularTablesModel", name := "back", desc := "()I" } : Jvm.MethodName)) ∈ lw_all := lw_g (lw_at lw_m10 47 rfl) rfl
theorem q2328 : (Jvm.Cond.methodLink "UnimodularTablesLaw" (195 : Nat) ({ cls := "UnimodularTablesModel", name := "count", desc := "(I)I" } : Jvm.MethodName)) ∈ lw_all := lw_g (lw_at lw_m10 51 rfl) rfl
theorem q2332 : (Jvm.Cond.constantLong "UnimodularTablesLaw" (173 : Nat) (4294967295 : Int64)) ∈ lw_all := lw_g (lw_at lw_m10 55 rfl) rfl
/-! UnimodularTables$Fault -/
set_option maxRecDepth 100000
def RX2 : String := "UnimodularTables$Fault"
def TX2 : u_T := fun k => match k with
  | 0 => ("java/lang/Throwable", "cause", "Ljava/lang/Throwable;", false)
  | 1 => ("java/lang/Throwable", "stackTrace", "[Ljava/lang/StackTraceElement;", false)
  | 2 => ("java/lang/Throwable", "suppressedExceptions", "Ljava/util/List;", false)
  | 3 => ("java/lang/Throwable", "detailMessage", "Ljava/lang/String;", false)
  | 4 => ("java/lang/Throwable", "backtrace", "Ljava/lang/Object;", false)
  | _ => ("java/lang/Throwable", "depth", "I", false)
def tyX2 : Nat → FieldType := fun k => match k with
  | 0 => .object "java/lang/Throwable"
  | 1 => .array (.object "java/lang/StackTraceElement")
  | 2 => .object "java/util/List"
  | 3 => .object "java/lang/String"
  | 4 => .object "java/lang/Object"
  | _ => .int
abbrev wsX20 : List Cond := u_ws RX2 TX2 6
theorem nmX2 : ∀ a, a < 6 → ∀ b, b < 6 → a ≠ b → (TX2 a).2.1 ≠ (TX2 b).2.1 := by decide +kernel
theorem tyX2_ok : ∀ k, k < 6 → parseFieldDescriptor (TX2 k).2.2.1 = some (tyX2 k) := by decide +kernel
abbrev cX2_init : ByteArray := prog_4_method_1_code
def yX2_init : MethodName := ⟨RX2, "<init>", "()V"⟩
theorem dX2_init_0 : decode cX2_init 0 = .ok (.aload_n 0, 1) := by decide +kernel
theorem dX2_init_1 : decode cX2_init 1 = .ok (.invokespecial 1, 3) := by decide +kernel
theorem dX2_init_4 : decode cX2_init 4 = .ok (.return_, 1) := by decide +kernel
theorem q121 : (Jvm.Cond.initialized "UnimodularTables$Fault") ∈ lw_all := lw_g (lw_at lw_m1 4 rfl) rfl
theorem q164 : (Jvm.Cond.instantiable "UnimodularTables$Fault" (6 : Nat)) ∈ lw_all := lw_g (lw_at lw_m1 47 rfl) rfl
theorem q165 : (Jvm.Cond.castable "UnimodularTables$Fault" "UnimodularTables$Fault") ∈ lw_tbl := lw_at lw_m1 48 rfl
theorem q170 : (Jvm.Cond.selects "UnimodularTables$Fault" ({ cls := "java/lang/Throwable", name := "fillInStackTrace", desc := "(I)Ljava/lang/Throwable;" } : Jvm.MethodName) ({ cls := "java/lang/Throwable", name := "fillInStackTrace", desc := "(I)Ljava/lang/Throwable;" } : Jvm.MethodName)) ∈ lw_all := lw_g (lw_at lw_m1 53 rfl) rfl
theorem q171 : (Jvm.Cond.selects "UnimodularTables$Fault" ({ cls := "java/lang/Throwable", name := "fillInStackTrace", desc := "()Ljava/lang/Throwable;" } : Jvm.MethodName) ({ cls := "java/lang/Throwable", name := "fillInStackTrace", desc := "()Ljava/lang/Throwable;" } : Jvm.MethodName)) ∈ lw_all := lw_g (lw_at lw_m1 54 rfl) rfl
theorem q172 : (Jvm.Cond.lays "UnimodularTables$Fault" "java/lang/Throwable" "cause" "Ljava/lang/Throwable;") ∈ lw_all := lw_g (lw_at lw_m1 55 rfl) rfl
theorem q174 : (Jvm.Cond.lays "UnimodularTables$Fault" "java/lang/Throwable" "stackTrace" "[Ljava/lang/StackTraceElement;") ∈ lw_all := lw_g (lw_at lw_m1 57 rfl) rfl
theorem q176 : (Jvm.Cond.lays "UnimodularTables$Fault" "java/lang/Throwable" "suppressedExceptions" "Ljava/util/List;") ∈ lw_all := lw_g (lw_at lw_m1 59 rfl) rfl
theorem q178 : (Jvm.Cond.lays "UnimodularTables$Fault" "java/lang/Throwable" "detailMessage" "Ljava/lang/String;") ∈ lw_all := lw_g (lw_at lw_m1 61 rfl) rfl
theorem q180 : (Jvm.Cond.lays "UnimodularTables$Fault" "java/lang/Throwable" "backtrace" "Ljava/lang/Object;") ∈ lw_all := lw_g (lw_at lw_m1 63 rfl) rfl
theorem q204 : (Jvm.Cond.instanceMethod ({ cls := "UnimodularTables$Fault", name := "<init>", desc := "()V" } : Jvm.MethodName)) ∈ lw_all := lw_g (lw_at lw_m1 87 rfl) rfl
theorem q205 : (Jvm.Cond.code ({ cls := "UnimodularTables$Fault", name := "<init>", desc := "()V" } : Jvm.MethodName) prog_4_method_1_code (1 : Nat) (Option.none : Option Jvm.ClassFile.FieldType)) ∈ lw_all := lw_g (lw_at lw_m1 88 rfl) rfl
theorem q206 : (Jvm.Cond.methodLink "UnimodularTables$Fault" (1 : Nat) ({ cls := "java/lang/Exception", name := "<init>", desc := "()V" } : Jvm.MethodName)) ∈ lw_all := lw_g (lw_at lw_m1 89 rfl) rfl
theorem q219 : (Jvm.Cond.lays "UnimodularTables$Fault" "java/lang/Throwable" "depth" "I") ∈ lw_all := lw_g (lw_at lw_m1 102 rfl) rfl
theorem q222 : (Jvm.Cond.superclass "UnimodularTables$Fault" "java/lang/Exception") ∈ lw_all := lw_g (lw_at lw_m1 105 rfl) rfl
theorem q1163 : (Jvm.Cond.selects "UnimodularTables$Fault" ({ cls := "java/lang/Throwable", name := "toString", desc := "()Ljava/lang/String;" } : Jvm.MethodName) ({ cls := "java/lang/Throwable", name := "toString", desc := "()Ljava/lang/String;" } : Jvm.MethodName)) ∈ lw_all := lw_g (lw_at lw_m5 86 rfl) rfl
theorem q1172 : (Jvm.Cond.selects "UnimodularTables$Fault" ({ cls := "java/lang/Object", name := "getClass", desc := "()Ljava/lang/Class;" } : Jvm.MethodName) ({ cls := "java/lang/Object", name := "getClass", desc := "()Ljava/lang/Class;" } : Jvm.MethodName)) ∈ lw_all := lw_g (lw_at lw_m5 95 rfl) rfl
theorem q1192 : (Jvm.Cond.selects "UnimodularTables$Fault" ({ cls := "java/lang/Throwable", name := "getLocalizedMessage", desc := "()Ljava/lang/String;" } : Jvm.MethodName) ({ cls := "java/lang/Throwable", name := "getLocalizedMessage", desc := "()Ljava/lang/String;" } : Jvm.MethodName)) ∈ lw_all := lw_g (lw_at lw_m5 115 rfl) rfl
theorem q1200 : (Jvm.Cond.selects "UnimodularTables$Fault" ({ cls := "java/lang/Throwable", name := "getMessage", desc := "()Ljava/lang/String;" } : Jvm.MethodName) ({ cls := "java/lang/Throwable", name := "getMessage", desc := "()Ljava/lang/String;" } : Jvm.MethodName)) ∈ lw_all := lw_g (lw_at lw_m5 123 rfl) rfl
theorem q2348 : (Jvm.Cond.castable "UnimodularTables$Fault" "java/lang/Object") ∈ lw_tbl := lw_at lw_m10 71 rfl
theorem in_X2 : ∀ w ∈ wsX20, w ∈ lw_all := lw_in wsX20 [172, 174, 176, 178, 180, 219] (by decide +kernel) (by decide +kernel)
/-! UnimodularTables$Growth -/
set_option maxRecDepth 100000
def RX3 : String := "UnimodularTables$Growth"
def TX3 : u_T := fun k => match k with
  | 0 => ("UnimodularTables$Growth", "from", "[I", true)
  | 1 => ("UnimodularTables$Growth", "to", "[I", true)
  | 2 => ("UnimodularTables$Growth", "ends", "[Ljava/util/BitSet;", true)
  | 3 => ("UnimodularTables$Growth", "isLaid", "Z", false)
  | 4 => ("UnimodularTables$Growth", "isThere", "Z", false)
  | 5 => ("UnimodularTables$Growth", "of", "LUnimodularTables$Table;", false)
  | 6 => ("UnimodularTables$Growth", "nodes", "I", false)
  | _ => ("UnimodularTables$Growth", "this$0", "LUnimodularTables;", true)
def tyX3 : Nat → FieldType := fun k => match k with
  | 0 => .array .int
  | 1 => .array .int
  | 2 => .array (.object "java/util/BitSet")
  | 3 => .boolean
  | 4 => .boolean
  | 5 => .object "UnimodularTables$Table"
  | 6 => .int
  | _ => .object "UnimodularTables"
abbrev wsX30 : List Cond := u_ws RX3 TX3 8
theorem nmX3 : ∀ a, a < 8 → ∀ b, b < 8 → a ≠ b → (TX3 a).2.1 ≠ (TX3 b).2.1 := by decide +kernel
theorem tyX3_ok : ∀ k, k < 8 → parseFieldDescriptor (TX3 k).2.2.1 = some (tyX3 k) := by decide +kernel
abbrev cX3_init : ByteArray := prog_5_method_1_code
def yX3_init : MethodName := ⟨RX3, "<init>", "(LUnimodularTables;)V"⟩
def dkwX3_init_2 : List UInt8 := [28, 187, 0, 22, 89, 16, 6, 183, 0, 28, 83, 132, 2, 1, 167, 255, 232, 177]
abbrev dktX3_init_2 : List UInt8 := dkwX3_init_2 ++ []
def dkwX3_init_1 : List UInt8 := [181, 0, 19, 42, 16, 7, 189, 0, 22, 181, 0, 24, 3, 61, 28, 16, 6, 163, 0, 24, 42, 180, 0, 24]
abbrev dktX3_init_1 : List UInt8 := dkwX3_init_1 ++ dktX3_init_2
def dkwX3_init_0 : List UInt8 := [42, 43, 181, 0, 3, 42, 183, 0, 9, 42, 16, 6, 188, 10, 181, 0, 15, 42, 16, 6, 188, 10]
abbrev dktX3_init_0 : List UInt8 := dkwX3_init_0 ++ dktX3_init_1
theorem dksX3_init_0 : cX3_init.data.toList.drop 0 = dktX3_init_0 := by decide +kernel
theorem dksX3_init_1 : cX3_init.data.toList.drop 22 = dktX3_init_1 := dk_seg dksX3_init_0 22 rfl rfl
theorem dksX3_init_2 : cX3_init.data.toList.drop 46 = dktX3_init_2 := dk_seg dksX3_init_1 24 rfl rfl
theorem dX3_init_0 : decode cX3_init 0 = .ok (.aload_n 0, 1) := dk_42 (dk_at dksX3_init_0 0 rfl rfl)
theorem dX3_init_1 : decode cX3_init 1 = .ok (.aload_n 1, 1) := dk_43 (dk_at dksX3_init_0 1 rfl rfl)
theorem dX3_init_2 : decode cX3_init 2 = .ok (.putfield 3, 3) := dk_181 0 3 (dk_at dksX3_init_0 2 rfl rfl)
theorem dX3_init_5 : decode cX3_init 5 = .ok (.aload_n 0, 1) := dk_42 (dk_at dksX3_init_0 5 rfl rfl)
theorem dX3_init_6 : decode cX3_init 6 = .ok (.invokespecial 9, 3) := dk_183 0 9 (dk_at dksX3_init_0 6 rfl rfl)
theorem dX3_init_9 : decode cX3_init 9 = .ok (.aload_n 0, 1) := dk_42 (dk_at dksX3_init_0 9 rfl rfl)
theorem dX3_init_10 : decode cX3_init 10 = .ok (.bipush 6, 2) := dk_16 6 (dk_at dksX3_init_0 10 rfl rfl)
theorem dX3_init_12 : decode cX3_init 12 = .ok (.newarray .int, 2) := dk_188_10 (dk_at dksX3_init_0 12 rfl rfl)
theorem dX3_init_14 : decode cX3_init 14 = .ok (.putfield 15, 3) := dk_181 0 15 (dk_at dksX3_init_0 14 rfl rfl)
theorem dX3_init_17 : decode cX3_init 17 = .ok (.aload_n 0, 1) := dk_42 (dk_at dksX3_init_0 17 rfl rfl)
theorem dX3_init_18 : decode cX3_init 18 = .ok (.bipush 6, 2) := dk_16 6 (dk_at dksX3_init_0 18 rfl rfl)
theorem dX3_init_20 : decode cX3_init 20 = .ok (.newarray .int, 2) := dk_188_10 (dk_at dksX3_init_0 20 rfl rfl)
theorem dX3_init_22 : decode cX3_init 22 = .ok (.putfield 19, 3) := dk_181 0 19 (dk_at dksX3_init_1 0 rfl rfl)
theorem dX3_init_25 : decode cX3_init 25 = .ok (.aload_n 0, 1) := dk_42 (dk_at dksX3_init_1 3 rfl rfl)
theorem dX3_init_26 : decode cX3_init 26 = .ok (.bipush 7, 2) := dk_16 7 (dk_at dksX3_init_1 4 rfl rfl)
theorem dX3_init_28 : decode cX3_init 28 = .ok (.anewarray 22, 3) := dk_189 0 22 (dk_at dksX3_init_1 6 rfl rfl)
theorem dX3_init_31 : decode cX3_init 31 = .ok (.putfield 24, 3) := dk_181 0 24 (dk_at dksX3_init_1 9 rfl rfl)
theorem dX3_init_34 : decode cX3_init 34 = .ok (.iconst 0, 1) := dk_3 (dk_at dksX3_init_1 12 rfl rfl)
theorem dX3_init_35 : decode cX3_init 35 = .ok (.istore_n 2, 1) := dk_61 (dk_at dksX3_init_1 13 rfl rfl)
theorem dX3_init_36 : decode cX3_init 36 = .ok (.iload_n 2, 1) := dk_28 (dk_at dksX3_init_1 14 rfl rfl)
theorem dX3_init_37 : decode cX3_init 37 = .ok (.bipush 6, 2) := dk_16 6 (dk_at dksX3_init_1 15 rfl rfl)
theorem dX3_init_39 : decode cX3_init 39 = .ok (.if_icmp .gt 24, 3) := dk_163 0 24 (dk_at dksX3_init_1 17 rfl rfl)
theorem dX3_init_42 : decode cX3_init 42 = .ok (.aload_n 0, 1) := dk_42 (dk_at dksX3_init_1 20 rfl rfl)
theorem dX3_init_43 : decode cX3_init 43 = .ok (.getfield 24, 3) := dk_180 0 24 (dk_at dksX3_init_1 21 rfl rfl)
theorem dX3_init_46 : decode cX3_init 46 = .ok (.iload_n 2, 1) := dk_28 (dk_at dksX3_init_2 0 rfl rfl)
theorem dX3_init_47 : decode cX3_init 47 = .ok (.new 22, 3) := dk_187 0 22 (dk_at dksX3_init_2 1 rfl rfl)
theorem dX3_init_50 : decode cX3_init 50 = .ok (.dup, 1) := dk_89 (dk_at dksX3_init_2 4 rfl rfl)
theorem dX3_init_51 : decode cX3_init 51 = .ok (.bipush 6, 2) := dk_16 6 (dk_at dksX3_init_2 5 rfl rfl)
theorem dX3_init_53 : decode cX3_init 53 = .ok (.invokespecial 28, 3) := dk_183 0 28 (dk_at dksX3_init_2 7 rfl rfl)
theorem dX3_init_56 : decode cX3_init 56 = .ok (.aastore, 1) := dk_83 (dk_at dksX3_init_2 10 rfl rfl)
theorem dX3_init_57 : decode cX3_init 57 = .ok (.iinc 2 1, 3) := dk_132 2 1 (dk_at dksX3_init_2 11 rfl rfl)
theorem dX3_init_60 : decode cX3_init 60 = .ok (.goto (-24), 3) := dk_167 255 232 (dk_at dksX3_init_2 14 rfl rfl)
theorem dX3_init_63 : decode cX3_init 63 = .ok (.return_, 1) := dk_177 (dk_at dksX3_init_2 17 rfl rfl)
abbrev cX3_lays : ByteArray := prog_5_method_2_code
def yX3_lays : MethodName := ⟨RX3, "lays", "(LUnimodularTables$Table;)Z"⟩
def dkwX3_lays_3 : List UInt8 := [153, 0, 15, 42, 3, 182, 0, 53, 153, 0, 7, 4, 167, 0, 4, 3, 181, 0, 35, 42, 180, 0, 35, 172]
abbrev dktX3_lays_3 : List UInt8 := dkwX3_lays_3 ++ []
def dkwX3_lays_2 : List UInt8 := [58, 5, 25, 5, 182, 0, 46, 132, 4, 1, 167, 255, 236, 42, 42, 180, 0, 3, 43, 182, 0, 49]
abbrev dktX3_lays_2 : List UInt8 := dkwX3_lays_2 ++ dktX3_lays_3
def dkwX3_lays_1 : List UInt8 := [181, 0, 42, 42, 180, 0, 24, 77, 44, 190, 62, 3, 54, 4, 21, 4, 29, 162, 0, 20, 44, 21, 4, 50]
abbrev dktX3_lays_1 : List UInt8 := dkwX3_lays_1 ++ dktX3_lays_2
def dkwX3_lays_0 : List UInt8 := [42, 180, 0, 31, 153, 0, 8, 42, 180, 0, 35, 172, 42, 4, 181, 0, 31, 42, 43, 181, 0, 38, 42, 4]
abbrev dktX3_lays_0 : List UInt8 := dkwX3_lays_0 ++ dktX3_lays_1
theorem dksX3_lays_0 : cX3_lays.data.toList.drop 0 = dktX3_lays_0 := by decide +kernel
theorem dksX3_lays_1 : cX3_lays.data.toList.drop 24 = dktX3_lays_1 := dk_seg dksX3_lays_0 24 rfl rfl
theorem dksX3_lays_2 : cX3_lays.data.toList.drop 48 = dktX3_lays_2 := dk_seg dksX3_lays_1 24 rfl rfl
theorem dksX3_lays_3 : cX3_lays.data.toList.drop 70 = dktX3_lays_3 := dk_seg dksX3_lays_2 22 rfl rfl
theorem dX3_lays_0 : decode cX3_lays 0 = .ok (.aload_n 0, 1) := dk_42 (dk_at dksX3_lays_0 0 rfl rfl)
theorem dX3_lays_1 : decode cX3_lays 1 = .ok (.getfield 31, 3) := dk_180 0 31 (dk_at dksX3_lays_0 1 rfl rfl)
theorem dX3_lays_4 : decode cX3_lays 4 = .ok (.ifCond .eq 8, 3) := dk_153 0 8 (dk_at dksX3_lays_0 4 rfl rfl)
theorem dX3_lays_7 : decode cX3_lays 7 = .ok (.aload_n 0, 1) := dk_42 (dk_at dksX3_lays_0 7 rfl rfl)
theorem dX3_lays_8 : decode cX3_lays 8 = .ok (.getfield 35, 3) := dk_180 0 35 (dk_at dksX3_lays_0 8 rfl rfl)
theorem dX3_lays_11 : decode cX3_lays 11 = .ok (.ireturn, 1) := dk_172 (dk_at dksX3_lays_0 11 rfl rfl)
theorem dX3_lays_12 : decode cX3_lays 12 = .ok (.aload_n 0, 1) := dk_42 (dk_at dksX3_lays_0 12 rfl rfl)
theorem dX3_lays_13 : decode cX3_lays 13 = .ok (.iconst 1, 1) := dk_4 (dk_at dksX3_lays_0 13 rfl rfl)
theorem dX3_lays_14 : decode cX3_lays 14 = .ok (.putfield 31, 3) := dk_181 0 31 (dk_at dksX3_lays_0 14 rfl rfl)
theorem dX3_lays_17 : decode cX3_lays 17 = .ok (.aload_n 0, 1) := dk_42 (dk_at dksX3_lays_0 17 rfl rfl)
theorem dX3_lays_18 : decode cX3_lays 18 = .ok (.aload_n 1, 1) := dk_43 (dk_at dksX3_lays_0 18 rfl rfl)
theorem dX3_lays_19 : decode cX3_lays 19 = .ok (.putfield 38, 3) := dk_181 0 38 (dk_at dksX3_lays_0 19 rfl rfl)
theorem dX3_lays_22 : decode cX3_lays 22 = .ok (.aload_n 0, 1) := dk_42 (dk_at dksX3_lays_0 22 rfl rfl)
theorem dX3_lays_23 : decode cX3_lays 23 = .ok (.iconst 1, 1) := dk_4 (dk_at dksX3_lays_0 23 rfl rfl)
theorem dX3_lays_24 : decode cX3_lays 24 = .ok (.putfield 42, 3) := dk_181 0 42 (dk_at dksX3_lays_1 0 rfl rfl)
theorem dX3_lays_27 : decode cX3_lays 27 = .ok (.aload_n 0, 1) := dk_42 (dk_at dksX3_lays_1 3 rfl rfl)
theorem dX3_lays_28 : decode cX3_lays 28 = .ok (.getfield 24, 3) := dk_180 0 24 (dk_at dksX3_lays_1 4 rfl rfl)
theorem dX3_lays_31 : decode cX3_lays 31 = .ok (.astore_n 2, 1) := dk_77 (dk_at dksX3_lays_1 7 rfl rfl)
theorem dX3_lays_32 : decode cX3_lays 32 = .ok (.aload_n 2, 1) := dk_44 (dk_at dksX3_lays_1 8 rfl rfl)
theorem dX3_lays_33 : decode cX3_lays 33 = .ok (.arraylength, 1) := dk_190 (dk_at dksX3_lays_1 9 rfl rfl)
theorem dX3_lays_34 : decode cX3_lays 34 = .ok (.istore_n 3, 1) := dk_62 (dk_at dksX3_lays_1 10 rfl rfl)
theorem dX3_lays_35 : decode cX3_lays 35 = .ok (.iconst 0, 1) := dk_3 (dk_at dksX3_lays_1 11 rfl rfl)
theorem dX3_lays_36 : decode cX3_lays 36 = .ok (.istore 4, 2) := dk_54 4 (dk_at dksX3_lays_1 12 rfl rfl)
theorem dX3_lays_38 : decode cX3_lays 38 = .ok (.iload 4, 2) := dk_21 4 (dk_at dksX3_lays_1 14 rfl rfl)
theorem dX3_lays_40 : decode cX3_lays 40 = .ok (.iload_n 3, 1) := dk_29 (dk_at dksX3_lays_1 16 rfl rfl)
theorem dX3_lays_41 : decode cX3_lays 41 = .ok (.if_icmp .ge 20, 3) := dk_162 0 20 (dk_at dksX3_lays_1 17 rfl rfl)
theorem dX3_lays_44 : decode cX3_lays 44 = .ok (.aload_n 2, 1) := dk_44 (dk_at dksX3_lays_1 20 rfl rfl)
theorem dX3_lays_45 : decode cX3_lays 45 = .ok (.iload 4, 2) := dk_21 4 (dk_at dksX3_lays_1 21 rfl rfl)
theorem dX3_lays_47 : decode cX3_lays 47 = .ok (.aaload, 1) := dk_50 (dk_at dksX3_lays_1 23 rfl rfl)
theorem dX3_lays_48 : decode cX3_lays 48 = .ok (.astore 5, 2) := dk_58 5 (dk_at dksX3_lays_2 0 rfl rfl)
theorem dX3_lays_50 : decode cX3_lays 50 = .ok (.aload 5, 2) := dk_25 5 (dk_at dksX3_lays_2 2 rfl rfl)
theorem dX3_lays_52 : decode cX3_lays 52 = .ok (.invokevirtual 46, 3) := dk_182 0 46 (dk_at dksX3_lays_2 4 rfl rfl)
theorem dX3_lays_55 : decode cX3_lays 55 = .ok (.iinc 4 1, 3) := dk_132 4 1 (dk_at dksX3_lays_2 7 rfl rfl)
theorem dX3_lays_58 : decode cX3_lays 58 = .ok (.goto (-20), 3) := dk_167 255 236 (dk_at dksX3_lays_2 10 rfl rfl)
theorem dX3_lays_61 : decode cX3_lays 61 = .ok (.aload_n 0, 1) := dk_42 (dk_at dksX3_lays_2 13 rfl rfl)
theorem dX3_lays_62 : decode cX3_lays 62 = .ok (.aload_n 0, 1) := dk_42 (dk_at dksX3_lays_2 14 rfl rfl)
theorem dX3_lays_63 : decode cX3_lays 63 = .ok (.getfield 3, 3) := dk_180 0 3 (dk_at dksX3_lays_2 15 rfl rfl)
theorem dX3_lays_66 : decode cX3_lays 66 = .ok (.aload_n 1, 1) := dk_43 (dk_at dksX3_lays_2 18 rfl rfl)
theorem dX3_lays_67 : decode cX3_lays 67 = .ok (.invokevirtual 49, 3) := dk_182 0 49 (dk_at dksX3_lays_2 19 rfl rfl)
theorem dX3_lays_70 : decode cX3_lays 70 = .ok (.ifCond .eq 15, 3) := dk_153 0 15 (dk_at dksX3_lays_3 0 rfl rfl)
theorem dX3_lays_73 : decode cX3_lays 73 = .ok (.aload_n 0, 1) := dk_42 (dk_at dksX3_lays_3 3 rfl rfl)
theorem dX3_lays_74 : decode cX3_lays 74 = .ok (.iconst 0, 1) := dk_3 (dk_at dksX3_lays_3 4 rfl rfl)
theorem dX3_lays_75 : decode cX3_lays 75 = .ok (.invokevirtual 53, 3) := dk_182 0 53 (dk_at dksX3_lays_3 5 rfl rfl)
theorem dX3_lays_78 : decode cX3_lays 78 = .ok (.ifCond .eq 7, 3) := dk_153 0 7 (dk_at dksX3_lays_3 8 rfl rfl)
theorem dX3_lays_81 : decode cX3_lays 81 = .ok (.iconst 1, 1) := dk_4 (dk_at dksX3_lays_3 11 rfl rfl)
theorem dX3_lays_82 : decode cX3_lays 82 = .ok (.goto 4, 3) := dk_167 0 4 (dk_at dksX3_lays_3 12 rfl rfl)
theorem dX3_lays_85 : decode cX3_lays 85 = .ok (.iconst 0, 1) := dk_3 (dk_at dksX3_lays_3 15 rfl rfl)
theorem dX3_lays_86 : decode cX3_lays 86 = .ok (.putfield 35, 3) := dk_181 0 35 (dk_at dksX3_lays_3 16 rfl rfl)
theorem dX3_lays_89 : decode cX3_lays 89 = .ok (.aload_n 0, 1) := dk_42 (dk_at dksX3_lays_3 19 rfl rfl)
theorem dX3_lays_90 : decode cX3_lays 90 = .ok (.getfield 35, 3) := dk_180 0 35 (dk_at dksX3_lays_3 20 rfl rfl)
theorem dX3_lays_93 : decode cX3_lays 93 = .ok (.ireturn, 1) := dk_172 (dk_at dksX3_lays_3 23 rfl rfl)
abbrev cX3_grows : ByteArray := prog_5_method_7_code
def yX3_grows : MethodName := ⟨RX3, "grows", "(I)Z"⟩
def dkwX3_grows_5 : List UInt8 := [172]
abbrev dktX3_grows_5 : List UInt8 := dkwX3_grows_5 ++ []
def dkwX3_grows_4 : List UInt8 := [21, 4, 182, 0, 89, 132, 5, 1, 167, 255, 207, 132, 4, 1, 167, 255, 180, 132, 2, 1, 167, 255, 157, 3]
abbrev dktX3_grows_4 : List UInt8 := dkwX3_grows_4 ++ dktX3_grows_5
def dkwX3_grows_3 : List UInt8 := [4, 96, 182, 0, 86, 153, 0, 15, 42, 27, 4, 96, 182, 0, 53, 153, 0, 5, 4, 172, 42, 27, 28]
abbrev dktX3_grows_3 : List UInt8 := dkwX3_grows_3 ++ dktX3_grows_4
def dkwX3_grows_2 : List UInt8 := [167, 0, 58, 3, 54, 5, 21, 5, 5, 162, 0, 49, 42, 27, 28, 21, 4, 21, 5, 182, 0, 82, 42, 27]
abbrev dktX3_grows_2 : List UInt8 := dkwX3_grows_2 ++ dktX3_grows_3
def dkwX3_grows_1 : List UInt8 := [28, 182, 0, 79, 62, 3, 54, 4, 21, 4, 29, 163, 0, 76, 21, 4, 29, 2, 130, 126, 153, 0, 6]
abbrev dktX3_grows_1 : List UInt8 := dkwX3_grows_1 ++ dktX3_grows_2
def dkwX3_grows_0 : List UInt8 := [27, 42, 180, 0, 38, 180, 0, 61, 160, 0, 5, 4, 172, 3, 61, 28, 42, 180, 0, 42, 162, 0, 97, 42]
abbrev dktX3_grows_0 : List UInt8 := dkwX3_grows_0 ++ dktX3_grows_1
theorem dksX3_grows_0 : cX3_grows.data.toList.drop 0 = dktX3_grows_0 := by decide +kernel
theorem dksX3_grows_1 : cX3_grows.data.toList.drop 24 = dktX3_grows_1 := dk_seg dksX3_grows_0 24 rfl rfl
theorem dksX3_grows_2 : cX3_grows.data.toList.drop 47 = dktX3_grows_2 := dk_seg dksX3_grows_1 23 rfl rfl
theorem dksX3_grows_3 : cX3_grows.data.toList.drop 71 = dktX3_grows_3 := dk_seg dksX3_grows_2 24 rfl rfl
theorem dksX3_grows_4 : cX3_grows.data.toList.drop 94 = dktX3_grows_4 := dk_seg dksX3_grows_3 23 rfl rfl
theorem dksX3_grows_5 : cX3_grows.data.toList.drop 118 = dktX3_grows_5 := dk_seg dksX3_grows_4 24 rfl rfl
theorem dX3_grows_0 : decode cX3_grows 0 = .ok (.iload_n 1, 1) := dk_27 (dk_at dksX3_grows_0 0 rfl rfl)
theorem dX3_grows_1 : decode cX3_grows 1 = .ok (.aload_n 0, 1) := dk_42 (dk_at dksX3_grows_0 1 rfl rfl)
theorem dX3_grows_2 : decode cX3_grows 2 = .ok (.getfield 38, 3) := dk_180 0 38 (dk_at dksX3_grows_0 2 rfl rfl)
theorem dX3_grows_5 : decode cX3_grows 5 = .ok (.getfield 61, 3) := dk_180 0 61 (dk_at dksX3_grows_0 5 rfl rfl)
theorem dX3_grows_8 : decode cX3_grows 8 = .ok (.if_icmp .ne 5, 3) := dk_160 0 5 (dk_at dksX3_grows_0 8 rfl rfl)
theorem dX3_grows_11 : decode cX3_grows 11 = .ok (.iconst 1, 1) := dk_4 (dk_at dksX3_grows_0 11 rfl rfl)
theorem dX3_grows_12 : decode cX3_grows 12 = .ok (.ireturn, 1) := dk_172 (dk_at dksX3_grows_0 12 rfl rfl)
theorem dX3_grows_13 : decode cX3_grows 13 = .ok (.iconst 0, 1) := dk_3 (dk_at dksX3_grows_0 13 rfl rfl)
theorem dX3_grows_14 : decode cX3_grows 14 = .ok (.istore_n 2, 1) := dk_61 (dk_at dksX3_grows_0 14 rfl rfl)
theorem dX3_grows_15 : decode cX3_grows 15 = .ok (.iload_n 2, 1) := dk_28 (dk_at dksX3_grows_0 15 rfl rfl)
theorem dX3_grows_16 : decode cX3_grows 16 = .ok (.aload_n 0, 1) := dk_42 (dk_at dksX3_grows_0 16 rfl rfl)
theorem dX3_grows_17 : decode cX3_grows 17 = .ok (.getfield 42, 3) := dk_180 0 42 (dk_at dksX3_grows_0 17 rfl rfl)
theorem dX3_grows_20 : decode cX3_grows 20 = .ok (.if_icmp .ge 97, 3) := dk_162 0 97 (dk_at dksX3_grows_0 20 rfl rfl)
theorem dX3_grows_23 : decode cX3_grows 23 = .ok (.aload_n 0, 1) := dk_42 (dk_at dksX3_grows_0 23 rfl rfl)
theorem dX3_grows_24 : decode cX3_grows 24 = .ok (.iload_n 2, 1) := dk_28 (dk_at dksX3_grows_1 0 rfl rfl)
theorem dX3_grows_25 : decode cX3_grows 25 = .ok (.invokevirtual 79, 3) := dk_182 0 79 (dk_at dksX3_grows_1 1 rfl rfl)
theorem dX3_grows_28 : decode cX3_grows 28 = .ok (.istore_n 3, 1) := dk_62 (dk_at dksX3_grows_1 4 rfl rfl)
theorem dX3_grows_29 : decode cX3_grows 29 = .ok (.iconst 0, 1) := dk_3 (dk_at dksX3_grows_1 5 rfl rfl)
theorem dX3_grows_30 : decode cX3_grows 30 = .ok (.istore 4, 2) := dk_54 4 (dk_at dksX3_grows_1 6 rfl rfl)
theorem dX3_grows_32 : decode cX3_grows 32 = .ok (.iload 4, 2) := dk_21 4 (dk_at dksX3_grows_1 8 rfl rfl)
theorem dX3_grows_34 : decode cX3_grows 34 = .ok (.iload_n 3, 1) := dk_29 (dk_at dksX3_grows_1 10 rfl rfl)
theorem dX3_grows_35 : decode cX3_grows 35 = .ok (.if_icmp .gt 76, 3) := dk_163 0 76 (dk_at dksX3_grows_1 11 rfl rfl)
theorem dX3_grows_38 : decode cX3_grows 38 = .ok (.iload 4, 2) := dk_21 4 (dk_at dksX3_grows_1 14 rfl rfl)
theorem dX3_grows_40 : decode cX3_grows 40 = .ok (.iload_n 3, 1) := dk_29 (dk_at dksX3_grows_1 16 rfl rfl)
theorem dX3_grows_41 : decode cX3_grows 41 = .ok (.iconst (-1), 1) := dk_2 (dk_at dksX3_grows_1 17 rfl rfl)
theorem dX3_grows_42 : decode cX3_grows 42 = .ok (.ixor, 1) := dk_130 (dk_at dksX3_grows_1 18 rfl rfl)
theorem dX3_grows_43 : decode cX3_grows 43 = .ok (.iand, 1) := dk_126 (dk_at dksX3_grows_1 19 rfl rfl)
theorem dX3_grows_44 : decode cX3_grows 44 = .ok (.ifCond .eq 6, 3) := dk_153 0 6 (dk_at dksX3_grows_1 20 rfl rfl)
theorem dX3_grows_47 : decode cX3_grows 47 = .ok (.goto 58, 3) := dk_167 0 58 (dk_at dksX3_grows_2 0 rfl rfl)
theorem dX3_grows_50 : decode cX3_grows 50 = .ok (.iconst 0, 1) := dk_3 (dk_at dksX3_grows_2 3 rfl rfl)
theorem dX3_grows_51 : decode cX3_grows 51 = .ok (.istore 5, 2) := dk_54 5 (dk_at dksX3_grows_2 4 rfl rfl)
theorem dX3_grows_53 : decode cX3_grows 53 = .ok (.iload 5, 2) := dk_21 5 (dk_at dksX3_grows_2 6 rfl rfl)
theorem dX3_grows_55 : decode cX3_grows 55 = .ok (.iconst 2, 1) := dk_5 (dk_at dksX3_grows_2 8 rfl rfl)
theorem dX3_grows_56 : decode cX3_grows 56 = .ok (.if_icmp .ge 49, 3) := dk_162 0 49 (dk_at dksX3_grows_2 9 rfl rfl)
theorem dX3_grows_59 : decode cX3_grows 59 = .ok (.aload_n 0, 1) := dk_42 (dk_at dksX3_grows_2 12 rfl rfl)
theorem dX3_grows_60 : decode cX3_grows 60 = .ok (.iload_n 1, 1) := dk_27 (dk_at dksX3_grows_2 13 rfl rfl)
theorem dX3_grows_61 : decode cX3_grows 61 = .ok (.iload_n 2, 1) := dk_28 (dk_at dksX3_grows_2 14 rfl rfl)
theorem dX3_grows_62 : decode cX3_grows 62 = .ok (.iload 4, 2) := dk_21 4 (dk_at dksX3_grows_2 15 rfl rfl)
theorem dX3_grows_64 : decode cX3_grows 64 = .ok (.iload 5, 2) := dk_21 5 (dk_at dksX3_grows_2 17 rfl rfl)
theorem dX3_grows_66 : decode cX3_grows 66 = .ok (.invokevirtual 82, 3) := dk_182 0 82 (dk_at dksX3_grows_2 19 rfl rfl)
theorem dX3_grows_69 : decode cX3_grows 69 = .ok (.aload_n 0, 1) := dk_42 (dk_at dksX3_grows_2 22 rfl rfl)
theorem dX3_grows_70 : decode cX3_grows 70 = .ok (.iload_n 1, 1) := dk_27 (dk_at dksX3_grows_2 23 rfl rfl)
theorem dX3_grows_71 : decode cX3_grows 71 = .ok (.iconst 1, 1) := dk_4 (dk_at dksX3_grows_3 0 rfl rfl)
theorem dX3_grows_72 : decode cX3_grows 72 = .ok (.iadd, 1) := dk_96 (dk_at dksX3_grows_3 1 rfl rfl)
theorem dX3_grows_73 : decode cX3_grows 73 = .ok (.invokevirtual 86, 3) := dk_182 0 86 (dk_at dksX3_grows_3 2 rfl rfl)
theorem dX3_grows_76 : decode cX3_grows 76 = .ok (.ifCond .eq 15, 3) := dk_153 0 15 (dk_at dksX3_grows_3 5 rfl rfl)
theorem dX3_grows_79 : decode cX3_grows 79 = .ok (.aload_n 0, 1) := dk_42 (dk_at dksX3_grows_3 8 rfl rfl)
theorem dX3_grows_80 : decode cX3_grows 80 = .ok (.iload_n 1, 1) := dk_27 (dk_at dksX3_grows_3 9 rfl rfl)
theorem dX3_grows_81 : decode cX3_grows 81 = .ok (.iconst 1, 1) := dk_4 (dk_at dksX3_grows_3 10 rfl rfl)
theorem dX3_grows_82 : decode cX3_grows 82 = .ok (.iadd, 1) := dk_96 (dk_at dksX3_grows_3 11 rfl rfl)
theorem dX3_grows_83 : decode cX3_grows 83 = .ok (.invokevirtual 53, 3) := dk_182 0 53 (dk_at dksX3_grows_3 12 rfl rfl)
theorem dX3_grows_86 : decode cX3_grows 86 = .ok (.ifCond .eq 5, 3) := dk_153 0 5 (dk_at dksX3_grows_3 15 rfl rfl)
theorem dX3_grows_89 : decode cX3_grows 89 = .ok (.iconst 1, 1) := dk_4 (dk_at dksX3_grows_3 18 rfl rfl)
theorem dX3_grows_90 : decode cX3_grows 90 = .ok (.ireturn, 1) := dk_172 (dk_at dksX3_grows_3 19 rfl rfl)
theorem dX3_grows_91 : decode cX3_grows 91 = .ok (.aload_n 0, 1) := dk_42 (dk_at dksX3_grows_3 20 rfl rfl)
theorem dX3_grows_92 : decode cX3_grows 92 = .ok (.iload_n 1, 1) := dk_27 (dk_at dksX3_grows_3 21 rfl rfl)
theorem dX3_grows_93 : decode cX3_grows 93 = .ok (.iload_n 2, 1) := dk_28 (dk_at dksX3_grows_3 22 rfl rfl)
theorem dX3_grows_94 : decode cX3_grows 94 = .ok (.iload 4, 2) := dk_21 4 (dk_at dksX3_grows_4 0 rfl rfl)
theorem dX3_grows_96 : decode cX3_grows 96 = .ok (.invokevirtual 89, 3) := dk_182 0 89 (dk_at dksX3_grows_4 2 rfl rfl)
theorem dX3_grows_99 : decode cX3_grows 99 = .ok (.iinc 5 1, 3) := dk_132 5 1 (dk_at dksX3_grows_4 5 rfl rfl)
theorem dX3_grows_102 : decode cX3_grows 102 = .ok (.goto (-49), 3) := dk_167 255 207 (dk_at dksX3_grows_4 8 rfl rfl)
theorem dX3_grows_105 : decode cX3_grows 105 = .ok (.iinc 4 1, 3) := dk_132 4 1 (dk_at dksX3_grows_4 11 rfl rfl)
theorem dX3_grows_108 : decode cX3_grows 108 = .ok (.goto (-76), 3) := dk_167 255 180 (dk_at dksX3_grows_4 14 rfl rfl)
theorem dX3_grows_111 : decode cX3_grows 111 = .ok (.iinc 2 1, 3) := dk_132 2 1 (dk_at dksX3_grows_4 17 rfl rfl)
theorem dX3_grows_114 : decode cX3_grows 114 = .ok (.goto (-99), 3) := dk_167 255 157 (dk_at dksX3_grows_4 20 rfl rfl)
theorem dX3_grows_117 : decode cX3_grows 117 = .ok (.iconst 0, 1) := dk_3 (dk_at dksX3_grows_4 23 rfl rfl)
theorem dX3_grows_118 : decode cX3_grows 118 = .ok (.ireturn, 1) := dk_172 (dk_at dksX3_grows_5 0 rfl rfl)
abbrev cX3_setAt : ByteArray := prog_5_method_3_code
def yX3_setAt : MethodName := ⟨RX3, "setAt", "(I)I"⟩
def dkwX3_setAt_1 : List UInt8 := [180, 0, 24, 27, 50, 29, 4, 96, 182, 0, 57, 62, 167, 255, 233, 28, 172]
abbrev dktX3_setAt_1 : List UInt8 := dkwX3_setAt_1 ++ []
def dkwX3_setAt_0 : List UInt8 := [3, 61, 42, 180, 0, 24, 27, 50, 3, 182, 0, 57, 62, 29, 155, 0, 25, 28, 4, 29, 120, 128, 61, 42]
abbrev dktX3_setAt_0 : List UInt8 := dkwX3_setAt_0 ++ dktX3_setAt_1
theorem dksX3_setAt_0 : cX3_setAt.data.toList.drop 0 = dktX3_setAt_0 := by decide +kernel
theorem dksX3_setAt_1 : cX3_setAt.data.toList.drop 24 = dktX3_setAt_1 := dk_seg dksX3_setAt_0 24 rfl rfl
theorem dX3_setAt_0 : decode cX3_setAt 0 = .ok (.iconst 0, 1) := dk_3 (dk_at dksX3_setAt_0 0 rfl rfl)
theorem dX3_setAt_1 : decode cX3_setAt 1 = .ok (.istore_n 2, 1) := dk_61 (dk_at dksX3_setAt_0 1 rfl rfl)
theorem dX3_setAt_2 : decode cX3_setAt 2 = .ok (.aload_n 0, 1) := dk_42 (dk_at dksX3_setAt_0 2 rfl rfl)
theorem dX3_setAt_3 : decode cX3_setAt 3 = .ok (.getfield 24, 3) := dk_180 0 24 (dk_at dksX3_setAt_0 3 rfl rfl)
theorem dX3_setAt_6 : decode cX3_setAt 6 = .ok (.iload_n 1, 1) := dk_27 (dk_at dksX3_setAt_0 6 rfl rfl)
theorem dX3_setAt_7 : decode cX3_setAt 7 = .ok (.aaload, 1) := dk_50 (dk_at dksX3_setAt_0 7 rfl rfl)
theorem dX3_setAt_8 : decode cX3_setAt 8 = .ok (.iconst 0, 1) := dk_3 (dk_at dksX3_setAt_0 8 rfl rfl)
theorem dX3_setAt_9 : decode cX3_setAt 9 = .ok (.invokevirtual 57, 3) := dk_182 0 57 (dk_at dksX3_setAt_0 9 rfl rfl)
theorem dX3_setAt_12 : decode cX3_setAt 12 = .ok (.istore_n 3, 1) := dk_62 (dk_at dksX3_setAt_0 12 rfl rfl)
theorem dX3_setAt_13 : decode cX3_setAt 13 = .ok (.iload_n 3, 1) := dk_29 (dk_at dksX3_setAt_0 13 rfl rfl)
theorem dX3_setAt_14 : decode cX3_setAt 14 = .ok (.ifCond .lt 25, 3) := dk_155 0 25 (dk_at dksX3_setAt_0 14 rfl rfl)
theorem dX3_setAt_17 : decode cX3_setAt 17 = .ok (.iload_n 2, 1) := dk_28 (dk_at dksX3_setAt_0 17 rfl rfl)
theorem dX3_setAt_18 : decode cX3_setAt 18 = .ok (.iconst 1, 1) := dk_4 (dk_at dksX3_setAt_0 18 rfl rfl)
theorem dX3_setAt_19 : decode cX3_setAt 19 = .ok (.iload_n 3, 1) := dk_29 (dk_at dksX3_setAt_0 19 rfl rfl)
theorem dX3_setAt_20 : decode cX3_setAt 20 = .ok (.ishl, 1) := dk_120 (dk_at dksX3_setAt_0 20 rfl rfl)
theorem dX3_setAt_21 : decode cX3_setAt 21 = .ok (.ior, 1) := dk_128 (dk_at dksX3_setAt_0 21 rfl rfl)
theorem dX3_setAt_22 : decode cX3_setAt 22 = .ok (.istore_n 2, 1) := dk_61 (dk_at dksX3_setAt_0 22 rfl rfl)
theorem dX3_setAt_23 : decode cX3_setAt 23 = .ok (.aload_n 0, 1) := dk_42 (dk_at dksX3_setAt_0 23 rfl rfl)
theorem dX3_setAt_24 : decode cX3_setAt 24 = .ok (.getfield 24, 3) := dk_180 0 24 (dk_at dksX3_setAt_1 0 rfl rfl)
theorem dX3_setAt_27 : decode cX3_setAt 27 = .ok (.iload_n 1, 1) := dk_27 (dk_at dksX3_setAt_1 3 rfl rfl)
theorem dX3_setAt_28 : decode cX3_setAt 28 = .ok (.aaload, 1) := dk_50 (dk_at dksX3_setAt_1 4 rfl rfl)
theorem dX3_setAt_29 : decode cX3_setAt 29 = .ok (.iload_n 3, 1) := dk_29 (dk_at dksX3_setAt_1 5 rfl rfl)
theorem dX3_setAt_30 : decode cX3_setAt 30 = .ok (.iconst 1, 1) := dk_4 (dk_at dksX3_setAt_1 6 rfl rfl)
theorem dX3_setAt_31 : decode cX3_setAt 31 = .ok (.iadd, 1) := dk_96 (dk_at dksX3_setAt_1 7 rfl rfl)
theorem dX3_setAt_32 : decode cX3_setAt 32 = .ok (.invokevirtual 57, 3) := dk_182 0 57 (dk_at dksX3_setAt_1 8 rfl rfl)
theorem dX3_setAt_35 : decode cX3_setAt 35 = .ok (.istore_n 3, 1) := dk_62 (dk_at dksX3_setAt_1 11 rfl rfl)
theorem dX3_setAt_36 : decode cX3_setAt 36 = .ok (.goto (-23), 3) := dk_167 255 233 (dk_at dksX3_setAt_1 12 rfl rfl)
theorem dX3_setAt_39 : decode cX3_setAt 39 = .ok (.iload_n 2, 1) := dk_28 (dk_at dksX3_setAt_1 15 rfl rfl)
theorem dX3_setAt_40 : decode cX3_setAt 40 = .ok (.ireturn, 1) := dk_172 (dk_at dksX3_setAt_1 16 rfl rfl)
abbrev cX3_parts : ByteArray := prog_5_method_5_code
def yX3_parts : MethodName := ⟨RX3, "parts", "(IIII)V"⟩
def dkwX3_parts_3 : List UInt8 := [89, 180, 0, 42, 4, 96, 181, 0, 42, 177]
abbrev dktX3_parts_3 : List UInt8 := dkwX3_parts_3 ++ []
def dkwX3_parts_2 : List UInt8 := [42, 180, 0, 24, 28, 50, 27, 182, 0, 72, 42, 180, 0, 24, 42, 180, 0, 42, 50, 27, 182, 0, 72, 42]
abbrev dktX3_parts_2 : List UInt8 := dkwX3_parts_2 ++ dktX3_parts_3
def dkwX3_parts_1 : List UInt8 := [42, 180, 0, 42, 79, 42, 180, 0, 19, 27, 21, 4, 154, 0, 10, 42, 180, 0, 42, 167, 0, 4, 28, 79]
abbrev dktX3_parts_1 : List UInt8 := dkwX3_parts_1 ++ dktX3_parts_2
def dkwX3_parts_0 : List UInt8 := [42, 29, 28, 42, 180, 0, 42, 182, 0, 75, 42, 180, 0, 15, 27, 21, 4, 154, 0, 7, 28, 167, 0, 7]
abbrev dktX3_parts_0 : List UInt8 := dkwX3_parts_0 ++ dktX3_parts_1
theorem dksX3_parts_0 : cX3_parts.data.toList.drop 0 = dktX3_parts_0 := by decide +kernel
theorem dksX3_parts_1 : cX3_parts.data.toList.drop 24 = dktX3_parts_1 := dk_seg dksX3_parts_0 24 rfl rfl
theorem dksX3_parts_2 : cX3_parts.data.toList.drop 48 = dktX3_parts_2 := dk_seg dksX3_parts_1 24 rfl rfl
theorem dksX3_parts_3 : cX3_parts.data.toList.drop 72 = dktX3_parts_3 := dk_seg dksX3_parts_2 24 rfl rfl
theorem dX3_parts_0 : decode cX3_parts 0 = .ok (.aload_n 0, 1) := dk_42 (dk_at dksX3_parts_0 0 rfl rfl)
theorem dX3_parts_1 : decode cX3_parts 1 = .ok (.iload_n 3, 1) := dk_29 (dk_at dksX3_parts_0 1 rfl rfl)
theorem dX3_parts_2 : decode cX3_parts 2 = .ok (.iload_n 2, 1) := dk_28 (dk_at dksX3_parts_0 2 rfl rfl)
theorem dX3_parts_3 : decode cX3_parts 3 = .ok (.aload_n 0, 1) := dk_42 (dk_at dksX3_parts_0 3 rfl rfl)
theorem dX3_parts_4 : decode cX3_parts 4 = .ok (.getfield 42, 3) := dk_180 0 42 (dk_at dksX3_parts_0 4 rfl rfl)
theorem dX3_parts_7 : decode cX3_parts 7 = .ok (.invokevirtual 75, 3) := dk_182 0 75 (dk_at dksX3_parts_0 7 rfl rfl)
theorem dX3_parts_10 : decode cX3_parts 10 = .ok (.aload_n 0, 1) := dk_42 (dk_at dksX3_parts_0 10 rfl rfl)
theorem dX3_parts_11 : decode cX3_parts 11 = .ok (.getfield 15, 3) := dk_180 0 15 (dk_at dksX3_parts_0 11 rfl rfl)
theorem dX3_parts_14 : decode cX3_parts 14 = .ok (.iload_n 1, 1) := dk_27 (dk_at dksX3_parts_0 14 rfl rfl)
theorem dX3_parts_15 : decode cX3_parts 15 = .ok (.iload 4, 2) := dk_21 4 (dk_at dksX3_parts_0 15 rfl rfl)
theorem dX3_parts_17 : decode cX3_parts 17 = .ok (.ifCond .ne 7, 3) := dk_154 0 7 (dk_at dksX3_parts_0 17 rfl rfl)
theorem dX3_parts_20 : decode cX3_parts 20 = .ok (.iload_n 2, 1) := dk_28 (dk_at dksX3_parts_0 20 rfl rfl)
theorem dX3_parts_21 : decode cX3_parts 21 = .ok (.goto 7, 3) := dk_167 0 7 (dk_at dksX3_parts_0 21 rfl rfl)
theorem dX3_parts_24 : decode cX3_parts 24 = .ok (.aload_n 0, 1) := dk_42 (dk_at dksX3_parts_1 0 rfl rfl)
theorem dX3_parts_25 : decode cX3_parts 25 = .ok (.getfield 42, 3) := dk_180 0 42 (dk_at dksX3_parts_1 1 rfl rfl)
theorem dX3_parts_28 : decode cX3_parts 28 = .ok (.iastore, 1) := dk_79 (dk_at dksX3_parts_1 4 rfl rfl)
theorem dX3_parts_29 : decode cX3_parts 29 = .ok (.aload_n 0, 1) := dk_42 (dk_at dksX3_parts_1 5 rfl rfl)
theorem dX3_parts_30 : decode cX3_parts 30 = .ok (.getfield 19, 3) := dk_180 0 19 (dk_at dksX3_parts_1 6 rfl rfl)
theorem dX3_parts_33 : decode cX3_parts 33 = .ok (.iload_n 1, 1) := dk_27 (dk_at dksX3_parts_1 9 rfl rfl)
theorem dX3_parts_34 : decode cX3_parts 34 = .ok (.iload 4, 2) := dk_21 4 (dk_at dksX3_parts_1 10 rfl rfl)
theorem dX3_parts_36 : decode cX3_parts 36 = .ok (.ifCond .ne 10, 3) := dk_154 0 10 (dk_at dksX3_parts_1 12 rfl rfl)
theorem dX3_parts_39 : decode cX3_parts 39 = .ok (.aload_n 0, 1) := dk_42 (dk_at dksX3_parts_1 15 rfl rfl)
theorem dX3_parts_40 : decode cX3_parts 40 = .ok (.getfield 42, 3) := dk_180 0 42 (dk_at dksX3_parts_1 16 rfl rfl)
theorem dX3_parts_43 : decode cX3_parts 43 = .ok (.goto 4, 3) := dk_167 0 4 (dk_at dksX3_parts_1 19 rfl rfl)
theorem dX3_parts_46 : decode cX3_parts 46 = .ok (.iload_n 2, 1) := dk_28 (dk_at dksX3_parts_1 22 rfl rfl)
theorem dX3_parts_47 : decode cX3_parts 47 = .ok (.iastore, 1) := dk_79 (dk_at dksX3_parts_1 23 rfl rfl)
theorem dX3_parts_48 : decode cX3_parts 48 = .ok (.aload_n 0, 1) := dk_42 (dk_at dksX3_parts_2 0 rfl rfl)
theorem dX3_parts_49 : decode cX3_parts 49 = .ok (.getfield 24, 3) := dk_180 0 24 (dk_at dksX3_parts_2 1 rfl rfl)
theorem dX3_parts_52 : decode cX3_parts 52 = .ok (.iload_n 2, 1) := dk_28 (dk_at dksX3_parts_2 4 rfl rfl)
theorem dX3_parts_53 : decode cX3_parts 53 = .ok (.aaload, 1) := dk_50 (dk_at dksX3_parts_2 5 rfl rfl)
theorem dX3_parts_54 : decode cX3_parts 54 = .ok (.iload_n 1, 1) := dk_27 (dk_at dksX3_parts_2 6 rfl rfl)
theorem dX3_parts_55 : decode cX3_parts 55 = .ok (.invokevirtual 72, 3) := dk_182 0 72 (dk_at dksX3_parts_2 7 rfl rfl)
theorem dX3_parts_58 : decode cX3_parts 58 = .ok (.aload_n 0, 1) := dk_42 (dk_at dksX3_parts_2 10 rfl rfl)
theorem dX3_parts_59 : decode cX3_parts 59 = .ok (.getfield 24, 3) := dk_180 0 24 (dk_at dksX3_parts_2 11 rfl rfl)
theorem dX3_parts_62 : decode cX3_parts 62 = .ok (.aload_n 0, 1) := dk_42 (dk_at dksX3_parts_2 14 rfl rfl)
theorem dX3_parts_63 : decode cX3_parts 63 = .ok (.getfield 42, 3) := dk_180 0 42 (dk_at dksX3_parts_2 15 rfl rfl)
theorem dX3_parts_66 : decode cX3_parts 66 = .ok (.aaload, 1) := dk_50 (dk_at dksX3_parts_2 18 rfl rfl)
theorem dX3_parts_67 : decode cX3_parts 67 = .ok (.iload_n 1, 1) := dk_27 (dk_at dksX3_parts_2 19 rfl rfl)
theorem dX3_parts_68 : decode cX3_parts 68 = .ok (.invokevirtual 72, 3) := dk_182 0 72 (dk_at dksX3_parts_2 20 rfl rfl)
theorem dX3_parts_71 : decode cX3_parts 71 = .ok (.aload_n 0, 1) := dk_42 (dk_at dksX3_parts_2 23 rfl rfl)
theorem dX3_parts_72 : decode cX3_parts 72 = .ok (.dup, 1) := dk_89 (dk_at dksX3_parts_3 0 rfl rfl)
theorem dX3_parts_73 : decode cX3_parts 73 = .ok (.getfield 42, 3) := dk_180 0 42 (dk_at dksX3_parts_3 1 rfl rfl)
theorem dX3_parts_76 : decode cX3_parts 76 = .ok (.iconst 1, 1) := dk_4 (dk_at dksX3_parts_3 4 rfl rfl)
theorem dX3_parts_77 : decode cX3_parts 77 = .ok (.iadd, 1) := dk_96 (dk_at dksX3_parts_3 5 rfl rfl)
theorem dX3_parts_78 : decode cX3_parts 78 = .ok (.putfield 42, 3) := dk_181 0 42 (dk_at dksX3_parts_3 6 rfl rfl)
theorem dX3_parts_81 : decode cX3_parts 81 = .ok (.return_, 1) := dk_177 (dk_at dksX3_parts_3 9 rfl rfl)
abbrev cX3_moves : ByteArray := prog_5_method_4_code
def yX3_moves : MethodName := ⟨RX3, "moves", "(III)V"⟩
def dkwX3_moves_3 : List UInt8 := [180, 0, 24, 29, 50, 21, 4, 182, 0, 72, 132, 4, 1, 167, 255, 177, 177]
abbrev dktX3_moves_3 : List UInt8 := dkwX3_moves_3 ++ []
def dkwX3_moves_2 : List UInt8 := [167, 0, 11, 42, 180, 0, 19, 21, 4, 29, 79, 42, 180, 0, 24, 28, 50, 21, 4, 182, 0, 70, 42]
abbrev dktX3_moves_2 : List UInt8 := dkwX3_moves_2 ++ dktX3_moves_3
def dkwX3_moves_1 : List UInt8 := [167, 0, 55, 42, 180, 0, 15, 21, 4, 46, 28, 160, 0, 14, 42, 180, 0, 15, 21, 4, 29, 79]
abbrev dktX3_moves_1 : List UInt8 := dkwX3_moves_1 ++ dktX3_moves_2
def dkwX3_moves_0 : List UInt8 := [3, 54, 4, 21, 4, 42, 180, 0, 38, 180, 0, 61, 162, 0, 73, 27, 21, 4, 184, 0, 66, 154, 0, 6]
abbrev dktX3_moves_0 : List UInt8 := dkwX3_moves_0 ++ dktX3_moves_1
theorem dksX3_moves_0 : cX3_moves.data.toList.drop 0 = dktX3_moves_0 := by decide +kernel
theorem dksX3_moves_1 : cX3_moves.data.toList.drop 24 = dktX3_moves_1 := dk_seg dksX3_moves_0 24 rfl rfl
theorem dksX3_moves_2 : cX3_moves.data.toList.drop 46 = dktX3_moves_2 := dk_seg dksX3_moves_1 22 rfl rfl
theorem dksX3_moves_3 : cX3_moves.data.toList.drop 69 = dktX3_moves_3 := dk_seg dksX3_moves_2 23 rfl rfl
theorem dX3_moves_0 : decode cX3_moves 0 = .ok (.iconst 0, 1) := dk_3 (dk_at dksX3_moves_0 0 rfl rfl)
theorem dX3_moves_1 : decode cX3_moves 1 = .ok (.istore 4, 2) := dk_54 4 (dk_at dksX3_moves_0 1 rfl rfl)
theorem dX3_moves_3 : decode cX3_moves 3 = .ok (.iload 4, 2) := dk_21 4 (dk_at dksX3_moves_0 3 rfl rfl)
theorem dX3_moves_5 : decode cX3_moves 5 = .ok (.aload_n 0, 1) := dk_42 (dk_at dksX3_moves_0 5 rfl rfl)
theorem dX3_moves_6 : decode cX3_moves 6 = .ok (.getfield 38, 3) := dk_180 0 38 (dk_at dksX3_moves_0 6 rfl rfl)
theorem dX3_moves_9 : decode cX3_moves 9 = .ok (.getfield 61, 3) := dk_180 0 61 (dk_at dksX3_moves_0 9 rfl rfl)
theorem dX3_moves_12 : decode cX3_moves 12 = .ok (.if_icmp .ge 73, 3) := dk_162 0 73 (dk_at dksX3_moves_0 12 rfl rfl)
theorem dX3_moves_15 : decode cX3_moves 15 = .ok (.iload_n 1, 1) := dk_27 (dk_at dksX3_moves_0 15 rfl rfl)
theorem dX3_moves_16 : decode cX3_moves 16 = .ok (.iload 4, 2) := dk_21 4 (dk_at dksX3_moves_0 16 rfl rfl)
theorem dX3_moves_18 : decode cX3_moves 18 = .ok (.invokestatic 66, 3) := dk_184 0 66 (dk_at dksX3_moves_0 18 rfl rfl)
theorem dX3_moves_21 : decode cX3_moves 21 = .ok (.ifCond .ne 6, 3) := dk_154 0 6 (dk_at dksX3_moves_0 21 rfl rfl)
theorem dX3_moves_24 : decode cX3_moves 24 = .ok (.goto 55, 3) := dk_167 0 55 (dk_at dksX3_moves_1 0 rfl rfl)
theorem dX3_moves_27 : decode cX3_moves 27 = .ok (.aload_n 0, 1) := dk_42 (dk_at dksX3_moves_1 3 rfl rfl)
theorem dX3_moves_28 : decode cX3_moves 28 = .ok (.getfield 15, 3) := dk_180 0 15 (dk_at dksX3_moves_1 4 rfl rfl)
theorem dX3_moves_31 : decode cX3_moves 31 = .ok (.iload 4, 2) := dk_21 4 (dk_at dksX3_moves_1 7 rfl rfl)
theorem dX3_moves_33 : decode cX3_moves 33 = .ok (.iaload, 1) := dk_46 (dk_at dksX3_moves_1 9 rfl rfl)
theorem dX3_moves_34 : decode cX3_moves 34 = .ok (.iload_n 2, 1) := dk_28 (dk_at dksX3_moves_1 10 rfl rfl)
theorem dX3_moves_35 : decode cX3_moves 35 = .ok (.if_icmp .ne 14, 3) := dk_160 0 14 (dk_at dksX3_moves_1 11 rfl rfl)
theorem dX3_moves_38 : decode cX3_moves 38 = .ok (.aload_n 0, 1) := dk_42 (dk_at dksX3_moves_1 14 rfl rfl)
theorem dX3_moves_39 : decode cX3_moves 39 = .ok (.getfield 15, 3) := dk_180 0 15 (dk_at dksX3_moves_1 15 rfl rfl)
theorem dX3_moves_42 : decode cX3_moves 42 = .ok (.iload 4, 2) := dk_21 4 (dk_at dksX3_moves_1 18 rfl rfl)
theorem dX3_moves_44 : decode cX3_moves 44 = .ok (.iload_n 3, 1) := dk_29 (dk_at dksX3_moves_1 20 rfl rfl)
theorem dX3_moves_45 : decode cX3_moves 45 = .ok (.iastore, 1) := dk_79 (dk_at dksX3_moves_1 21 rfl rfl)
theorem dX3_moves_46 : decode cX3_moves 46 = .ok (.goto 11, 3) := dk_167 0 11 (dk_at dksX3_moves_2 0 rfl rfl)
theorem dX3_moves_49 : decode cX3_moves 49 = .ok (.aload_n 0, 1) := dk_42 (dk_at dksX3_moves_2 3 rfl rfl)
theorem dX3_moves_50 : decode cX3_moves 50 = .ok (.getfield 19, 3) := dk_180 0 19 (dk_at dksX3_moves_2 4 rfl rfl)
theorem dX3_moves_53 : decode cX3_moves 53 = .ok (.iload 4, 2) := dk_21 4 (dk_at dksX3_moves_2 7 rfl rfl)
theorem dX3_moves_55 : decode cX3_moves 55 = .ok (.iload_n 3, 1) := dk_29 (dk_at dksX3_moves_2 9 rfl rfl)
theorem dX3_moves_56 : decode cX3_moves 56 = .ok (.iastore, 1) := dk_79 (dk_at dksX3_moves_2 10 rfl rfl)
theorem dX3_moves_57 : decode cX3_moves 57 = .ok (.aload_n 0, 1) := dk_42 (dk_at dksX3_moves_2 11 rfl rfl)
theorem dX3_moves_58 : decode cX3_moves 58 = .ok (.getfield 24, 3) := dk_180 0 24 (dk_at dksX3_moves_2 12 rfl rfl)
theorem dX3_moves_61 : decode cX3_moves 61 = .ok (.iload_n 2, 1) := dk_28 (dk_at dksX3_moves_2 15 rfl rfl)
theorem dX3_moves_62 : decode cX3_moves 62 = .ok (.aaload, 1) := dk_50 (dk_at dksX3_moves_2 16 rfl rfl)
theorem dX3_moves_63 : decode cX3_moves 63 = .ok (.iload 4, 2) := dk_21 4 (dk_at dksX3_moves_2 17 rfl rfl)
theorem dX3_moves_65 : decode cX3_moves 65 = .ok (.invokevirtual 70, 3) := dk_182 0 70 (dk_at dksX3_moves_2 19 rfl rfl)
theorem dX3_moves_68 : decode cX3_moves 68 = .ok (.aload_n 0, 1) := dk_42 (dk_at dksX3_moves_2 22 rfl rfl)
theorem dX3_moves_69 : decode cX3_moves 69 = .ok (.getfield 24, 3) := dk_180 0 24 (dk_at dksX3_moves_3 0 rfl rfl)
theorem dX3_moves_72 : decode cX3_moves 72 = .ok (.iload_n 3, 1) := dk_29 (dk_at dksX3_moves_3 3 rfl rfl)
theorem dX3_moves_73 : decode cX3_moves 73 = .ok (.aaload, 1) := dk_50 (dk_at dksX3_moves_3 4 rfl rfl)
theorem dX3_moves_74 : decode cX3_moves 74 = .ok (.iload 4, 2) := dk_21 4 (dk_at dksX3_moves_3 5 rfl rfl)
theorem dX3_moves_76 : decode cX3_moves 76 = .ok (.invokevirtual 72, 3) := dk_182 0 72 (dk_at dksX3_moves_3 7 rfl rfl)
theorem dX3_moves_79 : decode cX3_moves 79 = .ok (.iinc 4 1, 3) := dk_132 4 1 (dk_at dksX3_moves_3 10 rfl rfl)
theorem dX3_moves_82 : decode cX3_moves 82 = .ok (.goto (-79), 3) := dk_167 255 177 (dk_at dksX3_moves_3 13 rfl rfl)
theorem dX3_moves_85 : decode cX3_moves 85 = .ok (.return_, 1) := dk_177 (dk_at dksX3_moves_3 16 rfl rfl)
abbrev cX3_areWays : ByteArray := prog_5_method_10_code
def yX3_areWays : MethodName := ⟨RX3, "areWays", "(I)Z"⟩
def dkwX3_areWays_5 : List UInt8 := [164, 0, 5, 3, 172, 132, 2, 1, 167, 255, 132, 4, 172]
abbrev dktX3_areWays_5 : List UInt8 := dkwX3_areWays_5 ++ []
def dkwX3_areWays_4 : List UInt8 := [182, 0, 103, 120, 128, 54, 4, 132, 5, 1, 167, 255, 172, 29, 21, 4, 2, 130, 126, 184, 0, 106, 4]
abbrev dktX3_areWays_4 : List UInt8 := dkwX3_areWays_4 ++ dktX3_areWays_5
def dkwX3_areWays_3 : List UInt8 := [153, 0, 5, 3, 172, 29, 4, 42, 21, 5, 28, 182, 0, 99, 120, 128, 62, 21, 4, 4, 42, 21, 5, 28]
abbrev dktX3_areWays_3 : List UInt8 := dkwX3_areWays_3 ++ dktX3_areWays_4
def dkwX3_areWays_2 : List UInt8 := [21, 5, 28, 182, 0, 99, 184, 0, 66, 154, 0, 18, 21, 4, 42, 21, 5, 28, 182, 0, 103, 184, 0, 66]
abbrev dktX3_areWays_2 : List UInt8 := dkwX3_areWays_2 ++ dktX3_areWays_3
def dkwX3_areWays_1 : List UInt8 := [162, 0, 84, 42, 180, 0, 38, 180, 0, 92, 21, 5, 50, 28, 46, 154, 0, 6, 167, 0, 60, 29, 42]
abbrev dktX3_areWays_1 : List UInt8 := dkwX3_areWays_1 ++ dktX3_areWays_2
def dkwX3_areWays_0 : List UInt8 := [3, 61, 28, 42, 180, 0, 38, 180, 0, 96, 162, 0, 119, 3, 62, 3, 54, 4, 3, 54, 5, 21, 5, 27]
abbrev dktX3_areWays_0 : List UInt8 := dkwX3_areWays_0 ++ dktX3_areWays_1
theorem dksX3_areWays_0 : cX3_areWays.data.toList.drop 0 = dktX3_areWays_0 := by decide +kernel
theorem dksX3_areWays_1 : cX3_areWays.data.toList.drop 24 = dktX3_areWays_1 := dk_seg dksX3_areWays_0 24 rfl rfl
theorem dksX3_areWays_2 : cX3_areWays.data.toList.drop 47 = dktX3_areWays_2 := dk_seg dksX3_areWays_1 23 rfl rfl
theorem dksX3_areWays_3 : cX3_areWays.data.toList.drop 71 = dktX3_areWays_3 := dk_seg dksX3_areWays_2 24 rfl rfl
theorem dksX3_areWays_4 : cX3_areWays.data.toList.drop 95 = dktX3_areWays_4 := dk_seg dksX3_areWays_3 24 rfl rfl
theorem dksX3_areWays_5 : cX3_areWays.data.toList.drop 118 = dktX3_areWays_5 := dk_seg dksX3_areWays_4 23 rfl rfl
theorem dX3_areWays_0 : decode cX3_areWays 0 = .ok (.iconst 0, 1) := dk_3 (dk_at dksX3_areWays_0 0 rfl rfl)
theorem dX3_areWays_1 : decode cX3_areWays 1 = .ok (.istore_n 2, 1) := dk_61 (dk_at dksX3_areWays_0 1 rfl rfl)
theorem dX3_areWays_2 : decode cX3_areWays 2 = .ok (.iload_n 2, 1) := dk_28 (dk_at dksX3_areWays_0 2 rfl rfl)
theorem dX3_areWays_3 : decode cX3_areWays 3 = .ok (.aload_n 0, 1) := dk_42 (dk_at dksX3_areWays_0 3 rfl rfl)
theorem dX3_areWays_4 : decode cX3_areWays 4 = .ok (.getfield 38, 3) := dk_180 0 38 (dk_at dksX3_areWays_0 4 rfl rfl)
theorem dX3_areWays_7 : decode cX3_areWays 7 = .ok (.getfield 96, 3) := dk_180 0 96 (dk_at dksX3_areWays_0 7 rfl rfl)
theorem dX3_areWays_10 : decode cX3_areWays 10 = .ok (.if_icmp .ge 119, 3) := dk_162 0 119 (dk_at dksX3_areWays_0 10 rfl rfl)
theorem dX3_areWays_13 : decode cX3_areWays 13 = .ok (.iconst 0, 1) := dk_3 (dk_at dksX3_areWays_0 13 rfl rfl)
theorem dX3_areWays_14 : decode cX3_areWays 14 = .ok (.istore_n 3, 1) := dk_62 (dk_at dksX3_areWays_0 14 rfl rfl)
theorem dX3_areWays_15 : decode cX3_areWays 15 = .ok (.iconst 0, 1) := dk_3 (dk_at dksX3_areWays_0 15 rfl rfl)
theorem dX3_areWays_16 : decode cX3_areWays 16 = .ok (.istore 4, 2) := dk_54 4 (dk_at dksX3_areWays_0 16 rfl rfl)
theorem dX3_areWays_18 : decode cX3_areWays 18 = .ok (.iconst 0, 1) := dk_3 (dk_at dksX3_areWays_0 18 rfl rfl)
theorem dX3_areWays_19 : decode cX3_areWays 19 = .ok (.istore 5, 2) := dk_54 5 (dk_at dksX3_areWays_0 19 rfl rfl)
theorem dX3_areWays_21 : decode cX3_areWays 21 = .ok (.iload 5, 2) := dk_21 5 (dk_at dksX3_areWays_0 21 rfl rfl)
theorem dX3_areWays_23 : decode cX3_areWays 23 = .ok (.iload_n 1, 1) := dk_27 (dk_at dksX3_areWays_0 23 rfl rfl)
theorem dX3_areWays_24 : decode cX3_areWays 24 = .ok (.if_icmp .ge 84, 3) := dk_162 0 84 (dk_at dksX3_areWays_1 0 rfl rfl)
theorem dX3_areWays_27 : decode cX3_areWays 27 = .ok (.aload_n 0, 1) := dk_42 (dk_at dksX3_areWays_1 3 rfl rfl)
theorem dX3_areWays_28 : decode cX3_areWays 28 = .ok (.getfield 38, 3) := dk_180 0 38 (dk_at dksX3_areWays_1 4 rfl rfl)
theorem dX3_areWays_31 : decode cX3_areWays 31 = .ok (.getfield 92, 3) := dk_180 0 92 (dk_at dksX3_areWays_1 7 rfl rfl)
theorem dX3_areWays_34 : decode cX3_areWays 34 = .ok (.iload 5, 2) := dk_21 5 (dk_at dksX3_areWays_1 10 rfl rfl)
theorem dX3_areWays_36 : decode cX3_areWays 36 = .ok (.aaload, 1) := dk_50 (dk_at dksX3_areWays_1 12 rfl rfl)
theorem dX3_areWays_37 : decode cX3_areWays 37 = .ok (.iload_n 2, 1) := dk_28 (dk_at dksX3_areWays_1 13 rfl rfl)
theorem dX3_areWays_38 : decode cX3_areWays 38 = .ok (.iaload, 1) := dk_46 (dk_at dksX3_areWays_1 14 rfl rfl)
theorem dX3_areWays_39 : decode cX3_areWays 39 = .ok (.ifCond .ne 6, 3) := dk_154 0 6 (dk_at dksX3_areWays_1 15 rfl rfl)
theorem dX3_areWays_42 : decode cX3_areWays 42 = .ok (.goto 60, 3) := dk_167 0 60 (dk_at dksX3_areWays_1 18 rfl rfl)
theorem dX3_areWays_45 : decode cX3_areWays 45 = .ok (.iload_n 3, 1) := dk_29 (dk_at dksX3_areWays_1 21 rfl rfl)
theorem dX3_areWays_46 : decode cX3_areWays 46 = .ok (.aload_n 0, 1) := dk_42 (dk_at dksX3_areWays_1 22 rfl rfl)
theorem dX3_areWays_47 : decode cX3_areWays 47 = .ok (.iload 5, 2) := dk_21 5 (dk_at dksX3_areWays_2 0 rfl rfl)
theorem dX3_areWays_49 : decode cX3_areWays 49 = .ok (.iload_n 2, 1) := dk_28 (dk_at dksX3_areWays_2 2 rfl rfl)
theorem dX3_areWays_50 : decode cX3_areWays 50 = .ok (.invokevirtual 99, 3) := dk_182 0 99 (dk_at dksX3_areWays_2 3 rfl rfl)
theorem dX3_areWays_53 : decode cX3_areWays 53 = .ok (.invokestatic 66, 3) := dk_184 0 66 (dk_at dksX3_areWays_2 6 rfl rfl)
theorem dX3_areWays_56 : decode cX3_areWays 56 = .ok (.ifCond .ne 18, 3) := dk_154 0 18 (dk_at dksX3_areWays_2 9 rfl rfl)
theorem dX3_areWays_59 : decode cX3_areWays 59 = .ok (.iload 4, 2) := dk_21 4 (dk_at dksX3_areWays_2 12 rfl rfl)
theorem dX3_areWays_61 : decode cX3_areWays 61 = .ok (.aload_n 0, 1) := dk_42 (dk_at dksX3_areWays_2 14 rfl rfl)
theorem dX3_areWays_62 : decode cX3_areWays 62 = .ok (.iload 5, 2) := dk_21 5 (dk_at dksX3_areWays_2 15 rfl rfl)
theorem dX3_areWays_64 : decode cX3_areWays 64 = .ok (.iload_n 2, 1) := dk_28 (dk_at dksX3_areWays_2 17 rfl rfl)
theorem dX3_areWays_65 : decode cX3_areWays 65 = .ok (.invokevirtual 103, 3) := dk_182 0 103 (dk_at dksX3_areWays_2 18 rfl rfl)
theorem dX3_areWays_68 : decode cX3_areWays 68 = .ok (.invokestatic 66, 3) := dk_184 0 66 (dk_at dksX3_areWays_2 21 rfl rfl)
theorem dX3_areWays_71 : decode cX3_areWays 71 = .ok (.ifCond .eq 5, 3) := dk_153 0 5 (dk_at dksX3_areWays_3 0 rfl rfl)
theorem dX3_areWays_74 : decode cX3_areWays 74 = .ok (.iconst 0, 1) := dk_3 (dk_at dksX3_areWays_3 3 rfl rfl)
theorem dX3_areWays_75 : decode cX3_areWays 75 = .ok (.ireturn, 1) := dk_172 (dk_at dksX3_areWays_3 4 rfl rfl)
theorem dX3_areWays_76 : decode cX3_areWays 76 = .ok (.iload_n 3, 1) := dk_29 (dk_at dksX3_areWays_3 5 rfl rfl)
theorem dX3_areWays_77 : decode cX3_areWays 77 = .ok (.iconst 1, 1) := dk_4 (dk_at dksX3_areWays_3 6 rfl rfl)
theorem dX3_areWays_78 : decode cX3_areWays 78 = .ok (.aload_n 0, 1) := dk_42 (dk_at dksX3_areWays_3 7 rfl rfl)
theorem dX3_areWays_79 : decode cX3_areWays 79 = .ok (.iload 5, 2) := dk_21 5 (dk_at dksX3_areWays_3 8 rfl rfl)
theorem dX3_areWays_81 : decode cX3_areWays 81 = .ok (.iload_n 2, 1) := dk_28 (dk_at dksX3_areWays_3 10 rfl rfl)
theorem dX3_areWays_82 : decode cX3_areWays 82 = .ok (.invokevirtual 99, 3) := dk_182 0 99 (dk_at dksX3_areWays_3 11 rfl rfl)
theorem dX3_areWays_85 : decode cX3_areWays 85 = .ok (.ishl, 1) := dk_120 (dk_at dksX3_areWays_3 14 rfl rfl)
theorem dX3_areWays_86 : decode cX3_areWays 86 = .ok (.ior, 1) := dk_128 (dk_at dksX3_areWays_3 15 rfl rfl)
theorem dX3_areWays_87 : decode cX3_areWays 87 = .ok (.istore_n 3, 1) := dk_62 (dk_at dksX3_areWays_3 16 rfl rfl)
theorem dX3_areWays_88 : decode cX3_areWays 88 = .ok (.iload 4, 2) := dk_21 4 (dk_at dksX3_areWays_3 17 rfl rfl)
theorem dX3_areWays_90 : decode cX3_areWays 90 = .ok (.iconst 1, 1) := dk_4 (dk_at dksX3_areWays_3 19 rfl rfl)
theorem dX3_areWays_91 : decode cX3_areWays 91 = .ok (.aload_n 0, 1) := dk_42 (dk_at dksX3_areWays_3 20 rfl rfl)
theorem dX3_areWays_92 : decode cX3_areWays 92 = .ok (.iload 5, 2) := dk_21 5 (dk_at dksX3_areWays_3 21 rfl rfl)
theorem dX3_areWays_94 : decode cX3_areWays 94 = .ok (.iload_n 2, 1) := dk_28 (dk_at dksX3_areWays_3 23 rfl rfl)
theorem dX3_areWays_95 : decode cX3_areWays 95 = .ok (.invokevirtual 103, 3) := dk_182 0 103 (dk_at dksX3_areWays_4 0 rfl rfl)
theorem dX3_areWays_98 : decode cX3_areWays 98 = .ok (.ishl, 1) := dk_120 (dk_at dksX3_areWays_4 3 rfl rfl)
theorem dX3_areWays_99 : decode cX3_areWays 99 = .ok (.ior, 1) := dk_128 (dk_at dksX3_areWays_4 4 rfl rfl)
theorem dX3_areWays_100 : decode cX3_areWays 100 = .ok (.istore 4, 2) := dk_54 4 (dk_at dksX3_areWays_4 5 rfl rfl)
theorem dX3_areWays_102 : decode cX3_areWays 102 = .ok (.iinc 5 1, 3) := dk_132 5 1 (dk_at dksX3_areWays_4 7 rfl rfl)
theorem dX3_areWays_105 : decode cX3_areWays 105 = .ok (.goto (-84), 3) := dk_167 255 172 (dk_at dksX3_areWays_4 10 rfl rfl)
theorem dX3_areWays_108 : decode cX3_areWays 108 = .ok (.iload_n 3, 1) := dk_29 (dk_at dksX3_areWays_4 13 rfl rfl)
theorem dX3_areWays_109 : decode cX3_areWays 109 = .ok (.iload 4, 2) := dk_21 4 (dk_at dksX3_areWays_4 14 rfl rfl)
theorem dX3_areWays_111 : decode cX3_areWays 111 = .ok (.iconst (-1), 1) := dk_2 (dk_at dksX3_areWays_4 16 rfl rfl)
theorem dX3_areWays_112 : decode cX3_areWays 112 = .ok (.ixor, 1) := dk_130 (dk_at dksX3_areWays_4 17 rfl rfl)
theorem dX3_areWays_113 : decode cX3_areWays 113 = .ok (.iand, 1) := dk_126 (dk_at dksX3_areWays_4 18 rfl rfl)
theorem dX3_areWays_114 : decode cX3_areWays 114 = .ok (.invokestatic 106, 3) := dk_184 0 106 (dk_at dksX3_areWays_4 19 rfl rfl)
theorem dX3_areWays_117 : decode cX3_areWays 117 = .ok (.iconst 1, 1) := dk_4 (dk_at dksX3_areWays_4 22 rfl rfl)
theorem dX3_areWays_118 : decode cX3_areWays 118 = .ok (.if_icmp .le 5, 3) := dk_164 0 5 (dk_at dksX3_areWays_5 0 rfl rfl)
theorem dX3_areWays_121 : decode cX3_areWays 121 = .ok (.iconst 0, 1) := dk_3 (dk_at dksX3_areWays_5 3 rfl rfl)
theorem dX3_areWays_122 : decode cX3_areWays 122 = .ok (.ireturn, 1) := dk_172 (dk_at dksX3_areWays_5 4 rfl rfl)
theorem dX3_areWays_123 : decode cX3_areWays 123 = .ok (.iinc 2 1, 3) := dk_132 2 1 (dk_at dksX3_areWays_5 5 rfl rfl)
theorem dX3_areWays_126 : decode cX3_areWays 126 = .ok (.goto (-124), 3) := dk_167 255 132 (dk_at dksX3_areWays_5 8 rfl rfl)
theorem dX3_areWays_129 : decode cX3_areWays 129 = .ok (.iconst 1, 1) := dk_4 (dk_at dksX3_areWays_5 11 rfl rfl)
theorem dX3_areWays_130 : decode cX3_areWays 130 = .ok (.ireturn, 1) := dk_172 (dk_at dksX3_areWays_5 12 rfl rfl)
abbrev cX3_tail : ByteArray := prog_5_method_8_code
def yX3_tail : MethodName := ⟨RX3, "tail", "(II)I"⟩
def dkwX3_tail_1 : List UInt8 := [180, 0, 19, 27, 46, 172]
abbrev dktX3_tail_1 : List UInt8 := dkwX3_tail_1 ++ []
def dkwX3_tail_0 : List UInt8 := [42, 180, 0, 38, 180, 0, 92, 27, 50, 28, 46, 158, 0, 12, 42, 180, 0, 15, 27, 46, 167, 0, 9, 42]
abbrev dktX3_tail_0 : List UInt8 := dkwX3_tail_0 ++ dktX3_tail_1
theorem dksX3_tail_0 : cX3_tail.data.toList.drop 0 = dktX3_tail_0 := by decide +kernel
theorem dksX3_tail_1 : cX3_tail.data.toList.drop 24 = dktX3_tail_1 := dk_seg dksX3_tail_0 24 rfl rfl
theorem dX3_tail_0 : decode cX3_tail 0 = .ok (.aload_n 0, 1) := dk_42 (dk_at dksX3_tail_0 0 rfl rfl)
theorem dX3_tail_1 : decode cX3_tail 1 = .ok (.getfield 38, 3) := dk_180 0 38 (dk_at dksX3_tail_0 1 rfl rfl)
theorem dX3_tail_4 : decode cX3_tail 4 = .ok (.getfield 92, 3) := dk_180 0 92 (dk_at dksX3_tail_0 4 rfl rfl)
theorem dX3_tail_7 : decode cX3_tail 7 = .ok (.iload_n 1, 1) := dk_27 (dk_at dksX3_tail_0 7 rfl rfl)
theorem dX3_tail_8 : decode cX3_tail 8 = .ok (.aaload, 1) := dk_50 (dk_at dksX3_tail_0 8 rfl rfl)
theorem dX3_tail_9 : decode cX3_tail 9 = .ok (.iload_n 2, 1) := dk_28 (dk_at dksX3_tail_0 9 rfl rfl)
theorem dX3_tail_10 : decode cX3_tail 10 = .ok (.iaload, 1) := dk_46 (dk_at dksX3_tail_0 10 rfl rfl)
theorem dX3_tail_11 : decode cX3_tail 11 = .ok (.ifCond .le 12, 3) := dk_158 0 12 (dk_at dksX3_tail_0 11 rfl rfl)
theorem dX3_tail_14 : decode cX3_tail 14 = .ok (.aload_n 0, 1) := dk_42 (dk_at dksX3_tail_0 14 rfl rfl)
theorem dX3_tail_15 : decode cX3_tail 15 = .ok (.getfield 15, 3) := dk_180 0 15 (dk_at dksX3_tail_0 15 rfl rfl)
theorem dX3_tail_18 : decode cX3_tail 18 = .ok (.iload_n 1, 1) := dk_27 (dk_at dksX3_tail_0 18 rfl rfl)
theorem dX3_tail_19 : decode cX3_tail 19 = .ok (.iaload, 1) := dk_46 (dk_at dksX3_tail_0 19 rfl rfl)
theorem dX3_tail_20 : decode cX3_tail 20 = .ok (.goto 9, 3) := dk_167 0 9 (dk_at dksX3_tail_0 20 rfl rfl)
theorem dX3_tail_23 : decode cX3_tail 23 = .ok (.aload_n 0, 1) := dk_42 (dk_at dksX3_tail_0 23 rfl rfl)
theorem dX3_tail_24 : decode cX3_tail 24 = .ok (.getfield 19, 3) := dk_180 0 19 (dk_at dksX3_tail_1 0 rfl rfl)
theorem dX3_tail_27 : decode cX3_tail 27 = .ok (.iload_n 1, 1) := dk_27 (dk_at dksX3_tail_1 3 rfl rfl)
theorem dX3_tail_28 : decode cX3_tail 28 = .ok (.iaload, 1) := dk_46 (dk_at dksX3_tail_1 4 rfl rfl)
theorem dX3_tail_29 : decode cX3_tail 29 = .ok (.ireturn, 1) := dk_172 (dk_at dksX3_tail_1 5 rfl rfl)
abbrev cX3_head : ByteArray := prog_5_method_9_code
def yX3_head : MethodName := ⟨RX3, "head", "(II)I"⟩
def dkwX3_head_1 : List UInt8 := [180, 0, 15, 27, 46, 172]
abbrev dktX3_head_1 : List UInt8 := dkwX3_head_1 ++ []
def dkwX3_head_0 : List UInt8 := [42, 180, 0, 38, 180, 0, 92, 27, 50, 28, 46, 158, 0, 12, 42, 180, 0, 19, 27, 46, 167, 0, 9, 42]
abbrev dktX3_head_0 : List UInt8 := dkwX3_head_0 ++ dktX3_head_1
theorem dksX3_head_0 : cX3_head.data.toList.drop 0 = dktX3_head_0 := by decide +kernel
theorem dksX3_head_1 : cX3_head.data.toList.drop 24 = dktX3_head_1 := dk_seg dksX3_head_0 24 rfl rfl
theorem dX3_head_0 : decode cX3_head 0 = .ok (.aload_n 0, 1) := dk_42 (dk_at dksX3_head_0 0 rfl rfl)
theorem dX3_head_1 : decode cX3_head 1 = .ok (.getfield 38, 3) := dk_180 0 38 (dk_at dksX3_head_0 1 rfl rfl)
theorem dX3_head_4 : decode cX3_head 4 = .ok (.getfield 92, 3) := dk_180 0 92 (dk_at dksX3_head_0 4 rfl rfl)
theorem dX3_head_7 : decode cX3_head 7 = .ok (.iload_n 1, 1) := dk_27 (dk_at dksX3_head_0 7 rfl rfl)
theorem dX3_head_8 : decode cX3_head 8 = .ok (.aaload, 1) := dk_50 (dk_at dksX3_head_0 8 rfl rfl)
theorem dX3_head_9 : decode cX3_head 9 = .ok (.iload_n 2, 1) := dk_28 (dk_at dksX3_head_0 9 rfl rfl)
theorem dX3_head_10 : decode cX3_head 10 = .ok (.iaload, 1) := dk_46 (dk_at dksX3_head_0 10 rfl rfl)
theorem dX3_head_11 : decode cX3_head 11 = .ok (.ifCond .le 12, 3) := dk_158 0 12 (dk_at dksX3_head_0 11 rfl rfl)
theorem dX3_head_14 : decode cX3_head 14 = .ok (.aload_n 0, 1) := dk_42 (dk_at dksX3_head_0 14 rfl rfl)
theorem dX3_head_15 : decode cX3_head 15 = .ok (.getfield 19, 3) := dk_180 0 19 (dk_at dksX3_head_0 15 rfl rfl)
theorem dX3_head_18 : decode cX3_head 18 = .ok (.iload_n 1, 1) := dk_27 (dk_at dksX3_head_0 18 rfl rfl)
theorem dX3_head_19 : decode cX3_head 19 = .ok (.iaload, 1) := dk_46 (dk_at dksX3_head_0 19 rfl rfl)
theorem dX3_head_20 : decode cX3_head 20 = .ok (.goto 9, 3) := dk_167 0 9 (dk_at dksX3_head_0 20 rfl rfl)
theorem dX3_head_23 : decode cX3_head 23 = .ok (.aload_n 0, 1) := dk_42 (dk_at dksX3_head_0 23 rfl rfl)
theorem dX3_head_24 : decode cX3_head 24 = .ok (.getfield 15, 3) := dk_180 0 15 (dk_at dksX3_head_1 0 rfl rfl)
theorem dX3_head_27 : decode cX3_head 27 = .ok (.iload_n 1, 1) := dk_27 (dk_at dksX3_head_1 3 rfl rfl)
theorem dX3_head_28 : decode cX3_head 28 = .ok (.iaload, 1) := dk_46 (dk_at dksX3_head_1 4 rfl rfl)
theorem dX3_head_29 : decode cX3_head 29 = .ok (.ireturn, 1) := dk_172 (dk_at dksX3_head_1 5 rfl rfl)
abbrev cX3_heals : ByteArray := prog_5_method_6_code
def yX3_heals : MethodName := ⟨RX3, "heals", "(III)V"⟩
def dkwX3_heals_1 : List UInt8 := [42, 180, 0, 42, 50, 27, 182, 0, 70, 42, 29, 42, 180, 0, 42, 28, 182, 0, 75, 177]
abbrev dktX3_heals_1 : List UInt8 := dkwX3_heals_1 ++ []
def dkwX3_heals_0 : List UInt8 := [42, 89, 180, 0, 42, 4, 100, 181, 0, 42, 42, 180, 0, 24, 28, 50, 27, 182, 0, 70, 42, 180, 0, 24]
abbrev dktX3_heals_0 : List UInt8 := dkwX3_heals_0 ++ dktX3_heals_1
theorem dksX3_heals_0 : cX3_heals.data.toList.drop 0 = dktX3_heals_0 := by decide +kernel
theorem dksX3_heals_1 : cX3_heals.data.toList.drop 24 = dktX3_heals_1 := dk_seg dksX3_heals_0 24 rfl rfl
theorem dX3_heals_0 : decode cX3_heals 0 = .ok (.aload_n 0, 1) := dk_42 (dk_at dksX3_heals_0 0 rfl rfl)
theorem dX3_heals_1 : decode cX3_heals 1 = .ok (.dup, 1) := dk_89 (dk_at dksX3_heals_0 1 rfl rfl)
theorem dX3_heals_2 : decode cX3_heals 2 = .ok (.getfield 42, 3) := dk_180 0 42 (dk_at dksX3_heals_0 2 rfl rfl)
theorem dX3_heals_5 : decode cX3_heals 5 = .ok (.iconst 1, 1) := dk_4 (dk_at dksX3_heals_0 5 rfl rfl)
theorem dX3_heals_6 : decode cX3_heals 6 = .ok (.isub, 1) := dk_100 (dk_at dksX3_heals_0 6 rfl rfl)
theorem dX3_heals_7 : decode cX3_heals 7 = .ok (.putfield 42, 3) := dk_181 0 42 (dk_at dksX3_heals_0 7 rfl rfl)
theorem dX3_heals_10 : decode cX3_heals 10 = .ok (.aload_n 0, 1) := dk_42 (dk_at dksX3_heals_0 10 rfl rfl)
theorem dX3_heals_11 : decode cX3_heals 11 = .ok (.getfield 24, 3) := dk_180 0 24 (dk_at dksX3_heals_0 11 rfl rfl)
theorem dX3_heals_14 : decode cX3_heals 14 = .ok (.iload_n 2, 1) := dk_28 (dk_at dksX3_heals_0 14 rfl rfl)
theorem dX3_heals_15 : decode cX3_heals 15 = .ok (.aaload, 1) := dk_50 (dk_at dksX3_heals_0 15 rfl rfl)
theorem dX3_heals_16 : decode cX3_heals 16 = .ok (.iload_n 1, 1) := dk_27 (dk_at dksX3_heals_0 16 rfl rfl)
theorem dX3_heals_17 : decode cX3_heals 17 = .ok (.invokevirtual 70, 3) := dk_182 0 70 (dk_at dksX3_heals_0 17 rfl rfl)
theorem dX3_heals_20 : decode cX3_heals 20 = .ok (.aload_n 0, 1) := dk_42 (dk_at dksX3_heals_0 20 rfl rfl)
theorem dX3_heals_21 : decode cX3_heals 21 = .ok (.getfield 24, 3) := dk_180 0 24 (dk_at dksX3_heals_0 21 rfl rfl)
theorem dX3_heals_24 : decode cX3_heals 24 = .ok (.aload_n 0, 1) := dk_42 (dk_at dksX3_heals_1 0 rfl rfl)
theorem dX3_heals_25 : decode cX3_heals 25 = .ok (.getfield 42, 3) := dk_180 0 42 (dk_at dksX3_heals_1 1 rfl rfl)
theorem dX3_heals_28 : decode cX3_heals 28 = .ok (.aaload, 1) := dk_50 (dk_at dksX3_heals_1 4 rfl rfl)
theorem dX3_heals_29 : decode cX3_heals 29 = .ok (.iload_n 1, 1) := dk_27 (dk_at dksX3_heals_1 5 rfl rfl)
theorem dX3_heals_30 : decode cX3_heals 30 = .ok (.invokevirtual 70, 3) := dk_182 0 70 (dk_at dksX3_heals_1 6 rfl rfl)
theorem dX3_heals_33 : decode cX3_heals 33 = .ok (.aload_n 0, 1) := dk_42 (dk_at dksX3_heals_1 9 rfl rfl)
theorem dX3_heals_34 : decode cX3_heals 34 = .ok (.iload_n 3, 1) := dk_29 (dk_at dksX3_heals_1 10 rfl rfl)
theorem dX3_heals_35 : decode cX3_heals 35 = .ok (.aload_n 0, 1) := dk_42 (dk_at dksX3_heals_1 11 rfl rfl)
theorem dX3_heals_36 : decode cX3_heals 36 = .ok (.getfield 42, 3) := dk_180 0 42 (dk_at dksX3_heals_1 12 rfl rfl)
theorem dX3_heals_39 : decode cX3_heals 39 = .ok (.iload_n 2, 1) := dk_28 (dk_at dksX3_heals_1 15 rfl rfl)
theorem dX3_heals_40 : decode cX3_heals 40 = .ok (.invokevirtual 75, 3) := dk_182 0 75 (dk_at dksX3_heals_1 16 rfl rfl)
theorem dX3_heals_43 : decode cX3_heals 43 = .ok (.return_, 1) := dk_177 (dk_at dksX3_heals_1 19 rfl rfl)
abbrev cX3_wayOf : ByteArray := prog_5_method_11_code
def yX3_wayOf : MethodName := ⟨RX3, "wayOf", "(I)Ljava/util/LinkedList;"⟩
def dkwX3_wayOf_8 : List UInt8 := [184, 0, 114, 182, 0, 118, 42, 21, 7, 27, 182, 0, 99, 54, 6, 167, 255, 162, 45, 184, 0, 149, 45, 176]
abbrev dktX3_wayOf_8 : List UInt8 := dkwX3_wayOf_8 ++ []
def dkwX3_wayOf_7 : List UInt8 := [159, 0, 6, 167, 255, 213, 25, 8, 185, 0, 146, 1, 0, 21, 9, 54, 7, 167, 255, 199, 45, 21, 7]
abbrev dktX3_wayOf_7 : List UInt8 := dkwX3_wayOf_7 ++ dktX3_wayOf_8
def dkwX3_wayOf_6 : List UInt8 := [25, 8, 185, 0, 138, 1, 0, 192, 0, 107, 182, 0, 142, 54, 9, 42, 21, 9, 27, 182, 0, 103, 21, 6]
abbrev dktX3_wayOf_6 : List UInt8 := dkwX3_wayOf_6 ++ dktX3_wayOf_7
def dkwX3_wayOf_5 : List UInt8 := [54, 7, 44, 182, 0, 129, 58, 8, 25, 8, 185, 0, 133, 1, 0, 153, 0, 53, 21, 7, 2, 160, 0, 47]
abbrev dktX3_wayOf_5 : List UInt8 := dkwX3_wayOf_5 ++ dktX3_wayOf_6
def dkwX3_wayOf_4 : List UInt8 := [167, 255, 186, 21, 5, 21, 4, 2, 130, 126, 184, 0, 122, 54, 6, 44, 182, 0, 125, 154, 0, 93, 2]
abbrev dktX3_wayOf_4 : List UInt8 := dkwX3_wayOf_4 ++ dktX3_wayOf_5
def dkwX3_wayOf_3 : List UInt8 := [182, 0, 99, 120, 128, 54, 4, 21, 5, 4, 42, 21, 6, 27, 182, 0, 103, 120, 128, 54, 5, 132, 6, 1]
abbrev dktX3_wayOf_3 : List UInt8 := dkwX3_wayOf_3 ++ dktX3_wayOf_4
def dkwX3_wayOf_2 : List UInt8 := [27, 46, 154, 0, 6, 167, 0, 40, 44, 21, 6, 184, 0, 114, 182, 0, 118, 21, 4, 4, 42, 21, 6, 27]
abbrev dktX3_wayOf_2 : List UInt8 := dkwX3_wayOf_2 ++ dktX3_wayOf_3
def dkwX3_wayOf_1 : List UInt8 := [54, 6, 21, 6, 42, 180, 0, 38, 180, 0, 61, 162, 0, 64, 42, 180, 0, 38, 180, 0, 92, 21, 6, 50]
abbrev dktX3_wayOf_1 : List UInt8 := dkwX3_wayOf_1 ++ dktX3_wayOf_2
def dkwX3_wayOf_0 : List UInt8 := [187, 0, 111, 89, 183, 0, 113, 77, 187, 0, 111, 89, 183, 0, 113, 78, 3, 54, 4, 3, 54, 5, 3]
abbrev dktX3_wayOf_0 : List UInt8 := dkwX3_wayOf_0 ++ dktX3_wayOf_1
theorem dksX3_wayOf_0 : cX3_wayOf.data.toList.drop 0 = dktX3_wayOf_0 := by decide +kernel
theorem dksX3_wayOf_1 : cX3_wayOf.data.toList.drop 23 = dktX3_wayOf_1 := dk_seg dksX3_wayOf_0 23 rfl rfl
theorem dksX3_wayOf_2 : cX3_wayOf.data.toList.drop 47 = dktX3_wayOf_2 := dk_seg dksX3_wayOf_1 24 rfl rfl
theorem dksX3_wayOf_3 : cX3_wayOf.data.toList.drop 71 = dktX3_wayOf_3 := dk_seg dksX3_wayOf_2 24 rfl rfl
theorem dksX3_wayOf_4 : cX3_wayOf.data.toList.drop 95 = dktX3_wayOf_4 := dk_seg dksX3_wayOf_3 24 rfl rfl
theorem dksX3_wayOf_5 : cX3_wayOf.data.toList.drop 118 = dktX3_wayOf_5 := dk_seg dksX3_wayOf_4 23 rfl rfl
theorem dksX3_wayOf_6 : cX3_wayOf.data.toList.drop 142 = dktX3_wayOf_6 := dk_seg dksX3_wayOf_5 24 rfl rfl
theorem dksX3_wayOf_7 : cX3_wayOf.data.toList.drop 166 = dktX3_wayOf_7 := dk_seg dksX3_wayOf_6 24 rfl rfl
theorem dksX3_wayOf_8 : cX3_wayOf.data.toList.drop 189 = dktX3_wayOf_8 := dk_seg dksX3_wayOf_7 23 rfl rfl
theorem dX3_wayOf_0 : decode cX3_wayOf 0 = .ok (.new 111, 3) := dk_187 0 111 (dk_at dksX3_wayOf_0 0 rfl rfl)
theorem dX3_wayOf_3 : decode cX3_wayOf 3 = .ok (.dup, 1) := dk_89 (dk_at dksX3_wayOf_0 3 rfl rfl)
theorem dX3_wayOf_4 : decode cX3_wayOf 4 = .ok (.invokespecial 113, 3) := dk_183 0 113 (dk_at dksX3_wayOf_0 4 rfl rfl)
theorem dX3_wayOf_7 : decode cX3_wayOf 7 = .ok (.astore_n 2, 1) := dk_77 (dk_at dksX3_wayOf_0 7 rfl rfl)
theorem dX3_wayOf_8 : decode cX3_wayOf 8 = .ok (.new 111, 3) := dk_187 0 111 (dk_at dksX3_wayOf_0 8 rfl rfl)
theorem dX3_wayOf_11 : decode cX3_wayOf 11 = .ok (.dup, 1) := dk_89 (dk_at dksX3_wayOf_0 11 rfl rfl)
theorem dX3_wayOf_12 : decode cX3_wayOf 12 = .ok (.invokespecial 113, 3) := dk_183 0 113 (dk_at dksX3_wayOf_0 12 rfl rfl)
theorem dX3_wayOf_15 : decode cX3_wayOf 15 = .ok (.astore_n 3, 1) := dk_78 (dk_at dksX3_wayOf_0 15 rfl rfl)
theorem dX3_wayOf_16 : decode cX3_wayOf 16 = .ok (.iconst 0, 1) := dk_3 (dk_at dksX3_wayOf_0 16 rfl rfl)
theorem dX3_wayOf_17 : decode cX3_wayOf 17 = .ok (.istore 4, 2) := dk_54 4 (dk_at dksX3_wayOf_0 17 rfl rfl)
theorem dX3_wayOf_19 : decode cX3_wayOf 19 = .ok (.iconst 0, 1) := dk_3 (dk_at dksX3_wayOf_0 19 rfl rfl)
theorem dX3_wayOf_20 : decode cX3_wayOf 20 = .ok (.istore 5, 2) := dk_54 5 (dk_at dksX3_wayOf_0 20 rfl rfl)
theorem dX3_wayOf_22 : decode cX3_wayOf 22 = .ok (.iconst 0, 1) := dk_3 (dk_at dksX3_wayOf_0 22 rfl rfl)
theorem dX3_wayOf_23 : decode cX3_wayOf 23 = .ok (.istore 6, 2) := dk_54 6 (dk_at dksX3_wayOf_1 0 rfl rfl)
theorem dX3_wayOf_25 : decode cX3_wayOf 25 = .ok (.iload 6, 2) := dk_21 6 (dk_at dksX3_wayOf_1 2 rfl rfl)
theorem dX3_wayOf_27 : decode cX3_wayOf 27 = .ok (.aload_n 0, 1) := dk_42 (dk_at dksX3_wayOf_1 4 rfl rfl)
theorem dX3_wayOf_28 : decode cX3_wayOf 28 = .ok (.getfield 38, 3) := dk_180 0 38 (dk_at dksX3_wayOf_1 5 rfl rfl)
theorem dX3_wayOf_31 : decode cX3_wayOf 31 = .ok (.getfield 61, 3) := dk_180 0 61 (dk_at dksX3_wayOf_1 8 rfl rfl)
theorem dX3_wayOf_34 : decode cX3_wayOf 34 = .ok (.if_icmp .ge 64, 3) := dk_162 0 64 (dk_at dksX3_wayOf_1 11 rfl rfl)
theorem dX3_wayOf_37 : decode cX3_wayOf 37 = .ok (.aload_n 0, 1) := dk_42 (dk_at dksX3_wayOf_1 14 rfl rfl)
theorem dX3_wayOf_38 : decode cX3_wayOf 38 = .ok (.getfield 38, 3) := dk_180 0 38 (dk_at dksX3_wayOf_1 15 rfl rfl)
theorem dX3_wayOf_41 : decode cX3_wayOf 41 = .ok (.getfield 92, 3) := dk_180 0 92 (dk_at dksX3_wayOf_1 18 rfl rfl)
theorem dX3_wayOf_44 : decode cX3_wayOf 44 = .ok (.iload 6, 2) := dk_21 6 (dk_at dksX3_wayOf_1 21 rfl rfl)
theorem dX3_wayOf_46 : decode cX3_wayOf 46 = .ok (.aaload, 1) := dk_50 (dk_at dksX3_wayOf_1 23 rfl rfl)
theorem dX3_wayOf_47 : decode cX3_wayOf 47 = .ok (.iload_n 1, 1) := dk_27 (dk_at dksX3_wayOf_2 0 rfl rfl)
theorem dX3_wayOf_48 : decode cX3_wayOf 48 = .ok (.iaload, 1) := dk_46 (dk_at dksX3_wayOf_2 1 rfl rfl)
theorem dX3_wayOf_49 : decode cX3_wayOf 49 = .ok (.ifCond .ne 6, 3) := dk_154 0 6 (dk_at dksX3_wayOf_2 2 rfl rfl)
theorem dX3_wayOf_52 : decode cX3_wayOf 52 = .ok (.goto 40, 3) := dk_167 0 40 (dk_at dksX3_wayOf_2 5 rfl rfl)
theorem dX3_wayOf_55 : decode cX3_wayOf 55 = .ok (.aload_n 2, 1) := dk_44 (dk_at dksX3_wayOf_2 8 rfl rfl)
theorem dX3_wayOf_56 : decode cX3_wayOf 56 = .ok (.iload 6, 2) := dk_21 6 (dk_at dksX3_wayOf_2 9 rfl rfl)
theorem dX3_wayOf_58 : decode cX3_wayOf 58 = .ok (.invokestatic 114, 3) := dk_184 0 114 (dk_at dksX3_wayOf_2 11 rfl rfl)
theorem dX3_wayOf_61 : decode cX3_wayOf 61 = .ok (.invokevirtual 118, 3) := dk_182 0 118 (dk_at dksX3_wayOf_2 14 rfl rfl)
theorem dX3_wayOf_64 : decode cX3_wayOf 64 = .ok (.iload 4, 2) := dk_21 4 (dk_at dksX3_wayOf_2 17 rfl rfl)
theorem dX3_wayOf_66 : decode cX3_wayOf 66 = .ok (.iconst 1, 1) := dk_4 (dk_at dksX3_wayOf_2 19 rfl rfl)
theorem dX3_wayOf_67 : decode cX3_wayOf 67 = .ok (.aload_n 0, 1) := dk_42 (dk_at dksX3_wayOf_2 20 rfl rfl)
theorem dX3_wayOf_68 : decode cX3_wayOf 68 = .ok (.iload 6, 2) := dk_21 6 (dk_at dksX3_wayOf_2 21 rfl rfl)
theorem dX3_wayOf_70 : decode cX3_wayOf 70 = .ok (.iload_n 1, 1) := dk_27 (dk_at dksX3_wayOf_2 23 rfl rfl)
theorem dX3_wayOf_71 : decode cX3_wayOf 71 = .ok (.invokevirtual 99, 3) := dk_182 0 99 (dk_at dksX3_wayOf_3 0 rfl rfl)
theorem dX3_wayOf_74 : decode cX3_wayOf 74 = .ok (.ishl, 1) := dk_120 (dk_at dksX3_wayOf_3 3 rfl rfl)
theorem dX3_wayOf_75 : decode cX3_wayOf 75 = .ok (.ior, 1) := dk_128 (dk_at dksX3_wayOf_3 4 rfl rfl)
theorem dX3_wayOf_76 : decode cX3_wayOf 76 = .ok (.istore 4, 2) := dk_54 4 (dk_at dksX3_wayOf_3 5 rfl rfl)
theorem dX3_wayOf_78 : decode cX3_wayOf 78 = .ok (.iload 5, 2) := dk_21 5 (dk_at dksX3_wayOf_3 7 rfl rfl)
theorem dX3_wayOf_80 : decode cX3_wayOf 80 = .ok (.iconst 1, 1) := dk_4 (dk_at dksX3_wayOf_3 9 rfl rfl)
theorem dX3_wayOf_81 : decode cX3_wayOf 81 = .ok (.aload_n 0, 1) := dk_42 (dk_at dksX3_wayOf_3 10 rfl rfl)
theorem dX3_wayOf_82 : decode cX3_wayOf 82 = .ok (.iload 6, 2) := dk_21 6 (dk_at dksX3_wayOf_3 11 rfl rfl)
theorem dX3_wayOf_84 : decode cX3_wayOf 84 = .ok (.iload_n 1, 1) := dk_27 (dk_at dksX3_wayOf_3 13 rfl rfl)
theorem dX3_wayOf_85 : decode cX3_wayOf 85 = .ok (.invokevirtual 103, 3) := dk_182 0 103 (dk_at dksX3_wayOf_3 14 rfl rfl)
theorem dX3_wayOf_88 : decode cX3_wayOf 88 = .ok (.ishl, 1) := dk_120 (dk_at dksX3_wayOf_3 17 rfl rfl)
theorem dX3_wayOf_89 : decode cX3_wayOf 89 = .ok (.ior, 1) := dk_128 (dk_at dksX3_wayOf_3 18 rfl rfl)
theorem dX3_wayOf_90 : decode cX3_wayOf 90 = .ok (.istore 5, 2) := dk_54 5 (dk_at dksX3_wayOf_3 19 rfl rfl)
theorem dX3_wayOf_92 : decode cX3_wayOf 92 = .ok (.iinc 6 1, 3) := dk_132 6 1 (dk_at dksX3_wayOf_3 21 rfl rfl)
theorem dX3_wayOf_95 : decode cX3_wayOf 95 = .ok (.goto (-70), 3) := dk_167 255 186 (dk_at dksX3_wayOf_4 0 rfl rfl)
theorem dX3_wayOf_98 : decode cX3_wayOf 98 = .ok (.iload 5, 2) := dk_21 5 (dk_at dksX3_wayOf_4 3 rfl rfl)
theorem dX3_wayOf_100 : decode cX3_wayOf 100 = .ok (.iload 4, 2) := dk_21 4 (dk_at dksX3_wayOf_4 5 rfl rfl)
theorem dX3_wayOf_102 : decode cX3_wayOf 102 = .ok (.iconst (-1), 1) := dk_2 (dk_at dksX3_wayOf_4 7 rfl rfl)
theorem dX3_wayOf_103 : decode cX3_wayOf 103 = .ok (.ixor, 1) := dk_130 (dk_at dksX3_wayOf_4 8 rfl rfl)
theorem dX3_wayOf_104 : decode cX3_wayOf 104 = .ok (.iand, 1) := dk_126 (dk_at dksX3_wayOf_4 9 rfl rfl)
theorem dX3_wayOf_105 : decode cX3_wayOf 105 = .ok (.invokestatic 122, 3) := dk_184 0 122 (dk_at dksX3_wayOf_4 10 rfl rfl)
theorem dX3_wayOf_108 : decode cX3_wayOf 108 = .ok (.istore 6, 2) := dk_54 6 (dk_at dksX3_wayOf_4 13 rfl rfl)
theorem dX3_wayOf_110 : decode cX3_wayOf 110 = .ok (.aload_n 2, 1) := dk_44 (dk_at dksX3_wayOf_4 15 rfl rfl)
theorem dX3_wayOf_111 : decode cX3_wayOf 111 = .ok (.invokevirtual 125, 3) := dk_182 0 125 (dk_at dksX3_wayOf_4 16 rfl rfl)
theorem dX3_wayOf_114 : decode cX3_wayOf 114 = .ok (.ifCond .ne 93, 3) := dk_154 0 93 (dk_at dksX3_wayOf_4 19 rfl rfl)
theorem dX3_wayOf_117 : decode cX3_wayOf 117 = .ok (.iconst (-1), 1) := dk_2 (dk_at dksX3_wayOf_4 22 rfl rfl)
theorem dX3_wayOf_118 : decode cX3_wayOf 118 = .ok (.istore 7, 2) := dk_54 7 (dk_at dksX3_wayOf_5 0 rfl rfl)
theorem dX3_wayOf_120 : decode cX3_wayOf 120 = .ok (.aload_n 2, 1) := dk_44 (dk_at dksX3_wayOf_5 2 rfl rfl)
theorem dX3_wayOf_121 : decode cX3_wayOf 121 = .ok (.invokevirtual 129, 3) := dk_182 0 129 (dk_at dksX3_wayOf_5 3 rfl rfl)
theorem dX3_wayOf_124 : decode cX3_wayOf 124 = .ok (.astore 8, 2) := dk_58 8 (dk_at dksX3_wayOf_5 6 rfl rfl)
theorem dX3_wayOf_126 : decode cX3_wayOf 126 = .ok (.aload 8, 2) := dk_25 8 (dk_at dksX3_wayOf_5 8 rfl rfl)
theorem dX3_wayOf_128 : decode cX3_wayOf 128 = .ok (.invokeinterface 133 1, 5) := by decide +kernel
theorem dX3_wayOf_133 : decode cX3_wayOf 133 = .ok (.ifCond .eq 53, 3) := dk_153 0 53 (dk_at dksX3_wayOf_5 15 rfl rfl)
theorem dX3_wayOf_136 : decode cX3_wayOf 136 = .ok (.iload 7, 2) := dk_21 7 (dk_at dksX3_wayOf_5 18 rfl rfl)
theorem dX3_wayOf_138 : decode cX3_wayOf 138 = .ok (.iconst (-1), 1) := dk_2 (dk_at dksX3_wayOf_5 20 rfl rfl)
theorem dX3_wayOf_139 : decode cX3_wayOf 139 = .ok (.if_icmp .ne 47, 3) := dk_160 0 47 (dk_at dksX3_wayOf_5 21 rfl rfl)
theorem dX3_wayOf_142 : decode cX3_wayOf 142 = .ok (.aload 8, 2) := dk_25 8 (dk_at dksX3_wayOf_6 0 rfl rfl)
theorem dX3_wayOf_144 : decode cX3_wayOf 144 = .ok (.invokeinterface 138 1, 5) := by decide +kernel
theorem dX3_wayOf_149 : decode cX3_wayOf 149 = .ok (.checkcast 107, 3) := dk_192 0 107 (dk_at dksX3_wayOf_6 7 rfl rfl)
theorem dX3_wayOf_152 : decode cX3_wayOf 152 = .ok (.invokevirtual 142, 3) := dk_182 0 142 (dk_at dksX3_wayOf_6 10 rfl rfl)
theorem dX3_wayOf_155 : decode cX3_wayOf 155 = .ok (.istore 9, 2) := dk_54 9 (dk_at dksX3_wayOf_6 13 rfl rfl)
theorem dX3_wayOf_157 : decode cX3_wayOf 157 = .ok (.aload_n 0, 1) := dk_42 (dk_at dksX3_wayOf_6 15 rfl rfl)
theorem dX3_wayOf_158 : decode cX3_wayOf 158 = .ok (.iload 9, 2) := dk_21 9 (dk_at dksX3_wayOf_6 16 rfl rfl)
theorem dX3_wayOf_160 : decode cX3_wayOf 160 = .ok (.iload_n 1, 1) := dk_27 (dk_at dksX3_wayOf_6 18 rfl rfl)
theorem dX3_wayOf_161 : decode cX3_wayOf 161 = .ok (.invokevirtual 103, 3) := dk_182 0 103 (dk_at dksX3_wayOf_6 19 rfl rfl)
theorem dX3_wayOf_164 : decode cX3_wayOf 164 = .ok (.iload 6, 2) := dk_21 6 (dk_at dksX3_wayOf_6 22 rfl rfl)
theorem dX3_wayOf_166 : decode cX3_wayOf 166 = .ok (.if_icmp .eq 6, 3) := dk_159 0 6 (dk_at dksX3_wayOf_7 0 rfl rfl)
theorem dX3_wayOf_169 : decode cX3_wayOf 169 = .ok (.goto (-43), 3) := dk_167 255 213 (dk_at dksX3_wayOf_7 3 rfl rfl)
theorem dX3_wayOf_172 : decode cX3_wayOf 172 = .ok (.aload 8, 2) := dk_25 8 (dk_at dksX3_wayOf_7 6 rfl rfl)
theorem dX3_wayOf_174 : decode cX3_wayOf 174 = .ok (.invokeinterface 146 1, 5) := by decide +kernel
theorem dX3_wayOf_179 : decode cX3_wayOf 179 = .ok (.iload 9, 2) := dk_21 9 (dk_at dksX3_wayOf_7 13 rfl rfl)
theorem dX3_wayOf_181 : decode cX3_wayOf 181 = .ok (.istore 7, 2) := dk_54 7 (dk_at dksX3_wayOf_7 15 rfl rfl)
theorem dX3_wayOf_183 : decode cX3_wayOf 183 = .ok (.goto (-57), 3) := dk_167 255 199 (dk_at dksX3_wayOf_7 17 rfl rfl)
theorem dX3_wayOf_186 : decode cX3_wayOf 186 = .ok (.aload_n 3, 1) := dk_45 (dk_at dksX3_wayOf_7 20 rfl rfl)
theorem dX3_wayOf_187 : decode cX3_wayOf 187 = .ok (.iload 7, 2) := dk_21 7 (dk_at dksX3_wayOf_7 21 rfl rfl)
theorem dX3_wayOf_189 : decode cX3_wayOf 189 = .ok (.invokestatic 114, 3) := dk_184 0 114 (dk_at dksX3_wayOf_8 0 rfl rfl)
theorem dX3_wayOf_192 : decode cX3_wayOf 192 = .ok (.invokevirtual 118, 3) := dk_182 0 118 (dk_at dksX3_wayOf_8 3 rfl rfl)
theorem dX3_wayOf_195 : decode cX3_wayOf 195 = .ok (.aload_n 0, 1) := dk_42 (dk_at dksX3_wayOf_8 6 rfl rfl)
theorem dX3_wayOf_196 : decode cX3_wayOf 196 = .ok (.iload 7, 2) := dk_21 7 (dk_at dksX3_wayOf_8 7 rfl rfl)
theorem dX3_wayOf_198 : decode cX3_wayOf 198 = .ok (.iload_n 1, 1) := dk_27 (dk_at dksX3_wayOf_8 9 rfl rfl)
theorem dX3_wayOf_199 : decode cX3_wayOf 199 = .ok (.invokevirtual 99, 3) := dk_182 0 99 (dk_at dksX3_wayOf_8 10 rfl rfl)
theorem dX3_wayOf_202 : decode cX3_wayOf 202 = .ok (.istore 6, 2) := dk_54 6 (dk_at dksX3_wayOf_8 13 rfl rfl)
theorem dX3_wayOf_204 : decode cX3_wayOf 204 = .ok (.goto (-94), 3) := dk_167 255 162 (dk_at dksX3_wayOf_8 15 rfl rfl)
theorem dX3_wayOf_207 : decode cX3_wayOf 207 = .ok (.aload_n 3, 1) := dk_45 (dk_at dksX3_wayOf_8 18 rfl rfl)
theorem dX3_wayOf_208 : decode cX3_wayOf 208 = .ok (.invokestatic 149, 3) := dk_184 0 149 (dk_at dksX3_wayOf_8 19 rfl rfl)
theorem dX3_wayOf_211 : decode cX3_wayOf 211 = .ok (.aload_n 3, 1) := dk_45 (dk_at dksX3_wayOf_8 22 rfl rfl)
theorem dX3_wayOf_212 : decode cX3_wayOf 212 = .ok (.areturn, 1) := dk_176 (dk_at dksX3_wayOf_8 23 rfl rfl)
theorem q126 : (Jvm.Cond.initialized "UnimodularTables$Growth") ∈ lw_all := lw_g (lw_at lw_m1 9 rfl) rfl
theorem q264 : (Jvm.Cond.instantiable "UnimodularTables$Growth" (8 : Nat)) ∈ lw_all := lw_g (lw_at lw_m1 147 rfl) rfl
theorem q266 : (Jvm.Cond.instanceMethod ({ cls := "UnimodularTables$Growth", name := "<init>", desc := "(LUnimodularTables;)V" } : Jvm.MethodName)) ∈ lw_all := lw_g (lw_at lw_m1 149 rfl) rfl
theorem q267 : (Jvm.Cond.code ({ cls := "UnimodularTables$Growth", name := "<init>", desc := "(LUnimodularTables;)V" } : Jvm.MethodName) prog_5_method_1_code (3 : Nat) (Option.none : Option Jvm.ClassFile.FieldType)) ∈ lw_all := lw_g (lw_at lw_m1 150 rfl) rfl
theorem q268 : (Jvm.Cond.methodLink "UnimodularTables$Growth" (9 : Nat) ({ cls := "java/lang/Object", name := "<init>", desc := "()V" } : Jvm.MethodName)) ∈ lw_all := lw_g (lw_at lw_m1 151 rfl) rfl
theorem q269 : (Jvm.Cond.classLink "UnimodularTables$Growth" (22 : Nat) "java/util/BitSet") ∈ lw_all := lw_g (lw_at lw_m1 152 rfl) rfl
theorem q272 : (Jvm.Cond.methodLink "UnimodularTables$Growth" (28 : Nat) ({ cls := "java/util/BitSet", name := "<init>", desc := "(I)V" } : Jvm.MethodName)) ∈ lw_all := lw_g (lw_at lw_m1 155 rfl) rfl
theorem q294 : (Jvm.Cond.fieldLink "UnimodularTables$Growth" (15 : Nat) "UnimodularTables$Growth" "from" "[I") ∈ lw_all := lw_g (lw_at lw_m1 177 rfl) rfl
theorem q296 : (Jvm.Cond.fieldLink "UnimodularTables$Growth" (19 : Nat) "UnimodularTables$Growth" "to" "[I") ∈ lw_all := lw_g (lw_at lw_m1 179 rfl) rfl
theorem q298 : (Jvm.Cond.fieldLink "UnimodularTables$Growth" (24 : Nat) "UnimodularTables$Growth" "ends" "[Ljava/util/BitSet;") ∈ lw_all := lw_g (lw_at lw_m1 181 rfl) rfl
theorem q299 : (Jvm.Cond.fieldLink "UnimodularTables$Growth" (31 : Nat) "UnimodularTables$Growth" "isLaid" "Z") ∈ lw_all := lw_g (lw_at lw_m1 182 rfl) rfl
theorem q301 : (Jvm.Cond.fieldLink "UnimodularTables$Growth" (35 : Nat) "UnimodularTables$Growth" "isThere" "Z") ∈ lw_all := lw_g (lw_at lw_m1 184 rfl) rfl
theorem q302 : (Jvm.Cond.fieldLink "UnimodularTables$Growth" (38 : Nat) "UnimodularTables$Growth" "of" "LUnimodularTables$Table;") ∈ lw_all := lw_g (lw_at lw_m1 185 rfl) rfl
theorem q304 : (Jvm.Cond.fieldLink "UnimodularTables$Growth" (42 : Nat) "UnimodularTables$Growth" "nodes" "I") ∈ lw_all := lw_g (lw_at lw_m1 187 rfl) rfl
theorem q305 : (Jvm.Cond.fieldLink "UnimodularTables$Growth" (3 : Nat) "UnimodularTables$Growth" "this$0" "LUnimodularTables;") ∈ lw_all := lw_g (lw_at lw_m1 188 rfl) rfl
theorem q306 : (Jvm.Cond.laysFinal "UnimodularTables$Growth" "UnimodularTables$Growth" "from" "[I") ∈ lw_all := lw_g (lw_at lw_m1 189 rfl) rfl
theorem q307 : (Jvm.Cond.soleField "UnimodularTables$Growth" "from") ∈ lw_all := lw_g (lw_at lw_m1 190 rfl) rfl
theorem q308 : (Jvm.Cond.laysFinal "UnimodularTables$Growth" "UnimodularTables$Growth" "to" "[I") ∈ lw_all := lw_g (lw_at lw_m1 191 rfl) rfl
theorem q309 : (Jvm.Cond.soleField "UnimodularTables$Growth" "to") ∈ lw_all := lw_g (lw_at lw_m1 192 rfl) rfl
theorem q310 : (Jvm.Cond.laysFinal "UnimodularTables$Growth" "UnimodularTables$Growth" "ends" "[Ljava/util/BitSet;") ∈ lw_all := lw_g (lw_at lw_m1 193 rfl) rfl
theorem q311 : (Jvm.Cond.soleField "UnimodularTables$Growth" "ends") ∈ lw_all := lw_g (lw_at lw_m1 194 rfl) rfl
theorem q312 : (Jvm.Cond.lays "UnimodularTables$Growth" "UnimodularTables$Growth" "isLaid" "Z") ∈ lw_all := lw_g (lw_at lw_m1 195 rfl) rfl
theorem q313 : (Jvm.Cond.soleField "UnimodularTables$Growth" "isLaid") ∈ lw_all := lw_g (lw_at lw_m1 196 rfl) rfl
theorem q314 : (Jvm.Cond.lays "UnimodularTables$Growth" "UnimodularTables$Growth" "isThere" "Z") ∈ lw_all := lw_g (lw_at lw_m1 197 rfl) rfl
theorem q315 : (Jvm.Cond.soleField "UnimodularTables$Growth" "isThere") ∈ lw_all := lw_g (lw_at lw_m1 198 rfl) rfl
theorem q316 : (Jvm.Cond.lays "UnimodularTables$Growth" "UnimodularTables$Growth" "of" "LUnimodularTables$Table;") ∈ lw_all := lw_g (lw_at lw_m1 199 rfl) rfl
theorem q317 : (Jvm.Cond.soleField "UnimodularTables$Growth" "of") ∈ lw_all := lw_g (lw_at lw_m1 200 rfl) rfl
theorem q318 : (Jvm.Cond.lays "UnimodularTables$Growth" "UnimodularTables$Growth" "nodes" "I") ∈ lw_all := lw_g (lw_at lw_m1 201 rfl) rfl
theorem q319 : (Jvm.Cond.soleField "UnimodularTables$Growth" "nodes") ∈ lw_all := lw_g (lw_at lw_m1 202 rfl) rfl
theorem q320 : (Jvm.Cond.laysFinal "UnimodularTables$Growth" "UnimodularTables$Growth" "this$0" "LUnimodularTables;") ∈ lw_all := lw_g (lw_at lw_m1 203 rfl) rfl
theorem q321 : (Jvm.Cond.soleField "UnimodularTables$Growth" "this$0") ∈ lw_all := lw_g (lw_at lw_m1 204 rfl) rfl
theorem q322 : (Jvm.Cond.superclass "UnimodularTables$Growth" "java/lang/Object") ∈ lw_all := lw_g (lw_at lw_m1 205 rfl) rfl
theorem q356 : (Jvm.Cond.fieldLinkNest "UnimodularTables$Growth" (61 : Nat) "UnimodularTables$Table" "n" "I" "UnimodularTables") ∈ lw_tbl := lw_at lw_m1 239 rfl
theorem q359 : (Jvm.Cond.fieldLinkNest "UnimodularTables$Growth" (96 : Nat) "UnimodularTables$Table" "m" "I" "UnimodularTables") ∈ lw_tbl := lw_at lw_m2 2 rfl
theorem q362 : (Jvm.Cond.fieldLinkNest "UnimodularTables$Growth" (92 : Nat) "UnimodularTables$Table" "at" "[[I" "UnimodularTables") ∈ lw_tbl := lw_at lw_m2 5 rfl
theorem q905 : (Jvm.Cond.instanceMethod ({ cls := "UnimodularTables$Growth", name := "lays", desc := "(LUnimodularTables$Table;)Z" } : Jvm.MethodName)) ∈ lw_all := lw_g (lw_at lw_m4 68 rfl) rfl
theorem q906 : (Jvm.Cond.selects "UnimodularTables$Growth" ({ cls := "UnimodularTables$Growth", name := "lays", desc := "(LUnimodularTables$Table;)Z" } : Jvm.MethodName) ({ cls := "UnimodularTables$Growth", name := "lays", desc := "(LUnimodularTables$Table;)Z" } : Jvm.MethodName)) ∈ lw_all := lw_g (lw_at lw_m4 69 rfl) rfl
theorem q907 : (Jvm.Cond.code ({ cls := "UnimodularTables$Growth", name := "lays", desc := "(LUnimodularTables$Table;)Z" } : Jvm.MethodName) prog_5_method_2_code (6 : Nat) (Option.some Jvm.ClassFile.FieldType.boolean)) ∈ lw_all := lw_g (lw_at lw_m4 70 rfl) rfl
theorem q908 : (Jvm.Cond.methodLink "UnimodularTables$Growth" (46 : Nat) ({ cls := "java/util/BitSet", name := "clear", desc := "()V" } : Jvm.MethodName)) ∈ lw_all := lw_g (lw_at lw_m4 71 rfl) rfl
theorem q912 : (Jvm.Cond.methodLinkNest "UnimodularTables$Growth" (49 : Nat) ({ cls := "UnimodularTables", name := "isTotal", desc := "(LUnimodularTables$Table;)Z" } : Jvm.MethodName) "UnimodularTables") ∈ lw_tbl := lw_at lw_m4 75 rfl
theorem q916 : (Jvm.Cond.methodLink "UnimodularTables$Growth" (53 : Nat) ({ cls := "UnimodularTables$Growth", name := "grows", desc := "(I)Z" } : Jvm.MethodName)) ∈ lw_all := lw_g (lw_at lw_m4 79 rfl) rfl
theorem q917 : (Jvm.Cond.privateMethod ({ cls := "UnimodularTables$Growth", name := "grows", desc := "(I)Z" } : Jvm.MethodName)) ∈ lw_tbl := lw_at lw_m4 80 rfl
theorem q918 : (Jvm.Cond.instanceMethod ({ cls := "UnimodularTables$Growth", name := "grows", desc := "(I)Z" } : Jvm.MethodName)) ∈ lw_all := lw_g (lw_at lw_m4 81 rfl) rfl
theorem q919 : (Jvm.Cond.code ({ cls := "UnimodularTables$Growth", name := "grows", desc := "(I)Z" } : Jvm.MethodName) prog_5_method_7_code (6 : Nat) (Option.some Jvm.ClassFile.FieldType.boolean)) ∈ lw_all := lw_g (lw_at lw_m4 82 rfl) rfl
theorem q920 : (Jvm.Cond.methodLink "UnimodularTables$Growth" (79 : Nat) ({ cls := "UnimodularTables$Growth", name := "setAt", desc := "(I)I" } : Jvm.MethodName)) ∈ lw_all := lw_g (lw_at lw_m4 83 rfl) rfl
theorem q921 : (Jvm.Cond.privateMethod ({ cls := "UnimodularTables$Growth", name := "setAt", desc := "(I)I" } : Jvm.MethodName)) ∈ lw_tbl := lw_at lw_m4 84 rfl
theorem q922 : (Jvm.Cond.instanceMethod ({ cls := "UnimodularTables$Growth", name := "setAt", desc := "(I)I" } : Jvm.MethodName)) ∈ lw_all := lw_g (lw_at lw_m4 85 rfl) rfl
theorem q923 : (Jvm.Cond.code ({ cls := "UnimodularTables$Growth", name := "setAt", desc := "(I)I" } : Jvm.MethodName) prog_5_method_3_code (4 : Nat) (Option.some Jvm.ClassFile.FieldType.int)) ∈ lw_all := lw_g (lw_at lw_m4 86 rfl) rfl
theorem q924 : (Jvm.Cond.methodLink "UnimodularTables$Growth" (57 : Nat) ({ cls := "java/util/BitSet", name := "nextSetBit", desc := "(I)I" } : Jvm.MethodName)) ∈ lw_all := lw_g (lw_at lw_m4 87 rfl) rfl
theorem q939 : (Jvm.Cond.methodLink "UnimodularTables$Growth" (82 : Nat) ({ cls := "UnimodularTables$Growth", name := "parts", desc := "(IIII)V" } : Jvm.MethodName)) ∈ lw_all := lw_g (lw_at lw_m4 102 rfl) rfl
theorem q940 : (Jvm.Cond.privateMethod ({ cls := "UnimodularTables$Growth", name := "parts", desc := "(IIII)V" } : Jvm.MethodName)) ∈ lw_tbl := lw_at lw_m4 103 rfl
theorem q941 : (Jvm.Cond.instanceMethod ({ cls := "UnimodularTables$Growth", name := "parts", desc := "(IIII)V" } : Jvm.MethodName)) ∈ lw_all := lw_g (lw_at lw_m4 104 rfl) rfl
theorem q942 : (Jvm.Cond.code ({ cls := "UnimodularTables$Growth", name := "parts", desc := "(IIII)V" } : Jvm.MethodName) prog_5_method_5_code (5 : Nat) (Option.none : Option Jvm.ClassFile.FieldType)) ∈ lw_all := lw_g (lw_at lw_m4 105 rfl) rfl
theorem q943 : (Jvm.Cond.methodLink "UnimodularTables$Growth" (75 : Nat) ({ cls := "UnimodularTables$Growth", name := "moves", desc := "(III)V" } : Jvm.MethodName)) ∈ lw_all := lw_g (lw_at lw_m4 106 rfl) rfl
theorem q944 : (Jvm.Cond.privateMethod ({ cls := "UnimodularTables$Growth", name := "moves", desc := "(III)V" } : Jvm.MethodName)) ∈ lw_tbl := lw_at lw_m4 107 rfl
theorem q945 : (Jvm.Cond.instanceMethod ({ cls := "UnimodularTables$Growth", name := "moves", desc := "(III)V" } : Jvm.MethodName)) ∈ lw_all := lw_g (lw_at lw_m4 108 rfl) rfl
theorem q946 : (Jvm.Cond.code ({ cls := "UnimodularTables$Growth", name := "moves", desc := "(III)V" } : Jvm.MethodName) prog_5_method_4_code (5 : Nat) (Option.none : Option Jvm.ClassFile.FieldType)) ∈ lw_all := lw_g (lw_at lw_m4 109 rfl) rfl
theorem q947 : (Jvm.Cond.methodLinkNest "UnimodularTables$Growth" (66 : Nat) ({ cls := "UnimodularTables", name := "has", desc := "(II)Z" } : Jvm.MethodName) "UnimodularTables") ∈ lw_tbl := lw_at lw_m4 110 rfl
theorem q948 : (Jvm.Cond.methodLink "UnimodularTables$Growth" (70 : Nat) ({ cls := "java/util/BitSet", name := "clear", desc := "(I)V" } : Jvm.MethodName)) ∈ lw_all := lw_g (lw_at lw_m4 111 rfl) rfl
theorem q956 : (Jvm.Cond.methodLink "UnimodularTables$Growth" (72 : Nat) ({ cls := "java/util/BitSet", name := "set", desc := "(I)V" } : Jvm.MethodName)) ∈ lw_all := lw_g (lw_at lw_m4 119 rfl) rfl
theorem q981 : (Jvm.Cond.methodLink "UnimodularTables$Growth" (86 : Nat) ({ cls := "UnimodularTables$Growth", name := "areWays", desc := "(I)Z" } : Jvm.MethodName)) ∈ lw_all := lw_g (lw_at lw_m4 144 rfl) rfl
theorem q982 : (Jvm.Cond.privateMethod ({ cls := "UnimodularTables$Growth", name := "areWays", desc := "(I)Z" } : Jvm.MethodName)) ∈ lw_tbl := lw_at lw_m4 145 rfl
theorem q983 : (Jvm.Cond.instanceMethod ({ cls := "UnimodularTables$Growth", name := "areWays", desc := "(I)Z" } : Jvm.MethodName)) ∈ lw_all := lw_g (lw_at lw_m4 146 rfl) rfl
theorem q984 : (Jvm.Cond.code ({ cls := "UnimodularTables$Growth", name := "areWays", desc := "(I)Z" } : Jvm.MethodName) prog_5_method_10_code (6 : Nat) (Option.some Jvm.ClassFile.FieldType.boolean)) ∈ lw_all := lw_g (lw_at lw_m4 147 rfl) rfl
theorem q985 : (Jvm.Cond.methodLink "UnimodularTables$Growth" (99 : Nat) ({ cls := "UnimodularTables$Growth", name := "tail", desc := "(II)I" } : Jvm.MethodName)) ∈ lw_all := lw_g (lw_at lw_m4 148 rfl) rfl
theorem q986 : (Jvm.Cond.privateMethod ({ cls := "UnimodularTables$Growth", name := "tail", desc := "(II)I" } : Jvm.MethodName)) ∈ lw_tbl := lw_at lw_m4 149 rfl
theorem q987 : (Jvm.Cond.instanceMethod ({ cls := "UnimodularTables$Growth", name := "tail", desc := "(II)I" } : Jvm.MethodName)) ∈ lw_all := lw_g (lw_at lw_m4 150 rfl) rfl
theorem q988 : (Jvm.Cond.code ({ cls := "UnimodularTables$Growth", name := "tail", desc := "(II)I" } : Jvm.MethodName) prog_5_method_8_code (3 : Nat) (Option.some Jvm.ClassFile.FieldType.int)) ∈ lw_all := lw_g (lw_at lw_m4 151 rfl) rfl
theorem q989 : (Jvm.Cond.methodLink "UnimodularTables$Growth" (103 : Nat) ({ cls := "UnimodularTables$Growth", name := "head", desc := "(II)I" } : Jvm.MethodName)) ∈ lw_all := lw_g (lw_at lw_m4 152 rfl) rfl
theorem q990 : (Jvm.Cond.privateMethod ({ cls := "UnimodularTables$Growth", name := "head", desc := "(II)I" } : Jvm.MethodName)) ∈ lw_tbl := lw_at lw_m4 153 rfl
theorem q991 : (Jvm.Cond.instanceMethod ({ cls := "UnimodularTables$Growth", name := "head", desc := "(II)I" } : Jvm.MethodName)) ∈ lw_all := lw_g (lw_at lw_m4 154 rfl) rfl
theorem q992 : (Jvm.Cond.code ({ cls := "UnimodularTables$Growth", name := "head", desc := "(II)I" } : Jvm.MethodName) prog_5_method_9_code (3 : Nat) (Option.some Jvm.ClassFile.FieldType.int)) ∈ lw_all := lw_g (lw_at lw_m4 155 rfl) rfl
theorem q993 : (Jvm.Cond.methodLink "UnimodularTables$Growth" (106 : Nat) ({ cls := "java/lang/Integer", name := "bitCount", desc := "(I)I" } : Jvm.MethodName)) ∈ lw_all := lw_g (lw_at lw_m4 156 rfl) rfl
theorem q994 : (Jvm.Cond.methodLink "UnimodularTables$Growth" (89 : Nat) ({ cls := "UnimodularTables$Growth", name := "heals", desc := "(III)V" } : Jvm.MethodName)) ∈ lw_all := lw_g (lw_at lw_m4 157 rfl) rfl
theorem q995 : (Jvm.Cond.privateMethod ({ cls := "UnimodularTables$Growth", name := "heals", desc := "(III)V" } : Jvm.MethodName)) ∈ lw_tbl := lw_at lw_m4 158 rfl
theorem q996 : (Jvm.Cond.instanceMethod ({ cls := "UnimodularTables$Growth", name := "heals", desc := "(III)V" } : Jvm.MethodName)) ∈ lw_all := lw_g (lw_at lw_m4 159 rfl) rfl
theorem q997 : (Jvm.Cond.code ({ cls := "UnimodularTables$Growth", name := "heals", desc := "(III)V" } : Jvm.MethodName) prog_5_method_6_code (4 : Nat) (Option.none : Option Jvm.ClassFile.FieldType)) ∈ lw_all := lw_g (lw_at lw_m4 160 rfl) rfl
theorem q1007 : (Jvm.Cond.instanceMethod ({ cls := "UnimodularTables$Growth", name := "wayOf", desc := "(I)Ljava/util/LinkedList;" } : Jvm.MethodName)) ∈ lw_all := lw_g (lw_at lw_m4 170 rfl) rfl
theorem q1008 : (Jvm.Cond.selects "UnimodularTables$Growth" ({ cls := "UnimodularTables$Growth", name := "wayOf", desc := "(I)Ljava/util/LinkedList;" } : Jvm.MethodName) ({ cls := "UnimodularTables$Growth", name := "wayOf", desc := "(I)Ljava/util/LinkedList;" } : Jvm.MethodName)) ∈ lw_all := lw_g (lw_at lw_m4 171 rfl) rfl
theorem q1009 : (Jvm.Cond.code ({ cls := "UnimodularTables$Growth", name := "wayOf", desc := "(I)Ljava/util/LinkedList;" } : Jvm.MethodName) prog_5_method_11_code (10 : Nat) (Option.some (Jvm.ClassFile.FieldType.object "java/util/LinkedList"))) ∈ lw_all := lw_g (lw_at lw_m4 172 rfl) rfl
theorem q1010 : (Jvm.Cond.classLink "UnimodularTables$Growth" (111 : Nat) "java/util/LinkedList") ∈ lw_all := lw_g (lw_at lw_m4 173 rfl) rfl
theorem q1011 : (Jvm.Cond.methodLink "UnimodularTables$Growth" (113 : Nat) ({ cls := "java/util/LinkedList", name := "<init>", desc := "()V" } : Jvm.MethodName)) ∈ lw_all := lw_g (lw_at lw_m4 174 rfl) rfl
theorem q1012 : (Jvm.Cond.methodLink "UnimodularTables$Growth" (114 : Nat) ({ cls := "java/lang/Integer", name := "valueOf", desc := "(I)Ljava/lang/Integer;" } : Jvm.MethodName)) ∈ lw_all := lw_g (lw_at lw_m4 175 rfl) rfl
theorem q1032 : (Jvm.Cond.methodLink "UnimodularTables$Growth" (118 : Nat) ({ cls := "java/util/LinkedList", name := "addLast", desc := "(Ljava/lang/Object;)V" } : Jvm.MethodName)) ∈ lw_all := lw_g (lw_at lw_m4 195 rfl) rfl
theorem q1033 : (Jvm.Cond.methodLink "UnimodularTables$Growth" (122 : Nat) ({ cls := "java/lang/Integer", name := "numberOfTrailingZeros", desc := "(I)I" } : Jvm.MethodName)) ∈ lw_all := lw_g (lw_at lw_m4 196 rfl) rfl
theorem q1034 : (Jvm.Cond.methodLink "UnimodularTables$Growth" (125 : Nat) ({ cls := "java/util/LinkedList", name := "isEmpty", desc := "()Z" } : Jvm.MethodName)) ∈ lw_all := lw_g (lw_at lw_m4 197 rfl) rfl
theorem q1050 : (Jvm.Cond.methodLink "UnimodularTables$Growth" (129 : Nat) ({ cls := "java/util/LinkedList", name := "iterator", desc := "()Ljava/util/Iterator;" } : Jvm.MethodName)) ∈ lw_all := lw_g (lw_at lw_m4 213 rfl) rfl
theorem q1100 : (Jvm.Cond.interfaceEntry "UnimodularTables$Growth" (133 : Nat)) ∈ lw_tbl := lw_at lw_m5 23 rfl
theorem q1101 : (Jvm.Cond.methodLink "UnimodularTables$Growth" (133 : Nat) ({ cls := "java/util/Iterator", name := "hasNext", desc := "()Z" } : Jvm.MethodName)) ∈ lw_all := lw_g (lw_at lw_m5 24 rfl) rfl
theorem q1119 : (Jvm.Cond.interfaceEntry "UnimodularTables$Growth" (138 : Nat)) ∈ lw_tbl := lw_at lw_m5 42 rfl
theorem q1120 : (Jvm.Cond.methodLink "UnimodularTables$Growth" (138 : Nat) ({ cls := "java/util/Iterator", name := "next", desc := "()Ljava/lang/Object;" } : Jvm.MethodName)) ∈ lw_all := lw_g (lw_at lw_m5 43 rfl) rfl
theorem q1173 : (Jvm.Cond.selects "UnimodularTables$Growth" ({ cls := "java/lang/Object", name := "getClass", desc := "()Ljava/lang/Class;" } : Jvm.MethodName) ({ cls := "java/lang/Object", name := "getClass", desc := "()Ljava/lang/Class;" } : Jvm.MethodName)) ∈ lw_all := lw_g (lw_at lw_m5 96 rfl) rfl
theorem q1395 : (Jvm.Cond.classLink "UnimodularTables$Growth" (107 : Nat) "java/lang/Integer") ∈ lw_all := lw_g (lw_at lw_m6 78 rfl) rfl
theorem q1396 : (Jvm.Cond.methodLink "UnimodularTables$Growth" (142 : Nat) ({ cls := "java/lang/Integer", name := "intValue", desc := "()I" } : Jvm.MethodName)) ∈ lw_all := lw_g (lw_at lw_m6 79 rfl) rfl
theorem q1400 : (Jvm.Cond.interfaceEntry "UnimodularTables$Growth" (146 : Nat)) ∈ lw_tbl := lw_at lw_m6 83 rfl
theorem q1401 : (Jvm.Cond.methodLink "UnimodularTables$Growth" (146 : Nat) ({ cls := "java/util/Iterator", name := "remove", desc := "()V" } : Jvm.MethodName)) ∈ lw_all := lw_g (lw_at lw_m6 84 rfl) rfl
theorem q1454 : (Jvm.Cond.methodLink "UnimodularTables$Growth" (149 : Nat) ({ cls := "java/util/Collections", name := "reverse", desc := "(Ljava/util/List;)V" } : Jvm.MethodName)) ∈ lw_all := lw_g (lw_at lw_m6 137 rfl) rfl
theorem q2344 : (Jvm.Cond.castable "UnimodularTables$Growth" "java/lang/Object") ∈ lw_tbl := lw_at lw_m10 67 rfl
theorem in_X3 : ∀ w ∈ wsX30, w ∈ lw_all := lw_in wsX30 [306, 308, 310, 312, 314, 316, 318, 320] (by decide +kernel) (by decide +kernel)
/-! UnimodularTables$Table -/
set_option maxRecDepth 100000
def RX4 : String := "UnimodularTables$Table"
def TX4 : u_T := fun k => match k with
  | 0 => ("UnimodularTables$Table", "n", "I", true)
  | 1 => ("UnimodularTables$Table", "m", "I", true)
  | _ => ("UnimodularTables$Table", "at", "[[I", true)
def tyX4 : Nat → FieldType := fun k => match k with
  | 0 => .int
  | 1 => .int
  | _ => .array (.array .int)
abbrev wsX40 : List Cond := u_ws RX4 TX4 3
theorem nmX4 : ∀ a, a < 3 → ∀ b, b < 3 → a ≠ b → (TX4 a).2.1 ≠ (TX4 b).2.1 := by decide +kernel
theorem tyX4_ok : ∀ k, k < 3 → parseFieldDescriptor (TX4 k).2.2.1 = some (tyX4 k) := by decide +kernel
abbrev cX4_init : ByteArray := prog_6_method_1_code
def yX4_init : MethodName := ⟨RX4, "<init>", "(II)V"⟩
def dkwX4_init_1 : List UInt8 := [177]
abbrev dktX4_init_1 : List UInt8 := dkwX4_init_1 ++ []
def dkwX4_init_0 : List UInt8 := [42, 183, 0, 1, 42, 27, 181, 0, 7, 42, 28, 181, 0, 13, 42, 27, 28, 197, 0, 16, 2, 181, 0, 18]
abbrev dktX4_init_0 : List UInt8 := dkwX4_init_0 ++ dktX4_init_1
theorem dksX4_init_0 : cX4_init.data.toList.drop 0 = dktX4_init_0 := by decide +kernel
theorem dksX4_init_1 : cX4_init.data.toList.drop 24 = dktX4_init_1 := dk_seg dksX4_init_0 24 rfl rfl
theorem dX4_init_0 : decode cX4_init 0 = .ok (.aload_n 0, 1) := dk_42 (dk_at dksX4_init_0 0 rfl rfl)
theorem dX4_init_1 : decode cX4_init 1 = .ok (.invokespecial 1, 3) := dk_183 0 1 (dk_at dksX4_init_0 1 rfl rfl)
theorem dX4_init_4 : decode cX4_init 4 = .ok (.aload_n 0, 1) := dk_42 (dk_at dksX4_init_0 4 rfl rfl)
theorem dX4_init_5 : decode cX4_init 5 = .ok (.iload_n 1, 1) := dk_27 (dk_at dksX4_init_0 5 rfl rfl)
theorem dX4_init_6 : decode cX4_init 6 = .ok (.putfield 7, 3) := dk_181 0 7 (dk_at dksX4_init_0 6 rfl rfl)
theorem dX4_init_9 : decode cX4_init 9 = .ok (.aload_n 0, 1) := dk_42 (dk_at dksX4_init_0 9 rfl rfl)
theorem dX4_init_10 : decode cX4_init 10 = .ok (.iload_n 2, 1) := dk_28 (dk_at dksX4_init_0 10 rfl rfl)
theorem dX4_init_11 : decode cX4_init 11 = .ok (.putfield 13, 3) := dk_181 0 13 (dk_at dksX4_init_0 11 rfl rfl)
theorem dX4_init_14 : decode cX4_init 14 = .ok (.aload_n 0, 1) := dk_42 (dk_at dksX4_init_0 14 rfl rfl)
theorem dX4_init_15 : decode cX4_init 15 = .ok (.iload_n 1, 1) := dk_27 (dk_at dksX4_init_0 15 rfl rfl)
theorem dX4_init_16 : decode cX4_init 16 = .ok (.iload_n 2, 1) := dk_28 (dk_at dksX4_init_0 16 rfl rfl)
theorem dX4_init_17 : decode cX4_init 17 = .ok (.multianewarray 16 2, 4) := by decide +kernel
theorem dX4_init_21 : decode cX4_init 21 = .ok (.putfield 18, 3) := dk_181 0 18 (dk_at dksX4_init_0 21 rfl rfl)
theorem dX4_init_24 : decode cX4_init 24 = .ok (.return_, 1) := dk_177 (dk_at dksX4_init_1 0 rfl rfl)
abbrev cX4_copied : ByteArray := prog_6_method_2_code
def yX4_copied : MethodName := ⟨RX4, "copied", "()LUnimodularTables$Table;"⟩
def dkwX4_copied_2 : List UInt8 := [28, 50, 29, 46, 79, 132, 3, 1, 167, 255, 229, 132, 2, 1, 167, 255, 213, 43, 176]
abbrev dktX4_copied_2 : List UInt8 := dkwX4_copied_2 ++ []
def dkwX4_copied_1 : List UInt8 := [162, 0, 41, 3, 62, 29, 42, 180, 0, 13, 162, 0, 25, 43, 180, 0, 18, 28, 50, 29, 42, 180, 0, 18]
abbrev dktX4_copied_1 : List UInt8 := dkwX4_copied_1 ++ dktX4_copied_2
def dkwX4_copied_0 : List UInt8 := [187, 0, 8, 89, 42, 180, 0, 7, 42, 180, 0, 13, 183, 0, 21, 76, 3, 61, 28, 42, 180, 0, 7]
abbrev dktX4_copied_0 : List UInt8 := dkwX4_copied_0 ++ dktX4_copied_1
theorem dksX4_copied_0 : cX4_copied.data.toList.drop 0 = dktX4_copied_0 := by decide +kernel
theorem dksX4_copied_1 : cX4_copied.data.toList.drop 23 = dktX4_copied_1 := dk_seg dksX4_copied_0 23 rfl rfl
theorem dksX4_copied_2 : cX4_copied.data.toList.drop 47 = dktX4_copied_2 := dk_seg dksX4_copied_1 24 rfl rfl
theorem dX4_copied_0 : decode cX4_copied 0 = .ok (.new 8, 3) := dk_187 0 8 (dk_at dksX4_copied_0 0 rfl rfl)
theorem dX4_copied_3 : decode cX4_copied 3 = .ok (.dup, 1) := dk_89 (dk_at dksX4_copied_0 3 rfl rfl)
theorem dX4_copied_4 : decode cX4_copied 4 = .ok (.aload_n 0, 1) := dk_42 (dk_at dksX4_copied_0 4 rfl rfl)
theorem dX4_copied_5 : decode cX4_copied 5 = .ok (.getfield 7, 3) := dk_180 0 7 (dk_at dksX4_copied_0 5 rfl rfl)
theorem dX4_copied_8 : decode cX4_copied 8 = .ok (.aload_n 0, 1) := dk_42 (dk_at dksX4_copied_0 8 rfl rfl)
theorem dX4_copied_9 : decode cX4_copied 9 = .ok (.getfield 13, 3) := dk_180 0 13 (dk_at dksX4_copied_0 9 rfl rfl)
theorem dX4_copied_12 : decode cX4_copied 12 = .ok (.invokespecial 21, 3) := dk_183 0 21 (dk_at dksX4_copied_0 12 rfl rfl)
theorem dX4_copied_15 : decode cX4_copied 15 = .ok (.astore_n 1, 1) := dk_76 (dk_at dksX4_copied_0 15 rfl rfl)
theorem dX4_copied_16 : decode cX4_copied 16 = .ok (.iconst 0, 1) := dk_3 (dk_at dksX4_copied_0 16 rfl rfl)
theorem dX4_copied_17 : decode cX4_copied 17 = .ok (.istore_n 2, 1) := dk_61 (dk_at dksX4_copied_0 17 rfl rfl)
theorem dX4_copied_18 : decode cX4_copied 18 = .ok (.iload_n 2, 1) := dk_28 (dk_at dksX4_copied_0 18 rfl rfl)
theorem dX4_copied_19 : decode cX4_copied 19 = .ok (.aload_n 0, 1) := dk_42 (dk_at dksX4_copied_0 19 rfl rfl)
theorem dX4_copied_20 : decode cX4_copied 20 = .ok (.getfield 7, 3) := dk_180 0 7 (dk_at dksX4_copied_0 20 rfl rfl)
theorem dX4_copied_23 : decode cX4_copied 23 = .ok (.if_icmp .ge 41, 3) := dk_162 0 41 (dk_at dksX4_copied_1 0 rfl rfl)
theorem dX4_copied_26 : decode cX4_copied 26 = .ok (.iconst 0, 1) := dk_3 (dk_at dksX4_copied_1 3 rfl rfl)
theorem dX4_copied_27 : decode cX4_copied 27 = .ok (.istore_n 3, 1) := dk_62 (dk_at dksX4_copied_1 4 rfl rfl)
theorem dX4_copied_28 : decode cX4_copied 28 = .ok (.iload_n 3, 1) := dk_29 (dk_at dksX4_copied_1 5 rfl rfl)
theorem dX4_copied_29 : decode cX4_copied 29 = .ok (.aload_n 0, 1) := dk_42 (dk_at dksX4_copied_1 6 rfl rfl)
theorem dX4_copied_30 : decode cX4_copied 30 = .ok (.getfield 13, 3) := dk_180 0 13 (dk_at dksX4_copied_1 7 rfl rfl)
theorem dX4_copied_33 : decode cX4_copied 33 = .ok (.if_icmp .ge 25, 3) := dk_162 0 25 (dk_at dksX4_copied_1 10 rfl rfl)
theorem dX4_copied_36 : decode cX4_copied 36 = .ok (.aload_n 1, 1) := dk_43 (dk_at dksX4_copied_1 13 rfl rfl)
theorem dX4_copied_37 : decode cX4_copied 37 = .ok (.getfield 18, 3) := dk_180 0 18 (dk_at dksX4_copied_1 14 rfl rfl)
theorem dX4_copied_40 : decode cX4_copied 40 = .ok (.iload_n 2, 1) := dk_28 (dk_at dksX4_copied_1 17 rfl rfl)
theorem dX4_copied_41 : decode cX4_copied 41 = .ok (.aaload, 1) := dk_50 (dk_at dksX4_copied_1 18 rfl rfl)
theorem dX4_copied_42 : decode cX4_copied 42 = .ok (.iload_n 3, 1) := dk_29 (dk_at dksX4_copied_1 19 rfl rfl)
theorem dX4_copied_43 : decode cX4_copied 43 = .ok (.aload_n 0, 1) := dk_42 (dk_at dksX4_copied_1 20 rfl rfl)
theorem dX4_copied_44 : decode cX4_copied 44 = .ok (.getfield 18, 3) := dk_180 0 18 (dk_at dksX4_copied_1 21 rfl rfl)
theorem dX4_copied_47 : decode cX4_copied 47 = .ok (.iload_n 2, 1) := dk_28 (dk_at dksX4_copied_2 0 rfl rfl)
theorem dX4_copied_48 : decode cX4_copied 48 = .ok (.aaload, 1) := dk_50 (dk_at dksX4_copied_2 1 rfl rfl)
theorem dX4_copied_49 : decode cX4_copied 49 = .ok (.iload_n 3, 1) := dk_29 (dk_at dksX4_copied_2 2 rfl rfl)
theorem dX4_copied_50 : decode cX4_copied 50 = .ok (.iaload, 1) := dk_46 (dk_at dksX4_copied_2 3 rfl rfl)
theorem dX4_copied_51 : decode cX4_copied 51 = .ok (.iastore, 1) := dk_79 (dk_at dksX4_copied_2 4 rfl rfl)
theorem dX4_copied_52 : decode cX4_copied 52 = .ok (.iinc 3 1, 3) := dk_132 3 1 (dk_at dksX4_copied_2 5 rfl rfl)
theorem dX4_copied_55 : decode cX4_copied 55 = .ok (.goto (-27), 3) := dk_167 255 229 (dk_at dksX4_copied_2 8 rfl rfl)
theorem dX4_copied_58 : decode cX4_copied 58 = .ok (.iinc 2 1, 3) := dk_132 2 1 (dk_at dksX4_copied_2 11 rfl rfl)
theorem dX4_copied_61 : decode cX4_copied 61 = .ok (.goto (-43), 3) := dk_167 255 213 (dk_at dksX4_copied_2 14 rfl rfl)
theorem dX4_copied_64 : decode cX4_copied 64 = .ok (.aload_n 1, 1) := dk_43 (dk_at dksX4_copied_2 17 rfl rfl)
theorem dX4_copied_65 : decode cX4_copied 65 = .ok (.areturn, 1) := dk_176 (dk_at dksX4_copied_2 18 rfl rfl)
theorem q129 : (Jvm.Cond.initialized "UnimodularTables$Table") ∈ lw_all := lw_g (lw_at lw_m1 12 rfl) rfl
theorem q348 : (Jvm.Cond.instantiable "UnimodularTables$Table" (3 : Nat)) ∈ lw_all := lw_g (lw_at lw_m1 231 rfl) rfl
theorem q350 : (Jvm.Cond.instanceMethod ({ cls := "UnimodularTables$Table", name := "<init>", desc := "(II)V" } : Jvm.MethodName)) ∈ lw_all := lw_g (lw_at lw_m1 233 rfl) rfl
theorem q351 : (Jvm.Cond.code ({ cls := "UnimodularTables$Table", name := "<init>", desc := "(II)V" } : Jvm.MethodName) prog_6_method_1_code (3 : Nat) (Option.none : Option Jvm.ClassFile.FieldType)) ∈ lw_all := lw_g (lw_at lw_m1 234 rfl) rfl
theorem q352 : (Jvm.Cond.methodLink "UnimodularTables$Table" (1 : Nat) ({ cls := "java/lang/Object", name := "<init>", desc := "()V" } : Jvm.MethodName)) ∈ lw_all := lw_g (lw_at lw_m1 235 rfl) rfl
theorem q353 : (Jvm.Cond.classLink "UnimodularTables$Table" (16 : Nat) "[[I") ∈ lw_all := lw_g (lw_at lw_m1 236 rfl) rfl
theorem q354 : (Jvm.Cond.fieldLink "UnimodularTables$Table" (7 : Nat) "UnimodularTables$Table" "n" "I") ∈ lw_all := lw_g (lw_at lw_m1 237 rfl) rfl
theorem q357 : (Jvm.Cond.fieldLink "UnimodularTables$Table" (13 : Nat) "UnimodularTables$Table" "m" "I") ∈ lw_all := lw_g (lw_at lw_m2 0 rfl) rfl
theorem q360 : (Jvm.Cond.fieldLink "UnimodularTables$Table" (18 : Nat) "UnimodularTables$Table" "at" "[[I") ∈ lw_all := lw_g (lw_at lw_m2 3 rfl) rfl
theorem q363 : (Jvm.Cond.laysFinal "UnimodularTables$Table" "UnimodularTables$Table" "n" "I") ∈ lw_all := lw_g (lw_at lw_m2 6 rfl) rfl
theorem q364 : (Jvm.Cond.soleField "UnimodularTables$Table" "n") ∈ lw_all := lw_g (lw_at lw_m2 7 rfl) rfl
theorem q365 : (Jvm.Cond.laysFinal "UnimodularTables$Table" "UnimodularTables$Table" "m" "I") ∈ lw_all := lw_g (lw_at lw_m2 8 rfl) rfl
theorem q366 : (Jvm.Cond.soleField "UnimodularTables$Table" "m") ∈ lw_all := lw_g (lw_at lw_m2 9 rfl) rfl
theorem q367 : (Jvm.Cond.laysFinal "UnimodularTables$Table" "UnimodularTables$Table" "at" "[[I") ∈ lw_all := lw_g (lw_at lw_m2 10 rfl) rfl
theorem q368 : (Jvm.Cond.soleField "UnimodularTables$Table" "at") ∈ lw_all := lw_g (lw_at lw_m2 11 rfl) rfl
theorem q369 : (Jvm.Cond.superclass "UnimodularTables$Table" "java/lang/Object") ∈ lw_all := lw_g (lw_at lw_m2 12 rfl) rfl
theorem q417 : (Jvm.Cond.instanceMethod ({ cls := "UnimodularTables$Table", name := "copied", desc := "()LUnimodularTables$Table;" } : Jvm.MethodName)) ∈ lw_all := lw_g (lw_at lw_m2 60 rfl) rfl
theorem q418 : (Jvm.Cond.selects "UnimodularTables$Table" ({ cls := "UnimodularTables$Table", name := "copied", desc := "()LUnimodularTables$Table;" } : Jvm.MethodName) ({ cls := "UnimodularTables$Table", name := "copied", desc := "()LUnimodularTables$Table;" } : Jvm.MethodName)) ∈ lw_all := lw_g (lw_at lw_m2 61 rfl) rfl
theorem q419 : (Jvm.Cond.code ({ cls := "UnimodularTables$Table", name := "copied", desc := "()LUnimodularTables$Table;" } : Jvm.MethodName) prog_6_method_2_code (4 : Nat) (Option.some (Jvm.ClassFile.FieldType.object "UnimodularTables$Table"))) ∈ lw_all := lw_g (lw_at lw_m2 62 rfl) rfl
theorem q420 : (Jvm.Cond.classLink "UnimodularTables$Table" (8 : Nat) "UnimodularTables$Table") ∈ lw_all := lw_g (lw_at lw_m2 63 rfl) rfl
theorem q421 : (Jvm.Cond.methodLink "UnimodularTables$Table" (21 : Nat) ({ cls := "UnimodularTables$Table", name := "<init>", desc := "(II)V" } : Jvm.MethodName)) ∈ lw_all := lw_g (lw_at lw_m2 64 rfl) rfl
theorem q1174 : (Jvm.Cond.selects "UnimodularTables$Table" ({ cls := "java/lang/Object", name := "getClass", desc := "()Ljava/lang/Class;" } : Jvm.MethodName) ({ cls := "java/lang/Object", name := "getClass", desc := "()Ljava/lang/Class;" } : Jvm.MethodName)) ∈ lw_all := lw_g (lw_at lw_m5 97 rfl) rfl
theorem q2351 : (Jvm.Cond.castable "UnimodularTables$Table" "java/lang/Object") ∈ lw_tbl := lw_at lw_m10 74 rfl
theorem in_X4 : ∀ w ∈ wsX40, w ∈ lw_all := lw_in wsX40 [363, 365, 367] (by decide +kernel) (by decide +kernel)
/-! the law's own entry -/
set_option maxRecDepth 100000
abbrev cL_law : ByteArray := code
def dkwL_law_57 : List UInt8 := [167, 250, 68, 4, 172]
abbrev dktL_law_57 : List UInt8 := dkwL_law_57 ++ []
def dkwL_law_56 : List UInt8 := [46, 182, 0, 192, 44, 42, 21, 4, 4, 96, 46, 182, 0, 195, 159, 0, 5, 3, 172, 132, 4, 6]
abbrev dktL_law_56 : List UInt8 := dkwL_law_56 ++ dktL_law_57
def dkwL_law_55 : List UInt8 := [159, 0, 43, 3, 172, 43, 182, 0, 188, 44, 182, 0, 191, 159, 0, 30, 3, 172, 43, 42, 21, 4, 4, 96]
abbrev dktL_law_55 : List UInt8 := dkwL_law_55 ++ dktL_law_56
def dkwL_law_54 : List UInt8 := [42, 21, 4, 4, 96, 46, 182, 0, 183, 159, 0, 56, 3, 172, 43, 182, 0, 184, 44, 182, 0, 187]
abbrev dktL_law_54 : List UInt8 := dkwL_law_54 ++ dktL_law_55
def dkwL_law_53 : List UInt8 := [20, 0, 173, 127, 129, 182, 0, 179, 159, 0, 81, 3, 172, 43, 42, 21, 4, 4, 96, 46, 182, 0, 180, 44]
abbrev dktL_law_53 : List UInt8 := dkwL_law_53 ++ dktL_law_54
def dkwL_law_52 : List UInt8 := [21, 4, 4, 96, 46, 42, 21, 4, 5, 96, 46, 133, 16, 32, 121, 42, 21, 4, 6, 96, 46, 133]
abbrev dktL_law_52 : List UInt8 := dkwL_law_52 ++ dktL_law_53
def dkwL_law_51 : List UInt8 := [5, 96, 46, 133, 16, 32, 121, 42, 21, 4, 6, 96, 46, 133, 20, 0, 173, 127, 129, 182, 0, 175, 44, 42]
abbrev dktL_law_51 : List UInt8 := dkwL_law_51 ++ dktL_law_52
def dkwL_law_50 : List UInt8 := [42, 21, 4, 4, 96, 46, 182, 0, 172, 159, 0, 150, 3, 172, 43, 42, 21, 4, 4, 96, 46, 42, 21, 4]
abbrev dktL_law_50 : List UInt8 := dkwL_law_50 ++ dktL_law_51
def dkwL_law_49 : List UInt8 := [21, 4, 5, 96, 46, 182, 0, 168, 159, 0, 175, 3, 172, 43, 42, 21, 4, 4, 96, 46, 182, 0, 169, 44]
abbrev dktL_law_49 : List UInt8 := dkwL_law_49 ++ dktL_law_50
def dkwL_law_48 : List UInt8 := [42, 21, 4, 4, 96, 46, 42, 21, 4, 5, 96, 46, 182, 0, 165, 44, 42, 21, 4, 4, 96, 46, 42]
abbrev dktL_law_48 : List UInt8 := dkwL_law_48 ++ dktL_law_49
def dkwL_law_47 : List UInt8 := [4, 96, 46, 42, 21, 4, 5, 96, 46, 42, 21, 4, 6, 96, 46, 182, 0, 164, 159, 0, 212, 3, 172, 43]
abbrev dktL_law_47 : List UInt8 := dkwL_law_47 ++ dktL_law_48
def dkwL_law_46 : List UInt8 := [21, 4, 4, 96, 46, 42, 21, 4, 5, 96, 46, 42, 21, 4, 6, 96, 46, 182, 0, 161, 44, 42, 21, 4]
abbrev dktL_law_46 : List UInt8 := dkwL_law_46 ++ dktL_law_47
def dkwL_law_45 : List UInt8 := [46, 182, 0, 156, 159, 1, 18, 3, 172, 43, 182, 0, 157, 44, 182, 0, 160, 159, 1, 5, 3, 172, 43, 42]
abbrev dktL_law_45 : List UInt8 := dkwL_law_45 ++ dktL_law_46
def dkwL_law_44 : List UInt8 := [4, 96, 46, 42, 21, 4, 5, 96, 46, 182, 0, 153, 44, 42, 21, 4, 4, 96, 46, 42, 21, 4, 5, 96]
abbrev dktL_law_44 : List UInt8 := dkwL_law_44 ++ dktL_law_45
def dkwL_law_43 : List UInt8 := [96, 46, 182, 0, 149, 44, 42, 21, 4, 4, 96, 46, 182, 0, 152, 159, 1, 55, 3, 172, 43, 42, 21, 4]
abbrev dktL_law_43 : List UInt8 := dkwL_law_43 ++ dktL_law_44
def dkwL_law_42 : List UInt8 := [21, 4, 4, 96, 46, 42, 21, 4, 5, 96, 46, 182, 0, 148, 159, 1, 80, 3, 172, 43, 42, 21, 4, 4]
abbrev dktL_law_42 : List UInt8 := dkwL_law_42 ++ dktL_law_43
def dkwL_law_41 : List UInt8 := [159, 1, 117, 3, 172, 43, 42, 21, 4, 4, 96, 46, 42, 21, 4, 5, 96, 46, 182, 0, 145, 44, 42]
abbrev dktL_law_41 : List UInt8 := dkwL_law_41 ++ dktL_law_42
def dkwL_law_40 : List UInt8 := [3, 172, 43, 182, 0, 137, 44, 182, 0, 140, 159, 1, 130, 3, 172, 43, 182, 0, 141, 44, 182, 0, 144]
abbrev dktL_law_40 : List UInt8 := dkwL_law_40 ++ dktL_law_41
def dkwL_law_39 : List UInt8 := [21, 4, 4, 96, 46, 182, 0, 132, 159, 1, 156, 3, 172, 43, 182, 0, 133, 44, 182, 0, 136, 159, 1, 143]
abbrev dktL_law_39 : List UInt8 := dkwL_law_39 ++ dktL_law_40
def dkwL_law_38 : List UInt8 := [5, 96, 46, 182, 0, 128, 159, 1, 181, 3, 172, 43, 42, 21, 4, 4, 96, 46, 182, 0, 129, 44, 42]
abbrev dktL_law_38 : List UInt8 := dkwL_law_38 ++ dktL_law_39
def dkwL_law_37 : List UInt8 := [21, 4, 4, 96, 46, 42, 21, 4, 5, 96, 46, 182, 0, 125, 44, 42, 21, 4, 4, 96, 46, 42, 21, 4]
abbrev dktL_law_37 : List UInt8 := dkwL_law_37 ++ dktL_law_38
def dkwL_law_36 : List UInt8 := [182, 0, 120, 159, 1, 231, 3, 172, 43, 182, 0, 121, 44, 182, 0, 124, 159, 1, 218, 3, 172, 43, 42]
abbrev dktL_law_36 : List UInt8 := dkwL_law_36 ++ dktL_law_37
def dkwL_law_35 : List UInt8 := [159, 2, 0, 3, 172, 43, 42, 21, 4, 4, 96, 46, 182, 0, 117, 44, 42, 21, 4, 4, 96, 46]
abbrev dktL_law_35 : List UInt8 := dkwL_law_35 ++ dktL_law_36
def dkwL_law_34 : List UInt8 := [46, 42, 21, 4, 5, 96, 46, 182, 0, 112, 159, 2, 13, 3, 172, 43, 182, 0, 113, 44, 182, 0, 116]
abbrev dktL_law_34 : List UInt8 := dkwL_law_34 ++ dktL_law_35
def dkwL_law_33 : List UInt8 := [3, 172, 43, 42, 21, 4, 4, 96, 46, 42, 21, 4, 5, 96, 46, 182, 0, 109, 44, 42, 21, 4, 4, 96]
abbrev dktL_law_33 : List UInt8 := dkwL_law_33 ++ dktL_law_34
def dkwL_law_32 : List UInt8 := [42, 21, 4, 4, 96, 46, 42, 21, 4, 5, 96, 46, 42, 21, 4, 6, 96, 46, 182, 0, 108, 159, 2, 50]
abbrev dktL_law_32 : List UInt8 := dkwL_law_32 ++ dktL_law_33
def dkwL_law_31 : List UInt8 := [172, 43, 42, 21, 4, 4, 96, 46, 42, 21, 4, 5, 96, 46, 42, 21, 4, 6, 96, 46, 182, 0, 105, 44]
abbrev dktL_law_31 : List UInt8 := dkwL_law_31 ++ dktL_law_32
def dkwL_law_30 : List UInt8 := [21, 4, 4, 96, 46, 42, 21, 4, 5, 96, 46, 42, 21, 4, 6, 96, 46, 182, 0, 104, 159, 2, 99, 3]
abbrev dktL_law_30 : List UInt8 := dkwL_law_30 ++ dktL_law_31
def dkwL_law_29 : List UInt8 := [43, 42, 21, 4, 4, 96, 46, 42, 21, 4, 5, 96, 46, 42, 21, 4, 6, 96, 46, 182, 0, 101, 44, 42]
abbrev dktL_law_29 : List UInt8 := dkwL_law_29 ++ dktL_law_30
def dkwL_law_28 : List UInt8 := [42, 21, 4, 4, 96, 46, 182, 0, 97, 44, 42, 21, 4, 4, 96, 46, 182, 0, 100, 159, 2, 148, 3, 172]
abbrev dktL_law_28 : List UInt8 := dkwL_law_28 ++ dktL_law_29
def dkwL_law_27 : List UInt8 := [96, 46, 182, 0, 92, 159, 2, 186, 3, 172, 43, 182, 0, 93, 44, 182, 0, 96, 159, 2, 173, 3, 172, 43]
abbrev dktL_law_27 : List UInt8 := dkwL_law_27 ++ dktL_law_28
def dkwL_law_26 : List UInt8 := [46, 182, 0, 88, 159, 2, 211, 3, 172, 43, 42, 21, 4, 4, 96, 46, 182, 0, 89, 44, 42, 21, 4, 4]
abbrev dktL_law_26 : List UInt8 := dkwL_law_26 ++ dktL_law_27
def dkwL_law_25 : List UInt8 := [182, 0, 84, 159, 2, 236, 3, 172, 43, 42, 21, 4, 4, 96, 46, 182, 0, 85, 44, 42, 21, 4, 4, 96]
abbrev dktL_law_25 : List UInt8 := dkwL_law_25 ++ dktL_law_26
def dkwL_law_24 : List UInt8 := [21, 4, 4, 96, 46, 42, 21, 4, 5, 96, 46, 182, 0, 80, 159, 2, 249, 3, 172, 43, 182, 0, 81, 44]
abbrev dktL_law_24 : List UInt8 := dkwL_law_24 ++ dktL_law_25
def dkwL_law_23 : List UInt8 := [159, 3, 30, 3, 172, 43, 42, 21, 4, 4, 96, 46, 42, 21, 4, 5, 96, 46, 182, 0, 77, 44, 42]
abbrev dktL_law_23 : List UInt8 := dkwL_law_23 ++ dktL_law_24
def dkwL_law_22 : List UInt8 := [21, 4, 5, 96, 46, 182, 0, 73, 44, 42, 21, 4, 4, 96, 46, 42, 21, 4, 5, 96, 46, 182, 0, 76]
abbrev dktL_law_22 : List UInt8 := dkwL_law_22 ++ dktL_law_23
def dkwL_law_21 : List UInt8 := [3, 172, 43, 182, 0, 69, 44, 182, 0, 72, 159, 3, 67, 3, 172, 43, 42, 21, 4, 4, 96, 46, 42]
abbrev dktL_law_21 : List UInt8 := dkwL_law_21 ++ dktL_law_22
def dkwL_law_20 : List UInt8 := [42, 21, 4, 4, 96, 46, 42, 21, 4, 5, 96, 46, 42, 21, 4, 6, 96, 46, 182, 0, 68, 159, 3, 80]
abbrev dktL_law_20 : List UInt8 := dkwL_law_20 ++ dktL_law_21
def dkwL_law_19 : List UInt8 := [172, 43, 42, 21, 4, 4, 96, 46, 42, 21, 4, 5, 96, 46, 42, 21, 4, 6, 96, 46, 182, 0, 65, 44]
abbrev dktL_law_19 : List UInt8 := dkwL_law_19 ++ dktL_law_20
def dkwL_law_18 : List UInt8 := [21, 4, 4, 96, 46, 42, 21, 4, 5, 96, 46, 42, 21, 4, 6, 96, 46, 182, 0, 64, 159, 3, 129, 3]
abbrev dktL_law_18 : List UInt8 := dkwL_law_18 ++ dktL_law_19
def dkwL_law_17 : List UInt8 := [43, 42, 21, 4, 4, 96, 46, 42, 21, 4, 5, 96, 46, 42, 21, 4, 6, 96, 46, 182, 0, 61, 44, 42]
abbrev dktL_law_17 : List UInt8 := dkwL_law_17 ++ dktL_law_18
def dkwL_law_16 : List UInt8 := [6, 96, 46, 182, 0, 56, 159, 3, 191, 3, 172, 43, 182, 0, 57, 44, 182, 0, 60, 159, 3, 178, 3, 172]
abbrev dktL_law_16 : List UInt8 := dkwL_law_16 ++ dktL_law_17
def dkwL_law_15 : List UInt8 := [21, 4, 6, 96, 46, 182, 0, 53, 44, 42, 21, 4, 4, 96, 46, 42, 21, 4, 5, 96, 46, 42, 21, 4]
abbrev dktL_law_15 : List UInt8 := dkwL_law_15 ++ dktL_law_16
def dkwL_law_14 : List UInt8 := [46, 182, 0, 52, 159, 3, 240, 3, 172, 43, 42, 21, 4, 4, 96, 46, 42, 21, 4, 5, 96, 46, 42]
abbrev dktL_law_14 : List UInt8 := dkwL_law_14 ++ dktL_law_15
def dkwL_law_13 : List UInt8 := [6, 96, 46, 182, 0, 48, 44, 42, 21, 4, 4, 96, 46, 42, 21, 4, 5, 96, 46, 42, 21, 4, 6, 96]
abbrev dktL_law_13 : List UInt8 := dkwL_law_13 ++ dktL_law_14
def dkwL_law_12 : List UInt8 := [153, 0, 5, 3, 172, 167, 4, 31, 43, 42, 21, 4, 4, 96, 46, 42, 21, 4, 5, 96, 46, 42, 21, 4]
abbrev dktL_law_12 : List UInt8 := dkwL_law_12 ++ dktL_law_13
def dkwL_law_11 : List UInt8 := [182, 0, 44, 21, 5, 159, 0, 5, 3, 172, 21, 5, 154, 0, 15, 45, 3, 47, 21, 6, 133, 148]
abbrev dktL_law_11 : List UInt8 := dkwL_law_11 ++ dktL_law_12
def dkwL_law_10 : List UInt8 := [184, 0, 38, 54, 5, 44, 42, 21, 4, 4, 96, 46, 42, 21, 4, 5, 96, 46, 182, 0, 43, 54, 6, 44]
abbrev dktL_law_10 : List UInt8 := dkwL_law_10 ++ dktL_law_11
def dkwL_law_9 : List UInt8 := [182, 0, 37, 159, 4, 101, 3, 172, 43, 42, 21, 4, 4, 96, 46, 42, 21, 4, 5, 96, 46, 45]
abbrev dktL_law_9 : List UInt8 := dkwL_law_9 ++ dktL_law_10
def dkwL_law_8 : List UInt8 := [159, 4, 126, 3, 172, 43, 42, 21, 4, 4, 96, 46, 182, 0, 34, 44, 42, 21, 4, 4, 96, 46]
abbrev dktL_law_8 : List UInt8 := dkwL_law_8 ++ dktL_law_9
def dkwL_law_7 : List UInt8 := [3, 172, 43, 42, 21, 4, 4, 96, 46, 182, 0, 29, 44, 42, 21, 4, 4, 96, 46, 182, 0, 33]
abbrev dktL_law_7 : List UInt8 := dkwL_law_7 ++ dktL_law_8
def dkwL_law_6 : List UInt8 := [172, 43, 42, 21, 4, 4, 96, 46, 182, 0, 24, 44, 42, 21, 4, 4, 96, 46, 182, 0, 28, 159, 4, 151]
abbrev dktL_law_6 : List UInt8 := dkwL_law_6 ++ dktL_law_7
def dkwL_law_5 : List UInt8 := [21, 4, 6, 96, 46, 42, 21, 4, 7, 96, 46, 42, 21, 4, 8, 96, 46, 182, 0, 23, 159, 4, 176, 3]
abbrev dktL_law_5 : List UInt8 := dkwL_law_5 ++ dktL_law_6
def dkwL_law_4 : List UInt8 := [46, 42, 21, 4, 8, 96, 46, 182, 0, 19, 44, 42, 21, 4, 4, 96, 46, 42, 21, 4, 5, 96, 46, 42]
abbrev dktL_law_4 : List UInt8 := dkwL_law_4 ++ dktL_law_5
def dkwL_law_3 : List UInt8 := [43, 42, 21, 4, 4, 96, 46, 42, 21, 4, 5, 96, 46, 42, 21, 4, 6, 96, 46, 42, 21, 4, 7, 96]
abbrev dktL_law_3 : List UInt8 := dkwL_law_3 ++ dktL_law_4
def dkwL_law_2 : List UInt8 := [170, 0, 0, 0, 0, 0, 5, 168, 0, 0, 0, 0, 0, 0, 0, 40, 0, 0, 0, 180, 0, 0, 0, 253, 0, 0, 1, 22, 0, 0, 1, 47, 0, 0, 1, 72, 0, 0, 1, 140, 0, 0, 1, 189, 0, 0, 1, 238, 0, 0, 1, 251, 0, 0, 2, 44, 0, 0, 2, 93, 0, 0, 2, 106, 0, 0, 2, 143, 0, 0, 2, 180, 0, 0, 2, 193, 0, 0, 2, 218, 0, 0, 2, 243, 0, 0, 3, 0, 0, 0, 3, 25, 0, 0, 3, 74, 0, 0, 3, 123, 0, 0, 3, 160, 0, 0, 3, 173, 0, 0, 3, 198, 0, 0, 3, 211, 0, 0, 3, 248, 0, 0, 4, 17, 0, 0, 4, 30, 0, 0, 4, 43, 0, 0, 4, 56, 0, 0, 4, 93, 0, 0, 4, 118, 0, 0, 4, 155, 0, 0, 4, 168, 0, 0, 4, 217, 0, 0, 4, 254, 0, 0, 5, 23, 0, 0, 5, 92, 0, 0, 5, 117, 0, 0, 5, 130, 0, 0, 5, 143]
abbrev dktL_law_2 : List UInt8 := dkwL_law_2 ++ dktL_law_3
def dkwL_law_1 : List UInt8 := [21, 4, 42, 190, 16, 6, 100, 163, 5, 184, 42, 21, 4, 46, 16, 63, 126]
abbrev dktL_law_1 : List UInt8 := dkwL_law_1 ++ dktL_law_2
def dkwL_law_0 : List UInt8 := [187, 0, 8, 89, 183, 0, 15, 76, 187, 0, 16, 89, 183, 0, 18, 77, 4, 188, 11, 78, 3, 54, 4]
abbrev dktL_law_0 : List UInt8 := dkwL_law_0 ++ dktL_law_1
theorem dksL_law_0 : cL_law.data.toList.drop 0 = dktL_law_0 := by decide +kernel
theorem dksL_law_1 : cL_law.data.toList.drop 23 = dktL_law_1 := dk_seg dksL_law_0 23 rfl rfl
theorem dksL_law_2 : cL_law.data.toList.drop 40 = dktL_law_2 := dk_seg dksL_law_1 17 rfl rfl
theorem dksL_law_3 : cL_law.data.toList.drop 220 = dktL_law_3 := dk_seg dksL_law_2 180 rfl rfl
theorem dksL_law_4 : cL_law.data.toList.drop 244 = dktL_law_4 := dk_seg dksL_law_3 24 rfl rfl
theorem dksL_law_5 : cL_law.data.toList.drop 268 = dktL_law_5 := dk_seg dksL_law_4 24 rfl rfl
theorem dksL_law_6 : cL_law.data.toList.drop 292 = dktL_law_6 := dk_seg dksL_law_5 24 rfl rfl
theorem dksL_law_7 : cL_law.data.toList.drop 316 = dktL_law_7 := dk_seg dksL_law_6 24 rfl rfl
theorem dksL_law_8 : cL_law.data.toList.drop 338 = dktL_law_8 := dk_seg dksL_law_7 22 rfl rfl
theorem dksL_law_9 : cL_law.data.toList.drop 360 = dktL_law_9 := dk_seg dksL_law_8 22 rfl rfl
theorem dksL_law_10 : cL_law.data.toList.drop 382 = dktL_law_10 := dk_seg dksL_law_9 22 rfl rfl
theorem dksL_law_11 : cL_law.data.toList.drop 406 = dktL_law_11 := dk_seg dksL_law_10 24 rfl rfl
theorem dksL_law_12 : cL_law.data.toList.drop 428 = dktL_law_12 := dk_seg dksL_law_11 22 rfl rfl
theorem dksL_law_13 : cL_law.data.toList.drop 452 = dktL_law_13 := dk_seg dksL_law_12 24 rfl rfl
theorem dksL_law_14 : cL_law.data.toList.drop 476 = dktL_law_14 := dk_seg dksL_law_13 24 rfl rfl
theorem dksL_law_15 : cL_law.data.toList.drop 499 = dktL_law_15 := dk_seg dksL_law_14 23 rfl rfl
theorem dksL_law_16 : cL_law.data.toList.drop 523 = dktL_law_16 := dk_seg dksL_law_15 24 rfl rfl
theorem dksL_law_17 : cL_law.data.toList.drop 547 = dktL_law_17 := dk_seg dksL_law_16 24 rfl rfl
theorem dksL_law_18 : cL_law.data.toList.drop 571 = dktL_law_18 := dk_seg dksL_law_17 24 rfl rfl
theorem dksL_law_19 : cL_law.data.toList.drop 595 = dktL_law_19 := dk_seg dksL_law_18 24 rfl rfl
theorem dksL_law_20 : cL_law.data.toList.drop 619 = dktL_law_20 := dk_seg dksL_law_19 24 rfl rfl
theorem dksL_law_21 : cL_law.data.toList.drop 643 = dktL_law_21 := dk_seg dksL_law_20 24 rfl rfl
theorem dksL_law_22 : cL_law.data.toList.drop 666 = dktL_law_22 := dk_seg dksL_law_21 23 rfl rfl
theorem dksL_law_23 : cL_law.data.toList.drop 690 = dktL_law_23 := dk_seg dksL_law_22 24 rfl rfl
theorem dksL_law_24 : cL_law.data.toList.drop 713 = dktL_law_24 := dk_seg dksL_law_23 23 rfl rfl
theorem dksL_law_25 : cL_law.data.toList.drop 737 = dktL_law_25 := dk_seg dksL_law_24 24 rfl rfl
theorem dksL_law_26 : cL_law.data.toList.drop 761 = dktL_law_26 := dk_seg dksL_law_25 24 rfl rfl
theorem dksL_law_27 : cL_law.data.toList.drop 785 = dktL_law_27 := dk_seg dksL_law_26 24 rfl rfl
theorem dksL_law_28 : cL_law.data.toList.drop 809 = dktL_law_28 := dk_seg dksL_law_27 24 rfl rfl
theorem dksL_law_29 : cL_law.data.toList.drop 833 = dktL_law_29 := dk_seg dksL_law_28 24 rfl rfl
theorem dksL_law_30 : cL_law.data.toList.drop 857 = dktL_law_30 := dk_seg dksL_law_29 24 rfl rfl
theorem dksL_law_31 : cL_law.data.toList.drop 881 = dktL_law_31 := dk_seg dksL_law_30 24 rfl rfl
theorem dksL_law_32 : cL_law.data.toList.drop 905 = dktL_law_32 := dk_seg dksL_law_31 24 rfl rfl
theorem dksL_law_33 : cL_law.data.toList.drop 929 = dktL_law_33 := dk_seg dksL_law_32 24 rfl rfl
theorem dksL_law_34 : cL_law.data.toList.drop 953 = dktL_law_34 := dk_seg dksL_law_33 24 rfl rfl
theorem dksL_law_35 : cL_law.data.toList.drop 976 = dktL_law_35 := dk_seg dksL_law_34 23 rfl rfl
theorem dksL_law_36 : cL_law.data.toList.drop 998 = dktL_law_36 := dk_seg dksL_law_35 22 rfl rfl
theorem dksL_law_37 : cL_law.data.toList.drop 1021 = dktL_law_37 := dk_seg dksL_law_36 23 rfl rfl
theorem dksL_law_38 : cL_law.data.toList.drop 1045 = dktL_law_38 := dk_seg dksL_law_37 24 rfl rfl
theorem dksL_law_39 : cL_law.data.toList.drop 1068 = dktL_law_39 := dk_seg dksL_law_38 23 rfl rfl
theorem dksL_law_40 : cL_law.data.toList.drop 1092 = dktL_law_40 := dk_seg dksL_law_39 24 rfl rfl
theorem dksL_law_41 : cL_law.data.toList.drop 1115 = dktL_law_41 := dk_seg dksL_law_40 23 rfl rfl
theorem dksL_law_42 : cL_law.data.toList.drop 1138 = dktL_law_42 := dk_seg dksL_law_41 23 rfl rfl
theorem dksL_law_43 : cL_law.data.toList.drop 1162 = dktL_law_43 := dk_seg dksL_law_42 24 rfl rfl
theorem dksL_law_44 : cL_law.data.toList.drop 1186 = dktL_law_44 := dk_seg dksL_law_43 24 rfl rfl
theorem dksL_law_45 : cL_law.data.toList.drop 1210 = dktL_law_45 := dk_seg dksL_law_44 24 rfl rfl
theorem dksL_law_46 : cL_law.data.toList.drop 1234 = dktL_law_46 := dk_seg dksL_law_45 24 rfl rfl
theorem dksL_law_47 : cL_law.data.toList.drop 1258 = dktL_law_47 := dk_seg dksL_law_46 24 rfl rfl
theorem dksL_law_48 : cL_law.data.toList.drop 1282 = dktL_law_48 := dk_seg dksL_law_47 24 rfl rfl
theorem dksL_law_49 : cL_law.data.toList.drop 1305 = dktL_law_49 := dk_seg dksL_law_48 23 rfl rfl
theorem dksL_law_50 : cL_law.data.toList.drop 1329 = dktL_law_50 := dk_seg dksL_law_49 24 rfl rfl
theorem dksL_law_51 : cL_law.data.toList.drop 1353 = dktL_law_51 := dk_seg dksL_law_50 24 rfl rfl
theorem dksL_law_52 : cL_law.data.toList.drop 1377 = dktL_law_52 := dk_seg dksL_law_51 24 rfl rfl
theorem dksL_law_53 : cL_law.data.toList.drop 1399 = dktL_law_53 := dk_seg dksL_law_52 22 rfl rfl
theorem dksL_law_54 : cL_law.data.toList.drop 1423 = dktL_law_54 := dk_seg dksL_law_53 24 rfl rfl
theorem dksL_law_55 : cL_law.data.toList.drop 1445 = dktL_law_55 := dk_seg dksL_law_54 22 rfl rfl
theorem dksL_law_56 : cL_law.data.toList.drop 1469 = dktL_law_56 := dk_seg dksL_law_55 24 rfl rfl
theorem dksL_law_57 : cL_law.data.toList.drop 1491 = dktL_law_57 := dk_seg dksL_law_56 22 rfl rfl
theorem dL_law_0 : decode cL_law 0 = .ok (.new 8, 3) := dk_187 0 8 (dk_at dksL_law_0 0 rfl rfl)
theorem dL_law_3 : decode cL_law 3 = .ok (.dup, 1) := dk_89 (dk_at dksL_law_0 3 rfl rfl)
theorem dL_law_4 : decode cL_law 4 = .ok (.invokespecial 15, 3) := dk_183 0 15 (dk_at dksL_law_0 4 rfl rfl)
theorem dL_law_7 : decode cL_law 7 = .ok (.astore_n 1, 1) := dk_76 (dk_at dksL_law_0 7 rfl rfl)
theorem dL_law_8 : decode cL_law 8 = .ok (.new 16, 3) := dk_187 0 16 (dk_at dksL_law_0 8 rfl rfl)
theorem dL_law_11 : decode cL_law 11 = .ok (.dup, 1) := dk_89 (dk_at dksL_law_0 11 rfl rfl)
theorem dL_law_12 : decode cL_law 12 = .ok (.invokespecial 18, 3) := dk_183 0 18 (dk_at dksL_law_0 12 rfl rfl)
theorem dL_law_15 : decode cL_law 15 = .ok (.astore_n 2, 1) := dk_77 (dk_at dksL_law_0 15 rfl rfl)
theorem dL_law_16 : decode cL_law 16 = .ok (.iconst 1, 1) := dk_4 (dk_at dksL_law_0 16 rfl rfl)
theorem dL_law_17 : decode cL_law 17 = .ok (.newarray .long, 2) := dk_188_11 (dk_at dksL_law_0 17 rfl rfl)
theorem dL_law_19 : decode cL_law 19 = .ok (.astore_n 3, 1) := dk_78 (dk_at dksL_law_0 19 rfl rfl)
theorem dL_law_20 : decode cL_law 20 = .ok (.iconst 0, 1) := dk_3 (dk_at dksL_law_0 20 rfl rfl)
theorem dL_law_21 : decode cL_law 21 = .ok (.istore 4, 2) := dk_54 4 (dk_at dksL_law_0 21 rfl rfl)
theorem dL_law_23 : decode cL_law 23 = .ok (.iload 4, 2) := dk_21 4 (dk_at dksL_law_1 0 rfl rfl)
theorem dL_law_25 : decode cL_law 25 = .ok (.aload_n 0, 1) := dk_42 (dk_at dksL_law_1 2 rfl rfl)
theorem dL_law_26 : decode cL_law 26 = .ok (.arraylength, 1) := dk_190 (dk_at dksL_law_1 3 rfl rfl)
theorem dL_law_27 : decode cL_law 27 = .ok (.bipush 6, 2) := dk_16 6 (dk_at dksL_law_1 4 rfl rfl)
theorem dL_law_29 : decode cL_law 29 = .ok (.isub, 1) := dk_100 (dk_at dksL_law_1 6 rfl rfl)
theorem dL_law_30 : decode cL_law 30 = .ok (.if_icmp .gt 1464, 3) := dk_163 5 184 (dk_at dksL_law_1 7 rfl rfl)
theorem dL_law_33 : decode cL_law 33 = .ok (.aload_n 0, 1) := dk_42 (dk_at dksL_law_1 10 rfl rfl)
theorem dL_law_34 : decode cL_law 34 = .ok (.iload 4, 2) := dk_21 4 (dk_at dksL_law_1 11 rfl rfl)
theorem dL_law_36 : decode cL_law 36 = .ok (.iaload, 1) := dk_46 (dk_at dksL_law_1 13 rfl rfl)
theorem dL_law_37 : decode cL_law 37 = .ok (.bipush 63, 2) := dk_16 63 (dk_at dksL_law_1 14 rfl rfl)
theorem dL_law_39 : decode cL_law 39 = .ok (.iand, 1) := dk_126 (dk_at dksL_law_1 16 rfl rfl)
theorem dL_law_40 : decode cL_law 40 = .ok (.tableswitch 1448 0 40 #[180, 253, 278, 303, 328, 396, 445, 494, 507, 556, 605, 618, 655, 692, 705, 730, 755, 768, 793, 842, 891, 928, 941, 966, 979, 1016, 1041, 1054, 1067, 1080, 1117, 1142, 1179, 1192, 1241, 1278, 1303, 1372, 1397, 1410, 1423], 180) := by decide +kernel
theorem dL_law_220 : decode cL_law 220 = .ok (.aload_n 1, 1) := dk_43 (dk_at dksL_law_3 0 rfl rfl)
theorem dL_law_221 : decode cL_law 221 = .ok (.aload_n 0, 1) := dk_42 (dk_at dksL_law_3 1 rfl rfl)
theorem dL_law_222 : decode cL_law 222 = .ok (.iload 4, 2) := dk_21 4 (dk_at dksL_law_3 2 rfl rfl)
theorem dL_law_224 : decode cL_law 224 = .ok (.iconst 1, 1) := dk_4 (dk_at dksL_law_3 4 rfl rfl)
theorem dL_law_225 : decode cL_law 225 = .ok (.iadd, 1) := dk_96 (dk_at dksL_law_3 5 rfl rfl)
theorem dL_law_226 : decode cL_law 226 = .ok (.iaload, 1) := dk_46 (dk_at dksL_law_3 6 rfl rfl)
theorem dL_law_227 : decode cL_law 227 = .ok (.aload_n 0, 1) := dk_42 (dk_at dksL_law_3 7 rfl rfl)
theorem dL_law_228 : decode cL_law 228 = .ok (.iload 4, 2) := dk_21 4 (dk_at dksL_law_3 8 rfl rfl)
theorem dL_law_230 : decode cL_law 230 = .ok (.iconst 2, 1) := dk_5 (dk_at dksL_law_3 10 rfl rfl)
theorem dL_law_231 : decode cL_law 231 = .ok (.iadd, 1) := dk_96 (dk_at dksL_law_3 11 rfl rfl)
theorem dL_law_232 : decode cL_law 232 = .ok (.iaload, 1) := dk_46 (dk_at dksL_law_3 12 rfl rfl)
theorem dL_law_233 : decode cL_law 233 = .ok (.aload_n 0, 1) := dk_42 (dk_at dksL_law_3 13 rfl rfl)
theorem dL_law_234 : decode cL_law 234 = .ok (.iload 4, 2) := dk_21 4 (dk_at dksL_law_3 14 rfl rfl)
theorem dL_law_236 : decode cL_law 236 = .ok (.iconst 3, 1) := dk_6 (dk_at dksL_law_3 16 rfl rfl)
theorem dL_law_237 : decode cL_law 237 = .ok (.iadd, 1) := dk_96 (dk_at dksL_law_3 17 rfl rfl)
theorem dL_law_238 : decode cL_law 238 = .ok (.iaload, 1) := dk_46 (dk_at dksL_law_3 18 rfl rfl)
theorem dL_law_239 : decode cL_law 239 = .ok (.aload_n 0, 1) := dk_42 (dk_at dksL_law_3 19 rfl rfl)
theorem dL_law_240 : decode cL_law 240 = .ok (.iload 4, 2) := dk_21 4 (dk_at dksL_law_3 20 rfl rfl)
theorem dL_law_242 : decode cL_law 242 = .ok (.iconst 4, 1) := dk_7 (dk_at dksL_law_3 22 rfl rfl)
theorem dL_law_243 : decode cL_law 243 = .ok (.iadd, 1) := dk_96 (dk_at dksL_law_3 23 rfl rfl)
theorem dL_law_244 : decode cL_law 244 = .ok (.iaload, 1) := dk_46 (dk_at dksL_law_4 0 rfl rfl)
theorem dL_law_245 : decode cL_law 245 = .ok (.aload_n 0, 1) := dk_42 (dk_at dksL_law_4 1 rfl rfl)
theorem dL_law_246 : decode cL_law 246 = .ok (.iload 4, 2) := dk_21 4 (dk_at dksL_law_4 2 rfl rfl)
theorem dL_law_248 : decode cL_law 248 = .ok (.iconst 5, 1) := dk_8 (dk_at dksL_law_4 4 rfl rfl)
theorem dL_law_249 : decode cL_law 249 = .ok (.iadd, 1) := dk_96 (dk_at dksL_law_4 5 rfl rfl)
theorem dL_law_250 : decode cL_law 250 = .ok (.iaload, 1) := dk_46 (dk_at dksL_law_4 6 rfl rfl)
theorem dL_law_251 : decode cL_law 251 = .ok (.invokevirtual 19, 3) := dk_182 0 19 (dk_at dksL_law_4 7 rfl rfl)
theorem dL_law_254 : decode cL_law 254 = .ok (.aload_n 2, 1) := dk_44 (dk_at dksL_law_4 10 rfl rfl)
theorem dL_law_255 : decode cL_law 255 = .ok (.aload_n 0, 1) := dk_42 (dk_at dksL_law_4 11 rfl rfl)
theorem dL_law_256 : decode cL_law 256 = .ok (.iload 4, 2) := dk_21 4 (dk_at dksL_law_4 12 rfl rfl)
theorem dL_law_258 : decode cL_law 258 = .ok (.iconst 1, 1) := dk_4 (dk_at dksL_law_4 14 rfl rfl)
theorem dL_law_259 : decode cL_law 259 = .ok (.iadd, 1) := dk_96 (dk_at dksL_law_4 15 rfl rfl)
theorem dL_law_260 : decode cL_law 260 = .ok (.iaload, 1) := dk_46 (dk_at dksL_law_4 16 rfl rfl)
theorem dL_law_261 : decode cL_law 261 = .ok (.aload_n 0, 1) := dk_42 (dk_at dksL_law_4 17 rfl rfl)
theorem dL_law_262 : decode cL_law 262 = .ok (.iload 4, 2) := dk_21 4 (dk_at dksL_law_4 18 rfl rfl)
theorem dL_law_264 : decode cL_law 264 = .ok (.iconst 2, 1) := dk_5 (dk_at dksL_law_4 20 rfl rfl)
theorem dL_law_265 : decode cL_law 265 = .ok (.iadd, 1) := dk_96 (dk_at dksL_law_4 21 rfl rfl)
theorem dL_law_266 : decode cL_law 266 = .ok (.iaload, 1) := dk_46 (dk_at dksL_law_4 22 rfl rfl)
theorem dL_law_267 : decode cL_law 267 = .ok (.aload_n 0, 1) := dk_42 (dk_at dksL_law_4 23 rfl rfl)
theorem dL_law_268 : decode cL_law 268 = .ok (.iload 4, 2) := dk_21 4 (dk_at dksL_law_5 0 rfl rfl)
theorem dL_law_270 : decode cL_law 270 = .ok (.iconst 3, 1) := dk_6 (dk_at dksL_law_5 2 rfl rfl)
theorem dL_law_271 : decode cL_law 271 = .ok (.iadd, 1) := dk_96 (dk_at dksL_law_5 3 rfl rfl)
theorem dL_law_272 : decode cL_law 272 = .ok (.iaload, 1) := dk_46 (dk_at dksL_law_5 4 rfl rfl)
theorem dL_law_273 : decode cL_law 273 = .ok (.aload_n 0, 1) := dk_42 (dk_at dksL_law_5 5 rfl rfl)
theorem dL_law_274 : decode cL_law 274 = .ok (.iload 4, 2) := dk_21 4 (dk_at dksL_law_5 6 rfl rfl)
theorem dL_law_276 : decode cL_law 276 = .ok (.iconst 4, 1) := dk_7 (dk_at dksL_law_5 8 rfl rfl)
theorem dL_law_277 : decode cL_law 277 = .ok (.iadd, 1) := dk_96 (dk_at dksL_law_5 9 rfl rfl)
theorem dL_law_278 : decode cL_law 278 = .ok (.iaload, 1) := dk_46 (dk_at dksL_law_5 10 rfl rfl)
theorem dL_law_279 : decode cL_law 279 = .ok (.aload_n 0, 1) := dk_42 (dk_at dksL_law_5 11 rfl rfl)
theorem dL_law_280 : decode cL_law 280 = .ok (.iload 4, 2) := dk_21 4 (dk_at dksL_law_5 12 rfl rfl)
theorem dL_law_282 : decode cL_law 282 = .ok (.iconst 5, 1) := dk_8 (dk_at dksL_law_5 14 rfl rfl)
theorem dL_law_283 : decode cL_law 283 = .ok (.iadd, 1) := dk_96 (dk_at dksL_law_5 15 rfl rfl)
theorem dL_law_284 : decode cL_law 284 = .ok (.iaload, 1) := dk_46 (dk_at dksL_law_5 16 rfl rfl)
theorem dL_law_285 : decode cL_law 285 = .ok (.invokevirtual 23, 3) := dk_182 0 23 (dk_at dksL_law_5 17 rfl rfl)
theorem dL_law_288 : decode cL_law 288 = .ok (.if_icmp .eq 1200, 3) := dk_159 4 176 (dk_at dksL_law_5 20 rfl rfl)
theorem dL_law_291 : decode cL_law 291 = .ok (.iconst 0, 1) := dk_3 (dk_at dksL_law_5 23 rfl rfl)
theorem dL_law_292 : decode cL_law 292 = .ok (.ireturn, 1) := dk_172 (dk_at dksL_law_6 0 rfl rfl)
theorem dL_law_293 : decode cL_law 293 = .ok (.aload_n 1, 1) := dk_43 (dk_at dksL_law_6 1 rfl rfl)
theorem dL_law_294 : decode cL_law 294 = .ok (.aload_n 0, 1) := dk_42 (dk_at dksL_law_6 2 rfl rfl)
theorem dL_law_295 : decode cL_law 295 = .ok (.iload 4, 2) := dk_21 4 (dk_at dksL_law_6 3 rfl rfl)
theorem dL_law_297 : decode cL_law 297 = .ok (.iconst 1, 1) := dk_4 (dk_at dksL_law_6 5 rfl rfl)
theorem dL_law_298 : decode cL_law 298 = .ok (.iadd, 1) := dk_96 (dk_at dksL_law_6 6 rfl rfl)
theorem dL_law_299 : decode cL_law 299 = .ok (.iaload, 1) := dk_46 (dk_at dksL_law_6 7 rfl rfl)
theorem dL_law_300 : decode cL_law 300 = .ok (.invokevirtual 24, 3) := dk_182 0 24 (dk_at dksL_law_6 8 rfl rfl)
theorem dL_law_303 : decode cL_law 303 = .ok (.aload_n 2, 1) := dk_44 (dk_at dksL_law_6 11 rfl rfl)
theorem dL_law_304 : decode cL_law 304 = .ok (.aload_n 0, 1) := dk_42 (dk_at dksL_law_6 12 rfl rfl)
theorem dL_law_305 : decode cL_law 305 = .ok (.iload 4, 2) := dk_21 4 (dk_at dksL_law_6 13 rfl rfl)
theorem dL_law_307 : decode cL_law 307 = .ok (.iconst 1, 1) := dk_4 (dk_at dksL_law_6 15 rfl rfl)
theorem dL_law_308 : decode cL_law 308 = .ok (.iadd, 1) := dk_96 (dk_at dksL_law_6 16 rfl rfl)
theorem dL_law_309 : decode cL_law 309 = .ok (.iaload, 1) := dk_46 (dk_at dksL_law_6 17 rfl rfl)
theorem dL_law_310 : decode cL_law 310 = .ok (.invokevirtual 28, 3) := dk_182 0 28 (dk_at dksL_law_6 18 rfl rfl)
theorem dL_law_313 : decode cL_law 313 = .ok (.if_icmp .eq 1175, 3) := dk_159 4 151 (dk_at dksL_law_6 21 rfl rfl)
theorem dL_law_316 : decode cL_law 316 = .ok (.iconst 0, 1) := dk_3 (dk_at dksL_law_7 0 rfl rfl)
theorem dL_law_317 : decode cL_law 317 = .ok (.ireturn, 1) := dk_172 (dk_at dksL_law_7 1 rfl rfl)
theorem dL_law_318 : decode cL_law 318 = .ok (.aload_n 1, 1) := dk_43 (dk_at dksL_law_7 2 rfl rfl)
theorem dL_law_319 : decode cL_law 319 = .ok (.aload_n 0, 1) := dk_42 (dk_at dksL_law_7 3 rfl rfl)
theorem dL_law_320 : decode cL_law 320 = .ok (.iload 4, 2) := dk_21 4 (dk_at dksL_law_7 4 rfl rfl)
theorem dL_law_322 : decode cL_law 322 = .ok (.iconst 1, 1) := dk_4 (dk_at dksL_law_7 6 rfl rfl)
theorem dL_law_323 : decode cL_law 323 = .ok (.iadd, 1) := dk_96 (dk_at dksL_law_7 7 rfl rfl)
theorem dL_law_324 : decode cL_law 324 = .ok (.iaload, 1) := dk_46 (dk_at dksL_law_7 8 rfl rfl)
theorem dL_law_325 : decode cL_law 325 = .ok (.invokevirtual 29, 3) := dk_182 0 29 (dk_at dksL_law_7 9 rfl rfl)
theorem dL_law_328 : decode cL_law 328 = .ok (.aload_n 2, 1) := dk_44 (dk_at dksL_law_7 12 rfl rfl)
theorem dL_law_329 : decode cL_law 329 = .ok (.aload_n 0, 1) := dk_42 (dk_at dksL_law_7 13 rfl rfl)
theorem dL_law_330 : decode cL_law 330 = .ok (.iload 4, 2) := dk_21 4 (dk_at dksL_law_7 14 rfl rfl)
theorem dL_law_332 : decode cL_law 332 = .ok (.iconst 1, 1) := dk_4 (dk_at dksL_law_7 16 rfl rfl)
theorem dL_law_333 : decode cL_law 333 = .ok (.iadd, 1) := dk_96 (dk_at dksL_law_7 17 rfl rfl)
theorem dL_law_334 : decode cL_law 334 = .ok (.iaload, 1) := dk_46 (dk_at dksL_law_7 18 rfl rfl)
theorem dL_law_335 : decode cL_law 335 = .ok (.invokevirtual 33, 3) := dk_182 0 33 (dk_at dksL_law_7 19 rfl rfl)
theorem dL_law_338 : decode cL_law 338 = .ok (.if_icmp .eq 1150, 3) := dk_159 4 126 (dk_at dksL_law_8 0 rfl rfl)
theorem dL_law_341 : decode cL_law 341 = .ok (.iconst 0, 1) := dk_3 (dk_at dksL_law_8 3 rfl rfl)
theorem dL_law_342 : decode cL_law 342 = .ok (.ireturn, 1) := dk_172 (dk_at dksL_law_8 4 rfl rfl)
theorem dL_law_343 : decode cL_law 343 = .ok (.aload_n 1, 1) := dk_43 (dk_at dksL_law_8 5 rfl rfl)
theorem dL_law_344 : decode cL_law 344 = .ok (.aload_n 0, 1) := dk_42 (dk_at dksL_law_8 6 rfl rfl)
theorem dL_law_345 : decode cL_law 345 = .ok (.iload 4, 2) := dk_21 4 (dk_at dksL_law_8 7 rfl rfl)
theorem dL_law_347 : decode cL_law 347 = .ok (.iconst 1, 1) := dk_4 (dk_at dksL_law_8 9 rfl rfl)
theorem dL_law_348 : decode cL_law 348 = .ok (.iadd, 1) := dk_96 (dk_at dksL_law_8 10 rfl rfl)
theorem dL_law_349 : decode cL_law 349 = .ok (.iaload, 1) := dk_46 (dk_at dksL_law_8 11 rfl rfl)
theorem dL_law_350 : decode cL_law 350 = .ok (.invokevirtual 34, 3) := dk_182 0 34 (dk_at dksL_law_8 12 rfl rfl)
theorem dL_law_353 : decode cL_law 353 = .ok (.aload_n 2, 1) := dk_44 (dk_at dksL_law_8 15 rfl rfl)
theorem dL_law_354 : decode cL_law 354 = .ok (.aload_n 0, 1) := dk_42 (dk_at dksL_law_8 16 rfl rfl)
theorem dL_law_355 : decode cL_law 355 = .ok (.iload 4, 2) := dk_21 4 (dk_at dksL_law_8 17 rfl rfl)
theorem dL_law_357 : decode cL_law 357 = .ok (.iconst 1, 1) := dk_4 (dk_at dksL_law_8 19 rfl rfl)
theorem dL_law_358 : decode cL_law 358 = .ok (.iadd, 1) := dk_96 (dk_at dksL_law_8 20 rfl rfl)
theorem dL_law_359 : decode cL_law 359 = .ok (.iaload, 1) := dk_46 (dk_at dksL_law_8 21 rfl rfl)
theorem dL_law_360 : decode cL_law 360 = .ok (.invokevirtual 37, 3) := dk_182 0 37 (dk_at dksL_law_9 0 rfl rfl)
theorem dL_law_363 : decode cL_law 363 = .ok (.if_icmp .eq 1125, 3) := dk_159 4 101 (dk_at dksL_law_9 3 rfl rfl)
theorem dL_law_366 : decode cL_law 366 = .ok (.iconst 0, 1) := dk_3 (dk_at dksL_law_9 6 rfl rfl)
theorem dL_law_367 : decode cL_law 367 = .ok (.ireturn, 1) := dk_172 (dk_at dksL_law_9 7 rfl rfl)
theorem dL_law_368 : decode cL_law 368 = .ok (.aload_n 1, 1) := dk_43 (dk_at dksL_law_9 8 rfl rfl)
theorem dL_law_369 : decode cL_law 369 = .ok (.aload_n 0, 1) := dk_42 (dk_at dksL_law_9 9 rfl rfl)
theorem dL_law_370 : decode cL_law 370 = .ok (.iload 4, 2) := dk_21 4 (dk_at dksL_law_9 10 rfl rfl)
theorem dL_law_372 : decode cL_law 372 = .ok (.iconst 1, 1) := dk_4 (dk_at dksL_law_9 12 rfl rfl)
theorem dL_law_373 : decode cL_law 373 = .ok (.iadd, 1) := dk_96 (dk_at dksL_law_9 13 rfl rfl)
theorem dL_law_374 : decode cL_law 374 = .ok (.iaload, 1) := dk_46 (dk_at dksL_law_9 14 rfl rfl)
theorem dL_law_375 : decode cL_law 375 = .ok (.aload_n 0, 1) := dk_42 (dk_at dksL_law_9 15 rfl rfl)
theorem dL_law_376 : decode cL_law 376 = .ok (.iload 4, 2) := dk_21 4 (dk_at dksL_law_9 16 rfl rfl)
theorem dL_law_378 : decode cL_law 378 = .ok (.iconst 2, 1) := dk_5 (dk_at dksL_law_9 18 rfl rfl)
theorem dL_law_379 : decode cL_law 379 = .ok (.iadd, 1) := dk_96 (dk_at dksL_law_9 19 rfl rfl)
theorem dL_law_380 : decode cL_law 380 = .ok (.iaload, 1) := dk_46 (dk_at dksL_law_9 20 rfl rfl)
theorem dL_law_381 : decode cL_law 381 = .ok (.aload_n 3, 1) := dk_45 (dk_at dksL_law_9 21 rfl rfl)
theorem dL_law_382 : decode cL_law 382 = .ok (.invokestatic 38, 3) := dk_184 0 38 (dk_at dksL_law_10 0 rfl rfl)
theorem dL_law_385 : decode cL_law 385 = .ok (.istore 5, 2) := dk_54 5 (dk_at dksL_law_10 3 rfl rfl)
theorem dL_law_387 : decode cL_law 387 = .ok (.aload_n 2, 1) := dk_44 (dk_at dksL_law_10 5 rfl rfl)
theorem dL_law_388 : decode cL_law 388 = .ok (.aload_n 0, 1) := dk_42 (dk_at dksL_law_10 6 rfl rfl)
theorem dL_law_389 : decode cL_law 389 = .ok (.iload 4, 2) := dk_21 4 (dk_at dksL_law_10 7 rfl rfl)
theorem dL_law_391 : decode cL_law 391 = .ok (.iconst 1, 1) := dk_4 (dk_at dksL_law_10 9 rfl rfl)
theorem dL_law_392 : decode cL_law 392 = .ok (.iadd, 1) := dk_96 (dk_at dksL_law_10 10 rfl rfl)
theorem dL_law_393 : decode cL_law 393 = .ok (.iaload, 1) := dk_46 (dk_at dksL_law_10 11 rfl rfl)
theorem dL_law_394 : decode cL_law 394 = .ok (.aload_n 0, 1) := dk_42 (dk_at dksL_law_10 12 rfl rfl)
theorem dL_law_395 : decode cL_law 395 = .ok (.iload 4, 2) := dk_21 4 (dk_at dksL_law_10 13 rfl rfl)
theorem dL_law_397 : decode cL_law 397 = .ok (.iconst 2, 1) := dk_5 (dk_at dksL_law_10 15 rfl rfl)
theorem dL_law_398 : decode cL_law 398 = .ok (.iadd, 1) := dk_96 (dk_at dksL_law_10 16 rfl rfl)
theorem dL_law_399 : decode cL_law 399 = .ok (.iaload, 1) := dk_46 (dk_at dksL_law_10 17 rfl rfl)
theorem dL_law_400 : decode cL_law 400 = .ok (.invokevirtual 43, 3) := dk_182 0 43 (dk_at dksL_law_10 18 rfl rfl)
theorem dL_law_403 : decode cL_law 403 = .ok (.istore 6, 2) := dk_54 6 (dk_at dksL_law_10 21 rfl rfl)
theorem dL_law_405 : decode cL_law 405 = .ok (.aload_n 2, 1) := dk_44 (dk_at dksL_law_10 23 rfl rfl)
theorem dL_law_406 : decode cL_law 406 = .ok (.invokevirtual 44, 3) := dk_182 0 44 (dk_at dksL_law_11 0 rfl rfl)
theorem dL_law_409 : decode cL_law 409 = .ok (.iload 5, 2) := dk_21 5 (dk_at dksL_law_11 3 rfl rfl)
theorem dL_law_411 : decode cL_law 411 = .ok (.if_icmp .eq 5, 3) := dk_159 0 5 (dk_at dksL_law_11 5 rfl rfl)
theorem dL_law_414 : decode cL_law 414 = .ok (.iconst 0, 1) := dk_3 (dk_at dksL_law_11 8 rfl rfl)
theorem dL_law_415 : decode cL_law 415 = .ok (.ireturn, 1) := dk_172 (dk_at dksL_law_11 9 rfl rfl)
theorem dL_law_416 : decode cL_law 416 = .ok (.iload 5, 2) := dk_21 5 (dk_at dksL_law_11 10 rfl rfl)
theorem dL_law_418 : decode cL_law 418 = .ok (.ifCond .ne 15, 3) := dk_154 0 15 (dk_at dksL_law_11 12 rfl rfl)
theorem dL_law_421 : decode cL_law 421 = .ok (.aload_n 3, 1) := dk_45 (dk_at dksL_law_11 15 rfl rfl)
theorem dL_law_422 : decode cL_law 422 = .ok (.iconst 0, 1) := dk_3 (dk_at dksL_law_11 16 rfl rfl)
theorem dL_law_423 : decode cL_law 423 = .ok (.laload, 1) := dk_47 (dk_at dksL_law_11 17 rfl rfl)
theorem dL_law_424 : decode cL_law 424 = .ok (.iload 6, 2) := dk_21 6 (dk_at dksL_law_11 18 rfl rfl)
theorem dL_law_426 : decode cL_law 426 = .ok (.i2l, 1) := dk_133 (dk_at dksL_law_11 20 rfl rfl)
theorem dL_law_427 : decode cL_law 427 = .ok (.lcmp, 1) := dk_148 (dk_at dksL_law_11 21 rfl rfl)
theorem dL_law_428 : decode cL_law 428 = .ok (.ifCond .eq 5, 3) := dk_153 0 5 (dk_at dksL_law_12 0 rfl rfl)
theorem dL_law_431 : decode cL_law 431 = .ok (.iconst 0, 1) := dk_3 (dk_at dksL_law_12 3 rfl rfl)
theorem dL_law_432 : decode cL_law 432 = .ok (.ireturn, 1) := dk_172 (dk_at dksL_law_12 4 rfl rfl)
theorem dL_law_433 : decode cL_law 433 = .ok (.goto 1055, 3) := dk_167 4 31 (dk_at dksL_law_12 5 rfl rfl)
theorem dL_law_436 : decode cL_law 436 = .ok (.aload_n 1, 1) := dk_43 (dk_at dksL_law_12 8 rfl rfl)
theorem dL_law_437 : decode cL_law 437 = .ok (.aload_n 0, 1) := dk_42 (dk_at dksL_law_12 9 rfl rfl)
theorem dL_law_438 : decode cL_law 438 = .ok (.iload 4, 2) := dk_21 4 (dk_at dksL_law_12 10 rfl rfl)
theorem dL_law_440 : decode cL_law 440 = .ok (.iconst 1, 1) := dk_4 (dk_at dksL_law_12 12 rfl rfl)
theorem dL_law_441 : decode cL_law 441 = .ok (.iadd, 1) := dk_96 (dk_at dksL_law_12 13 rfl rfl)
theorem dL_law_442 : decode cL_law 442 = .ok (.iaload, 1) := dk_46 (dk_at dksL_law_12 14 rfl rfl)
theorem dL_law_443 : decode cL_law 443 = .ok (.aload_n 0, 1) := dk_42 (dk_at dksL_law_12 15 rfl rfl)
theorem dL_law_444 : decode cL_law 444 = .ok (.iload 4, 2) := dk_21 4 (dk_at dksL_law_12 16 rfl rfl)
theorem dL_law_446 : decode cL_law 446 = .ok (.iconst 2, 1) := dk_5 (dk_at dksL_law_12 18 rfl rfl)
theorem dL_law_447 : decode cL_law 447 = .ok (.iadd, 1) := dk_96 (dk_at dksL_law_12 19 rfl rfl)
theorem dL_law_448 : decode cL_law 448 = .ok (.iaload, 1) := dk_46 (dk_at dksL_law_12 20 rfl rfl)
theorem dL_law_449 : decode cL_law 449 = .ok (.aload_n 0, 1) := dk_42 (dk_at dksL_law_12 21 rfl rfl)
theorem dL_law_450 : decode cL_law 450 = .ok (.iload 4, 2) := dk_21 4 (dk_at dksL_law_12 22 rfl rfl)
theorem dL_law_452 : decode cL_law 452 = .ok (.iconst 3, 1) := dk_6 (dk_at dksL_law_13 0 rfl rfl)
theorem dL_law_453 : decode cL_law 453 = .ok (.iadd, 1) := dk_96 (dk_at dksL_law_13 1 rfl rfl)
theorem dL_law_454 : decode cL_law 454 = .ok (.iaload, 1) := dk_46 (dk_at dksL_law_13 2 rfl rfl)
theorem dL_law_455 : decode cL_law 455 = .ok (.invokevirtual 48, 3) := dk_182 0 48 (dk_at dksL_law_13 3 rfl rfl)
theorem dL_law_458 : decode cL_law 458 = .ok (.aload_n 2, 1) := dk_44 (dk_at dksL_law_13 6 rfl rfl)
theorem dL_law_459 : decode cL_law 459 = .ok (.aload_n 0, 1) := dk_42 (dk_at dksL_law_13 7 rfl rfl)
theorem dL_law_460 : decode cL_law 460 = .ok (.iload 4, 2) := dk_21 4 (dk_at dksL_law_13 8 rfl rfl)
theorem dL_law_462 : decode cL_law 462 = .ok (.iconst 1, 1) := dk_4 (dk_at dksL_law_13 10 rfl rfl)
theorem dL_law_463 : decode cL_law 463 = .ok (.iadd, 1) := dk_96 (dk_at dksL_law_13 11 rfl rfl)
theorem dL_law_464 : decode cL_law 464 = .ok (.iaload, 1) := dk_46 (dk_at dksL_law_13 12 rfl rfl)
theorem dL_law_465 : decode cL_law 465 = .ok (.aload_n 0, 1) := dk_42 (dk_at dksL_law_13 13 rfl rfl)
theorem dL_law_466 : decode cL_law 466 = .ok (.iload 4, 2) := dk_21 4 (dk_at dksL_law_13 14 rfl rfl)
theorem dL_law_468 : decode cL_law 468 = .ok (.iconst 2, 1) := dk_5 (dk_at dksL_law_13 16 rfl rfl)
theorem dL_law_469 : decode cL_law 469 = .ok (.iadd, 1) := dk_96 (dk_at dksL_law_13 17 rfl rfl)
theorem dL_law_470 : decode cL_law 470 = .ok (.iaload, 1) := dk_46 (dk_at dksL_law_13 18 rfl rfl)
theorem dL_law_471 : decode cL_law 471 = .ok (.aload_n 0, 1) := dk_42 (dk_at dksL_law_13 19 rfl rfl)
theorem dL_law_472 : decode cL_law 472 = .ok (.iload 4, 2) := dk_21 4 (dk_at dksL_law_13 20 rfl rfl)
theorem dL_law_474 : decode cL_law 474 = .ok (.iconst 3, 1) := dk_6 (dk_at dksL_law_13 22 rfl rfl)
theorem dL_law_475 : decode cL_law 475 = .ok (.iadd, 1) := dk_96 (dk_at dksL_law_13 23 rfl rfl)
theorem dL_law_476 : decode cL_law 476 = .ok (.iaload, 1) := dk_46 (dk_at dksL_law_14 0 rfl rfl)
theorem dL_law_477 : decode cL_law 477 = .ok (.invokevirtual 52, 3) := dk_182 0 52 (dk_at dksL_law_14 1 rfl rfl)
theorem dL_law_480 : decode cL_law 480 = .ok (.if_icmp .eq 1008, 3) := dk_159 3 240 (dk_at dksL_law_14 4 rfl rfl)
theorem dL_law_483 : decode cL_law 483 = .ok (.iconst 0, 1) := dk_3 (dk_at dksL_law_14 7 rfl rfl)
theorem dL_law_484 : decode cL_law 484 = .ok (.ireturn, 1) := dk_172 (dk_at dksL_law_14 8 rfl rfl)
theorem dL_law_485 : decode cL_law 485 = .ok (.aload_n 1, 1) := dk_43 (dk_at dksL_law_14 9 rfl rfl)
theorem dL_law_486 : decode cL_law 486 = .ok (.aload_n 0, 1) := dk_42 (dk_at dksL_law_14 10 rfl rfl)
theorem dL_law_487 : decode cL_law 487 = .ok (.iload 4, 2) := dk_21 4 (dk_at dksL_law_14 11 rfl rfl)
theorem dL_law_489 : decode cL_law 489 = .ok (.iconst 1, 1) := dk_4 (dk_at dksL_law_14 13 rfl rfl)
theorem dL_law_490 : decode cL_law 490 = .ok (.iadd, 1) := dk_96 (dk_at dksL_law_14 14 rfl rfl)
theorem dL_law_491 : decode cL_law 491 = .ok (.iaload, 1) := dk_46 (dk_at dksL_law_14 15 rfl rfl)
theorem dL_law_492 : decode cL_law 492 = .ok (.aload_n 0, 1) := dk_42 (dk_at dksL_law_14 16 rfl rfl)
theorem dL_law_493 : decode cL_law 493 = .ok (.iload 4, 2) := dk_21 4 (dk_at dksL_law_14 17 rfl rfl)
theorem dL_law_495 : decode cL_law 495 = .ok (.iconst 2, 1) := dk_5 (dk_at dksL_law_14 19 rfl rfl)
theorem dL_law_496 : decode cL_law 496 = .ok (.iadd, 1) := dk_96 (dk_at dksL_law_14 20 rfl rfl)
theorem dL_law_497 : decode cL_law 497 = .ok (.iaload, 1) := dk_46 (dk_at dksL_law_14 21 rfl rfl)
theorem dL_law_498 : decode cL_law 498 = .ok (.aload_n 0, 1) := dk_42 (dk_at dksL_law_14 22 rfl rfl)
theorem dL_law_499 : decode cL_law 499 = .ok (.iload 4, 2) := dk_21 4 (dk_at dksL_law_15 0 rfl rfl)
theorem dL_law_501 : decode cL_law 501 = .ok (.iconst 3, 1) := dk_6 (dk_at dksL_law_15 2 rfl rfl)
theorem dL_law_502 : decode cL_law 502 = .ok (.iadd, 1) := dk_96 (dk_at dksL_law_15 3 rfl rfl)
theorem dL_law_503 : decode cL_law 503 = .ok (.iaload, 1) := dk_46 (dk_at dksL_law_15 4 rfl rfl)
theorem dL_law_504 : decode cL_law 504 = .ok (.invokevirtual 53, 3) := dk_182 0 53 (dk_at dksL_law_15 5 rfl rfl)
theorem dL_law_507 : decode cL_law 507 = .ok (.aload_n 2, 1) := dk_44 (dk_at dksL_law_15 8 rfl rfl)
theorem dL_law_508 : decode cL_law 508 = .ok (.aload_n 0, 1) := dk_42 (dk_at dksL_law_15 9 rfl rfl)
theorem dL_law_509 : decode cL_law 509 = .ok (.iload 4, 2) := dk_21 4 (dk_at dksL_law_15 10 rfl rfl)
theorem dL_law_511 : decode cL_law 511 = .ok (.iconst 1, 1) := dk_4 (dk_at dksL_law_15 12 rfl rfl)
theorem dL_law_512 : decode cL_law 512 = .ok (.iadd, 1) := dk_96 (dk_at dksL_law_15 13 rfl rfl)
theorem dL_law_513 : decode cL_law 513 = .ok (.iaload, 1) := dk_46 (dk_at dksL_law_15 14 rfl rfl)
theorem dL_law_514 : decode cL_law 514 = .ok (.aload_n 0, 1) := dk_42 (dk_at dksL_law_15 15 rfl rfl)
theorem dL_law_515 : decode cL_law 515 = .ok (.iload 4, 2) := dk_21 4 (dk_at dksL_law_15 16 rfl rfl)
theorem dL_law_517 : decode cL_law 517 = .ok (.iconst 2, 1) := dk_5 (dk_at dksL_law_15 18 rfl rfl)
theorem dL_law_518 : decode cL_law 518 = .ok (.iadd, 1) := dk_96 (dk_at dksL_law_15 19 rfl rfl)
theorem dL_law_519 : decode cL_law 519 = .ok (.iaload, 1) := dk_46 (dk_at dksL_law_15 20 rfl rfl)
theorem dL_law_520 : decode cL_law 520 = .ok (.aload_n 0, 1) := dk_42 (dk_at dksL_law_15 21 rfl rfl)
theorem dL_law_521 : decode cL_law 521 = .ok (.iload 4, 2) := dk_21 4 (dk_at dksL_law_15 22 rfl rfl)
theorem dL_law_523 : decode cL_law 523 = .ok (.iconst 3, 1) := dk_6 (dk_at dksL_law_16 0 rfl rfl)
theorem dL_law_524 : decode cL_law 524 = .ok (.iadd, 1) := dk_96 (dk_at dksL_law_16 1 rfl rfl)
theorem dL_law_525 : decode cL_law 525 = .ok (.iaload, 1) := dk_46 (dk_at dksL_law_16 2 rfl rfl)
theorem dL_law_526 : decode cL_law 526 = .ok (.invokevirtual 56, 3) := dk_182 0 56 (dk_at dksL_law_16 3 rfl rfl)
theorem dL_law_529 : decode cL_law 529 = .ok (.if_icmp .eq 959, 3) := dk_159 3 191 (dk_at dksL_law_16 6 rfl rfl)
theorem dL_law_532 : decode cL_law 532 = .ok (.iconst 0, 1) := dk_3 (dk_at dksL_law_16 9 rfl rfl)
theorem dL_law_533 : decode cL_law 533 = .ok (.ireturn, 1) := dk_172 (dk_at dksL_law_16 10 rfl rfl)
theorem dL_law_534 : decode cL_law 534 = .ok (.aload_n 1, 1) := dk_43 (dk_at dksL_law_16 11 rfl rfl)
theorem dL_law_535 : decode cL_law 535 = .ok (.invokevirtual 57, 3) := dk_182 0 57 (dk_at dksL_law_16 12 rfl rfl)
theorem dL_law_538 : decode cL_law 538 = .ok (.aload_n 2, 1) := dk_44 (dk_at dksL_law_16 15 rfl rfl)
theorem dL_law_539 : decode cL_law 539 = .ok (.invokevirtual 60, 3) := dk_182 0 60 (dk_at dksL_law_16 16 rfl rfl)
theorem dL_law_542 : decode cL_law 542 = .ok (.if_icmp .eq 946, 3) := dk_159 3 178 (dk_at dksL_law_16 19 rfl rfl)
theorem dL_law_545 : decode cL_law 545 = .ok (.iconst 0, 1) := dk_3 (dk_at dksL_law_16 22 rfl rfl)
theorem dL_law_546 : decode cL_law 546 = .ok (.ireturn, 1) := dk_172 (dk_at dksL_law_16 23 rfl rfl)
theorem dL_law_547 : decode cL_law 547 = .ok (.aload_n 1, 1) := dk_43 (dk_at dksL_law_17 0 rfl rfl)
theorem dL_law_548 : decode cL_law 548 = .ok (.aload_n 0, 1) := dk_42 (dk_at dksL_law_17 1 rfl rfl)
theorem dL_law_549 : decode cL_law 549 = .ok (.iload 4, 2) := dk_21 4 (dk_at dksL_law_17 2 rfl rfl)
theorem dL_law_551 : decode cL_law 551 = .ok (.iconst 1, 1) := dk_4 (dk_at dksL_law_17 4 rfl rfl)
theorem dL_law_552 : decode cL_law 552 = .ok (.iadd, 1) := dk_96 (dk_at dksL_law_17 5 rfl rfl)
theorem dL_law_553 : decode cL_law 553 = .ok (.iaload, 1) := dk_46 (dk_at dksL_law_17 6 rfl rfl)
theorem dL_law_554 : decode cL_law 554 = .ok (.aload_n 0, 1) := dk_42 (dk_at dksL_law_17 7 rfl rfl)
theorem dL_law_555 : decode cL_law 555 = .ok (.iload 4, 2) := dk_21 4 (dk_at dksL_law_17 8 rfl rfl)
theorem dL_law_557 : decode cL_law 557 = .ok (.iconst 2, 1) := dk_5 (dk_at dksL_law_17 10 rfl rfl)
theorem dL_law_558 : decode cL_law 558 = .ok (.iadd, 1) := dk_96 (dk_at dksL_law_17 11 rfl rfl)
theorem dL_law_559 : decode cL_law 559 = .ok (.iaload, 1) := dk_46 (dk_at dksL_law_17 12 rfl rfl)
theorem dL_law_560 : decode cL_law 560 = .ok (.aload_n 0, 1) := dk_42 (dk_at dksL_law_17 13 rfl rfl)
theorem dL_law_561 : decode cL_law 561 = .ok (.iload 4, 2) := dk_21 4 (dk_at dksL_law_17 14 rfl rfl)
theorem dL_law_563 : decode cL_law 563 = .ok (.iconst 3, 1) := dk_6 (dk_at dksL_law_17 16 rfl rfl)
theorem dL_law_564 : decode cL_law 564 = .ok (.iadd, 1) := dk_96 (dk_at dksL_law_17 17 rfl rfl)
theorem dL_law_565 : decode cL_law 565 = .ok (.iaload, 1) := dk_46 (dk_at dksL_law_17 18 rfl rfl)
theorem dL_law_566 : decode cL_law 566 = .ok (.invokevirtual 61, 3) := dk_182 0 61 (dk_at dksL_law_17 19 rfl rfl)
theorem dL_law_569 : decode cL_law 569 = .ok (.aload_n 2, 1) := dk_44 (dk_at dksL_law_17 22 rfl rfl)
theorem dL_law_570 : decode cL_law 570 = .ok (.aload_n 0, 1) := dk_42 (dk_at dksL_law_17 23 rfl rfl)
theorem dL_law_571 : decode cL_law 571 = .ok (.iload 4, 2) := dk_21 4 (dk_at dksL_law_18 0 rfl rfl)
theorem dL_law_573 : decode cL_law 573 = .ok (.iconst 1, 1) := dk_4 (dk_at dksL_law_18 2 rfl rfl)
theorem dL_law_574 : decode cL_law 574 = .ok (.iadd, 1) := dk_96 (dk_at dksL_law_18 3 rfl rfl)
theorem dL_law_575 : decode cL_law 575 = .ok (.iaload, 1) := dk_46 (dk_at dksL_law_18 4 rfl rfl)
theorem dL_law_576 : decode cL_law 576 = .ok (.aload_n 0, 1) := dk_42 (dk_at dksL_law_18 5 rfl rfl)
theorem dL_law_577 : decode cL_law 577 = .ok (.iload 4, 2) := dk_21 4 (dk_at dksL_law_18 6 rfl rfl)
theorem dL_law_579 : decode cL_law 579 = .ok (.iconst 2, 1) := dk_5 (dk_at dksL_law_18 8 rfl rfl)
theorem dL_law_580 : decode cL_law 580 = .ok (.iadd, 1) := dk_96 (dk_at dksL_law_18 9 rfl rfl)
theorem dL_law_581 : decode cL_law 581 = .ok (.iaload, 1) := dk_46 (dk_at dksL_law_18 10 rfl rfl)
theorem dL_law_582 : decode cL_law 582 = .ok (.aload_n 0, 1) := dk_42 (dk_at dksL_law_18 11 rfl rfl)
theorem dL_law_583 : decode cL_law 583 = .ok (.iload 4, 2) := dk_21 4 (dk_at dksL_law_18 12 rfl rfl)
theorem dL_law_585 : decode cL_law 585 = .ok (.iconst 3, 1) := dk_6 (dk_at dksL_law_18 14 rfl rfl)
theorem dL_law_586 : decode cL_law 586 = .ok (.iadd, 1) := dk_96 (dk_at dksL_law_18 15 rfl rfl)
theorem dL_law_587 : decode cL_law 587 = .ok (.iaload, 1) := dk_46 (dk_at dksL_law_18 16 rfl rfl)
theorem dL_law_588 : decode cL_law 588 = .ok (.invokevirtual 64, 3) := dk_182 0 64 (dk_at dksL_law_18 17 rfl rfl)
theorem dL_law_591 : decode cL_law 591 = .ok (.if_icmp .eq 897, 3) := dk_159 3 129 (dk_at dksL_law_18 20 rfl rfl)
theorem dL_law_594 : decode cL_law 594 = .ok (.iconst 0, 1) := dk_3 (dk_at dksL_law_18 23 rfl rfl)
theorem dL_law_595 : decode cL_law 595 = .ok (.ireturn, 1) := dk_172 (dk_at dksL_law_19 0 rfl rfl)
theorem dL_law_596 : decode cL_law 596 = .ok (.aload_n 1, 1) := dk_43 (dk_at dksL_law_19 1 rfl rfl)
theorem dL_law_597 : decode cL_law 597 = .ok (.aload_n 0, 1) := dk_42 (dk_at dksL_law_19 2 rfl rfl)
theorem dL_law_598 : decode cL_law 598 = .ok (.iload 4, 2) := dk_21 4 (dk_at dksL_law_19 3 rfl rfl)
theorem dL_law_600 : decode cL_law 600 = .ok (.iconst 1, 1) := dk_4 (dk_at dksL_law_19 5 rfl rfl)
theorem dL_law_601 : decode cL_law 601 = .ok (.iadd, 1) := dk_96 (dk_at dksL_law_19 6 rfl rfl)
theorem dL_law_602 : decode cL_law 602 = .ok (.iaload, 1) := dk_46 (dk_at dksL_law_19 7 rfl rfl)
theorem dL_law_603 : decode cL_law 603 = .ok (.aload_n 0, 1) := dk_42 (dk_at dksL_law_19 8 rfl rfl)
theorem dL_law_604 : decode cL_law 604 = .ok (.iload 4, 2) := dk_21 4 (dk_at dksL_law_19 9 rfl rfl)
theorem dL_law_606 : decode cL_law 606 = .ok (.iconst 2, 1) := dk_5 (dk_at dksL_law_19 11 rfl rfl)
theorem dL_law_607 : decode cL_law 607 = .ok (.iadd, 1) := dk_96 (dk_at dksL_law_19 12 rfl rfl)
theorem dL_law_608 : decode cL_law 608 = .ok (.iaload, 1) := dk_46 (dk_at dksL_law_19 13 rfl rfl)
theorem dL_law_609 : decode cL_law 609 = .ok (.aload_n 0, 1) := dk_42 (dk_at dksL_law_19 14 rfl rfl)
theorem dL_law_610 : decode cL_law 610 = .ok (.iload 4, 2) := dk_21 4 (dk_at dksL_law_19 15 rfl rfl)
theorem dL_law_612 : decode cL_law 612 = .ok (.iconst 3, 1) := dk_6 (dk_at dksL_law_19 17 rfl rfl)
theorem dL_law_613 : decode cL_law 613 = .ok (.iadd, 1) := dk_96 (dk_at dksL_law_19 18 rfl rfl)
theorem dL_law_614 : decode cL_law 614 = .ok (.iaload, 1) := dk_46 (dk_at dksL_law_19 19 rfl rfl)
theorem dL_law_615 : decode cL_law 615 = .ok (.invokevirtual 65, 3) := dk_182 0 65 (dk_at dksL_law_19 20 rfl rfl)
theorem dL_law_618 : decode cL_law 618 = .ok (.aload_n 2, 1) := dk_44 (dk_at dksL_law_19 23 rfl rfl)
theorem dL_law_619 : decode cL_law 619 = .ok (.aload_n 0, 1) := dk_42 (dk_at dksL_law_20 0 rfl rfl)
theorem dL_law_620 : decode cL_law 620 = .ok (.iload 4, 2) := dk_21 4 (dk_at dksL_law_20 1 rfl rfl)
theorem dL_law_622 : decode cL_law 622 = .ok (.iconst 1, 1) := dk_4 (dk_at dksL_law_20 3 rfl rfl)
theorem dL_law_623 : decode cL_law 623 = .ok (.iadd, 1) := dk_96 (dk_at dksL_law_20 4 rfl rfl)
theorem dL_law_624 : decode cL_law 624 = .ok (.iaload, 1) := dk_46 (dk_at dksL_law_20 5 rfl rfl)
theorem dL_law_625 : decode cL_law 625 = .ok (.aload_n 0, 1) := dk_42 (dk_at dksL_law_20 6 rfl rfl)
theorem dL_law_626 : decode cL_law 626 = .ok (.iload 4, 2) := dk_21 4 (dk_at dksL_law_20 7 rfl rfl)
theorem dL_law_628 : decode cL_law 628 = .ok (.iconst 2, 1) := dk_5 (dk_at dksL_law_20 9 rfl rfl)
theorem dL_law_629 : decode cL_law 629 = .ok (.iadd, 1) := dk_96 (dk_at dksL_law_20 10 rfl rfl)
theorem dL_law_630 : decode cL_law 630 = .ok (.iaload, 1) := dk_46 (dk_at dksL_law_20 11 rfl rfl)
theorem dL_law_631 : decode cL_law 631 = .ok (.aload_n 0, 1) := dk_42 (dk_at dksL_law_20 12 rfl rfl)
theorem dL_law_632 : decode cL_law 632 = .ok (.iload 4, 2) := dk_21 4 (dk_at dksL_law_20 13 rfl rfl)
theorem dL_law_634 : decode cL_law 634 = .ok (.iconst 3, 1) := dk_6 (dk_at dksL_law_20 15 rfl rfl)
theorem dL_law_635 : decode cL_law 635 = .ok (.iadd, 1) := dk_96 (dk_at dksL_law_20 16 rfl rfl)
theorem dL_law_636 : decode cL_law 636 = .ok (.iaload, 1) := dk_46 (dk_at dksL_law_20 17 rfl rfl)
theorem dL_law_637 : decode cL_law 637 = .ok (.invokevirtual 68, 3) := dk_182 0 68 (dk_at dksL_law_20 18 rfl rfl)
theorem dL_law_640 : decode cL_law 640 = .ok (.if_icmp .eq 848, 3) := dk_159 3 80 (dk_at dksL_law_20 21 rfl rfl)
theorem dL_law_643 : decode cL_law 643 = .ok (.iconst 0, 1) := dk_3 (dk_at dksL_law_21 0 rfl rfl)
theorem dL_law_644 : decode cL_law 644 = .ok (.ireturn, 1) := dk_172 (dk_at dksL_law_21 1 rfl rfl)
theorem dL_law_645 : decode cL_law 645 = .ok (.aload_n 1, 1) := dk_43 (dk_at dksL_law_21 2 rfl rfl)
theorem dL_law_646 : decode cL_law 646 = .ok (.invokevirtual 69, 3) := dk_182 0 69 (dk_at dksL_law_21 3 rfl rfl)
theorem dL_law_649 : decode cL_law 649 = .ok (.aload_n 2, 1) := dk_44 (dk_at dksL_law_21 6 rfl rfl)
theorem dL_law_650 : decode cL_law 650 = .ok (.invokevirtual 72, 3) := dk_182 0 72 (dk_at dksL_law_21 7 rfl rfl)
theorem dL_law_653 : decode cL_law 653 = .ok (.if_icmp .eq 835, 3) := dk_159 3 67 (dk_at dksL_law_21 10 rfl rfl)
theorem dL_law_656 : decode cL_law 656 = .ok (.iconst 0, 1) := dk_3 (dk_at dksL_law_21 13 rfl rfl)
theorem dL_law_657 : decode cL_law 657 = .ok (.ireturn, 1) := dk_172 (dk_at dksL_law_21 14 rfl rfl)
theorem dL_law_658 : decode cL_law 658 = .ok (.aload_n 1, 1) := dk_43 (dk_at dksL_law_21 15 rfl rfl)
theorem dL_law_659 : decode cL_law 659 = .ok (.aload_n 0, 1) := dk_42 (dk_at dksL_law_21 16 rfl rfl)
theorem dL_law_660 : decode cL_law 660 = .ok (.iload 4, 2) := dk_21 4 (dk_at dksL_law_21 17 rfl rfl)
theorem dL_law_662 : decode cL_law 662 = .ok (.iconst 1, 1) := dk_4 (dk_at dksL_law_21 19 rfl rfl)
theorem dL_law_663 : decode cL_law 663 = .ok (.iadd, 1) := dk_96 (dk_at dksL_law_21 20 rfl rfl)
theorem dL_law_664 : decode cL_law 664 = .ok (.iaload, 1) := dk_46 (dk_at dksL_law_21 21 rfl rfl)
theorem dL_law_665 : decode cL_law 665 = .ok (.aload_n 0, 1) := dk_42 (dk_at dksL_law_21 22 rfl rfl)
theorem dL_law_666 : decode cL_law 666 = .ok (.iload 4, 2) := dk_21 4 (dk_at dksL_law_22 0 rfl rfl)
theorem dL_law_668 : decode cL_law 668 = .ok (.iconst 2, 1) := dk_5 (dk_at dksL_law_22 2 rfl rfl)
theorem dL_law_669 : decode cL_law 669 = .ok (.iadd, 1) := dk_96 (dk_at dksL_law_22 3 rfl rfl)
theorem dL_law_670 : decode cL_law 670 = .ok (.iaload, 1) := dk_46 (dk_at dksL_law_22 4 rfl rfl)
theorem dL_law_671 : decode cL_law 671 = .ok (.invokevirtual 73, 3) := dk_182 0 73 (dk_at dksL_law_22 5 rfl rfl)
theorem dL_law_674 : decode cL_law 674 = .ok (.aload_n 2, 1) := dk_44 (dk_at dksL_law_22 8 rfl rfl)
theorem dL_law_675 : decode cL_law 675 = .ok (.aload_n 0, 1) := dk_42 (dk_at dksL_law_22 9 rfl rfl)
theorem dL_law_676 : decode cL_law 676 = .ok (.iload 4, 2) := dk_21 4 (dk_at dksL_law_22 10 rfl rfl)
theorem dL_law_678 : decode cL_law 678 = .ok (.iconst 1, 1) := dk_4 (dk_at dksL_law_22 12 rfl rfl)
theorem dL_law_679 : decode cL_law 679 = .ok (.iadd, 1) := dk_96 (dk_at dksL_law_22 13 rfl rfl)
theorem dL_law_680 : decode cL_law 680 = .ok (.iaload, 1) := dk_46 (dk_at dksL_law_22 14 rfl rfl)
theorem dL_law_681 : decode cL_law 681 = .ok (.aload_n 0, 1) := dk_42 (dk_at dksL_law_22 15 rfl rfl)
theorem dL_law_682 : decode cL_law 682 = .ok (.iload 4, 2) := dk_21 4 (dk_at dksL_law_22 16 rfl rfl)
theorem dL_law_684 : decode cL_law 684 = .ok (.iconst 2, 1) := dk_5 (dk_at dksL_law_22 18 rfl rfl)
theorem dL_law_685 : decode cL_law 685 = .ok (.iadd, 1) := dk_96 (dk_at dksL_law_22 19 rfl rfl)
theorem dL_law_686 : decode cL_law 686 = .ok (.iaload, 1) := dk_46 (dk_at dksL_law_22 20 rfl rfl)
theorem dL_law_687 : decode cL_law 687 = .ok (.invokevirtual 76, 3) := dk_182 0 76 (dk_at dksL_law_22 21 rfl rfl)
theorem dL_law_690 : decode cL_law 690 = .ok (.if_icmp .eq 798, 3) := dk_159 3 30 (dk_at dksL_law_23 0 rfl rfl)
theorem dL_law_693 : decode cL_law 693 = .ok (.iconst 0, 1) := dk_3 (dk_at dksL_law_23 3 rfl rfl)
theorem dL_law_694 : decode cL_law 694 = .ok (.ireturn, 1) := dk_172 (dk_at dksL_law_23 4 rfl rfl)
theorem dL_law_695 : decode cL_law 695 = .ok (.aload_n 1, 1) := dk_43 (dk_at dksL_law_23 5 rfl rfl)
theorem dL_law_696 : decode cL_law 696 = .ok (.aload_n 0, 1) := dk_42 (dk_at dksL_law_23 6 rfl rfl)
theorem dL_law_697 : decode cL_law 697 = .ok (.iload 4, 2) := dk_21 4 (dk_at dksL_law_23 7 rfl rfl)
theorem dL_law_699 : decode cL_law 699 = .ok (.iconst 1, 1) := dk_4 (dk_at dksL_law_23 9 rfl rfl)
theorem dL_law_700 : decode cL_law 700 = .ok (.iadd, 1) := dk_96 (dk_at dksL_law_23 10 rfl rfl)
theorem dL_law_701 : decode cL_law 701 = .ok (.iaload, 1) := dk_46 (dk_at dksL_law_23 11 rfl rfl)
theorem dL_law_702 : decode cL_law 702 = .ok (.aload_n 0, 1) := dk_42 (dk_at dksL_law_23 12 rfl rfl)
theorem dL_law_703 : decode cL_law 703 = .ok (.iload 4, 2) := dk_21 4 (dk_at dksL_law_23 13 rfl rfl)
theorem dL_law_705 : decode cL_law 705 = .ok (.iconst 2, 1) := dk_5 (dk_at dksL_law_23 15 rfl rfl)
theorem dL_law_706 : decode cL_law 706 = .ok (.iadd, 1) := dk_96 (dk_at dksL_law_23 16 rfl rfl)
theorem dL_law_707 : decode cL_law 707 = .ok (.iaload, 1) := dk_46 (dk_at dksL_law_23 17 rfl rfl)
theorem dL_law_708 : decode cL_law 708 = .ok (.invokevirtual 77, 3) := dk_182 0 77 (dk_at dksL_law_23 18 rfl rfl)
theorem dL_law_711 : decode cL_law 711 = .ok (.aload_n 2, 1) := dk_44 (dk_at dksL_law_23 21 rfl rfl)
theorem dL_law_712 : decode cL_law 712 = .ok (.aload_n 0, 1) := dk_42 (dk_at dksL_law_23 22 rfl rfl)
theorem dL_law_713 : decode cL_law 713 = .ok (.iload 4, 2) := dk_21 4 (dk_at dksL_law_24 0 rfl rfl)
theorem dL_law_715 : decode cL_law 715 = .ok (.iconst 1, 1) := dk_4 (dk_at dksL_law_24 2 rfl rfl)
theorem dL_law_716 : decode cL_law 716 = .ok (.iadd, 1) := dk_96 (dk_at dksL_law_24 3 rfl rfl)
theorem dL_law_717 : decode cL_law 717 = .ok (.iaload, 1) := dk_46 (dk_at dksL_law_24 4 rfl rfl)
theorem dL_law_718 : decode cL_law 718 = .ok (.aload_n 0, 1) := dk_42 (dk_at dksL_law_24 5 rfl rfl)
theorem dL_law_719 : decode cL_law 719 = .ok (.iload 4, 2) := dk_21 4 (dk_at dksL_law_24 6 rfl rfl)
theorem dL_law_721 : decode cL_law 721 = .ok (.iconst 2, 1) := dk_5 (dk_at dksL_law_24 8 rfl rfl)
theorem dL_law_722 : decode cL_law 722 = .ok (.iadd, 1) := dk_96 (dk_at dksL_law_24 9 rfl rfl)
theorem dL_law_723 : decode cL_law 723 = .ok (.iaload, 1) := dk_46 (dk_at dksL_law_24 10 rfl rfl)
theorem dL_law_724 : decode cL_law 724 = .ok (.invokevirtual 80, 3) := dk_182 0 80 (dk_at dksL_law_24 11 rfl rfl)
theorem dL_law_727 : decode cL_law 727 = .ok (.if_icmp .eq 761, 3) := dk_159 2 249 (dk_at dksL_law_24 14 rfl rfl)
theorem dL_law_730 : decode cL_law 730 = .ok (.iconst 0, 1) := dk_3 (dk_at dksL_law_24 17 rfl rfl)
theorem dL_law_731 : decode cL_law 731 = .ok (.ireturn, 1) := dk_172 (dk_at dksL_law_24 18 rfl rfl)
theorem dL_law_732 : decode cL_law 732 = .ok (.aload_n 1, 1) := dk_43 (dk_at dksL_law_24 19 rfl rfl)
theorem dL_law_733 : decode cL_law 733 = .ok (.invokevirtual 81, 3) := dk_182 0 81 (dk_at dksL_law_24 20 rfl rfl)
theorem dL_law_736 : decode cL_law 736 = .ok (.aload_n 2, 1) := dk_44 (dk_at dksL_law_24 23 rfl rfl)
theorem dL_law_737 : decode cL_law 737 = .ok (.invokevirtual 84, 3) := dk_182 0 84 (dk_at dksL_law_25 0 rfl rfl)
theorem dL_law_740 : decode cL_law 740 = .ok (.if_icmp .eq 748, 3) := dk_159 2 236 (dk_at dksL_law_25 3 rfl rfl)
theorem dL_law_743 : decode cL_law 743 = .ok (.iconst 0, 1) := dk_3 (dk_at dksL_law_25 6 rfl rfl)
theorem dL_law_744 : decode cL_law 744 = .ok (.ireturn, 1) := dk_172 (dk_at dksL_law_25 7 rfl rfl)
theorem dL_law_745 : decode cL_law 745 = .ok (.aload_n 1, 1) := dk_43 (dk_at dksL_law_25 8 rfl rfl)
theorem dL_law_746 : decode cL_law 746 = .ok (.aload_n 0, 1) := dk_42 (dk_at dksL_law_25 9 rfl rfl)
theorem dL_law_747 : decode cL_law 747 = .ok (.iload 4, 2) := dk_21 4 (dk_at dksL_law_25 10 rfl rfl)
theorem dL_law_749 : decode cL_law 749 = .ok (.iconst 1, 1) := dk_4 (dk_at dksL_law_25 12 rfl rfl)
theorem dL_law_750 : decode cL_law 750 = .ok (.iadd, 1) := dk_96 (dk_at dksL_law_25 13 rfl rfl)
theorem dL_law_751 : decode cL_law 751 = .ok (.iaload, 1) := dk_46 (dk_at dksL_law_25 14 rfl rfl)
theorem dL_law_752 : decode cL_law 752 = .ok (.invokevirtual 85, 3) := dk_182 0 85 (dk_at dksL_law_25 15 rfl rfl)
theorem dL_law_755 : decode cL_law 755 = .ok (.aload_n 2, 1) := dk_44 (dk_at dksL_law_25 18 rfl rfl)
theorem dL_law_756 : decode cL_law 756 = .ok (.aload_n 0, 1) := dk_42 (dk_at dksL_law_25 19 rfl rfl)
theorem dL_law_757 : decode cL_law 757 = .ok (.iload 4, 2) := dk_21 4 (dk_at dksL_law_25 20 rfl rfl)
theorem dL_law_759 : decode cL_law 759 = .ok (.iconst 1, 1) := dk_4 (dk_at dksL_law_25 22 rfl rfl)
theorem dL_law_760 : decode cL_law 760 = .ok (.iadd, 1) := dk_96 (dk_at dksL_law_25 23 rfl rfl)
theorem dL_law_761 : decode cL_law 761 = .ok (.iaload, 1) := dk_46 (dk_at dksL_law_26 0 rfl rfl)
theorem dL_law_762 : decode cL_law 762 = .ok (.invokevirtual 88, 3) := dk_182 0 88 (dk_at dksL_law_26 1 rfl rfl)
theorem dL_law_765 : decode cL_law 765 = .ok (.if_icmp .eq 723, 3) := dk_159 2 211 (dk_at dksL_law_26 4 rfl rfl)
theorem dL_law_768 : decode cL_law 768 = .ok (.iconst 0, 1) := dk_3 (dk_at dksL_law_26 7 rfl rfl)
theorem dL_law_769 : decode cL_law 769 = .ok (.ireturn, 1) := dk_172 (dk_at dksL_law_26 8 rfl rfl)
theorem dL_law_770 : decode cL_law 770 = .ok (.aload_n 1, 1) := dk_43 (dk_at dksL_law_26 9 rfl rfl)
theorem dL_law_771 : decode cL_law 771 = .ok (.aload_n 0, 1) := dk_42 (dk_at dksL_law_26 10 rfl rfl)
theorem dL_law_772 : decode cL_law 772 = .ok (.iload 4, 2) := dk_21 4 (dk_at dksL_law_26 11 rfl rfl)
theorem dL_law_774 : decode cL_law 774 = .ok (.iconst 1, 1) := dk_4 (dk_at dksL_law_26 13 rfl rfl)
theorem dL_law_775 : decode cL_law 775 = .ok (.iadd, 1) := dk_96 (dk_at dksL_law_26 14 rfl rfl)
theorem dL_law_776 : decode cL_law 776 = .ok (.iaload, 1) := dk_46 (dk_at dksL_law_26 15 rfl rfl)
theorem dL_law_777 : decode cL_law 777 = .ok (.invokevirtual 89, 3) := dk_182 0 89 (dk_at dksL_law_26 16 rfl rfl)
theorem dL_law_780 : decode cL_law 780 = .ok (.aload_n 2, 1) := dk_44 (dk_at dksL_law_26 19 rfl rfl)
theorem dL_law_781 : decode cL_law 781 = .ok (.aload_n 0, 1) := dk_42 (dk_at dksL_law_26 20 rfl rfl)
theorem dL_law_782 : decode cL_law 782 = .ok (.iload 4, 2) := dk_21 4 (dk_at dksL_law_26 21 rfl rfl)
theorem dL_law_784 : decode cL_law 784 = .ok (.iconst 1, 1) := dk_4 (dk_at dksL_law_26 23 rfl rfl)
theorem dL_law_785 : decode cL_law 785 = .ok (.iadd, 1) := dk_96 (dk_at dksL_law_27 0 rfl rfl)
theorem dL_law_786 : decode cL_law 786 = .ok (.iaload, 1) := dk_46 (dk_at dksL_law_27 1 rfl rfl)
theorem dL_law_787 : decode cL_law 787 = .ok (.invokevirtual 92, 3) := dk_182 0 92 (dk_at dksL_law_27 2 rfl rfl)
theorem dL_law_790 : decode cL_law 790 = .ok (.if_icmp .eq 698, 3) := dk_159 2 186 (dk_at dksL_law_27 5 rfl rfl)
theorem dL_law_793 : decode cL_law 793 = .ok (.iconst 0, 1) := dk_3 (dk_at dksL_law_27 8 rfl rfl)
theorem dL_law_794 : decode cL_law 794 = .ok (.ireturn, 1) := dk_172 (dk_at dksL_law_27 9 rfl rfl)
theorem dL_law_795 : decode cL_law 795 = .ok (.aload_n 1, 1) := dk_43 (dk_at dksL_law_27 10 rfl rfl)
theorem dL_law_796 : decode cL_law 796 = .ok (.invokevirtual 93, 3) := dk_182 0 93 (dk_at dksL_law_27 11 rfl rfl)
theorem dL_law_799 : decode cL_law 799 = .ok (.aload_n 2, 1) := dk_44 (dk_at dksL_law_27 14 rfl rfl)
theorem dL_law_800 : decode cL_law 800 = .ok (.invokevirtual 96, 3) := dk_182 0 96 (dk_at dksL_law_27 15 rfl rfl)
theorem dL_law_803 : decode cL_law 803 = .ok (.if_icmp .eq 685, 3) := dk_159 2 173 (dk_at dksL_law_27 18 rfl rfl)
theorem dL_law_806 : decode cL_law 806 = .ok (.iconst 0, 1) := dk_3 (dk_at dksL_law_27 21 rfl rfl)
theorem dL_law_807 : decode cL_law 807 = .ok (.ireturn, 1) := dk_172 (dk_at dksL_law_27 22 rfl rfl)
theorem dL_law_808 : decode cL_law 808 = .ok (.aload_n 1, 1) := dk_43 (dk_at dksL_law_27 23 rfl rfl)
theorem dL_law_809 : decode cL_law 809 = .ok (.aload_n 0, 1) := dk_42 (dk_at dksL_law_28 0 rfl rfl)
theorem dL_law_810 : decode cL_law 810 = .ok (.iload 4, 2) := dk_21 4 (dk_at dksL_law_28 1 rfl rfl)
theorem dL_law_812 : decode cL_law 812 = .ok (.iconst 1, 1) := dk_4 (dk_at dksL_law_28 3 rfl rfl)
theorem dL_law_813 : decode cL_law 813 = .ok (.iadd, 1) := dk_96 (dk_at dksL_law_28 4 rfl rfl)
theorem dL_law_814 : decode cL_law 814 = .ok (.iaload, 1) := dk_46 (dk_at dksL_law_28 5 rfl rfl)
theorem dL_law_815 : decode cL_law 815 = .ok (.invokevirtual 97, 3) := dk_182 0 97 (dk_at dksL_law_28 6 rfl rfl)
theorem dL_law_818 : decode cL_law 818 = .ok (.aload_n 2, 1) := dk_44 (dk_at dksL_law_28 9 rfl rfl)
theorem dL_law_819 : decode cL_law 819 = .ok (.aload_n 0, 1) := dk_42 (dk_at dksL_law_28 10 rfl rfl)
theorem dL_law_820 : decode cL_law 820 = .ok (.iload 4, 2) := dk_21 4 (dk_at dksL_law_28 11 rfl rfl)
theorem dL_law_822 : decode cL_law 822 = .ok (.iconst 1, 1) := dk_4 (dk_at dksL_law_28 13 rfl rfl)
theorem dL_law_823 : decode cL_law 823 = .ok (.iadd, 1) := dk_96 (dk_at dksL_law_28 14 rfl rfl)
theorem dL_law_824 : decode cL_law 824 = .ok (.iaload, 1) := dk_46 (dk_at dksL_law_28 15 rfl rfl)
theorem dL_law_825 : decode cL_law 825 = .ok (.invokevirtual 100, 3) := dk_182 0 100 (dk_at dksL_law_28 16 rfl rfl)
theorem dL_law_828 : decode cL_law 828 = .ok (.if_icmp .eq 660, 3) := dk_159 2 148 (dk_at dksL_law_28 19 rfl rfl)
theorem dL_law_831 : decode cL_law 831 = .ok (.iconst 0, 1) := dk_3 (dk_at dksL_law_28 22 rfl rfl)
theorem dL_law_832 : decode cL_law 832 = .ok (.ireturn, 1) := dk_172 (dk_at dksL_law_28 23 rfl rfl)
theorem dL_law_833 : decode cL_law 833 = .ok (.aload_n 1, 1) := dk_43 (dk_at dksL_law_29 0 rfl rfl)
theorem dL_law_834 : decode cL_law 834 = .ok (.aload_n 0, 1) := dk_42 (dk_at dksL_law_29 1 rfl rfl)
theorem dL_law_835 : decode cL_law 835 = .ok (.iload 4, 2) := dk_21 4 (dk_at dksL_law_29 2 rfl rfl)
theorem dL_law_837 : decode cL_law 837 = .ok (.iconst 1, 1) := dk_4 (dk_at dksL_law_29 4 rfl rfl)
theorem dL_law_838 : decode cL_law 838 = .ok (.iadd, 1) := dk_96 (dk_at dksL_law_29 5 rfl rfl)
theorem dL_law_839 : decode cL_law 839 = .ok (.iaload, 1) := dk_46 (dk_at dksL_law_29 6 rfl rfl)
theorem dL_law_840 : decode cL_law 840 = .ok (.aload_n 0, 1) := dk_42 (dk_at dksL_law_29 7 rfl rfl)
theorem dL_law_841 : decode cL_law 841 = .ok (.iload 4, 2) := dk_21 4 (dk_at dksL_law_29 8 rfl rfl)
theorem dL_law_843 : decode cL_law 843 = .ok (.iconst 2, 1) := dk_5 (dk_at dksL_law_29 10 rfl rfl)
theorem dL_law_844 : decode cL_law 844 = .ok (.iadd, 1) := dk_96 (dk_at dksL_law_29 11 rfl rfl)
theorem dL_law_845 : decode cL_law 845 = .ok (.iaload, 1) := dk_46 (dk_at dksL_law_29 12 rfl rfl)
theorem dL_law_846 : decode cL_law 846 = .ok (.aload_n 0, 1) := dk_42 (dk_at dksL_law_29 13 rfl rfl)
theorem dL_law_847 : decode cL_law 847 = .ok (.iload 4, 2) := dk_21 4 (dk_at dksL_law_29 14 rfl rfl)
theorem dL_law_849 : decode cL_law 849 = .ok (.iconst 3, 1) := dk_6 (dk_at dksL_law_29 16 rfl rfl)
theorem dL_law_850 : decode cL_law 850 = .ok (.iadd, 1) := dk_96 (dk_at dksL_law_29 17 rfl rfl)
theorem dL_law_851 : decode cL_law 851 = .ok (.iaload, 1) := dk_46 (dk_at dksL_law_29 18 rfl rfl)
theorem dL_law_852 : decode cL_law 852 = .ok (.invokevirtual 101, 3) := dk_182 0 101 (dk_at dksL_law_29 19 rfl rfl)
theorem dL_law_855 : decode cL_law 855 = .ok (.aload_n 2, 1) := dk_44 (dk_at dksL_law_29 22 rfl rfl)
theorem dL_law_856 : decode cL_law 856 = .ok (.aload_n 0, 1) := dk_42 (dk_at dksL_law_29 23 rfl rfl)
theorem dL_law_857 : decode cL_law 857 = .ok (.iload 4, 2) := dk_21 4 (dk_at dksL_law_30 0 rfl rfl)
theorem dL_law_859 : decode cL_law 859 = .ok (.iconst 1, 1) := dk_4 (dk_at dksL_law_30 2 rfl rfl)
theorem dL_law_860 : decode cL_law 860 = .ok (.iadd, 1) := dk_96 (dk_at dksL_law_30 3 rfl rfl)
theorem dL_law_861 : decode cL_law 861 = .ok (.iaload, 1) := dk_46 (dk_at dksL_law_30 4 rfl rfl)
theorem dL_law_862 : decode cL_law 862 = .ok (.aload_n 0, 1) := dk_42 (dk_at dksL_law_30 5 rfl rfl)
theorem dL_law_863 : decode cL_law 863 = .ok (.iload 4, 2) := dk_21 4 (dk_at dksL_law_30 6 rfl rfl)
theorem dL_law_865 : decode cL_law 865 = .ok (.iconst 2, 1) := dk_5 (dk_at dksL_law_30 8 rfl rfl)
theorem dL_law_866 : decode cL_law 866 = .ok (.iadd, 1) := dk_96 (dk_at dksL_law_30 9 rfl rfl)
theorem dL_law_867 : decode cL_law 867 = .ok (.iaload, 1) := dk_46 (dk_at dksL_law_30 10 rfl rfl)
theorem dL_law_868 : decode cL_law 868 = .ok (.aload_n 0, 1) := dk_42 (dk_at dksL_law_30 11 rfl rfl)
theorem dL_law_869 : decode cL_law 869 = .ok (.iload 4, 2) := dk_21 4 (dk_at dksL_law_30 12 rfl rfl)
theorem dL_law_871 : decode cL_law 871 = .ok (.iconst 3, 1) := dk_6 (dk_at dksL_law_30 14 rfl rfl)
theorem dL_law_872 : decode cL_law 872 = .ok (.iadd, 1) := dk_96 (dk_at dksL_law_30 15 rfl rfl)
theorem dL_law_873 : decode cL_law 873 = .ok (.iaload, 1) := dk_46 (dk_at dksL_law_30 16 rfl rfl)
theorem dL_law_874 : decode cL_law 874 = .ok (.invokevirtual 104, 3) := dk_182 0 104 (dk_at dksL_law_30 17 rfl rfl)
theorem dL_law_877 : decode cL_law 877 = .ok (.if_icmp .eq 611, 3) := dk_159 2 99 (dk_at dksL_law_30 20 rfl rfl)
theorem dL_law_880 : decode cL_law 880 = .ok (.iconst 0, 1) := dk_3 (dk_at dksL_law_30 23 rfl rfl)
theorem dL_law_881 : decode cL_law 881 = .ok (.ireturn, 1) := dk_172 (dk_at dksL_law_31 0 rfl rfl)
theorem dL_law_882 : decode cL_law 882 = .ok (.aload_n 1, 1) := dk_43 (dk_at dksL_law_31 1 rfl rfl)
theorem dL_law_883 : decode cL_law 883 = .ok (.aload_n 0, 1) := dk_42 (dk_at dksL_law_31 2 rfl rfl)
theorem dL_law_884 : decode cL_law 884 = .ok (.iload 4, 2) := dk_21 4 (dk_at dksL_law_31 3 rfl rfl)
theorem dL_law_886 : decode cL_law 886 = .ok (.iconst 1, 1) := dk_4 (dk_at dksL_law_31 5 rfl rfl)
theorem dL_law_887 : decode cL_law 887 = .ok (.iadd, 1) := dk_96 (dk_at dksL_law_31 6 rfl rfl)
theorem dL_law_888 : decode cL_law 888 = .ok (.iaload, 1) := dk_46 (dk_at dksL_law_31 7 rfl rfl)
theorem dL_law_889 : decode cL_law 889 = .ok (.aload_n 0, 1) := dk_42 (dk_at dksL_law_31 8 rfl rfl)
theorem dL_law_890 : decode cL_law 890 = .ok (.iload 4, 2) := dk_21 4 (dk_at dksL_law_31 9 rfl rfl)
theorem dL_law_892 : decode cL_law 892 = .ok (.iconst 2, 1) := dk_5 (dk_at dksL_law_31 11 rfl rfl)
theorem dL_law_893 : decode cL_law 893 = .ok (.iadd, 1) := dk_96 (dk_at dksL_law_31 12 rfl rfl)
theorem dL_law_894 : decode cL_law 894 = .ok (.iaload, 1) := dk_46 (dk_at dksL_law_31 13 rfl rfl)
theorem dL_law_895 : decode cL_law 895 = .ok (.aload_n 0, 1) := dk_42 (dk_at dksL_law_31 14 rfl rfl)
theorem dL_law_896 : decode cL_law 896 = .ok (.iload 4, 2) := dk_21 4 (dk_at dksL_law_31 15 rfl rfl)
theorem dL_law_898 : decode cL_law 898 = .ok (.iconst 3, 1) := dk_6 (dk_at dksL_law_31 17 rfl rfl)
theorem dL_law_899 : decode cL_law 899 = .ok (.iadd, 1) := dk_96 (dk_at dksL_law_31 18 rfl rfl)
theorem dL_law_900 : decode cL_law 900 = .ok (.iaload, 1) := dk_46 (dk_at dksL_law_31 19 rfl rfl)
theorem dL_law_901 : decode cL_law 901 = .ok (.invokevirtual 105, 3) := dk_182 0 105 (dk_at dksL_law_31 20 rfl rfl)
theorem dL_law_904 : decode cL_law 904 = .ok (.aload_n 2, 1) := dk_44 (dk_at dksL_law_31 23 rfl rfl)
theorem dL_law_905 : decode cL_law 905 = .ok (.aload_n 0, 1) := dk_42 (dk_at dksL_law_32 0 rfl rfl)
theorem dL_law_906 : decode cL_law 906 = .ok (.iload 4, 2) := dk_21 4 (dk_at dksL_law_32 1 rfl rfl)
theorem dL_law_908 : decode cL_law 908 = .ok (.iconst 1, 1) := dk_4 (dk_at dksL_law_32 3 rfl rfl)
theorem dL_law_909 : decode cL_law 909 = .ok (.iadd, 1) := dk_96 (dk_at dksL_law_32 4 rfl rfl)
theorem dL_law_910 : decode cL_law 910 = .ok (.iaload, 1) := dk_46 (dk_at dksL_law_32 5 rfl rfl)
theorem dL_law_911 : decode cL_law 911 = .ok (.aload_n 0, 1) := dk_42 (dk_at dksL_law_32 6 rfl rfl)
theorem dL_law_912 : decode cL_law 912 = .ok (.iload 4, 2) := dk_21 4 (dk_at dksL_law_32 7 rfl rfl)
theorem dL_law_914 : decode cL_law 914 = .ok (.iconst 2, 1) := dk_5 (dk_at dksL_law_32 9 rfl rfl)
theorem dL_law_915 : decode cL_law 915 = .ok (.iadd, 1) := dk_96 (dk_at dksL_law_32 10 rfl rfl)
theorem dL_law_916 : decode cL_law 916 = .ok (.iaload, 1) := dk_46 (dk_at dksL_law_32 11 rfl rfl)
theorem dL_law_917 : decode cL_law 917 = .ok (.aload_n 0, 1) := dk_42 (dk_at dksL_law_32 12 rfl rfl)
theorem dL_law_918 : decode cL_law 918 = .ok (.iload 4, 2) := dk_21 4 (dk_at dksL_law_32 13 rfl rfl)
theorem dL_law_920 : decode cL_law 920 = .ok (.iconst 3, 1) := dk_6 (dk_at dksL_law_32 15 rfl rfl)
theorem dL_law_921 : decode cL_law 921 = .ok (.iadd, 1) := dk_96 (dk_at dksL_law_32 16 rfl rfl)
theorem dL_law_922 : decode cL_law 922 = .ok (.iaload, 1) := dk_46 (dk_at dksL_law_32 17 rfl rfl)
theorem dL_law_923 : decode cL_law 923 = .ok (.invokevirtual 108, 3) := dk_182 0 108 (dk_at dksL_law_32 18 rfl rfl)
theorem dL_law_926 : decode cL_law 926 = .ok (.if_icmp .eq 562, 3) := dk_159 2 50 (dk_at dksL_law_32 21 rfl rfl)
theorem dL_law_929 : decode cL_law 929 = .ok (.iconst 0, 1) := dk_3 (dk_at dksL_law_33 0 rfl rfl)
theorem dL_law_930 : decode cL_law 930 = .ok (.ireturn, 1) := dk_172 (dk_at dksL_law_33 1 rfl rfl)
theorem dL_law_931 : decode cL_law 931 = .ok (.aload_n 1, 1) := dk_43 (dk_at dksL_law_33 2 rfl rfl)
theorem dL_law_932 : decode cL_law 932 = .ok (.aload_n 0, 1) := dk_42 (dk_at dksL_law_33 3 rfl rfl)
theorem dL_law_933 : decode cL_law 933 = .ok (.iload 4, 2) := dk_21 4 (dk_at dksL_law_33 4 rfl rfl)
theorem dL_law_935 : decode cL_law 935 = .ok (.iconst 1, 1) := dk_4 (dk_at dksL_law_33 6 rfl rfl)
theorem dL_law_936 : decode cL_law 936 = .ok (.iadd, 1) := dk_96 (dk_at dksL_law_33 7 rfl rfl)
theorem dL_law_937 : decode cL_law 937 = .ok (.iaload, 1) := dk_46 (dk_at dksL_law_33 8 rfl rfl)
theorem dL_law_938 : decode cL_law 938 = .ok (.aload_n 0, 1) := dk_42 (dk_at dksL_law_33 9 rfl rfl)
theorem dL_law_939 : decode cL_law 939 = .ok (.iload 4, 2) := dk_21 4 (dk_at dksL_law_33 10 rfl rfl)
theorem dL_law_941 : decode cL_law 941 = .ok (.iconst 2, 1) := dk_5 (dk_at dksL_law_33 12 rfl rfl)
theorem dL_law_942 : decode cL_law 942 = .ok (.iadd, 1) := dk_96 (dk_at dksL_law_33 13 rfl rfl)
theorem dL_law_943 : decode cL_law 943 = .ok (.iaload, 1) := dk_46 (dk_at dksL_law_33 14 rfl rfl)
theorem dL_law_944 : decode cL_law 944 = .ok (.invokevirtual 109, 3) := dk_182 0 109 (dk_at dksL_law_33 15 rfl rfl)
theorem dL_law_947 : decode cL_law 947 = .ok (.aload_n 2, 1) := dk_44 (dk_at dksL_law_33 18 rfl rfl)
theorem dL_law_948 : decode cL_law 948 = .ok (.aload_n 0, 1) := dk_42 (dk_at dksL_law_33 19 rfl rfl)
theorem dL_law_949 : decode cL_law 949 = .ok (.iload 4, 2) := dk_21 4 (dk_at dksL_law_33 20 rfl rfl)
theorem dL_law_951 : decode cL_law 951 = .ok (.iconst 1, 1) := dk_4 (dk_at dksL_law_33 22 rfl rfl)
theorem dL_law_952 : decode cL_law 952 = .ok (.iadd, 1) := dk_96 (dk_at dksL_law_33 23 rfl rfl)
theorem dL_law_953 : decode cL_law 953 = .ok (.iaload, 1) := dk_46 (dk_at dksL_law_34 0 rfl rfl)
theorem dL_law_954 : decode cL_law 954 = .ok (.aload_n 0, 1) := dk_42 (dk_at dksL_law_34 1 rfl rfl)
theorem dL_law_955 : decode cL_law 955 = .ok (.iload 4, 2) := dk_21 4 (dk_at dksL_law_34 2 rfl rfl)
theorem dL_law_957 : decode cL_law 957 = .ok (.iconst 2, 1) := dk_5 (dk_at dksL_law_34 4 rfl rfl)
theorem dL_law_958 : decode cL_law 958 = .ok (.iadd, 1) := dk_96 (dk_at dksL_law_34 5 rfl rfl)
theorem dL_law_959 : decode cL_law 959 = .ok (.iaload, 1) := dk_46 (dk_at dksL_law_34 6 rfl rfl)
theorem dL_law_960 : decode cL_law 960 = .ok (.invokevirtual 112, 3) := dk_182 0 112 (dk_at dksL_law_34 7 rfl rfl)
theorem dL_law_963 : decode cL_law 963 = .ok (.if_icmp .eq 525, 3) := dk_159 2 13 (dk_at dksL_law_34 10 rfl rfl)
theorem dL_law_966 : decode cL_law 966 = .ok (.iconst 0, 1) := dk_3 (dk_at dksL_law_34 13 rfl rfl)
theorem dL_law_967 : decode cL_law 967 = .ok (.ireturn, 1) := dk_172 (dk_at dksL_law_34 14 rfl rfl)
theorem dL_law_968 : decode cL_law 968 = .ok (.aload_n 1, 1) := dk_43 (dk_at dksL_law_34 15 rfl rfl)
theorem dL_law_969 : decode cL_law 969 = .ok (.invokevirtual 113, 3) := dk_182 0 113 (dk_at dksL_law_34 16 rfl rfl)
theorem dL_law_972 : decode cL_law 972 = .ok (.aload_n 2, 1) := dk_44 (dk_at dksL_law_34 19 rfl rfl)
theorem dL_law_973 : decode cL_law 973 = .ok (.invokevirtual 116, 3) := dk_182 0 116 (dk_at dksL_law_34 20 rfl rfl)
theorem dL_law_976 : decode cL_law 976 = .ok (.if_icmp .eq 512, 3) := dk_159 2 0 (dk_at dksL_law_35 0 rfl rfl)
theorem dL_law_979 : decode cL_law 979 = .ok (.iconst 0, 1) := dk_3 (dk_at dksL_law_35 3 rfl rfl)
theorem dL_law_980 : decode cL_law 980 = .ok (.ireturn, 1) := dk_172 (dk_at dksL_law_35 4 rfl rfl)
theorem dL_law_981 : decode cL_law 981 = .ok (.aload_n 1, 1) := dk_43 (dk_at dksL_law_35 5 rfl rfl)
theorem dL_law_982 : decode cL_law 982 = .ok (.aload_n 0, 1) := dk_42 (dk_at dksL_law_35 6 rfl rfl)
theorem dL_law_983 : decode cL_law 983 = .ok (.iload 4, 2) := dk_21 4 (dk_at dksL_law_35 7 rfl rfl)
theorem dL_law_985 : decode cL_law 985 = .ok (.iconst 1, 1) := dk_4 (dk_at dksL_law_35 9 rfl rfl)
theorem dL_law_986 : decode cL_law 986 = .ok (.iadd, 1) := dk_96 (dk_at dksL_law_35 10 rfl rfl)
theorem dL_law_987 : decode cL_law 987 = .ok (.iaload, 1) := dk_46 (dk_at dksL_law_35 11 rfl rfl)
theorem dL_law_988 : decode cL_law 988 = .ok (.invokevirtual 117, 3) := dk_182 0 117 (dk_at dksL_law_35 12 rfl rfl)
theorem dL_law_991 : decode cL_law 991 = .ok (.aload_n 2, 1) := dk_44 (dk_at dksL_law_35 15 rfl rfl)
theorem dL_law_992 : decode cL_law 992 = .ok (.aload_n 0, 1) := dk_42 (dk_at dksL_law_35 16 rfl rfl)
theorem dL_law_993 : decode cL_law 993 = .ok (.iload 4, 2) := dk_21 4 (dk_at dksL_law_35 17 rfl rfl)
theorem dL_law_995 : decode cL_law 995 = .ok (.iconst 1, 1) := dk_4 (dk_at dksL_law_35 19 rfl rfl)
theorem dL_law_996 : decode cL_law 996 = .ok (.iadd, 1) := dk_96 (dk_at dksL_law_35 20 rfl rfl)
theorem dL_law_997 : decode cL_law 997 = .ok (.iaload, 1) := dk_46 (dk_at dksL_law_35 21 rfl rfl)
theorem dL_law_998 : decode cL_law 998 = .ok (.invokevirtual 120, 3) := dk_182 0 120 (dk_at dksL_law_36 0 rfl rfl)
theorem dL_law_1001 : decode cL_law 1001 = .ok (.if_icmp .eq 487, 3) := dk_159 1 231 (dk_at dksL_law_36 3 rfl rfl)
theorem dL_law_1004 : decode cL_law 1004 = .ok (.iconst 0, 1) := dk_3 (dk_at dksL_law_36 6 rfl rfl)
theorem dL_law_1005 : decode cL_law 1005 = .ok (.ireturn, 1) := dk_172 (dk_at dksL_law_36 7 rfl rfl)
theorem dL_law_1006 : decode cL_law 1006 = .ok (.aload_n 1, 1) := dk_43 (dk_at dksL_law_36 8 rfl rfl)
theorem dL_law_1007 : decode cL_law 1007 = .ok (.invokevirtual 121, 3) := dk_182 0 121 (dk_at dksL_law_36 9 rfl rfl)
theorem dL_law_1010 : decode cL_law 1010 = .ok (.aload_n 2, 1) := dk_44 (dk_at dksL_law_36 12 rfl rfl)
theorem dL_law_1011 : decode cL_law 1011 = .ok (.invokevirtual 124, 3) := dk_182 0 124 (dk_at dksL_law_36 13 rfl rfl)
theorem dL_law_1014 : decode cL_law 1014 = .ok (.if_icmp .eq 474, 3) := dk_159 1 218 (dk_at dksL_law_36 16 rfl rfl)
theorem dL_law_1017 : decode cL_law 1017 = .ok (.iconst 0, 1) := dk_3 (dk_at dksL_law_36 19 rfl rfl)
theorem dL_law_1018 : decode cL_law 1018 = .ok (.ireturn, 1) := dk_172 (dk_at dksL_law_36 20 rfl rfl)
theorem dL_law_1019 : decode cL_law 1019 = .ok (.aload_n 1, 1) := dk_43 (dk_at dksL_law_36 21 rfl rfl)
theorem dL_law_1020 : decode cL_law 1020 = .ok (.aload_n 0, 1) := dk_42 (dk_at dksL_law_36 22 rfl rfl)
theorem dL_law_1021 : decode cL_law 1021 = .ok (.iload 4, 2) := dk_21 4 (dk_at dksL_law_37 0 rfl rfl)
theorem dL_law_1023 : decode cL_law 1023 = .ok (.iconst 1, 1) := dk_4 (dk_at dksL_law_37 2 rfl rfl)
theorem dL_law_1024 : decode cL_law 1024 = .ok (.iadd, 1) := dk_96 (dk_at dksL_law_37 3 rfl rfl)
theorem dL_law_1025 : decode cL_law 1025 = .ok (.iaload, 1) := dk_46 (dk_at dksL_law_37 4 rfl rfl)
theorem dL_law_1026 : decode cL_law 1026 = .ok (.aload_n 0, 1) := dk_42 (dk_at dksL_law_37 5 rfl rfl)
theorem dL_law_1027 : decode cL_law 1027 = .ok (.iload 4, 2) := dk_21 4 (dk_at dksL_law_37 6 rfl rfl)
theorem dL_law_1029 : decode cL_law 1029 = .ok (.iconst 2, 1) := dk_5 (dk_at dksL_law_37 8 rfl rfl)
theorem dL_law_1030 : decode cL_law 1030 = .ok (.iadd, 1) := dk_96 (dk_at dksL_law_37 9 rfl rfl)
theorem dL_law_1031 : decode cL_law 1031 = .ok (.iaload, 1) := dk_46 (dk_at dksL_law_37 10 rfl rfl)
theorem dL_law_1032 : decode cL_law 1032 = .ok (.invokevirtual 125, 3) := dk_182 0 125 (dk_at dksL_law_37 11 rfl rfl)
theorem dL_law_1035 : decode cL_law 1035 = .ok (.aload_n 2, 1) := dk_44 (dk_at dksL_law_37 14 rfl rfl)
theorem dL_law_1036 : decode cL_law 1036 = .ok (.aload_n 0, 1) := dk_42 (dk_at dksL_law_37 15 rfl rfl)
theorem dL_law_1037 : decode cL_law 1037 = .ok (.iload 4, 2) := dk_21 4 (dk_at dksL_law_37 16 rfl rfl)
theorem dL_law_1039 : decode cL_law 1039 = .ok (.iconst 1, 1) := dk_4 (dk_at dksL_law_37 18 rfl rfl)
theorem dL_law_1040 : decode cL_law 1040 = .ok (.iadd, 1) := dk_96 (dk_at dksL_law_37 19 rfl rfl)
theorem dL_law_1041 : decode cL_law 1041 = .ok (.iaload, 1) := dk_46 (dk_at dksL_law_37 20 rfl rfl)
theorem dL_law_1042 : decode cL_law 1042 = .ok (.aload_n 0, 1) := dk_42 (dk_at dksL_law_37 21 rfl rfl)
theorem dL_law_1043 : decode cL_law 1043 = .ok (.iload 4, 2) := dk_21 4 (dk_at dksL_law_37 22 rfl rfl)
theorem dL_law_1045 : decode cL_law 1045 = .ok (.iconst 2, 1) := dk_5 (dk_at dksL_law_38 0 rfl rfl)
theorem dL_law_1046 : decode cL_law 1046 = .ok (.iadd, 1) := dk_96 (dk_at dksL_law_38 1 rfl rfl)
theorem dL_law_1047 : decode cL_law 1047 = .ok (.iaload, 1) := dk_46 (dk_at dksL_law_38 2 rfl rfl)
theorem dL_law_1048 : decode cL_law 1048 = .ok (.invokevirtual 128, 3) := dk_182 0 128 (dk_at dksL_law_38 3 rfl rfl)
theorem dL_law_1051 : decode cL_law 1051 = .ok (.if_icmp .eq 437, 3) := dk_159 1 181 (dk_at dksL_law_38 6 rfl rfl)
theorem dL_law_1054 : decode cL_law 1054 = .ok (.iconst 0, 1) := dk_3 (dk_at dksL_law_38 9 rfl rfl)
theorem dL_law_1055 : decode cL_law 1055 = .ok (.ireturn, 1) := dk_172 (dk_at dksL_law_38 10 rfl rfl)
theorem dL_law_1056 : decode cL_law 1056 = .ok (.aload_n 1, 1) := dk_43 (dk_at dksL_law_38 11 rfl rfl)
theorem dL_law_1057 : decode cL_law 1057 = .ok (.aload_n 0, 1) := dk_42 (dk_at dksL_law_38 12 rfl rfl)
theorem dL_law_1058 : decode cL_law 1058 = .ok (.iload 4, 2) := dk_21 4 (dk_at dksL_law_38 13 rfl rfl)
theorem dL_law_1060 : decode cL_law 1060 = .ok (.iconst 1, 1) := dk_4 (dk_at dksL_law_38 15 rfl rfl)
theorem dL_law_1061 : decode cL_law 1061 = .ok (.iadd, 1) := dk_96 (dk_at dksL_law_38 16 rfl rfl)
theorem dL_law_1062 : decode cL_law 1062 = .ok (.iaload, 1) := dk_46 (dk_at dksL_law_38 17 rfl rfl)
theorem dL_law_1063 : decode cL_law 1063 = .ok (.invokevirtual 129, 3) := dk_182 0 129 (dk_at dksL_law_38 18 rfl rfl)
theorem dL_law_1066 : decode cL_law 1066 = .ok (.aload_n 2, 1) := dk_44 (dk_at dksL_law_38 21 rfl rfl)
theorem dL_law_1067 : decode cL_law 1067 = .ok (.aload_n 0, 1) := dk_42 (dk_at dksL_law_38 22 rfl rfl)
theorem dL_law_1068 : decode cL_law 1068 = .ok (.iload 4, 2) := dk_21 4 (dk_at dksL_law_39 0 rfl rfl)
theorem dL_law_1070 : decode cL_law 1070 = .ok (.iconst 1, 1) := dk_4 (dk_at dksL_law_39 2 rfl rfl)
theorem dL_law_1071 : decode cL_law 1071 = .ok (.iadd, 1) := dk_96 (dk_at dksL_law_39 3 rfl rfl)
theorem dL_law_1072 : decode cL_law 1072 = .ok (.iaload, 1) := dk_46 (dk_at dksL_law_39 4 rfl rfl)
theorem dL_law_1073 : decode cL_law 1073 = .ok (.invokevirtual 132, 3) := dk_182 0 132 (dk_at dksL_law_39 5 rfl rfl)
theorem dL_law_1076 : decode cL_law 1076 = .ok (.if_icmp .eq 412, 3) := dk_159 1 156 (dk_at dksL_law_39 8 rfl rfl)
theorem dL_law_1079 : decode cL_law 1079 = .ok (.iconst 0, 1) := dk_3 (dk_at dksL_law_39 11 rfl rfl)
theorem dL_law_1080 : decode cL_law 1080 = .ok (.ireturn, 1) := dk_172 (dk_at dksL_law_39 12 rfl rfl)
theorem dL_law_1081 : decode cL_law 1081 = .ok (.aload_n 1, 1) := dk_43 (dk_at dksL_law_39 13 rfl rfl)
theorem dL_law_1082 : decode cL_law 1082 = .ok (.invokevirtual 133, 3) := dk_182 0 133 (dk_at dksL_law_39 14 rfl rfl)
theorem dL_law_1085 : decode cL_law 1085 = .ok (.aload_n 2, 1) := dk_44 (dk_at dksL_law_39 17 rfl rfl)
theorem dL_law_1086 : decode cL_law 1086 = .ok (.invokevirtual 136, 3) := dk_182 0 136 (dk_at dksL_law_39 18 rfl rfl)
theorem dL_law_1089 : decode cL_law 1089 = .ok (.if_icmp .eq 399, 3) := dk_159 1 143 (dk_at dksL_law_39 21 rfl rfl)
theorem dL_law_1092 : decode cL_law 1092 = .ok (.iconst 0, 1) := dk_3 (dk_at dksL_law_40 0 rfl rfl)
theorem dL_law_1093 : decode cL_law 1093 = .ok (.ireturn, 1) := dk_172 (dk_at dksL_law_40 1 rfl rfl)
theorem dL_law_1094 : decode cL_law 1094 = .ok (.aload_n 1, 1) := dk_43 (dk_at dksL_law_40 2 rfl rfl)
theorem dL_law_1095 : decode cL_law 1095 = .ok (.invokevirtual 137, 3) := dk_182 0 137 (dk_at dksL_law_40 3 rfl rfl)
theorem dL_law_1098 : decode cL_law 1098 = .ok (.aload_n 2, 1) := dk_44 (dk_at dksL_law_40 6 rfl rfl)
theorem dL_law_1099 : decode cL_law 1099 = .ok (.invokevirtual 140, 3) := dk_182 0 140 (dk_at dksL_law_40 7 rfl rfl)
theorem dL_law_1102 : decode cL_law 1102 = .ok (.if_icmp .eq 386, 3) := dk_159 1 130 (dk_at dksL_law_40 10 rfl rfl)
theorem dL_law_1105 : decode cL_law 1105 = .ok (.iconst 0, 1) := dk_3 (dk_at dksL_law_40 13 rfl rfl)
theorem dL_law_1106 : decode cL_law 1106 = .ok (.ireturn, 1) := dk_172 (dk_at dksL_law_40 14 rfl rfl)
theorem dL_law_1107 : decode cL_law 1107 = .ok (.aload_n 1, 1) := dk_43 (dk_at dksL_law_40 15 rfl rfl)
theorem dL_law_1108 : decode cL_law 1108 = .ok (.invokevirtual 141, 3) := dk_182 0 141 (dk_at dksL_law_40 16 rfl rfl)
theorem dL_law_1111 : decode cL_law 1111 = .ok (.aload_n 2, 1) := dk_44 (dk_at dksL_law_40 19 rfl rfl)
theorem dL_law_1112 : decode cL_law 1112 = .ok (.invokevirtual 144, 3) := dk_182 0 144 (dk_at dksL_law_40 20 rfl rfl)
theorem dL_law_1115 : decode cL_law 1115 = .ok (.if_icmp .eq 373, 3) := dk_159 1 117 (dk_at dksL_law_41 0 rfl rfl)
theorem dL_law_1118 : decode cL_law 1118 = .ok (.iconst 0, 1) := dk_3 (dk_at dksL_law_41 3 rfl rfl)
theorem dL_law_1119 : decode cL_law 1119 = .ok (.ireturn, 1) := dk_172 (dk_at dksL_law_41 4 rfl rfl)
theorem dL_law_1120 : decode cL_law 1120 = .ok (.aload_n 1, 1) := dk_43 (dk_at dksL_law_41 5 rfl rfl)
theorem dL_law_1121 : decode cL_law 1121 = .ok (.aload_n 0, 1) := dk_42 (dk_at dksL_law_41 6 rfl rfl)
theorem dL_law_1122 : decode cL_law 1122 = .ok (.iload 4, 2) := dk_21 4 (dk_at dksL_law_41 7 rfl rfl)
theorem dL_law_1124 : decode cL_law 1124 = .ok (.iconst 1, 1) := dk_4 (dk_at dksL_law_41 9 rfl rfl)
theorem dL_law_1125 : decode cL_law 1125 = .ok (.iadd, 1) := dk_96 (dk_at dksL_law_41 10 rfl rfl)
theorem dL_law_1126 : decode cL_law 1126 = .ok (.iaload, 1) := dk_46 (dk_at dksL_law_41 11 rfl rfl)
theorem dL_law_1127 : decode cL_law 1127 = .ok (.aload_n 0, 1) := dk_42 (dk_at dksL_law_41 12 rfl rfl)
theorem dL_law_1128 : decode cL_law 1128 = .ok (.iload 4, 2) := dk_21 4 (dk_at dksL_law_41 13 rfl rfl)
theorem dL_law_1130 : decode cL_law 1130 = .ok (.iconst 2, 1) := dk_5 (dk_at dksL_law_41 15 rfl rfl)
theorem dL_law_1131 : decode cL_law 1131 = .ok (.iadd, 1) := dk_96 (dk_at dksL_law_41 16 rfl rfl)
theorem dL_law_1132 : decode cL_law 1132 = .ok (.iaload, 1) := dk_46 (dk_at dksL_law_41 17 rfl rfl)
theorem dL_law_1133 : decode cL_law 1133 = .ok (.invokevirtual 145, 3) := dk_182 0 145 (dk_at dksL_law_41 18 rfl rfl)
theorem dL_law_1136 : decode cL_law 1136 = .ok (.aload_n 2, 1) := dk_44 (dk_at dksL_law_41 21 rfl rfl)
theorem dL_law_1137 : decode cL_law 1137 = .ok (.aload_n 0, 1) := dk_42 (dk_at dksL_law_41 22 rfl rfl)
theorem dL_law_1138 : decode cL_law 1138 = .ok (.iload 4, 2) := dk_21 4 (dk_at dksL_law_42 0 rfl rfl)
theorem dL_law_1140 : decode cL_law 1140 = .ok (.iconst 1, 1) := dk_4 (dk_at dksL_law_42 2 rfl rfl)
theorem dL_law_1141 : decode cL_law 1141 = .ok (.iadd, 1) := dk_96 (dk_at dksL_law_42 3 rfl rfl)
theorem dL_law_1142 : decode cL_law 1142 = .ok (.iaload, 1) := dk_46 (dk_at dksL_law_42 4 rfl rfl)
theorem dL_law_1143 : decode cL_law 1143 = .ok (.aload_n 0, 1) := dk_42 (dk_at dksL_law_42 5 rfl rfl)
theorem dL_law_1144 : decode cL_law 1144 = .ok (.iload 4, 2) := dk_21 4 (dk_at dksL_law_42 6 rfl rfl)
theorem dL_law_1146 : decode cL_law 1146 = .ok (.iconst 2, 1) := dk_5 (dk_at dksL_law_42 8 rfl rfl)
theorem dL_law_1147 : decode cL_law 1147 = .ok (.iadd, 1) := dk_96 (dk_at dksL_law_42 9 rfl rfl)
theorem dL_law_1148 : decode cL_law 1148 = .ok (.iaload, 1) := dk_46 (dk_at dksL_law_42 10 rfl rfl)
theorem dL_law_1149 : decode cL_law 1149 = .ok (.invokevirtual 148, 3) := dk_182 0 148 (dk_at dksL_law_42 11 rfl rfl)
theorem dL_law_1152 : decode cL_law 1152 = .ok (.if_icmp .eq 336, 3) := dk_159 1 80 (dk_at dksL_law_42 14 rfl rfl)
theorem dL_law_1155 : decode cL_law 1155 = .ok (.iconst 0, 1) := dk_3 (dk_at dksL_law_42 17 rfl rfl)
theorem dL_law_1156 : decode cL_law 1156 = .ok (.ireturn, 1) := dk_172 (dk_at dksL_law_42 18 rfl rfl)
theorem dL_law_1157 : decode cL_law 1157 = .ok (.aload_n 1, 1) := dk_43 (dk_at dksL_law_42 19 rfl rfl)
theorem dL_law_1158 : decode cL_law 1158 = .ok (.aload_n 0, 1) := dk_42 (dk_at dksL_law_42 20 rfl rfl)
theorem dL_law_1159 : decode cL_law 1159 = .ok (.iload 4, 2) := dk_21 4 (dk_at dksL_law_42 21 rfl rfl)
theorem dL_law_1161 : decode cL_law 1161 = .ok (.iconst 1, 1) := dk_4 (dk_at dksL_law_42 23 rfl rfl)
theorem dL_law_1162 : decode cL_law 1162 = .ok (.iadd, 1) := dk_96 (dk_at dksL_law_43 0 rfl rfl)
theorem dL_law_1163 : decode cL_law 1163 = .ok (.iaload, 1) := dk_46 (dk_at dksL_law_43 1 rfl rfl)
theorem dL_law_1164 : decode cL_law 1164 = .ok (.invokevirtual 149, 3) := dk_182 0 149 (dk_at dksL_law_43 2 rfl rfl)
theorem dL_law_1167 : decode cL_law 1167 = .ok (.aload_n 2, 1) := dk_44 (dk_at dksL_law_43 5 rfl rfl)
theorem dL_law_1168 : decode cL_law 1168 = .ok (.aload_n 0, 1) := dk_42 (dk_at dksL_law_43 6 rfl rfl)
theorem dL_law_1169 : decode cL_law 1169 = .ok (.iload 4, 2) := dk_21 4 (dk_at dksL_law_43 7 rfl rfl)
theorem dL_law_1171 : decode cL_law 1171 = .ok (.iconst 1, 1) := dk_4 (dk_at dksL_law_43 9 rfl rfl)
theorem dL_law_1172 : decode cL_law 1172 = .ok (.iadd, 1) := dk_96 (dk_at dksL_law_43 10 rfl rfl)
theorem dL_law_1173 : decode cL_law 1173 = .ok (.iaload, 1) := dk_46 (dk_at dksL_law_43 11 rfl rfl)
theorem dL_law_1174 : decode cL_law 1174 = .ok (.invokevirtual 152, 3) := dk_182 0 152 (dk_at dksL_law_43 12 rfl rfl)
theorem dL_law_1177 : decode cL_law 1177 = .ok (.if_icmp .eq 311, 3) := dk_159 1 55 (dk_at dksL_law_43 15 rfl rfl)
theorem dL_law_1180 : decode cL_law 1180 = .ok (.iconst 0, 1) := dk_3 (dk_at dksL_law_43 18 rfl rfl)
theorem dL_law_1181 : decode cL_law 1181 = .ok (.ireturn, 1) := dk_172 (dk_at dksL_law_43 19 rfl rfl)
theorem dL_law_1182 : decode cL_law 1182 = .ok (.aload_n 1, 1) := dk_43 (dk_at dksL_law_43 20 rfl rfl)
theorem dL_law_1183 : decode cL_law 1183 = .ok (.aload_n 0, 1) := dk_42 (dk_at dksL_law_43 21 rfl rfl)
theorem dL_law_1184 : decode cL_law 1184 = .ok (.iload 4, 2) := dk_21 4 (dk_at dksL_law_43 22 rfl rfl)
theorem dL_law_1186 : decode cL_law 1186 = .ok (.iconst 1, 1) := dk_4 (dk_at dksL_law_44 0 rfl rfl)
theorem dL_law_1187 : decode cL_law 1187 = .ok (.iadd, 1) := dk_96 (dk_at dksL_law_44 1 rfl rfl)
theorem dL_law_1188 : decode cL_law 1188 = .ok (.iaload, 1) := dk_46 (dk_at dksL_law_44 2 rfl rfl)
theorem dL_law_1189 : decode cL_law 1189 = .ok (.aload_n 0, 1) := dk_42 (dk_at dksL_law_44 3 rfl rfl)
theorem dL_law_1190 : decode cL_law 1190 = .ok (.iload 4, 2) := dk_21 4 (dk_at dksL_law_44 4 rfl rfl)
theorem dL_law_1192 : decode cL_law 1192 = .ok (.iconst 2, 1) := dk_5 (dk_at dksL_law_44 6 rfl rfl)
theorem dL_law_1193 : decode cL_law 1193 = .ok (.iadd, 1) := dk_96 (dk_at dksL_law_44 7 rfl rfl)
theorem dL_law_1194 : decode cL_law 1194 = .ok (.iaload, 1) := dk_46 (dk_at dksL_law_44 8 rfl rfl)
theorem dL_law_1195 : decode cL_law 1195 = .ok (.invokevirtual 153, 3) := dk_182 0 153 (dk_at dksL_law_44 9 rfl rfl)
theorem dL_law_1198 : decode cL_law 1198 = .ok (.aload_n 2, 1) := dk_44 (dk_at dksL_law_44 12 rfl rfl)
theorem dL_law_1199 : decode cL_law 1199 = .ok (.aload_n 0, 1) := dk_42 (dk_at dksL_law_44 13 rfl rfl)
theorem dL_law_1200 : decode cL_law 1200 = .ok (.iload 4, 2) := dk_21 4 (dk_at dksL_law_44 14 rfl rfl)
theorem dL_law_1202 : decode cL_law 1202 = .ok (.iconst 1, 1) := dk_4 (dk_at dksL_law_44 16 rfl rfl)
theorem dL_law_1203 : decode cL_law 1203 = .ok (.iadd, 1) := dk_96 (dk_at dksL_law_44 17 rfl rfl)
theorem dL_law_1204 : decode cL_law 1204 = .ok (.iaload, 1) := dk_46 (dk_at dksL_law_44 18 rfl rfl)
theorem dL_law_1205 : decode cL_law 1205 = .ok (.aload_n 0, 1) := dk_42 (dk_at dksL_law_44 19 rfl rfl)
theorem dL_law_1206 : decode cL_law 1206 = .ok (.iload 4, 2) := dk_21 4 (dk_at dksL_law_44 20 rfl rfl)
theorem dL_law_1208 : decode cL_law 1208 = .ok (.iconst 2, 1) := dk_5 (dk_at dksL_law_44 22 rfl rfl)
theorem dL_law_1209 : decode cL_law 1209 = .ok (.iadd, 1) := dk_96 (dk_at dksL_law_44 23 rfl rfl)
theorem dL_law_1210 : decode cL_law 1210 = .ok (.iaload, 1) := dk_46 (dk_at dksL_law_45 0 rfl rfl)
theorem dL_law_1211 : decode cL_law 1211 = .ok (.invokevirtual 156, 3) := dk_182 0 156 (dk_at dksL_law_45 1 rfl rfl)
theorem dL_law_1214 : decode cL_law 1214 = .ok (.if_icmp .eq 274, 3) := dk_159 1 18 (dk_at dksL_law_45 4 rfl rfl)
theorem dL_law_1217 : decode cL_law 1217 = .ok (.iconst 0, 1) := dk_3 (dk_at dksL_law_45 7 rfl rfl)
theorem dL_law_1218 : decode cL_law 1218 = .ok (.ireturn, 1) := dk_172 (dk_at dksL_law_45 8 rfl rfl)
theorem dL_law_1219 : decode cL_law 1219 = .ok (.aload_n 1, 1) := dk_43 (dk_at dksL_law_45 9 rfl rfl)
theorem dL_law_1220 : decode cL_law 1220 = .ok (.invokevirtual 157, 3) := dk_182 0 157 (dk_at dksL_law_45 10 rfl rfl)
theorem dL_law_1223 : decode cL_law 1223 = .ok (.aload_n 2, 1) := dk_44 (dk_at dksL_law_45 13 rfl rfl)
theorem dL_law_1224 : decode cL_law 1224 = .ok (.invokevirtual 160, 3) := dk_182 0 160 (dk_at dksL_law_45 14 rfl rfl)
theorem dL_law_1227 : decode cL_law 1227 = .ok (.if_icmp .eq 261, 3) := dk_159 1 5 (dk_at dksL_law_45 17 rfl rfl)
theorem dL_law_1230 : decode cL_law 1230 = .ok (.iconst 0, 1) := dk_3 (dk_at dksL_law_45 20 rfl rfl)
theorem dL_law_1231 : decode cL_law 1231 = .ok (.ireturn, 1) := dk_172 (dk_at dksL_law_45 21 rfl rfl)
theorem dL_law_1232 : decode cL_law 1232 = .ok (.aload_n 1, 1) := dk_43 (dk_at dksL_law_45 22 rfl rfl)
theorem dL_law_1233 : decode cL_law 1233 = .ok (.aload_n 0, 1) := dk_42 (dk_at dksL_law_45 23 rfl rfl)
theorem dL_law_1234 : decode cL_law 1234 = .ok (.iload 4, 2) := dk_21 4 (dk_at dksL_law_46 0 rfl rfl)
theorem dL_law_1236 : decode cL_law 1236 = .ok (.iconst 1, 1) := dk_4 (dk_at dksL_law_46 2 rfl rfl)
theorem dL_law_1237 : decode cL_law 1237 = .ok (.iadd, 1) := dk_96 (dk_at dksL_law_46 3 rfl rfl)
theorem dL_law_1238 : decode cL_law 1238 = .ok (.iaload, 1) := dk_46 (dk_at dksL_law_46 4 rfl rfl)
theorem dL_law_1239 : decode cL_law 1239 = .ok (.aload_n 0, 1) := dk_42 (dk_at dksL_law_46 5 rfl rfl)
theorem dL_law_1240 : decode cL_law 1240 = .ok (.iload 4, 2) := dk_21 4 (dk_at dksL_law_46 6 rfl rfl)
theorem dL_law_1242 : decode cL_law 1242 = .ok (.iconst 2, 1) := dk_5 (dk_at dksL_law_46 8 rfl rfl)
theorem dL_law_1243 : decode cL_law 1243 = .ok (.iadd, 1) := dk_96 (dk_at dksL_law_46 9 rfl rfl)
theorem dL_law_1244 : decode cL_law 1244 = .ok (.iaload, 1) := dk_46 (dk_at dksL_law_46 10 rfl rfl)
theorem dL_law_1245 : decode cL_law 1245 = .ok (.aload_n 0, 1) := dk_42 (dk_at dksL_law_46 11 rfl rfl)
theorem dL_law_1246 : decode cL_law 1246 = .ok (.iload 4, 2) := dk_21 4 (dk_at dksL_law_46 12 rfl rfl)
theorem dL_law_1248 : decode cL_law 1248 = .ok (.iconst 3, 1) := dk_6 (dk_at dksL_law_46 14 rfl rfl)
theorem dL_law_1249 : decode cL_law 1249 = .ok (.iadd, 1) := dk_96 (dk_at dksL_law_46 15 rfl rfl)
theorem dL_law_1250 : decode cL_law 1250 = .ok (.iaload, 1) := dk_46 (dk_at dksL_law_46 16 rfl rfl)
theorem dL_law_1251 : decode cL_law 1251 = .ok (.invokevirtual 161, 3) := dk_182 0 161 (dk_at dksL_law_46 17 rfl rfl)
theorem dL_law_1254 : decode cL_law 1254 = .ok (.aload_n 2, 1) := dk_44 (dk_at dksL_law_46 20 rfl rfl)
theorem dL_law_1255 : decode cL_law 1255 = .ok (.aload_n 0, 1) := dk_42 (dk_at dksL_law_46 21 rfl rfl)
theorem dL_law_1256 : decode cL_law 1256 = .ok (.iload 4, 2) := dk_21 4 (dk_at dksL_law_46 22 rfl rfl)
theorem dL_law_1258 : decode cL_law 1258 = .ok (.iconst 1, 1) := dk_4 (dk_at dksL_law_47 0 rfl rfl)
theorem dL_law_1259 : decode cL_law 1259 = .ok (.iadd, 1) := dk_96 (dk_at dksL_law_47 1 rfl rfl)
theorem dL_law_1260 : decode cL_law 1260 = .ok (.iaload, 1) := dk_46 (dk_at dksL_law_47 2 rfl rfl)
theorem dL_law_1261 : decode cL_law 1261 = .ok (.aload_n 0, 1) := dk_42 (dk_at dksL_law_47 3 rfl rfl)
theorem dL_law_1262 : decode cL_law 1262 = .ok (.iload 4, 2) := dk_21 4 (dk_at dksL_law_47 4 rfl rfl)
theorem dL_law_1264 : decode cL_law 1264 = .ok (.iconst 2, 1) := dk_5 (dk_at dksL_law_47 6 rfl rfl)
theorem dL_law_1265 : decode cL_law 1265 = .ok (.iadd, 1) := dk_96 (dk_at dksL_law_47 7 rfl rfl)
theorem dL_law_1266 : decode cL_law 1266 = .ok (.iaload, 1) := dk_46 (dk_at dksL_law_47 8 rfl rfl)
theorem dL_law_1267 : decode cL_law 1267 = .ok (.aload_n 0, 1) := dk_42 (dk_at dksL_law_47 9 rfl rfl)
theorem dL_law_1268 : decode cL_law 1268 = .ok (.iload 4, 2) := dk_21 4 (dk_at dksL_law_47 10 rfl rfl)
theorem dL_law_1270 : decode cL_law 1270 = .ok (.iconst 3, 1) := dk_6 (dk_at dksL_law_47 12 rfl rfl)
theorem dL_law_1271 : decode cL_law 1271 = .ok (.iadd, 1) := dk_96 (dk_at dksL_law_47 13 rfl rfl)
theorem dL_law_1272 : decode cL_law 1272 = .ok (.iaload, 1) := dk_46 (dk_at dksL_law_47 14 rfl rfl)
theorem dL_law_1273 : decode cL_law 1273 = .ok (.invokevirtual 164, 3) := dk_182 0 164 (dk_at dksL_law_47 15 rfl rfl)
theorem dL_law_1276 : decode cL_law 1276 = .ok (.if_icmp .eq 212, 3) := dk_159 0 212 (dk_at dksL_law_47 18 rfl rfl)
theorem dL_law_1279 : decode cL_law 1279 = .ok (.iconst 0, 1) := dk_3 (dk_at dksL_law_47 21 rfl rfl)
theorem dL_law_1280 : decode cL_law 1280 = .ok (.ireturn, 1) := dk_172 (dk_at dksL_law_47 22 rfl rfl)
theorem dL_law_1281 : decode cL_law 1281 = .ok (.aload_n 1, 1) := dk_43 (dk_at dksL_law_47 23 rfl rfl)
theorem dL_law_1282 : decode cL_law 1282 = .ok (.aload_n 0, 1) := dk_42 (dk_at dksL_law_48 0 rfl rfl)
theorem dL_law_1283 : decode cL_law 1283 = .ok (.iload 4, 2) := dk_21 4 (dk_at dksL_law_48 1 rfl rfl)
theorem dL_law_1285 : decode cL_law 1285 = .ok (.iconst 1, 1) := dk_4 (dk_at dksL_law_48 3 rfl rfl)
theorem dL_law_1286 : decode cL_law 1286 = .ok (.iadd, 1) := dk_96 (dk_at dksL_law_48 4 rfl rfl)
theorem dL_law_1287 : decode cL_law 1287 = .ok (.iaload, 1) := dk_46 (dk_at dksL_law_48 5 rfl rfl)
theorem dL_law_1288 : decode cL_law 1288 = .ok (.aload_n 0, 1) := dk_42 (dk_at dksL_law_48 6 rfl rfl)
theorem dL_law_1289 : decode cL_law 1289 = .ok (.iload 4, 2) := dk_21 4 (dk_at dksL_law_48 7 rfl rfl)
theorem dL_law_1291 : decode cL_law 1291 = .ok (.iconst 2, 1) := dk_5 (dk_at dksL_law_48 9 rfl rfl)
theorem dL_law_1292 : decode cL_law 1292 = .ok (.iadd, 1) := dk_96 (dk_at dksL_law_48 10 rfl rfl)
theorem dL_law_1293 : decode cL_law 1293 = .ok (.iaload, 1) := dk_46 (dk_at dksL_law_48 11 rfl rfl)
theorem dL_law_1294 : decode cL_law 1294 = .ok (.invokevirtual 165, 3) := dk_182 0 165 (dk_at dksL_law_48 12 rfl rfl)
theorem dL_law_1297 : decode cL_law 1297 = .ok (.aload_n 2, 1) := dk_44 (dk_at dksL_law_48 15 rfl rfl)
theorem dL_law_1298 : decode cL_law 1298 = .ok (.aload_n 0, 1) := dk_42 (dk_at dksL_law_48 16 rfl rfl)
theorem dL_law_1299 : decode cL_law 1299 = .ok (.iload 4, 2) := dk_21 4 (dk_at dksL_law_48 17 rfl rfl)
theorem dL_law_1301 : decode cL_law 1301 = .ok (.iconst 1, 1) := dk_4 (dk_at dksL_law_48 19 rfl rfl)
theorem dL_law_1302 : decode cL_law 1302 = .ok (.iadd, 1) := dk_96 (dk_at dksL_law_48 20 rfl rfl)
theorem dL_law_1303 : decode cL_law 1303 = .ok (.iaload, 1) := dk_46 (dk_at dksL_law_48 21 rfl rfl)
theorem dL_law_1304 : decode cL_law 1304 = .ok (.aload_n 0, 1) := dk_42 (dk_at dksL_law_48 22 rfl rfl)
theorem dL_law_1305 : decode cL_law 1305 = .ok (.iload 4, 2) := dk_21 4 (dk_at dksL_law_49 0 rfl rfl)
theorem dL_law_1307 : decode cL_law 1307 = .ok (.iconst 2, 1) := dk_5 (dk_at dksL_law_49 2 rfl rfl)
theorem dL_law_1308 : decode cL_law 1308 = .ok (.iadd, 1) := dk_96 (dk_at dksL_law_49 3 rfl rfl)
theorem dL_law_1309 : decode cL_law 1309 = .ok (.iaload, 1) := dk_46 (dk_at dksL_law_49 4 rfl rfl)
theorem dL_law_1310 : decode cL_law 1310 = .ok (.invokevirtual 168, 3) := dk_182 0 168 (dk_at dksL_law_49 5 rfl rfl)
theorem dL_law_1313 : decode cL_law 1313 = .ok (.if_icmp .eq 175, 3) := dk_159 0 175 (dk_at dksL_law_49 8 rfl rfl)
theorem dL_law_1316 : decode cL_law 1316 = .ok (.iconst 0, 1) := dk_3 (dk_at dksL_law_49 11 rfl rfl)
theorem dL_law_1317 : decode cL_law 1317 = .ok (.ireturn, 1) := dk_172 (dk_at dksL_law_49 12 rfl rfl)
theorem dL_law_1318 : decode cL_law 1318 = .ok (.aload_n 1, 1) := dk_43 (dk_at dksL_law_49 13 rfl rfl)
theorem dL_law_1319 : decode cL_law 1319 = .ok (.aload_n 0, 1) := dk_42 (dk_at dksL_law_49 14 rfl rfl)
theorem dL_law_1320 : decode cL_law 1320 = .ok (.iload 4, 2) := dk_21 4 (dk_at dksL_law_49 15 rfl rfl)
theorem dL_law_1322 : decode cL_law 1322 = .ok (.iconst 1, 1) := dk_4 (dk_at dksL_law_49 17 rfl rfl)
theorem dL_law_1323 : decode cL_law 1323 = .ok (.iadd, 1) := dk_96 (dk_at dksL_law_49 18 rfl rfl)
theorem dL_law_1324 : decode cL_law 1324 = .ok (.iaload, 1) := dk_46 (dk_at dksL_law_49 19 rfl rfl)
theorem dL_law_1325 : decode cL_law 1325 = .ok (.invokevirtual 169, 3) := dk_182 0 169 (dk_at dksL_law_49 20 rfl rfl)
theorem dL_law_1328 : decode cL_law 1328 = .ok (.aload_n 2, 1) := dk_44 (dk_at dksL_law_49 23 rfl rfl)
theorem dL_law_1329 : decode cL_law 1329 = .ok (.aload_n 0, 1) := dk_42 (dk_at dksL_law_50 0 rfl rfl)
theorem dL_law_1330 : decode cL_law 1330 = .ok (.iload 4, 2) := dk_21 4 (dk_at dksL_law_50 1 rfl rfl)
theorem dL_law_1332 : decode cL_law 1332 = .ok (.iconst 1, 1) := dk_4 (dk_at dksL_law_50 3 rfl rfl)
theorem dL_law_1333 : decode cL_law 1333 = .ok (.iadd, 1) := dk_96 (dk_at dksL_law_50 4 rfl rfl)
theorem dL_law_1334 : decode cL_law 1334 = .ok (.iaload, 1) := dk_46 (dk_at dksL_law_50 5 rfl rfl)
theorem dL_law_1335 : decode cL_law 1335 = .ok (.invokevirtual 172, 3) := dk_182 0 172 (dk_at dksL_law_50 6 rfl rfl)
theorem dL_law_1338 : decode cL_law 1338 = .ok (.if_icmp .eq 150, 3) := dk_159 0 150 (dk_at dksL_law_50 9 rfl rfl)
theorem dL_law_1341 : decode cL_law 1341 = .ok (.iconst 0, 1) := dk_3 (dk_at dksL_law_50 12 rfl rfl)
theorem dL_law_1342 : decode cL_law 1342 = .ok (.ireturn, 1) := dk_172 (dk_at dksL_law_50 13 rfl rfl)
theorem dL_law_1343 : decode cL_law 1343 = .ok (.aload_n 1, 1) := dk_43 (dk_at dksL_law_50 14 rfl rfl)
theorem dL_law_1344 : decode cL_law 1344 = .ok (.aload_n 0, 1) := dk_42 (dk_at dksL_law_50 15 rfl rfl)
theorem dL_law_1345 : decode cL_law 1345 = .ok (.iload 4, 2) := dk_21 4 (dk_at dksL_law_50 16 rfl rfl)
theorem dL_law_1347 : decode cL_law 1347 = .ok (.iconst 1, 1) := dk_4 (dk_at dksL_law_50 18 rfl rfl)
theorem dL_law_1348 : decode cL_law 1348 = .ok (.iadd, 1) := dk_96 (dk_at dksL_law_50 19 rfl rfl)
theorem dL_law_1349 : decode cL_law 1349 = .ok (.iaload, 1) := dk_46 (dk_at dksL_law_50 20 rfl rfl)
theorem dL_law_1350 : decode cL_law 1350 = .ok (.aload_n 0, 1) := dk_42 (dk_at dksL_law_50 21 rfl rfl)
theorem dL_law_1351 : decode cL_law 1351 = .ok (.iload 4, 2) := dk_21 4 (dk_at dksL_law_50 22 rfl rfl)
theorem dL_law_1353 : decode cL_law 1353 = .ok (.iconst 2, 1) := dk_5 (dk_at dksL_law_51 0 rfl rfl)
theorem dL_law_1354 : decode cL_law 1354 = .ok (.iadd, 1) := dk_96 (dk_at dksL_law_51 1 rfl rfl)
theorem dL_law_1355 : decode cL_law 1355 = .ok (.iaload, 1) := dk_46 (dk_at dksL_law_51 2 rfl rfl)
theorem dL_law_1356 : decode cL_law 1356 = .ok (.i2l, 1) := dk_133 (dk_at dksL_law_51 3 rfl rfl)
theorem dL_law_1357 : decode cL_law 1357 = .ok (.bipush 32, 2) := dk_16 32 (dk_at dksL_law_51 4 rfl rfl)
theorem dL_law_1359 : decode cL_law 1359 = .ok (.lshl, 1) := dk_121 (dk_at dksL_law_51 6 rfl rfl)
theorem dL_law_1360 : decode cL_law 1360 = .ok (.aload_n 0, 1) := dk_42 (dk_at dksL_law_51 7 rfl rfl)
theorem dL_law_1361 : decode cL_law 1361 = .ok (.iload 4, 2) := dk_21 4 (dk_at dksL_law_51 8 rfl rfl)
theorem dL_law_1363 : decode cL_law 1363 = .ok (.iconst 3, 1) := dk_6 (dk_at dksL_law_51 10 rfl rfl)
theorem dL_law_1364 : decode cL_law 1364 = .ok (.iadd, 1) := dk_96 (dk_at dksL_law_51 11 rfl rfl)
theorem dL_law_1365 : decode cL_law 1365 = .ok (.iaload, 1) := dk_46 (dk_at dksL_law_51 12 rfl rfl)
theorem dL_law_1366 : decode cL_law 1366 = .ok (.i2l, 1) := dk_133 (dk_at dksL_law_51 13 rfl rfl)
theorem dL_law_1367 : decode cL_law 1367 = .ok (.ldc2_w 173, 3) := dk_20 0 173 (dk_at dksL_law_51 14 rfl rfl)
theorem dL_law_1370 : decode cL_law 1370 = .ok (.land, 1) := dk_127 (dk_at dksL_law_51 17 rfl rfl)
theorem dL_law_1371 : decode cL_law 1371 = .ok (.lor, 1) := dk_129 (dk_at dksL_law_51 18 rfl rfl)
theorem dL_law_1372 : decode cL_law 1372 = .ok (.invokevirtual 175, 3) := dk_182 0 175 (dk_at dksL_law_51 19 rfl rfl)
theorem dL_law_1375 : decode cL_law 1375 = .ok (.aload_n 2, 1) := dk_44 (dk_at dksL_law_51 22 rfl rfl)
theorem dL_law_1376 : decode cL_law 1376 = .ok (.aload_n 0, 1) := dk_42 (dk_at dksL_law_51 23 rfl rfl)
theorem dL_law_1377 : decode cL_law 1377 = .ok (.iload 4, 2) := dk_21 4 (dk_at dksL_law_52 0 rfl rfl)
theorem dL_law_1379 : decode cL_law 1379 = .ok (.iconst 1, 1) := dk_4 (dk_at dksL_law_52 2 rfl rfl)
theorem dL_law_1380 : decode cL_law 1380 = .ok (.iadd, 1) := dk_96 (dk_at dksL_law_52 3 rfl rfl)
theorem dL_law_1381 : decode cL_law 1381 = .ok (.iaload, 1) := dk_46 (dk_at dksL_law_52 4 rfl rfl)
theorem dL_law_1382 : decode cL_law 1382 = .ok (.aload_n 0, 1) := dk_42 (dk_at dksL_law_52 5 rfl rfl)
theorem dL_law_1383 : decode cL_law 1383 = .ok (.iload 4, 2) := dk_21 4 (dk_at dksL_law_52 6 rfl rfl)
theorem dL_law_1385 : decode cL_law 1385 = .ok (.iconst 2, 1) := dk_5 (dk_at dksL_law_52 8 rfl rfl)
theorem dL_law_1386 : decode cL_law 1386 = .ok (.iadd, 1) := dk_96 (dk_at dksL_law_52 9 rfl rfl)
theorem dL_law_1387 : decode cL_law 1387 = .ok (.iaload, 1) := dk_46 (dk_at dksL_law_52 10 rfl rfl)
theorem dL_law_1388 : decode cL_law 1388 = .ok (.i2l, 1) := dk_133 (dk_at dksL_law_52 11 rfl rfl)
theorem dL_law_1389 : decode cL_law 1389 = .ok (.bipush 32, 2) := dk_16 32 (dk_at dksL_law_52 12 rfl rfl)
theorem dL_law_1391 : decode cL_law 1391 = .ok (.lshl, 1) := dk_121 (dk_at dksL_law_52 14 rfl rfl)
theorem dL_law_1392 : decode cL_law 1392 = .ok (.aload_n 0, 1) := dk_42 (dk_at dksL_law_52 15 rfl rfl)
theorem dL_law_1393 : decode cL_law 1393 = .ok (.iload 4, 2) := dk_21 4 (dk_at dksL_law_52 16 rfl rfl)
theorem dL_law_1395 : decode cL_law 1395 = .ok (.iconst 3, 1) := dk_6 (dk_at dksL_law_52 18 rfl rfl)
theorem dL_law_1396 : decode cL_law 1396 = .ok (.iadd, 1) := dk_96 (dk_at dksL_law_52 19 rfl rfl)
theorem dL_law_1397 : decode cL_law 1397 = .ok (.iaload, 1) := dk_46 (dk_at dksL_law_52 20 rfl rfl)
theorem dL_law_1398 : decode cL_law 1398 = .ok (.i2l, 1) := dk_133 (dk_at dksL_law_52 21 rfl rfl)
theorem dL_law_1399 : decode cL_law 1399 = .ok (.ldc2_w 173, 3) := dk_20 0 173 (dk_at dksL_law_53 0 rfl rfl)
theorem dL_law_1402 : decode cL_law 1402 = .ok (.land, 1) := dk_127 (dk_at dksL_law_53 3 rfl rfl)
theorem dL_law_1403 : decode cL_law 1403 = .ok (.lor, 1) := dk_129 (dk_at dksL_law_53 4 rfl rfl)
theorem dL_law_1404 : decode cL_law 1404 = .ok (.invokevirtual 179, 3) := dk_182 0 179 (dk_at dksL_law_53 5 rfl rfl)
theorem dL_law_1407 : decode cL_law 1407 = .ok (.if_icmp .eq 81, 3) := dk_159 0 81 (dk_at dksL_law_53 8 rfl rfl)
theorem dL_law_1410 : decode cL_law 1410 = .ok (.iconst 0, 1) := dk_3 (dk_at dksL_law_53 11 rfl rfl)
theorem dL_law_1411 : decode cL_law 1411 = .ok (.ireturn, 1) := dk_172 (dk_at dksL_law_53 12 rfl rfl)
theorem dL_law_1412 : decode cL_law 1412 = .ok (.aload_n 1, 1) := dk_43 (dk_at dksL_law_53 13 rfl rfl)
theorem dL_law_1413 : decode cL_law 1413 = .ok (.aload_n 0, 1) := dk_42 (dk_at dksL_law_53 14 rfl rfl)
theorem dL_law_1414 : decode cL_law 1414 = .ok (.iload 4, 2) := dk_21 4 (dk_at dksL_law_53 15 rfl rfl)
theorem dL_law_1416 : decode cL_law 1416 = .ok (.iconst 1, 1) := dk_4 (dk_at dksL_law_53 17 rfl rfl)
theorem dL_law_1417 : decode cL_law 1417 = .ok (.iadd, 1) := dk_96 (dk_at dksL_law_53 18 rfl rfl)
theorem dL_law_1418 : decode cL_law 1418 = .ok (.iaload, 1) := dk_46 (dk_at dksL_law_53 19 rfl rfl)
theorem dL_law_1419 : decode cL_law 1419 = .ok (.invokevirtual 180, 3) := dk_182 0 180 (dk_at dksL_law_53 20 rfl rfl)
theorem dL_law_1422 : decode cL_law 1422 = .ok (.aload_n 2, 1) := dk_44 (dk_at dksL_law_53 23 rfl rfl)
theorem dL_law_1423 : decode cL_law 1423 = .ok (.aload_n 0, 1) := dk_42 (dk_at dksL_law_54 0 rfl rfl)
theorem dL_law_1424 : decode cL_law 1424 = .ok (.iload 4, 2) := dk_21 4 (dk_at dksL_law_54 1 rfl rfl)
theorem dL_law_1426 : decode cL_law 1426 = .ok (.iconst 1, 1) := dk_4 (dk_at dksL_law_54 3 rfl rfl)
theorem dL_law_1427 : decode cL_law 1427 = .ok (.iadd, 1) := dk_96 (dk_at dksL_law_54 4 rfl rfl)
theorem dL_law_1428 : decode cL_law 1428 = .ok (.iaload, 1) := dk_46 (dk_at dksL_law_54 5 rfl rfl)
theorem dL_law_1429 : decode cL_law 1429 = .ok (.invokevirtual 183, 3) := dk_182 0 183 (dk_at dksL_law_54 6 rfl rfl)
theorem dL_law_1432 : decode cL_law 1432 = .ok (.if_icmp .eq 56, 3) := dk_159 0 56 (dk_at dksL_law_54 9 rfl rfl)
theorem dL_law_1435 : decode cL_law 1435 = .ok (.iconst 0, 1) := dk_3 (dk_at dksL_law_54 12 rfl rfl)
theorem dL_law_1436 : decode cL_law 1436 = .ok (.ireturn, 1) := dk_172 (dk_at dksL_law_54 13 rfl rfl)
theorem dL_law_1437 : decode cL_law 1437 = .ok (.aload_n 1, 1) := dk_43 (dk_at dksL_law_54 14 rfl rfl)
theorem dL_law_1438 : decode cL_law 1438 = .ok (.invokevirtual 184, 3) := dk_182 0 184 (dk_at dksL_law_54 15 rfl rfl)
theorem dL_law_1441 : decode cL_law 1441 = .ok (.aload_n 2, 1) := dk_44 (dk_at dksL_law_54 18 rfl rfl)
theorem dL_law_1442 : decode cL_law 1442 = .ok (.invokevirtual 187, 3) := dk_182 0 187 (dk_at dksL_law_54 19 rfl rfl)
theorem dL_law_1445 : decode cL_law 1445 = .ok (.if_icmp .eq 43, 3) := dk_159 0 43 (dk_at dksL_law_55 0 rfl rfl)
theorem dL_law_1448 : decode cL_law 1448 = .ok (.iconst 0, 1) := dk_3 (dk_at dksL_law_55 3 rfl rfl)
theorem dL_law_1449 : decode cL_law 1449 = .ok (.ireturn, 1) := dk_172 (dk_at dksL_law_55 4 rfl rfl)
theorem dL_law_1450 : decode cL_law 1450 = .ok (.aload_n 1, 1) := dk_43 (dk_at dksL_law_55 5 rfl rfl)
theorem dL_law_1451 : decode cL_law 1451 = .ok (.invokevirtual 188, 3) := dk_182 0 188 (dk_at dksL_law_55 6 rfl rfl)
theorem dL_law_1454 : decode cL_law 1454 = .ok (.aload_n 2, 1) := dk_44 (dk_at dksL_law_55 9 rfl rfl)
theorem dL_law_1455 : decode cL_law 1455 = .ok (.invokevirtual 191, 3) := dk_182 0 191 (dk_at dksL_law_55 10 rfl rfl)
theorem dL_law_1458 : decode cL_law 1458 = .ok (.if_icmp .eq 30, 3) := dk_159 0 30 (dk_at dksL_law_55 13 rfl rfl)
theorem dL_law_1461 : decode cL_law 1461 = .ok (.iconst 0, 1) := dk_3 (dk_at dksL_law_55 16 rfl rfl)
theorem dL_law_1462 : decode cL_law 1462 = .ok (.ireturn, 1) := dk_172 (dk_at dksL_law_55 17 rfl rfl)
theorem dL_law_1463 : decode cL_law 1463 = .ok (.aload_n 1, 1) := dk_43 (dk_at dksL_law_55 18 rfl rfl)
theorem dL_law_1464 : decode cL_law 1464 = .ok (.aload_n 0, 1) := dk_42 (dk_at dksL_law_55 19 rfl rfl)
theorem dL_law_1465 : decode cL_law 1465 = .ok (.iload 4, 2) := dk_21 4 (dk_at dksL_law_55 20 rfl rfl)
theorem dL_law_1467 : decode cL_law 1467 = .ok (.iconst 1, 1) := dk_4 (dk_at dksL_law_55 22 rfl rfl)
theorem dL_law_1468 : decode cL_law 1468 = .ok (.iadd, 1) := dk_96 (dk_at dksL_law_55 23 rfl rfl)
theorem dL_law_1469 : decode cL_law 1469 = .ok (.iaload, 1) := dk_46 (dk_at dksL_law_56 0 rfl rfl)
theorem dL_law_1470 : decode cL_law 1470 = .ok (.invokevirtual 192, 3) := dk_182 0 192 (dk_at dksL_law_56 1 rfl rfl)
theorem dL_law_1473 : decode cL_law 1473 = .ok (.aload_n 2, 1) := dk_44 (dk_at dksL_law_56 4 rfl rfl)
theorem dL_law_1474 : decode cL_law 1474 = .ok (.aload_n 0, 1) := dk_42 (dk_at dksL_law_56 5 rfl rfl)
theorem dL_law_1475 : decode cL_law 1475 = .ok (.iload 4, 2) := dk_21 4 (dk_at dksL_law_56 6 rfl rfl)
theorem dL_law_1477 : decode cL_law 1477 = .ok (.iconst 1, 1) := dk_4 (dk_at dksL_law_56 8 rfl rfl)
theorem dL_law_1478 : decode cL_law 1478 = .ok (.iadd, 1) := dk_96 (dk_at dksL_law_56 9 rfl rfl)
theorem dL_law_1479 : decode cL_law 1479 = .ok (.iaload, 1) := dk_46 (dk_at dksL_law_56 10 rfl rfl)
theorem dL_law_1480 : decode cL_law 1480 = .ok (.invokevirtual 195, 3) := dk_182 0 195 (dk_at dksL_law_56 11 rfl rfl)
theorem dL_law_1483 : decode cL_law 1483 = .ok (.if_icmp .eq 5, 3) := dk_159 0 5 (dk_at dksL_law_56 14 rfl rfl)
theorem dL_law_1486 : decode cL_law 1486 = .ok (.iconst 0, 1) := dk_3 (dk_at dksL_law_56 17 rfl rfl)
theorem dL_law_1487 : decode cL_law 1487 = .ok (.ireturn, 1) := dk_172 (dk_at dksL_law_56 18 rfl rfl)
theorem dL_law_1488 : decode cL_law 1488 = .ok (.iinc 4 6, 3) := dk_132 4 6 (dk_at dksL_law_56 19 rfl rfl)
theorem dL_law_1491 : decode cL_law 1491 = .ok (.goto (-1468), 3) := dk_167 250 68 (dk_at dksL_law_57 0 rfl rfl)
theorem dL_law_1494 : decode cL_law 1494 = .ok (.iconst 1, 1) := dk_4 (dk_at dksL_law_57 3 rfl rfl)
theorem dL_law_1495 : decode cL_law 1495 = .ok (.ireturn, 1) := dk_172 (dk_at dksL_law_57 4 rfl rfl)
